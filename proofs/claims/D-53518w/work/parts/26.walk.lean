set_option maxRecDepth 100000
def dkwX7_copy_4 : List UInt8 := [167, 255, 227, 43, 176]
abbrev dktX7_copy_4 : List UInt8 := dkwX7_copy_4 ++ []
def dkwX7_copy_3 : List UInt8 := [153, 0, 26, 44, 185, 0, 36, 1, 0, 192, 0, 40, 78, 43, 180, 0, 16, 45, 182, 0, 42, 54, 4]
abbrev dktX7_copy_3 : List UInt8 := dkwX7_copy_3 ++ dktX7_copy_4
def dkwX7_copy_2 : List UInt8 := [182, 0, 42, 54, 4, 167, 255, 227, 42, 180, 0, 16, 182, 0, 26, 77, 44, 185, 0, 30, 1, 0]
abbrev dktX7_copy_2 : List UInt8 := dkwX7_copy_2 ++ dktX7_copy_3
def dkwX7_copy_1 : List UInt8 := [185, 0, 30, 1, 0, 153, 0, 26, 44, 185, 0, 36, 1, 0, 192, 0, 40, 78, 43, 180, 0, 10, 45]
abbrev dktX7_copy_1 : List UInt8 := dkwX7_copy_1 ++ dktX7_copy_2
def dkwX7_copy_0 : List UInt8 := [187, 0, 11, 89, 42, 180, 0, 19, 183, 0, 23, 76, 42, 180, 0, 10, 182, 0, 26, 77, 44]
abbrev dktX7_copy_0 : List UInt8 := dkwX7_copy_0 ++ dktX7_copy_1
theorem dksX7_copy_0 : cX7_copy.data.toList.drop 0 = dktX7_copy_0 := by decide +kernel
theorem dksX7_copy_1 : cX7_copy.data.toList.drop 21 = dktX7_copy_1 := dk_seg dksX7_copy_0 21 rfl rfl
theorem dksX7_copy_2 : cX7_copy.data.toList.drop 44 = dktX7_copy_2 := dk_seg dksX7_copy_1 23 rfl rfl
theorem dksX7_copy_3 : cX7_copy.data.toList.drop 66 = dktX7_copy_3 := dk_seg dksX7_copy_2 22 rfl rfl
theorem dksX7_copy_4 : cX7_copy.data.toList.drop 89 = dktX7_copy_4 := dk_seg dksX7_copy_3 23 rfl rfl
theorem dX7_copy_0 : decode cX7_copy 0 = .ok (.new 11, 3) := dk_187 0 11 (dk_at dksX7_copy_0 0 rfl rfl)
theorem dX7_copy_3 : decode cX7_copy 3 = .ok (.dup, 1) := dk_89 (dk_at dksX7_copy_0 3 rfl rfl)
theorem dX7_copy_4 : decode cX7_copy 4 = .ok (.aload_n 0, 1) := dk_42 (dk_at dksX7_copy_0 4 rfl rfl)
theorem dX7_copy_5 : decode cX7_copy 5 = .ok (.getfield 19, 3) := dk_180 0 19 (dk_at dksX7_copy_0 5 rfl rfl)
theorem dX7_copy_8 : decode cX7_copy 8 = .ok (.invokespecial 23, 3) := dk_183 0 23 (dk_at dksX7_copy_0 8 rfl rfl)
theorem dX7_copy_11 : decode cX7_copy 11 = .ok (.astore_n 1, 1) := dk_76 (dk_at dksX7_copy_0 11 rfl rfl)
theorem dX7_copy_12 : decode cX7_copy 12 = .ok (.aload_n 0, 1) := dk_42 (dk_at dksX7_copy_0 12 rfl rfl)
theorem dX7_copy_13 : decode cX7_copy 13 = .ok (.getfield 10, 3) := dk_180 0 10 (dk_at dksX7_copy_0 13 rfl rfl)
theorem dX7_copy_16 : decode cX7_copy 16 = .ok (.invokevirtual 26, 3) := dk_182 0 26 (dk_at dksX7_copy_0 16 rfl rfl)
theorem dX7_copy_19 : decode cX7_copy 19 = .ok (.astore_n 2, 1) := dk_77 (dk_at dksX7_copy_0 19 rfl rfl)
theorem dX7_copy_20 : decode cX7_copy 20 = .ok (.aload_n 2, 1) := dk_44 (dk_at dksX7_copy_0 20 rfl rfl)
theorem dX7_copy_21 : decode cX7_copy 21 = .ok (.invokeinterface 30 1, 5) := by decide +kernel
theorem dX7_copy_26 : decode cX7_copy 26 = .ok (.ifCond .eq 26, 3) := dk_153 0 26 (dk_at dksX7_copy_1 5 rfl rfl)
theorem dX7_copy_29 : decode cX7_copy 29 = .ok (.aload_n 2, 1) := dk_44 (dk_at dksX7_copy_1 8 rfl rfl)
theorem dX7_copy_30 : decode cX7_copy 30 = .ok (.invokeinterface 36 1, 5) := by decide +kernel
theorem dX7_copy_35 : decode cX7_copy 35 = .ok (.checkcast 40, 3) := dk_192 0 40 (dk_at dksX7_copy_1 14 rfl rfl)
theorem dX7_copy_38 : decode cX7_copy 38 = .ok (.astore_n 3, 1) := dk_78 (dk_at dksX7_copy_1 17 rfl rfl)
theorem dX7_copy_39 : decode cX7_copy 39 = .ok (.aload_n 1, 1) := dk_43 (dk_at dksX7_copy_1 18 rfl rfl)
theorem dX7_copy_40 : decode cX7_copy 40 = .ok (.getfield 10, 3) := dk_180 0 10 (dk_at dksX7_copy_1 19 rfl rfl)
theorem dX7_copy_43 : decode cX7_copy 43 = .ok (.aload_n 3, 1) := dk_45 (dk_at dksX7_copy_1 22 rfl rfl)
theorem dX7_copy_44 : decode cX7_copy 44 = .ok (.invokevirtual 42, 3) := dk_182 0 42 (dk_at dksX7_copy_2 0 rfl rfl)
theorem dX7_copy_47 : decode cX7_copy 47 = .ok (.istore 4, 2) := dk_54 4 (dk_at dksX7_copy_2 3 rfl rfl)
theorem dX7_copy_49 : decode cX7_copy 49 = .ok (.goto (-29), 3) := dk_167 255 227 (dk_at dksX7_copy_2 5 rfl rfl)
theorem dX7_copy_52 : decode cX7_copy 52 = .ok (.aload_n 0, 1) := dk_42 (dk_at dksX7_copy_2 8 rfl rfl)
theorem dX7_copy_53 : decode cX7_copy 53 = .ok (.getfield 16, 3) := dk_180 0 16 (dk_at dksX7_copy_2 9 rfl rfl)
theorem dX7_copy_56 : decode cX7_copy 56 = .ok (.invokevirtual 26, 3) := dk_182 0 26 (dk_at dksX7_copy_2 12 rfl rfl)
theorem dX7_copy_59 : decode cX7_copy 59 = .ok (.astore_n 2, 1) := dk_77 (dk_at dksX7_copy_2 15 rfl rfl)
theorem dX7_copy_60 : decode cX7_copy 60 = .ok (.aload_n 2, 1) := dk_44 (dk_at dksX7_copy_2 16 rfl rfl)
theorem dX7_copy_61 : decode cX7_copy 61 = .ok (.invokeinterface 30 1, 5) := by decide +kernel
theorem dX7_copy_66 : decode cX7_copy 66 = .ok (.ifCond .eq 26, 3) := dk_153 0 26 (dk_at dksX7_copy_3 0 rfl rfl)
theorem dX7_copy_69 : decode cX7_copy 69 = .ok (.aload_n 2, 1) := dk_44 (dk_at dksX7_copy_3 3 rfl rfl)
theorem dX7_copy_70 : decode cX7_copy 70 = .ok (.invokeinterface 36 1, 5) := by decide +kernel
theorem dX7_copy_75 : decode cX7_copy 75 = .ok (.checkcast 40, 3) := dk_192 0 40 (dk_at dksX7_copy_3 9 rfl rfl)
theorem dX7_copy_78 : decode cX7_copy 78 = .ok (.astore_n 3, 1) := dk_78 (dk_at dksX7_copy_3 12 rfl rfl)
theorem dX7_copy_79 : decode cX7_copy 79 = .ok (.aload_n 1, 1) := dk_43 (dk_at dksX7_copy_3 13 rfl rfl)
theorem dX7_copy_80 : decode cX7_copy 80 = .ok (.getfield 16, 3) := dk_180 0 16 (dk_at dksX7_copy_3 14 rfl rfl)
theorem dX7_copy_83 : decode cX7_copy 83 = .ok (.aload_n 3, 1) := dk_45 (dk_at dksX7_copy_3 17 rfl rfl)
theorem dX7_copy_84 : decode cX7_copy 84 = .ok (.invokevirtual 42, 3) := dk_182 0 42 (dk_at dksX7_copy_3 18 rfl rfl)
theorem dX7_copy_87 : decode cX7_copy 87 = .ok (.istore 4, 2) := dk_54 4 (dk_at dksX7_copy_3 21 rfl rfl)
theorem dX7_copy_89 : decode cX7_copy 89 = .ok (.goto (-29), 3) := dk_167 255 227 (dk_at dksX7_copy_4 0 rfl rfl)
theorem dX7_copy_92 : decode cX7_copy 92 = .ok (.aload_n 1, 1) := dk_43 (dk_at dksX7_copy_4 3 rfl rfl)
theorem dX7_copy_93 : decode cX7_copy 93 = .ok (.areturn, 1) := dk_176 (dk_at dksX7_copy_4 4 rfl rfl)
/-! PageGarden$Draft.copy()LPageGarden$Draft; -/
abbrev M_X7_copy (z0 n0 : Nat) (s' : gS) : gM := (RX7, cX7_copy, 5, (some (FieldType.object "PageGarden$Draft")), "copy", [], 8, z0, n0, s'.2.1, s'.2.2)
abbrev W_X7_copy (E : gE) (z0 n0 : Nat) (r : (Option Nat)) (s' : gS) (pc : Nat) (L : List (Nat × gV)) (st : List gV) (s : gS) : Prop := gW E (M_X7_copy z0 n0 s') (gQm E (M_X7_copy z0 n0 s') (.inl (some (vR r))) s') pc L st s
noncomputable def f_X7_copy_60b (κ : gK) (F : Nat) (k60 : Option Nat → Option Nat → gS → Option ((Option Nat) × gS)) (l1 : Option Nat) (l2 : Option Nat) (s : gS) : Option ((Option Nat) × gS) :=
  gB1 (gck s l2 14) fun _ =>
  gB2 (f_J36_hasNext κ F l2  s) fun v2 s1 =>
  if v2 = 0 then
    some (l1, s1)
  else
    gB1 (gck s1 l2 14) fun _ =>
    gB2 (f_J37_next κ F l2  s1) fun v5 s4 =>
    gB1 (gcc s4 v5 1) fun _ =>
    gB1 (gfR s4 l1 6 1) fun v8 =>
    gB1 (gck s4 v8 12) fun _ =>
    gB2 (f_J27_add κ F v8 v5 s4) fun v10 s9 =>
    k60 l1 l2 s9
noncomputable def f_X7_copy_60 (κ : gK) (F : Nat)  : Nat → Option Nat → Option Nat → gS → Option ((Option Nat) × gS)
  | 0 => fun _ _ _ => none
  | n + 1 => f_X7_copy_60b κ F  (f_X7_copy_60 κ F  n)
set_option maxHeartbeats 4000000 in
theorem w_X7_copy_60b {E : gE} {F z0 n0 : Nat} {r : (Option Nat)} {s' : gS} {k60 : Option Nat → Option Nat → gS → Option ((Option Nat) × gS)} (hk60 : ∀ (l1 : Option Nat) (l2 : Option Nat) (s : gS), k60 l1 l2 s = some (r, s') → W_X7_copy E z0 n0 r s' 60 [(1, vR l1), (2, vR l2)] [] s) : ∀ (l1 : Option Nat) (l2 : Option Nat)  (s : gS), f_X7_copy_60b (gk E) F k60 l1 l2 s = some (r, s') → W_X7_copy E z0 n0 r s' 60 [(1, vR l1), (2, vR l2)] [] s := by
  intro l1 l2 s hB
  unfold f_X7_copy_60b at hB
  refine gw_aload_n 1 rfl dX7_copy_60 ?_
  obtain ⟨u0, hu3, hB⟩ := gB1_some hB
  obtain ⟨v2, s1, hv2, hB⟩ := gB2_some hB
  refine gw_callF (C := "java/util/LinkedHashMap$LinkedKeyIterator") (x := ⟨"java/util/Iterator", "hasNext", "()Z"⟩) (y := yJ36_hasNext) (lw_app (lw_in (([Cond.methodLink "PageGarden$Draft" 30 ⟨"java/util/Iterator", "hasNext", "()Z"⟩, Cond.selects "java/util/LinkedHashMap$LinkedKeyIterator" ⟨"java/util/Iterator", "hasNext", "()Z"⟩ yJ36_hasNext, Cond.instanceMethod yJ36_hasNext, Cond.initialized yJ36_hasNext.cls] : List Cond)) [1901, 1911, 1913, 155] (by decide +kernel) (by decide +kernel)) (lw_meth q1915)) q1903 q1902 q1914 q1912 q1910 (show _ ∧ _ ∧ _ = some 0 from by decide +kernel) gcl14 hu3 (As := []) (rest := []) (m_J36_hasNext _ _ _ _ hv2) (Nat.le_of_ble_eq_true rfl) (Nat.le_of_ble_eq_true rfl) rfl (Nat.le_of_ble_eq_true rfl) dX7_copy_61 (gCont_i ?_)
  refine gw_if_eq (tgt := 92) dX7_copy_66 (by decide) (fun hcnd => ?_) (fun hcnd => ?_)
  · rw [if_pos hcnd] at hB
    refine gw_aload_n 0 rfl dX7_copy_92 ?_
    obtain ⟨rfl, rfl⟩ := Prod.mk.inj (Option.some.inj hB)
    exact gw_aret rfl (Or.inl ⟨_, rfl⟩) rfl rfl dX7_copy_93
  · rw [if_neg hcnd] at hB
    refine gw_aload_n 1 rfl dX7_copy_69 ?_
    obtain ⟨u0, hu6, hB⟩ := gB1_some hB
    obtain ⟨v5, s4, hv5, hB⟩ := gB2_some hB
    refine gw_callF (C := "java/util/LinkedHashMap$LinkedKeyIterator") (x := ⟨"java/util/Iterator", "next", "()Ljava/lang/Object;"⟩) (y := yJ37_next) (lw_app (lw_in (([Cond.methodLink "PageGarden$Draft" 36 ⟨"java/util/Iterator", "next", "()Ljava/lang/Object;"⟩, Cond.selects "java/util/LinkedHashMap$LinkedKeyIterator" ⟨"java/util/Iterator", "next", "()Ljava/lang/Object;"⟩ yJ37_next, Cond.instanceMethod yJ37_next, Cond.initialized yJ37_next.cls] : List Cond)) [1917, 1931, 1933, 156] (by decide +kernel) (by decide +kernel)) (lw_meth q1935)) q1919 q1918 q1934 q1932 q1910 (show _ ∧ _ ∧ _ = some 0 from by decide +kernel) gcl14 hu6 (As := []) (rest := []) (m_J37_next _ _ _ _ hv5) (Nat.le_of_ble_eq_true rfl) (Nat.le_of_ble_eq_true rfl) rfl (Nat.le_of_ble_eq_true rfl) dX7_copy_70 (gCont_i ?_)
    obtain ⟨u0, hu7, hB⟩ := gB1_some hB
    refine gw_cast (C := RX2) gcl1 hu7 q1949 (Or.inl rfl) dX7_copy_75 ?_
    refine gw_astore_n (L' := [(3, vR v5), (1, vR l1), (2, vR l2)]) (Nat.le_of_ble_eq_true rfl) rfl dX7_copy_78 ?_
    refine gw_aload_n 1 rfl dX7_copy_79 ?_
    obtain ⟨v8, hv8, hB⟩ := gB1_some hB
    refine gw_getf (C := RX7) (T := TX7) (N := 3) (k := 1) gcl6 (by decide) in_X7 q1788 (gfR_spec hv8) dX7_copy_80 ?_
    refine gw_aload_n 0 rfl dX7_copy_83 ?_
    obtain ⟨u0, hu11, hB⟩ := gB1_some hB
    obtain ⟨v10, s9, hv10, hB⟩ := gB2_some hB
    refine gw_callU (C := "java/util/LinkedHashSet") (owner := "java/util/HashSet") (x := ⟨"java/util/LinkedHashSet", "add", "(Ljava/lang/Object;)Z"⟩) (y := yJ27_add) (lw_app (lw_in (([Cond.methodLink "PageGarden$Draft" 42 ⟨"java/util/LinkedHashSet", "add", "(Ljava/lang/Object;)Z"⟩, Cond.sameMethod "java/util/LinkedHashSet" "java/util/HashSet" "add" "(Ljava/lang/Object;)Z", Cond.selects "java/util/LinkedHashSet" ⟨"java/util/LinkedHashSet", "add", "(Ljava/lang/Object;)Z"⟩ yJ27_add, Cond.instanceMethod yJ27_add, Cond.initialized "java/util/HashSet"] : List Cond)) [1950, 1951, 1953, 1954, 146] (by decide +kernel) (by decide +kernel)) (lw_meth q1955)) rfl (show _ ∧ _ ∧ _ = some 1 from by decide +kernel) gcl12 hu11 (As := [vR v5]) (rest := []) (m_J27_add _ _ _ _ _ hv10) (Nat.le_of_ble_eq_true rfl) (Nat.le_of_ble_eq_true rfl) rfl (Nat.le_of_ble_eq_true rfl) dX7_copy_84 (gCont_i ?_)
    refine gw_istore (L' := [(4, vI v10), (3, vR v5), (1, vR l1), (2, vR l2)]) (Nat.le_of_ble_eq_true rfl) rfl dX7_copy_87 ?_
    refine gw_goto (tgt := 60) dX7_copy_89 (by decide) ?_
    exact gw_sub [2, 3] rfl (hk60 _ _ _ hB)
theorem w_X7_copy_60 {E : gE} {F z0 n0 : Nat} {r : (Option Nat)} {s' : gS}   : ∀ (n : Nat) (l1 : Option Nat) (l2 : Option Nat)  (s : gS), f_X7_copy_60 (gk E) F  n l1 l2 s = some (r, s') → W_X7_copy E z0 n0 r s' 60 [(1, vR l1), (2, vR l2)] [] s := by
  intro n
  induction n with
  | zero => intro l1 l2 s hB; cases hB
  | succ n ih => intro l1 l2 s hB; exact w_X7_copy_60b ih l1 l2 s hB
noncomputable def f_X7_copy_20b (κ : gK) (F : Nat) (k20 : Option Nat → Option Nat → Option Nat → gS → Option ((Option Nat) × gS)) (l0 : Option Nat) (l1 : Option Nat) (l2 : Option Nat) (s : gS) : Option ((Option Nat) × gS) :=
  gB1 (gck s l2 14) fun _ =>
  gB2 (f_J36_hasNext κ F l2  s) fun v2 s1 =>
  if v2 = 0 then
    gB1 (gfR s1 l0 6 1) fun v4 =>
    gB1 (gck s1 v4 12) fun _ =>
    gB2 (f_J27_iterator κ F v4  s1) fun v6 s5 =>
    f_X7_copy_60 κ F  F l1 v6 s5
  else
    gB1 (gck s1 l2 14) fun _ =>
    gB2 (f_J37_next κ F l2  s1) fun v9 s8 =>
    gB1 (gcc s8 v9 1) fun _ =>
    gB1 (gfR s8 l1 6 0) fun v12 =>
    gB1 (gck s8 v12 12) fun _ =>
    gB2 (f_J27_add κ F v12 v9 s8) fun v14 s13 =>
    k20 l0 l1 l2 s13
noncomputable def f_X7_copy_20 (κ : gK) (F : Nat)  : Nat → Option Nat → Option Nat → Option Nat → gS → Option ((Option Nat) × gS)
  | 0 => fun _ _ _ _ => none
  | n + 1 => f_X7_copy_20b κ F  (f_X7_copy_20 κ F  n)
set_option maxHeartbeats 4000000 in
theorem w_X7_copy_20b {E : gE} {F z0 n0 : Nat} {r : (Option Nat)} {s' : gS} {k20 : Option Nat → Option Nat → Option Nat → gS → Option ((Option Nat) × gS)} (hk20 : ∀ (l0 : Option Nat) (l1 : Option Nat) (l2 : Option Nat) (s : gS), k20 l0 l1 l2 s = some (r, s') → W_X7_copy E z0 n0 r s' 20 [(0, vR l0), (1, vR l1), (2, vR l2)] [] s) : ∀ (l0 : Option Nat) (l1 : Option Nat) (l2 : Option Nat)  (s : gS), f_X7_copy_20b (gk E) F k20 l0 l1 l2 s = some (r, s') → W_X7_copy E z0 n0 r s' 20 [(0, vR l0), (1, vR l1), (2, vR l2)] [] s := by
  intro l0 l1 l2 s hB
  unfold f_X7_copy_20b at hB
  refine gw_aload_n 2 rfl dX7_copy_20 ?_
  obtain ⟨u0, hu3, hB⟩ := gB1_some hB
  obtain ⟨v2, s1, hv2, hB⟩ := gB2_some hB
  refine gw_callF (C := "java/util/LinkedHashMap$LinkedKeyIterator") (x := ⟨"java/util/Iterator", "hasNext", "()Z"⟩) (y := yJ36_hasNext) (lw_app (lw_in (([Cond.methodLink "PageGarden$Draft" 30 ⟨"java/util/Iterator", "hasNext", "()Z"⟩, Cond.selects "java/util/LinkedHashMap$LinkedKeyIterator" ⟨"java/util/Iterator", "hasNext", "()Z"⟩ yJ36_hasNext, Cond.instanceMethod yJ36_hasNext, Cond.initialized yJ36_hasNext.cls] : List Cond)) [1901, 1911, 1913, 155] (by decide +kernel) (by decide +kernel)) (lw_meth q1915)) q1903 q1902 q1914 q1912 q1910 (show _ ∧ _ ∧ _ = some 0 from by decide +kernel) gcl14 hu3 (As := []) (rest := []) (m_J36_hasNext _ _ _ _ hv2) (Nat.le_of_ble_eq_true rfl) (Nat.le_of_ble_eq_true rfl) rfl (Nat.le_of_ble_eq_true rfl) dX7_copy_21 (gCont_i ?_)
  refine gw_if_eq (tgt := 52) dX7_copy_26 (by decide) (fun hcnd => ?_) (fun hcnd => ?_)
  · rw [if_pos hcnd] at hB
    refine gw_aload_n 0 rfl dX7_copy_52 ?_
    obtain ⟨v4, hv4, hB⟩ := gB1_some hB
    refine gw_getf (C := RX7) (T := TX7) (N := 3) (k := 1) gcl6 (by decide) in_X7 q1788 (gfR_spec hv4) dX7_copy_53 ?_
    obtain ⟨u0, hu7, hB⟩ := gB1_some hB
    obtain ⟨v6, s5, hv6, hB⟩ := gB2_some hB
    refine gw_callU (C := "java/util/LinkedHashSet") (owner := "java/util/HashSet") (x := ⟨"java/util/LinkedHashSet", "iterator", "()Ljava/util/Iterator;"⟩) (y := yJ27_iterator) (lw_app (lw_in (([Cond.methodLink "PageGarden$Draft" 26 ⟨"java/util/LinkedHashSet", "iterator", "()Ljava/util/Iterator;"⟩, Cond.sameMethod "java/util/LinkedHashSet" "java/util/HashSet" "iterator" "()Ljava/util/Iterator;", Cond.selects "java/util/LinkedHashSet" ⟨"java/util/LinkedHashSet", "iterator", "()Ljava/util/Iterator;"⟩ yJ27_iterator, Cond.instanceMethod yJ27_iterator, Cond.initialized "java/util/HashSet"] : List Cond)) [1799, 1800, 1802, 1803, 146] (by decide +kernel) (by decide +kernel)) (lw_meth q1804)) rfl (show _ ∧ _ ∧ _ = some 0 from by decide +kernel) gcl12 hu7 (As := []) (rest := []) (m_J27_iterator _ _ _ _ hv6) (Nat.le_of_ble_eq_true rfl) (Nat.le_of_ble_eq_true rfl) rfl (Nat.le_of_ble_eq_true rfl) dX7_copy_56 (gCont_i ?_)
    refine gw_astore_n (L' := [(2, vR v6), (0, vR l0), (1, vR l1)]) (Nat.le_of_ble_eq_true rfl) rfl dX7_copy_59 ?_
    exact gw_sub [2, 0] rfl (w_X7_copy_60  F _ _ _ hB)
  · rw [if_neg hcnd] at hB
    refine gw_aload_n 2 rfl dX7_copy_29 ?_
    obtain ⟨u0, hu10, hB⟩ := gB1_some hB
    obtain ⟨v9, s8, hv9, hB⟩ := gB2_some hB
    refine gw_callF (C := "java/util/LinkedHashMap$LinkedKeyIterator") (x := ⟨"java/util/Iterator", "next", "()Ljava/lang/Object;"⟩) (y := yJ37_next) (lw_app (lw_in (([Cond.methodLink "PageGarden$Draft" 36 ⟨"java/util/Iterator", "next", "()Ljava/lang/Object;"⟩, Cond.selects "java/util/LinkedHashMap$LinkedKeyIterator" ⟨"java/util/Iterator", "next", "()Ljava/lang/Object;"⟩ yJ37_next, Cond.instanceMethod yJ37_next, Cond.initialized yJ37_next.cls] : List Cond)) [1917, 1931, 1933, 156] (by decide +kernel) (by decide +kernel)) (lw_meth q1935)) q1919 q1918 q1934 q1932 q1910 (show _ ∧ _ ∧ _ = some 0 from by decide +kernel) gcl14 hu10 (As := []) (rest := []) (m_J37_next _ _ _ _ hv9) (Nat.le_of_ble_eq_true rfl) (Nat.le_of_ble_eq_true rfl) rfl (Nat.le_of_ble_eq_true rfl) dX7_copy_30 (gCont_i ?_)
    obtain ⟨u0, hu11, hB⟩ := gB1_some hB
    refine gw_cast (C := RX2) gcl1 hu11 q1949 (Or.inl rfl) dX7_copy_35 ?_
    refine gw_astore_n (L' := [(3, vR v9), (0, vR l0), (1, vR l1), (2, vR l2)]) (Nat.le_of_ble_eq_true rfl) rfl dX7_copy_38 ?_
    refine gw_aload_n 2 rfl dX7_copy_39 ?_
    obtain ⟨v12, hv12, hB⟩ := gB1_some hB
    refine gw_getf (C := RX7) (T := TX7) (N := 3) (k := 0) gcl6 (by decide) in_X7 q1786 (gfR_spec hv12) dX7_copy_40 ?_
    refine gw_aload_n 0 rfl dX7_copy_43 ?_
    obtain ⟨u0, hu15, hB⟩ := gB1_some hB
    obtain ⟨v14, s13, hv14, hB⟩ := gB2_some hB
    refine gw_callU (C := "java/util/LinkedHashSet") (owner := "java/util/HashSet") (x := ⟨"java/util/LinkedHashSet", "add", "(Ljava/lang/Object;)Z"⟩) (y := yJ27_add) (lw_app (lw_in (([Cond.methodLink "PageGarden$Draft" 42 ⟨"java/util/LinkedHashSet", "add", "(Ljava/lang/Object;)Z"⟩, Cond.sameMethod "java/util/LinkedHashSet" "java/util/HashSet" "add" "(Ljava/lang/Object;)Z", Cond.selects "java/util/LinkedHashSet" ⟨"java/util/LinkedHashSet", "add", "(Ljava/lang/Object;)Z"⟩ yJ27_add, Cond.instanceMethod yJ27_add, Cond.initialized "java/util/HashSet"] : List Cond)) [1950, 1951, 1953, 1954, 146] (by decide +kernel) (by decide +kernel)) (lw_meth q1955)) rfl (show _ ∧ _ ∧ _ = some 1 from by decide +kernel) gcl12 hu15 (As := [vR v9]) (rest := []) (m_J27_add _ _ _ _ _ hv14) (Nat.le_of_ble_eq_true rfl) (Nat.le_of_ble_eq_true rfl) rfl (Nat.le_of_ble_eq_true rfl) dX7_copy_44 (gCont_i ?_)
    refine gw_istore (L' := [(4, vI v14), (3, vR v9), (0, vR l0), (1, vR l1), (2, vR l2)]) (Nat.le_of_ble_eq_true rfl) rfl dX7_copy_47 ?_
    refine gw_goto (tgt := 20) dX7_copy_49 (by decide) ?_
    exact gw_sub [2, 3, 4] rfl (hk20 _ _ _ _ hB)
theorem w_X7_copy_20 {E : gE} {F z0 n0 : Nat} {r : (Option Nat)} {s' : gS}   : ∀ (n : Nat) (l0 : Option Nat) (l1 : Option Nat) (l2 : Option Nat)  (s : gS), f_X7_copy_20 (gk E) F  n l0 l1 l2 s = some (r, s') → W_X7_copy E z0 n0 r s' 20 [(0, vR l0), (1, vR l1), (2, vR l2)] [] s := by
  intro n
  induction n with
  | zero => intro l0 l1 l2 s hB; cases hB
  | succ n ih => intro l0 l1 l2 s hB; exact w_X7_copy_20b ih l0 l1 l2 s hB
noncomputable def f_X7_copy_0 (κ : gK) (F : Nat)  (l0 : Option Nat) (s : gS) : Option ((Option Nat) × gS) :=
  gB2 (gnw s 6 g0_X7 3) fun v1 s2 =>
  gB1 (gfI s2 l0 6 2) fun v3 =>
  gB1 (gsm v1) fun _ =>
  gB2 (f_X7_init κ F v1 v3 s2) fun v5 s4 =>
  gB1 (gfR s4 l0 6 0) fun v7 =>
  gB1 (gck s4 v7 12) fun _ =>
  gB2 (f_J27_iterator κ F v7  s4) fun v9 s8 =>
  f_X7_copy_20 κ F  F l0 v1 v9 s8
set_option maxHeartbeats 4000000 in
theorem w_X7_copy_0 {E : gE} {F z0 n0 : Nat} {r : (Option Nat)} {s' : gS}   : ∀ (l0 : Option Nat)  (s : gS), f_X7_copy_0 (gk E) F  l0 s = some (r, s') → W_X7_copy E z0 n0 r s' 0 [(0, vR l0)] [] s := by
  intro l0 s hB
  unfold f_X7_copy_0 at hB
  obtain ⟨v1, s2, hv1, hB⟩ := gB2_some hB
  refine gw_new (C := RX7) (T := TX7) (N := 3) tyX7 tyX7_ok gcl6 in_X7 q1463 q1464 q144 g0_X7_ok hv1 dX7_copy_0 ?_
  refine gw_dup rfl dX7_copy_3 ?_
  refine gw_aload_n 0 rfl dX7_copy_4 ?_
  obtain ⟨v3, hv3, hB⟩ := gB1_some hB
  refine gw_getf (C := RX7) (T := TX7) (N := 3) (k := 2) gcl6 (by decide) in_X7 q1790 (gfI_spec hv3) dX7_copy_5 ?_
  obtain ⟨u0, hu6, hB⟩ := gB1_some hB
  obtain ⟨v5, s4, hv5, hB⟩ := gB2_some hB
  refine gw_callI (y := yX7_init) (lw_meth q1467) q144 q1465 q1466 rfl hdS_X7_init (gsm_spec hu6) (As := [vI v3]) (rest := [vR v1]) (m_X7_init _ _ _ _ _ hv5) (Nat.le_of_ble_eq_true rfl) (Nat.le_of_ble_eq_true rfl) rfl (Nat.le_of_ble_eq_true rfl) dX7_copy_8 (gCont_v ?_)
  refine gw_astore_n (L' := [(1, vR v1), (0, vR l0)]) (Nat.le_of_ble_eq_true rfl) rfl dX7_copy_11 ?_
  refine gw_aload_n 1 rfl dX7_copy_12 ?_
  obtain ⟨v7, hv7, hB⟩ := gB1_some hB
  refine gw_getf (C := RX7) (T := TX7) (N := 3) (k := 0) gcl6 (by decide) in_X7 q1786 (gfR_spec hv7) dX7_copy_13 ?_
  obtain ⟨u0, hu10, hB⟩ := gB1_some hB
  obtain ⟨v9, s8, hv9, hB⟩ := gB2_some hB
  refine gw_callU (C := "java/util/LinkedHashSet") (owner := "java/util/HashSet") (x := ⟨"java/util/LinkedHashSet", "iterator", "()Ljava/util/Iterator;"⟩) (y := yJ27_iterator) (lw_app (lw_in (([Cond.methodLink "PageGarden$Draft" 26 ⟨"java/util/LinkedHashSet", "iterator", "()Ljava/util/Iterator;"⟩, Cond.sameMethod "java/util/LinkedHashSet" "java/util/HashSet" "iterator" "()Ljava/util/Iterator;", Cond.selects "java/util/LinkedHashSet" ⟨"java/util/LinkedHashSet", "iterator", "()Ljava/util/Iterator;"⟩ yJ27_iterator, Cond.instanceMethod yJ27_iterator, Cond.initialized "java/util/HashSet"] : List Cond)) [1799, 1800, 1802, 1803, 146] (by decide +kernel) (by decide +kernel)) (lw_meth q1804)) rfl (show _ ∧ _ ∧ _ = some 0 from by decide +kernel) gcl12 hu10 (As := []) (rest := []) (m_J27_iterator _ _ _ _ hv9) (Nat.le_of_ble_eq_true rfl) (Nat.le_of_ble_eq_true rfl) rfl (Nat.le_of_ble_eq_true rfl) dX7_copy_16 (gCont_i ?_)
  refine gw_astore_n (L' := [(2, vR v9), (1, vR v1), (0, vR l0)]) (Nat.le_of_ble_eq_true rfl) rfl dX7_copy_19 ?_
  exact gw_sub [2, 1, 0] rfl (w_X7_copy_20  F _ _ _ _ hB)
noncomputable def f_X7_copy (κ : gK) (F : Nat) (a0 : Option Nat) (s : gS) : Option ((Option Nat) × gS) := f_X7_copy_0 κ F a0 s
theorem m_X7_copy {E : gE} {F : Nat} (a0 : Option Nat) (s : gS) (r : (Option Nat)) (s' : gS) (h : f_X7_copy (gk E) F a0 s = some (r, s')) : gCT E 8 yX7_copy (ws_ yX7_copy cX7_copy 5 (some (FieldType.object "PageGarden$Draft"))) [vR a0] s (.inl (some (vR r))) s' := by
  refine gCT_of2 (fun h => absurd h (by decide)) (plainFor_of_name (by decide)) (Nat.le_of_ble_eq_true rfl) ?_
  exact gw_sub [0] rfl (w_X7_copy_0 _ _ h)
theorem dJ1_size_0 : decode cJ1_size 0 = .ok (.aload_n 0, 1) := by decide +kernel
theorem dJ1_size_1 : decode cJ1_size 1 = .ok (.getfield 156, 3) := by decide +kernel
theorem dJ1_size_4 : decode cJ1_size 4 = .ok (.ireturn, 1) := by decide +kernel
/-! java/util/HashMap.size()I -/
abbrev M_J1_size (z0 n0 : Nat) (s' : gS) : gM := (RJ1, cJ1_size, 1, (some FieldType.int), "size", [], 1, z0, n0, s'.2.1, s'.2.2)
abbrev W_J1_size (E : gE) (z0 n0 : Nat) (r : Int32) (s' : gS) (pc : Nat) (L : List (Nat × gV)) (st : List gV) (s : gS) : Prop := gW E (M_J1_size z0 n0 s') (gQm E (M_J1_size z0 n0 s') (.inl (some (vI r))) s') pc L st s
noncomputable def f_J1_size_0 (κ : gK) (F : Nat)  (l0 : Option Nat) (s : gS) : Option (Int32 × gS) :=
  gB1 (gfI s l0 10 2) fun v1 =>
  some (v1, s)
set_option maxHeartbeats 4000000 in
theorem w_J1_size_0 {E : gE} {F z0 n0 : Nat} {r : Int32} {s' : gS}   : ∀ (l0 : Option Nat)  (s : gS), f_J1_size_0 (gk E) F  l0 s = some (r, s') → W_J1_size E z0 n0 r s' 0 [(0, vR l0)] [] s := by
  intro l0 s hB
  unfold f_J1_size_0 at hB
  refine gw_aload_n 0 rfl dJ1_size_0 ?_
  obtain ⟨v1, hv1, hB⟩ := gB1_some hB
  refine gw_getf (C := RJ2) (T := TJ2) (N := 12) (k := 2) gcl10 (by decide) in_J2 q238 (gfI_spec hv1) dJ1_size_1 ?_
  obtain ⟨rfl, rfl⟩ := Prod.mk.inj (Option.some.inj hB)
  exact gw_iret rfl rfl rfl dJ1_size_4
noncomputable def f_J1_size (κ : gK) (F : Nat) (a0 : Option Nat) (s : gS) : Option (Int32 × gS) := f_J1_size_0 κ F a0 s
theorem m_J1_size {E : gE} {F : Nat} (a0 : Option Nat) (s : gS) (r : Int32) (s' : gS) (h : f_J1_size (gk E) F a0 s = some (r, s')) : gCT E 1 yJ1_size (ws_ yJ1_size cJ1_size 1 (some FieldType.int)) [vR a0] s (.inl (some (vI r))) s' := by
  refine gCT_of2 (fun h => absurd h (by decide)) (plainFor_of_name (by decide)) (Nat.le_of_ble_eq_true rfl) ?_
  exact gw_sub [0] rfl (w_J1_size_0 _ _ h)
def dkwJ27_size_0 : List UInt8 := [42, 180, 0, 10, 182, 0, 55, 172]
abbrev dktJ27_size_0 : List UInt8 := dkwJ27_size_0 ++ []
theorem dksJ27_size_0 : cJ27_size.data.toList.drop 0 = dktJ27_size_0 := by decide +kernel
theorem dJ27_size_0 : decode cJ27_size 0 = .ok (.aload_n 0, 1) := dk_42 (dk_at dksJ27_size_0 0 rfl rfl)
theorem dJ27_size_1 : decode cJ27_size 1 = .ok (.getfield 10, 3) := dk_180 0 10 (dk_at dksJ27_size_0 1 rfl rfl)
theorem dJ27_size_4 : decode cJ27_size 4 = .ok (.invokevirtual 55, 3) := dk_182 0 55 (dk_at dksJ27_size_0 4 rfl rfl)
theorem dJ27_size_7 : decode cJ27_size 7 = .ok (.ireturn, 1) := dk_172 (dk_at dksJ27_size_0 7 rfl rfl)
/-! java/util/HashSet.size()I -/
abbrev M_J27_size (z0 n0 : Nat) (s' : gS) : gM := (RJ27, cJ27_size, 1, (some FieldType.int), "size", [], 2, z0, n0, s'.2.1, s'.2.2)
abbrev W_J27_size (E : gE) (z0 n0 : Nat) (r : Int32) (s' : gS) (pc : Nat) (L : List (Nat × gV)) (st : List gV) (s : gS) : Prop := gW E (M_J27_size z0 n0 s') (gQm E (M_J27_size z0 n0 s') (.inl (some (vI r))) s') pc L st s
noncomputable def f_J27_size_0 (κ : gK) (F : Nat)  (l0 : Option Nat) (s : gS) : Option (Int32 × gS) :=
  gB1 (gfR s l0 12 0) fun v1 =>
  gB1 (gck s v1 10) fun _ =>
  gB2 (f_J1_size κ F v1  s) fun v3 s2 =>
  some (v3, s2)
set_option maxHeartbeats 4000000 in
theorem w_J27_size_0 {E : gE} {F z0 n0 : Nat} {r : Int32} {s' : gS}   : ∀ (l0 : Option Nat)  (s : gS), f_J27_size_0 (gk E) F  l0 s = some (r, s') → W_J27_size E z0 n0 r s' 0 [(0, vR l0)] [] s := by
  intro l0 s hB
  unfold f_J27_size_0 at hB
  refine gw_aload_n 0 rfl dJ27_size_0 ?_
  obtain ⟨v1, hv1, hB⟩ := gB1_some hB
  refine gw_getf (C := RJ28) (T := TJ28) (N := 1) (k := 0) gcl12 (by decide) in_J28 q1781 (gfR_spec hv1) dJ27_size_1 ?_
  obtain ⟨u0, hu4, hB⟩ := gB1_some hB
  obtain ⟨v3, s2, hv3, hB⟩ := gB2_some hB
  refine gw_callU (C := "java/util/LinkedHashMap") (owner := "java/util/HashMap") (x := ⟨"java/util/HashMap", "size", "()I"⟩) (y := yJ1_size) (lw_app (lw_in (([Cond.methodLink "java/util/HashSet" 55 ⟨"java/util/HashMap", "size", "()I"⟩, Cond.sameMethod "java/util/HashMap" "java/util/HashMap" "size" "()I", Cond.selects "java/util/LinkedHashMap" ⟨"java/util/HashMap", "size", "()I"⟩ yJ1_size, Cond.instanceMethod yJ1_size, Cond.initialized "java/util/HashMap"] : List Cond)) [2253, 2255, 2256, 2254, 113] (by decide +kernel) (by decide +kernel)) (lw_meth q2257)) rfl (show _ ∧ _ ∧ _ = some 0 from by decide +kernel) gcl10 hu4 (As := []) (rest := []) (m_J1_size _ _ _ _ hv3) (Nat.le_of_ble_eq_true rfl) (Nat.le_of_ble_eq_true rfl) rfl (Nat.le_of_ble_eq_true rfl) dJ27_size_4 (gCont_i ?_)
  obtain ⟨rfl, rfl⟩ := Prod.mk.inj (Option.some.inj hB)
  exact gw_iret rfl rfl rfl dJ27_size_7
noncomputable def f_J27_size (κ : gK) (F : Nat) (a0 : Option Nat) (s : gS) : Option (Int32 × gS) := f_J27_size_0 κ F a0 s
theorem m_J27_size {E : gE} {F : Nat} (a0 : Option Nat) (s : gS) (r : Int32) (s' : gS) (h : f_J27_size (gk E) F a0 s = some (r, s')) : gCT E 2 yJ27_size (ws_ yJ27_size cJ27_size 1 (some FieldType.int)) [vR a0] s (.inl (some (vI r))) s' := by
  refine gCT_of2 (fun h => absurd h (by decide)) (plainFor_of_name (by decide)) (Nat.le_of_ble_eq_true rfl) ?_
  exact gw_sub [0] rfl (w_J27_size_0 _ _ h)
def dkwX7_isChanged_0 : List UInt8 := [42, 180, 0, 10, 182, 0, 50, 158, 0, 7, 4, 167, 0, 4, 3, 172]
abbrev dktX7_isChanged_0 : List UInt8 := dkwX7_isChanged_0 ++ []
theorem dksX7_isChanged_0 : cX7_isChanged.data.toList.drop 0 = dktX7_isChanged_0 := by decide +kernel
theorem dX7_isChanged_0 : decode cX7_isChanged 0 = .ok (.aload_n 0, 1) := dk_42 (dk_at dksX7_isChanged_0 0 rfl rfl)
theorem dX7_isChanged_1 : decode cX7_isChanged 1 = .ok (.getfield 10, 3) := dk_180 0 10 (dk_at dksX7_isChanged_0 1 rfl rfl)
theorem dX7_isChanged_4 : decode cX7_isChanged 4 = .ok (.invokevirtual 50, 3) := dk_182 0 50 (dk_at dksX7_isChanged_0 4 rfl rfl)
theorem dX7_isChanged_7 : decode cX7_isChanged 7 = .ok (.ifCond .le 7, 3) := dk_158 0 7 (dk_at dksX7_isChanged_0 7 rfl rfl)
theorem dX7_isChanged_10 : decode cX7_isChanged 10 = .ok (.iconst 1, 1) := dk_4 (dk_at dksX7_isChanged_0 10 rfl rfl)
theorem dX7_isChanged_11 : decode cX7_isChanged 11 = .ok (.goto 4, 3) := dk_167 0 4 (dk_at dksX7_isChanged_0 11 rfl rfl)
theorem dX7_isChanged_14 : decode cX7_isChanged 14 = .ok (.iconst 0, 1) := dk_3 (dk_at dksX7_isChanged_0 14 rfl rfl)
theorem dX7_isChanged_15 : decode cX7_isChanged 15 = .ok (.ireturn, 1) := dk_172 (dk_at dksX7_isChanged_0 15 rfl rfl)
/-! PageGarden$Draft.isChanged()Z -/
abbrev M_X7_isChanged (z0 n0 : Nat) (s' : gS) : gM := (RX7, cX7_isChanged, 1, (some FieldType.boolean), "isChanged", [], 3, z0, n0, s'.2.1, s'.2.2)
abbrev W_X7_isChanged (E : gE) (z0 n0 : Nat) (r : Int32) (s' : gS) (pc : Nat) (L : List (Nat × gV)) (st : List gV) (s : gS) : Prop := gW E (M_X7_isChanged z0 n0 s') (gQm E (M_X7_isChanged z0 n0 s') (.inl (some (vI r))) s') pc L st s
noncomputable def f_X7_isChanged_15 (κ : gK) (F : Nat)  (t0 : Int32) (s : gS) : Option (Int32 × gS) :=
  gB1 (gok .boolean t0) fun _ => some (t0, s)
set_option maxHeartbeats 4000000 in
theorem w_X7_isChanged_15 {E : gE} {F z0 n0 : Nat} {r : Int32} {s' : gS}   : ∀  (t0 : Int32) (s : gS), f_X7_isChanged_15 (gk E) F  t0 s = some (r, s') → W_X7_isChanged E z0 n0 r s' 15 [] [vI t0] s := by
  intro t0 s hB
  unfold f_X7_isChanged_15 at hB
  obtain ⟨u, hu, hB⟩ := gB1_some hB
  obtain ⟨rfl, rfl⟩ := Prod.mk.inj (Option.some.inj hB)
  exact gw_zret rfl hu rfl rfl dX7_isChanged_15
noncomputable def f_X7_isChanged_0 (κ : gK) (F : Nat)  (l0 : Option Nat) (s : gS) : Option (Int32 × gS) :=
  gB1 (gfR s l0 6 0) fun v1 =>
  gB1 (gck s v1 12) fun _ =>
  gB2 (f_J27_size κ F v1  s) fun v3 s2 =>
  if v3 ≤ 0 then
    f_X7_isChanged_15 κ F  (0 : Int32) s2
  else
    f_X7_isChanged_15 κ F  (1 : Int32) s2
set_option maxHeartbeats 4000000 in
theorem w_X7_isChanged_0 {E : gE} {F z0 n0 : Nat} {r : Int32} {s' : gS}   : ∀ (l0 : Option Nat)  (s : gS), f_X7_isChanged_0 (gk E) F  l0 s = some (r, s') → W_X7_isChanged E z0 n0 r s' 0 [(0, vR l0)] [] s := by
  intro l0 s hB
  unfold f_X7_isChanged_0 at hB
  refine gw_aload_n 0 rfl dX7_isChanged_0 ?_
  obtain ⟨v1, hv1, hB⟩ := gB1_some hB
  refine gw_getf (C := RX7) (T := TX7) (N := 3) (k := 0) gcl6 (by decide) in_X7 q1786 (gfR_spec hv1) dX7_isChanged_1 ?_
  obtain ⟨u0, hu4, hB⟩ := gB1_some hB
  obtain ⟨v3, s2, hv3, hB⟩ := gB2_some hB
  refine gw_callU (C := "java/util/LinkedHashSet") (owner := "java/util/HashSet") (x := ⟨"java/util/LinkedHashSet", "size", "()I"⟩) (y := yJ27_size) (lw_app (lw_in (([Cond.methodLink "PageGarden$Draft" 50 ⟨"java/util/LinkedHashSet", "size", "()I"⟩, Cond.sameMethod "java/util/LinkedHashSet" "java/util/HashSet" "size" "()I", Cond.selects "java/util/LinkedHashSet" ⟨"java/util/LinkedHashSet", "size", "()I"⟩ yJ27_size, Cond.instanceMethod yJ27_size, Cond.initialized "java/util/HashSet"] : List Cond)) [2247, 2248, 2250, 2251, 146] (by decide +kernel) (by decide +kernel)) (lw_meth q2252)) rfl (show _ ∧ _ ∧ _ = some 0 from by decide +kernel) gcl12 hu4 (As := []) (rest := []) (m_J27_size _ _ _ _ hv3) (Nat.le_of_ble_eq_true rfl) (Nat.le_of_ble_eq_true rfl) rfl (Nat.le_of_ble_eq_true rfl) dX7_isChanged_4 (gCont_i ?_)
  refine gw_if_le (tgt := 14) dX7_isChanged_7 (by decide) (fun hcnd => ?_) (fun hcnd => ?_)
  · rw [if_pos hcnd] at hB
    refine gw_iconst (v := (0 : Int32)) (by decide) dX7_isChanged_14 ?_
    exact gw_sub [] rfl (w_X7_isChanged_15  _ _ hB)
  · rw [if_neg hcnd] at hB
    refine gw_iconst (v := (1 : Int32)) (by decide) dX7_isChanged_10 ?_
    refine gw_goto (tgt := 15) dX7_isChanged_11 (by decide) ?_
    exact gw_sub [] rfl (w_X7_isChanged_15  _ _ hB)
noncomputable def f_X7_isChanged (κ : gK) (F : Nat) (a0 : Option Nat) (s : gS) : Option (Int32 × gS) := f_X7_isChanged_0 κ F a0 s
theorem m_X7_isChanged {E : gE} {F : Nat} (a0 : Option Nat) (s : gS) (r : Int32) (s' : gS) (h : f_X7_isChanged (gk E) F a0 s = some (r, s')) : gCT E 3 yX7_isChanged (ws_ yX7_isChanged cX7_isChanged 1 (some FieldType.boolean)) [vR a0] s (.inl (some (vI r))) s' := by
  refine gCT_of2 (fun h => absurd h (by decide)) (plainFor_of_name (by decide)) (Nat.le_of_ble_eq_true rfl) ?_
  exact gw_sub [0] rfl (w_X7_isChanged_0 _ _ h)
def dkwJ1_getNode_6 : List UInt8 := [89, 58, 4, 199, 255, 210, 1, 176]
abbrev dktJ1_getNode_6 : List UInt8 := dkwJ1_getNode_6 ++ []
def dkwJ1_getNode_5 : List UInt8 := [165, 0, 16, 43, 198, 0, 15, 43, 25, 7, 182, 0, 173, 153, 0, 6, 25, 4, 176, 25, 4, 180, 0, 177]
abbrev dktJ1_getNode_5 : List UInt8 := dkwJ1_getNode_5 ++ dktJ1_getNode_6
def dkwJ1_getNode_4 : List UInt8 := [43, 182, 0, 182, 176, 25, 4, 180, 0, 168, 21, 6, 160, 0, 31, 25, 4, 180, 0, 170, 89, 58, 7, 43]
abbrev dktJ1_getNode_4 : List UInt8 := dkwJ1_getNode_4 ++ dktJ1_getNode_5
def dkwJ1_getNode_3 : List UInt8 := [176, 45, 180, 0, 177, 89, 58, 4, 198, 0, 70, 45, 193, 0, 180, 153, 0, 14, 45, 192, 0, 180, 21, 6]
abbrev dktJ1_getNode_3 : List UInt8 := dkwJ1_getNode_3 ++ dktJ1_getNode_4
def dkwJ1_getNode_2 : List UInt8 := [180, 0, 170, 89, 58, 7, 43, 165, 0, 16, 43, 198, 0, 14, 43, 25, 7, 182, 0, 173, 153, 0, 5, 45]
abbrev dktJ1_getNode_2 : List UInt8 := dkwJ1_getNode_2 ++ dktJ1_getNode_3
def dkwJ1_getNode_1 : List UInt8 := [184, 0, 149, 89, 54, 6, 126, 50, 89, 78, 198, 0, 115, 45, 180, 0, 168, 21, 6, 160, 0, 29, 45]
abbrev dktJ1_getNode_1 : List UInt8 := dkwJ1_getNode_1 ++ dktJ1_getNode_2
def dkwJ1_getNode_0 : List UInt8 := [42, 180, 0, 105, 89, 77, 198, 0, 142, 44, 190, 89, 54, 5, 158, 0, 134, 44, 21, 5, 4, 100, 43]
abbrev dktJ1_getNode_0 : List UInt8 := dkwJ1_getNode_0 ++ dktJ1_getNode_1
theorem dksJ1_getNode_0 : cJ1_getNode.data.toList.drop 0 = dktJ1_getNode_0 := by decide +kernel
theorem dksJ1_getNode_1 : cJ1_getNode.data.toList.drop 23 = dktJ1_getNode_1 := dk_seg dksJ1_getNode_0 23 rfl rfl
theorem dksJ1_getNode_2 : cJ1_getNode.data.toList.drop 46 = dktJ1_getNode_2 := dk_seg dksJ1_getNode_1 23 rfl rfl
theorem dksJ1_getNode_3 : cJ1_getNode.data.toList.drop 70 = dktJ1_getNode_3 := dk_seg dksJ1_getNode_2 24 rfl rfl
theorem dksJ1_getNode_4 : cJ1_getNode.data.toList.drop 94 = dktJ1_getNode_4 := dk_seg dksJ1_getNode_3 24 rfl rfl
theorem dksJ1_getNode_5 : cJ1_getNode.data.toList.drop 118 = dktJ1_getNode_5 := dk_seg dksJ1_getNode_4 24 rfl rfl
theorem dksJ1_getNode_6 : cJ1_getNode.data.toList.drop 142 = dktJ1_getNode_6 := dk_seg dksJ1_getNode_5 24 rfl rfl
theorem dJ1_getNode_0 : decode cJ1_getNode 0 = .ok (.aload_n 0, 1) := dk_42 (dk_at dksJ1_getNode_0 0 rfl rfl)
theorem dJ1_getNode_1 : decode cJ1_getNode 1 = .ok (.getfield 105, 3) := dk_180 0 105 (dk_at dksJ1_getNode_0 1 rfl rfl)
theorem dJ1_getNode_4 : decode cJ1_getNode 4 = .ok (.dup, 1) := dk_89 (dk_at dksJ1_getNode_0 4 rfl rfl)
theorem dJ1_getNode_5 : decode cJ1_getNode 5 = .ok (.astore_n 2, 1) := dk_77 (dk_at dksJ1_getNode_0 5 rfl rfl)
theorem dJ1_getNode_6 : decode cJ1_getNode 6 = .ok (.ifnull 142, 3) := dk_198 0 142 (dk_at dksJ1_getNode_0 6 rfl rfl)
theorem dJ1_getNode_9 : decode cJ1_getNode 9 = .ok (.aload_n 2, 1) := dk_44 (dk_at dksJ1_getNode_0 9 rfl rfl)
theorem dJ1_getNode_10 : decode cJ1_getNode 10 = .ok (.arraylength, 1) := dk_190 (dk_at dksJ1_getNode_0 10 rfl rfl)
theorem dJ1_getNode_11 : decode cJ1_getNode 11 = .ok (.dup, 1) := dk_89 (dk_at dksJ1_getNode_0 11 rfl rfl)
theorem dJ1_getNode_12 : decode cJ1_getNode 12 = .ok (.istore 5, 2) := dk_54 5 (dk_at dksJ1_getNode_0 12 rfl rfl)
theorem dJ1_getNode_14 : decode cJ1_getNode 14 = .ok (.ifCond .le 134, 3) := dk_158 0 134 (dk_at dksJ1_getNode_0 14 rfl rfl)
theorem dJ1_getNode_17 : decode cJ1_getNode 17 = .ok (.aload_n 2, 1) := dk_44 (dk_at dksJ1_getNode_0 17 rfl rfl)
theorem dJ1_getNode_18 : decode cJ1_getNode 18 = .ok (.iload 5, 2) := dk_21 5 (dk_at dksJ1_getNode_0 18 rfl rfl)
theorem dJ1_getNode_20 : decode cJ1_getNode 20 = .ok (.iconst 1, 1) := dk_4 (dk_at dksJ1_getNode_0 20 rfl rfl)
theorem dJ1_getNode_21 : decode cJ1_getNode 21 = .ok (.isub, 1) := dk_100 (dk_at dksJ1_getNode_0 21 rfl rfl)
theorem dJ1_getNode_22 : decode cJ1_getNode 22 = .ok (.aload_n 1, 1) := dk_43 (dk_at dksJ1_getNode_0 22 rfl rfl)
theorem dJ1_getNode_23 : decode cJ1_getNode 23 = .ok (.invokestatic 149, 3) := dk_184 0 149 (dk_at dksJ1_getNode_1 0 rfl rfl)
theorem dJ1_getNode_26 : decode cJ1_getNode 26 = .ok (.dup, 1) := dk_89 (dk_at dksJ1_getNode_1 3 rfl rfl)
theorem dJ1_getNode_27 : decode cJ1_getNode 27 = .ok (.istore 6, 2) := dk_54 6 (dk_at dksJ1_getNode_1 4 rfl rfl)
theorem dJ1_getNode_29 : decode cJ1_getNode 29 = .ok (.iand, 1) := dk_126 (dk_at dksJ1_getNode_1 6 rfl rfl)
theorem dJ1_getNode_30 : decode cJ1_getNode 30 = .ok (.aaload, 1) := dk_50 (dk_at dksJ1_getNode_1 7 rfl rfl)
theorem dJ1_getNode_31 : decode cJ1_getNode 31 = .ok (.dup, 1) := dk_89 (dk_at dksJ1_getNode_1 8 rfl rfl)
theorem dJ1_getNode_32 : decode cJ1_getNode 32 = .ok (.astore_n 3, 1) := dk_78 (dk_at dksJ1_getNode_1 9 rfl rfl)
theorem dJ1_getNode_33 : decode cJ1_getNode 33 = .ok (.ifnull 115, 3) := dk_198 0 115 (dk_at dksJ1_getNode_1 10 rfl rfl)
theorem dJ1_getNode_36 : decode cJ1_getNode 36 = .ok (.aload_n 3, 1) := dk_45 (dk_at dksJ1_getNode_1 13 rfl rfl)
theorem dJ1_getNode_37 : decode cJ1_getNode 37 = .ok (.getfield 168, 3) := dk_180 0 168 (dk_at dksJ1_getNode_1 14 rfl rfl)
theorem dJ1_getNode_40 : decode cJ1_getNode 40 = .ok (.iload 6, 2) := dk_21 6 (dk_at dksJ1_getNode_1 17 rfl rfl)
theorem dJ1_getNode_42 : decode cJ1_getNode 42 = .ok (.if_icmp .ne 29, 3) := dk_160 0 29 (dk_at dksJ1_getNode_1 19 rfl rfl)
theorem dJ1_getNode_45 : decode cJ1_getNode 45 = .ok (.aload_n 3, 1) := dk_45 (dk_at dksJ1_getNode_1 22 rfl rfl)
theorem dJ1_getNode_46 : decode cJ1_getNode 46 = .ok (.getfield 170, 3) := dk_180 0 170 (dk_at dksJ1_getNode_2 0 rfl rfl)
theorem dJ1_getNode_49 : decode cJ1_getNode 49 = .ok (.dup, 1) := dk_89 (dk_at dksJ1_getNode_2 3 rfl rfl)
theorem dJ1_getNode_50 : decode cJ1_getNode 50 = .ok (.astore 7, 2) := dk_58 7 (dk_at dksJ1_getNode_2 4 rfl rfl)
theorem dJ1_getNode_52 : decode cJ1_getNode 52 = .ok (.aload_n 1, 1) := dk_43 (dk_at dksJ1_getNode_2 6 rfl rfl)
theorem dJ1_getNode_53 : decode cJ1_getNode 53 = .ok (.if_acmp .eq 16, 3) := dk_165 0 16 (dk_at dksJ1_getNode_2 7 rfl rfl)
theorem dJ1_getNode_56 : decode cJ1_getNode 56 = .ok (.aload_n 1, 1) := dk_43 (dk_at dksJ1_getNode_2 10 rfl rfl)
theorem dJ1_getNode_57 : decode cJ1_getNode 57 = .ok (.ifnull 14, 3) := dk_198 0 14 (dk_at dksJ1_getNode_2 11 rfl rfl)
theorem dJ1_getNode_60 : decode cJ1_getNode 60 = .ok (.aload_n 1, 1) := dk_43 (dk_at dksJ1_getNode_2 14 rfl rfl)
theorem dJ1_getNode_61 : decode cJ1_getNode 61 = .ok (.aload 7, 2) := dk_25 7 (dk_at dksJ1_getNode_2 15 rfl rfl)
theorem dJ1_getNode_63 : decode cJ1_getNode 63 = .ok (.invokevirtual 173, 3) := dk_182 0 173 (dk_at dksJ1_getNode_2 17 rfl rfl)
theorem dJ1_getNode_66 : decode cJ1_getNode 66 = .ok (.ifCond .eq 5, 3) := dk_153 0 5 (dk_at dksJ1_getNode_2 20 rfl rfl)
theorem dJ1_getNode_69 : decode cJ1_getNode 69 = .ok (.aload_n 3, 1) := dk_45 (dk_at dksJ1_getNode_2 23 rfl rfl)
theorem dJ1_getNode_70 : decode cJ1_getNode 70 = .ok (.areturn, 1) := dk_176 (dk_at dksJ1_getNode_3 0 rfl rfl)
theorem dJ1_getNode_71 : decode cJ1_getNode 71 = .ok (.aload_n 3, 1) := dk_45 (dk_at dksJ1_getNode_3 1 rfl rfl)
theorem dJ1_getNode_72 : decode cJ1_getNode 72 = .ok (.getfield 177, 3) := dk_180 0 177 (dk_at dksJ1_getNode_3 2 rfl rfl)
theorem dJ1_getNode_75 : decode cJ1_getNode 75 = .ok (.dup, 1) := dk_89 (dk_at dksJ1_getNode_3 5 rfl rfl)
theorem dJ1_getNode_76 : decode cJ1_getNode 76 = .ok (.astore 4, 2) := dk_58 4 (dk_at dksJ1_getNode_3 6 rfl rfl)
theorem dJ1_getNode_78 : decode cJ1_getNode 78 = .ok (.ifnull 70, 3) := dk_198 0 70 (dk_at dksJ1_getNode_3 8 rfl rfl)
theorem dJ1_getNode_81 : decode cJ1_getNode 81 = .ok (.aload_n 3, 1) := dk_45 (dk_at dksJ1_getNode_3 11 rfl rfl)
theorem dJ1_getNode_82 : decode cJ1_getNode 82 = .ok (.instanceof 180, 3) := dk_193 0 180 (dk_at dksJ1_getNode_3 12 rfl rfl)
theorem dJ1_getNode_85 : decode cJ1_getNode 85 = .ok (.ifCond .eq 14, 3) := dk_153 0 14 (dk_at dksJ1_getNode_3 15 rfl rfl)
theorem dJ1_getNode_88 : decode cJ1_getNode 88 = .ok (.aload_n 3, 1) := dk_45 (dk_at dksJ1_getNode_3 18 rfl rfl)
theorem dJ1_getNode_89 : decode cJ1_getNode 89 = .ok (.checkcast 180, 3) := dk_192 0 180 (dk_at dksJ1_getNode_3 19 rfl rfl)
theorem dJ1_getNode_92 : decode cJ1_getNode 92 = .ok (.iload 6, 2) := dk_21 6 (dk_at dksJ1_getNode_3 22 rfl rfl)
theorem dJ1_getNode_94 : decode cJ1_getNode 94 = .ok (.aload_n 1, 1) := dk_43 (dk_at dksJ1_getNode_4 0 rfl rfl)
theorem dJ1_getNode_95 : decode cJ1_getNode 95 = .ok (.invokevirtual 182, 3) := dk_182 0 182 (dk_at dksJ1_getNode_4 1 rfl rfl)
theorem dJ1_getNode_98 : decode cJ1_getNode 98 = .ok (.areturn, 1) := dk_176 (dk_at dksJ1_getNode_4 4 rfl rfl)
theorem dJ1_getNode_99 : decode cJ1_getNode 99 = .ok (.aload 4, 2) := dk_25 4 (dk_at dksJ1_getNode_4 5 rfl rfl)
theorem dJ1_getNode_101 : decode cJ1_getNode 101 = .ok (.getfield 168, 3) := dk_180 0 168 (dk_at dksJ1_getNode_4 7 rfl rfl)
theorem dJ1_getNode_104 : decode cJ1_getNode 104 = .ok (.iload 6, 2) := dk_21 6 (dk_at dksJ1_getNode_4 10 rfl rfl)
theorem dJ1_getNode_106 : decode cJ1_getNode 106 = .ok (.if_icmp .ne 31, 3) := dk_160 0 31 (dk_at dksJ1_getNode_4 12 rfl rfl)
theorem dJ1_getNode_109 : decode cJ1_getNode 109 = .ok (.aload 4, 2) := dk_25 4 (dk_at dksJ1_getNode_4 15 rfl rfl)
theorem dJ1_getNode_111 : decode cJ1_getNode 111 = .ok (.getfield 170, 3) := dk_180 0 170 (dk_at dksJ1_getNode_4 17 rfl rfl)
theorem dJ1_getNode_114 : decode cJ1_getNode 114 = .ok (.dup, 1) := dk_89 (dk_at dksJ1_getNode_4 20 rfl rfl)
theorem dJ1_getNode_115 : decode cJ1_getNode 115 = .ok (.astore 7, 2) := dk_58 7 (dk_at dksJ1_getNode_4 21 rfl rfl)
theorem dJ1_getNode_117 : decode cJ1_getNode 117 = .ok (.aload_n 1, 1) := dk_43 (dk_at dksJ1_getNode_4 23 rfl rfl)
theorem dJ1_getNode_118 : decode cJ1_getNode 118 = .ok (.if_acmp .eq 16, 3) := dk_165 0 16 (dk_at dksJ1_getNode_5 0 rfl rfl)
theorem dJ1_getNode_121 : decode cJ1_getNode 121 = .ok (.aload_n 1, 1) := dk_43 (dk_at dksJ1_getNode_5 3 rfl rfl)
theorem dJ1_getNode_122 : decode cJ1_getNode 122 = .ok (.ifnull 15, 3) := dk_198 0 15 (dk_at dksJ1_getNode_5 4 rfl rfl)
theorem dJ1_getNode_125 : decode cJ1_getNode 125 = .ok (.aload_n 1, 1) := dk_43 (dk_at dksJ1_getNode_5 7 rfl rfl)
theorem dJ1_getNode_126 : decode cJ1_getNode 126 = .ok (.aload 7, 2) := dk_25 7 (dk_at dksJ1_getNode_5 8 rfl rfl)
theorem dJ1_getNode_128 : decode cJ1_getNode 128 = .ok (.invokevirtual 173, 3) := dk_182 0 173 (dk_at dksJ1_getNode_5 10 rfl rfl)
theorem dJ1_getNode_131 : decode cJ1_getNode 131 = .ok (.ifCond .eq 6, 3) := dk_153 0 6 (dk_at dksJ1_getNode_5 13 rfl rfl)
theorem dJ1_getNode_134 : decode cJ1_getNode 134 = .ok (.aload 4, 2) := dk_25 4 (dk_at dksJ1_getNode_5 16 rfl rfl)
theorem dJ1_getNode_136 : decode cJ1_getNode 136 = .ok (.areturn, 1) := dk_176 (dk_at dksJ1_getNode_5 18 rfl rfl)
theorem dJ1_getNode_137 : decode cJ1_getNode 137 = .ok (.aload 4, 2) := dk_25 4 (dk_at dksJ1_getNode_5 19 rfl rfl)
theorem dJ1_getNode_139 : decode cJ1_getNode 139 = .ok (.getfield 177, 3) := dk_180 0 177 (dk_at dksJ1_getNode_5 21 rfl rfl)
theorem dJ1_getNode_142 : decode cJ1_getNode 142 = .ok (.dup, 1) := dk_89 (dk_at dksJ1_getNode_6 0 rfl rfl)
theorem dJ1_getNode_143 : decode cJ1_getNode 143 = .ok (.astore 4, 2) := dk_58 4 (dk_at dksJ1_getNode_6 1 rfl rfl)
theorem dJ1_getNode_145 : decode cJ1_getNode 145 = .ok (.ifnonnull (-46), 3) := dk_199 255 210 (dk_at dksJ1_getNode_6 3 rfl rfl)
theorem dJ1_getNode_148 : decode cJ1_getNode 148 = .ok (.aconst_null, 1) := dk_1 (dk_at dksJ1_getNode_6 6 rfl rfl)
theorem dJ1_getNode_149 : decode cJ1_getNode 149 = .ok (.areturn, 1) := dk_176 (dk_at dksJ1_getNode_6 7 rfl rfl)
/-! java/util/HashMap.getNode(Ljava/lang/Object;)Ljava/util/HashMap$Node; -/
abbrev M_J1_getNode (z0 n0 : Nat) (s' : gS) : gM := (RJ1, cJ1_getNode, 8, (some (FieldType.object "java/util/HashMap$Node")), "getNode", [], 3, z0, n0, s'.2.1, s'.2.2)
abbrev W_J1_getNode (E : gE) (z0 n0 : Nat) (r : (Option Nat)) (s' : gS) (pc : Nat) (L : List (Nat × gV)) (st : List gV) (s : gS) : Prop := gW E (M_J1_getNode z0 n0 s') (gQm E (M_J1_getNode z0 n0 s') (.inl (some (vR r))) s') pc L st s
noncomputable def f_J1_getNode_69 (κ : gK) (F : Nat)  (l3 : Option Nat) (s : gS) : Option ((Option Nat) × gS) :=
  some (l3, s)
set_option maxHeartbeats 4000000 in
theorem w_J1_getNode_69 {E : gE} {F z0 n0 : Nat} {r : (Option Nat)} {s' : gS}   : ∀ (l3 : Option Nat)  (s : gS), f_J1_getNode_69 (gk E) F  l3 s = some (r, s') → W_J1_getNode E z0 n0 r s' 69 [(3, vR l3)] [] s := by
  intro l3 s hB
  unfold f_J1_getNode_69 at hB
  refine gw_aload_n 0 rfl dJ1_getNode_69 ?_
  obtain ⟨rfl, rfl⟩ := Prod.mk.inj (Option.some.inj hB)
  exact gw_aret rfl (Or.inl ⟨_, rfl⟩) rfl rfl dJ1_getNode_70
noncomputable def f_J1_getNode_134 (κ : gK) (F : Nat)  (l4 : Option Nat) (s : gS) : Option ((Option Nat) × gS) :=
  some (l4, s)
set_option maxHeartbeats 4000000 in
theorem w_J1_getNode_134 {E : gE} {F z0 n0 : Nat} {r : (Option Nat)} {s' : gS}   : ∀ (l4 : Option Nat)  (s : gS), f_J1_getNode_134 (gk E) F  l4 s = some (r, s') → W_J1_getNode E z0 n0 r s' 134 [(4, vR l4)] [] s := by
  intro l4 s hB
  unfold f_J1_getNode_134 at hB
  refine gw_aload 0 rfl dJ1_getNode_134 ?_
  obtain ⟨rfl, rfl⟩ := Prod.mk.inj (Option.some.inj hB)
  exact gw_aret rfl (Or.inl ⟨_, rfl⟩) rfl rfl dJ1_getNode_136
noncomputable def f_J1_getNode_148 (κ : gK) (F : Nat)   (s : gS) : Option ((Option Nat) × gS) :=
  some (none, s)
set_option maxHeartbeats 4000000 in
theorem w_J1_getNode_148 {E : gE} {F z0 n0 : Nat} {r : (Option Nat)} {s' : gS}   : ∀   (s : gS), f_J1_getNode_148 (gk E) F   s = some (r, s') → W_J1_getNode E z0 n0 r s' 148 [] [] s := by
  intro  s hB
  unfold f_J1_getNode_148 at hB
  refine gw_null dJ1_getNode_148 ?_
  obtain ⟨rfl, rfl⟩ := Prod.mk.inj (Option.some.inj hB)
  exact gw_aret rfl (Or.inl ⟨_, rfl⟩) rfl rfl dJ1_getNode_149
noncomputable def f_J1_getNode_137 (κ : gK) (F : Nat) (k99 : Option Nat → Option Nat → Int32 → gS → Option ((Option Nat) × gS)) (l1 : Option Nat) (l4 : Option Nat) (l6 : Int32) (s : gS) : Option ((Option Nat) × gS) :=
  gB1 (gfR s l4 11 3) fun v1 =>
  if v1 = none then
    f_J1_getNode_148 κ F  s
  else
    k99 l1 v1 l6 s
set_option maxHeartbeats 4000000 in
theorem w_J1_getNode_137 {E : gE} {F z0 n0 : Nat} {r : (Option Nat)} {s' : gS} {k99 : Option Nat → Option Nat → Int32 → gS → Option ((Option Nat) × gS)} (hk99 : ∀ (l1 : Option Nat) (l4 : Option Nat) (l6 : Int32) (s : gS), k99 l1 l4 l6 s = some (r, s') → W_J1_getNode E z0 n0 r s' 99 [(1, vR l1), (4, vR l4), (6, vI l6)] [] s) : ∀ (l1 : Option Nat) (l4 : Option Nat) (l6 : Int32)  (s : gS), f_J1_getNode_137 (gk E) F k99 l1 l4 l6 s = some (r, s') → W_J1_getNode E z0 n0 r s' 137 [(1, vR l1), (4, vR l4), (6, vI l6)] [] s := by
  intro l1 l4 l6 s hB
  unfold f_J1_getNode_137 at hB
  refine gw_aload 1 rfl dJ1_getNode_137 ?_
  obtain ⟨v1, hv1, hB⟩ := gB1_some hB
  refine gw_getf (C := RJ19) (T := TJ19) (N := 6) (k := 3) gcl11 (by decide) in_J19 q821 (gfR_spec hv1) dJ1_getNode_139 ?_
  refine gw_dup rfl dJ1_getNode_142 ?_
  refine gw_astore (L' := [(4, vR v1), (1, vR l1), (6, vI l6)]) (Nat.le_of_ble_eq_true rfl) rfl dJ1_getNode_143 ?_
  refine gw_ifnonnull (tgt := 99) dJ1_getNode_145 (by decide) (fun hcnd => ?_) (fun hcnd => ?_)
  · rw [if_neg hcnd] at hB
    exact gw_sub [1, 0, 2] rfl (hk99 _ _ _ _ hB)
  · rw [if_pos hcnd] at hB
    exact gw_sub [] rfl (w_J1_getNode_148   _ hB)
noncomputable def f_J1_getNode_99b (κ : gK) (F : Nat) (k99 : Option Nat → Option Nat → Int32 → gS → Option ((Option Nat) × gS)) (l1 : Option Nat) (l4 : Option Nat) (l6 : Int32) (s : gS) : Option ((Option Nat) × gS) :=
  gB1 (gfI s l4 11 0) fun v1 =>
  if v1 = l6 then
    gB1 (gfR s l4 11 1) fun v2 =>
    if v2 = l1 then
      f_J1_getNode_134 κ F  l4 s
    else
      if l1 = none then
        f_J1_getNode_137 κ F k99 l1 l4 l6 s
      else
        gB1 (gck s l1 1) fun _ =>
        gB2 (f_X2_equals κ F l1 v2 s) fun v4 s3 =>
        if v4 = 0 then
          f_J1_getNode_137 κ F k99 l1 l4 l6 s3
        else
          f_J1_getNode_134 κ F  l4 s3
  else
    f_J1_getNode_137 κ F k99 l1 l4 l6 s
noncomputable def f_J1_getNode_99 (κ : gK) (F : Nat)  : Nat → Option Nat → Option Nat → Int32 → gS → Option ((Option Nat) × gS)
  | 0 => fun _ _ _ _ => none
  | n + 1 => f_J1_getNode_99b κ F  (f_J1_getNode_99 κ F  n)
set_option maxHeartbeats 4000000 in
theorem w_J1_getNode_99b {E : gE} {F z0 n0 : Nat} {r : (Option Nat)} {s' : gS} {k99 : Option Nat → Option Nat → Int32 → gS → Option ((Option Nat) × gS)} (hk99 : ∀ (l1 : Option Nat) (l4 : Option Nat) (l6 : Int32) (s : gS), k99 l1 l4 l6 s = some (r, s') → W_J1_getNode E z0 n0 r s' 99 [(1, vR l1), (4, vR l4), (6, vI l6)] [] s) : ∀ (l1 : Option Nat) (l4 : Option Nat) (l6 : Int32)  (s : gS), f_J1_getNode_99b (gk E) F k99 l1 l4 l6 s = some (r, s') → W_J1_getNode E z0 n0 r s' 99 [(1, vR l1), (4, vR l4), (6, vI l6)] [] s := by
  intro l1 l4 l6 s hB
  unfold f_J1_getNode_99b at hB
  refine gw_aload 1 rfl dJ1_getNode_99 ?_
  obtain ⟨v1, hv1, hB⟩ := gB1_some hB
  refine gw_getf (C := RJ19) (T := TJ19) (N := 6) (k := 0) gcl11 (by decide) in_J19 q803 (gfI_spec hv1) dJ1_getNode_101 ?_
  refine gw_iload 2 rfl dJ1_getNode_104 ?_
  refine gw_icmp_ne (tgt := 137) dJ1_getNode_106 (by decide) (fun hcnd => ?_) (fun hcnd => ?_)
  · rw [if_neg hcnd] at hB
    exact gw_sub [0, 1, 2] rfl (w_J1_getNode_137 hk99 _ _ _ _ hB)
  · rw [if_pos hcnd] at hB
    refine gw_aload 1 rfl dJ1_getNode_109 ?_
    obtain ⟨v2, hv2, hB⟩ := gB1_some hB
    refine gw_getf (C := RJ19) (T := TJ19) (N := 6) (k := 1) gcl11 (by decide) in_J19 q810 (gfR_spec hv2) dJ1_getNode_111 ?_
    refine gw_dup rfl dJ1_getNode_114 ?_
    refine gw_astore (L' := [(7, vR v2), (1, vR l1), (4, vR l4), (6, vI l6)]) (Nat.le_of_ble_eq_true rfl) rfl dJ1_getNode_115 ?_
    refine gw_aload_n 1 rfl dJ1_getNode_117 ?_
    refine gw_acmp_eq (tgt := 134) dJ1_getNode_118 (by decide) (fun hcnd => ?_) (fun hcnd => ?_)
    · rw [if_pos hcnd] at hB
      exact gw_sub [2] rfl (w_J1_getNode_134  _ _ hB)
    · rw [if_neg hcnd] at hB
      refine gw_aload_n 1 rfl dJ1_getNode_121 ?_
      refine gw_ifnull (tgt := 137) dJ1_getNode_122 (by decide) (fun hcnd => ?_) (fun hcnd => ?_)
      · rw [if_pos hcnd] at hB
        exact gw_sub [1, 2, 3] rfl (w_J1_getNode_137 hk99 _ _ _ _ hB)
      · rw [if_neg hcnd] at hB
        refine gw_aload_n 1 rfl dJ1_getNode_125 ?_
        refine gw_aload 0 rfl dJ1_getNode_126 ?_
        obtain ⟨u0, hu5, hB⟩ := gB1_some hB
        obtain ⟨v4, s3, hv4, hB⟩ := gB2_some hB
        refine gw_callA (C := "PageGarden$Bed") (owner := "java/lang/Object") (x := ⟨"java/lang/Object", "equals", "(Ljava/lang/Object;)Z"⟩) (y := yX2_equals) (lw_app (lw_in (([Cond.methodLink "java/util/HashMap" 173 ⟨"java/lang/Object", "equals", "(Ljava/lang/Object;)Z"⟩, Cond.sameMethod "java/lang/Object" "java/lang/Object" "equals" "(Ljava/lang/Object;)Z", Cond.selects "PageGarden$Bed" ⟨"java/lang/Object", "equals", "(Ljava/lang/Object;)Z"⟩ yX2_equals, Cond.instanceMethod yX2_equals, Cond.initialized "PageGarden$Bed"] : List Cond)) [1127, 1129, 1131, 1132, 109] (by decide +kernel) (by decide +kernel)) (lw_meth q1133)) q1126 (show _ ∧ _ ∧ _ = some 1 from by decide +kernel) gcl1 hu5 (As := [vR v2]) (rest := []) (m_X2_equals _ _ _ _ _ hv4) (Nat.le_of_ble_eq_true rfl) (Nat.le_of_ble_eq_true rfl) rfl (Nat.le_of_ble_eq_true rfl) dJ1_getNode_128 (gCont_i ?_)
        refine gw_if_eq (tgt := 137) dJ1_getNode_131 (by decide) (fun hcnd => ?_) (fun hcnd => ?_)
        · rw [if_pos hcnd] at hB
          exact gw_sub [1, 2, 3] rfl (w_J1_getNode_137 hk99 _ _ _ _ hB)
        · rw [if_neg hcnd] at hB
          exact gw_sub [2] rfl (w_J1_getNode_134  _ _ hB)
theorem w_J1_getNode_99 {E : gE} {F z0 n0 : Nat} {r : (Option Nat)} {s' : gS}   : ∀ (n : Nat) (l1 : Option Nat) (l4 : Option Nat) (l6 : Int32)  (s : gS), f_J1_getNode_99 (gk E) F  n l1 l4 l6 s = some (r, s') → W_J1_getNode E z0 n0 r s' 99 [(1, vR l1), (4, vR l4), (6, vI l6)] [] s := by
  intro n
  induction n with
  | zero => intro l1 l4 l6 s hB; cases hB
  | succ n ih => intro l1 l4 l6 s hB; exact w_J1_getNode_99b ih l1 l4 l6 s hB
noncomputable def f_J1_getNode_71 (κ : gK) (F : Nat)  (l1 : Option Nat) (l3 : Option Nat) (l6 : Int32) (s : gS) : Option ((Option Nat) × gS) :=
  gB1 (gfR s l3 11 3) fun v1 =>
  if v1 = none then
    f_J1_getNode_148 κ F  s
  else
    gB1 (gio s l3 [] [11]) fun v2 =>
    if v2 = 0 then
      f_J1_getNode_99 κ F  F l1 v1 l6 s
    else
      none
set_option maxHeartbeats 4000000 in
theorem w_J1_getNode_71 {E : gE} {F z0 n0 : Nat} {r : (Option Nat)} {s' : gS}   : ∀ (l1 : Option Nat) (l3 : Option Nat) (l6 : Int32)  (s : gS), f_J1_getNode_71 (gk E) F  l1 l3 l6 s = some (r, s') → W_J1_getNode E z0 n0 r s' 71 [(1, vR l1), (3, vR l3), (6, vI l6)] [] s := by
  intro l1 l3 l6 s hB
  unfold f_J1_getNode_71 at hB
  refine gw_aload_n 1 rfl dJ1_getNode_71 ?_
  obtain ⟨v1, hv1, hB⟩ := gB1_some hB
  refine gw_getf (C := RJ19) (T := TJ19) (N := 6) (k := 3) gcl11 (by decide) in_J19 q821 (gfR_spec hv1) dJ1_getNode_72 ?_
  refine gw_dup rfl dJ1_getNode_75 ?_
  refine gw_astore (L' := [(4, vR v1), (1, vR l1), (3, vR l3), (6, vI l6)]) (Nat.le_of_ble_eq_true rfl) rfl dJ1_getNode_76 ?_
  refine gw_ifnull (tgt := 148) dJ1_getNode_78 (by decide) (fun hcnd => ?_) (fun hcnd => ?_)
  · rw [if_pos hcnd] at hB
    exact gw_sub [] rfl (w_J1_getNode_148   _ hB)
  · rw [if_neg hcnd] at hB
    refine gw_aload_n 2 rfl dJ1_getNode_81 ?_
    obtain ⟨v2, hv2, hB⟩ := gB1_some hB
    refine gw_inst (ys := []) (ns := [11]) gisY_java_util_HashMap_TreeNode gisN_java_util_HashMap_TreeNode hv2 q769 dJ1_getNode_82 ?_
    refine gw_if_eq (tgt := 99) dJ1_getNode_85 (by decide) (fun hcnd => ?_) (fun hcnd => ?_)
    · rw [if_pos hcnd] at hB
      exact gw_sub [1, 0, 3] rfl (w_J1_getNode_99  F _ _ _ _ hB)
    · rw [if_neg hcnd] at hB
      refine gw_aload_n 2 rfl dJ1_getNode_88 ?_
      cases hB
noncomputable def f_J1_getNode_0 (κ : gK) (F : Nat)  (l0 : Option Nat) (l1 : Option Nat) (s : gS) : Option ((Option Nat) × gS) :=
  gB1 (gfR s l0 10 0) fun v1 =>
  if v1 = none then
    f_J1_getNode_148 κ F  s
  else
    gB1 (gal s v1) fun v2 =>
    if v2 ≤ 0 then
      f_J1_getNode_148 κ F  s
    else
      gB2 (f_J1_hash κ F l1 s) fun v4 s3 =>
      gB1 (gaR s3 v1 ((v2 - (1 : Int32)) &&& v4)) fun v5 =>
      if v5 = none then
        f_J1_getNode_148 κ F  s3
      else
        gB1 (gfI s3 v5 11 0) fun v6 =>
        if v6 = v4 then
          gB1 (gfR s3 v5 11 1) fun v7 =>
          if v7 = l1 then
            f_J1_getNode_69 κ F  v5 s3
          else
            if l1 = none then
              f_J1_getNode_71 κ F  l1 v5 v4 s3
            else
              gB1 (gck s3 l1 1) fun _ =>
              gB2 (f_X2_equals κ F l1 v7 s3) fun v9 s8 =>
              if v9 = 0 then
                f_J1_getNode_71 κ F  l1 v5 v4 s8
              else
                f_J1_getNode_69 κ F  v5 s8
        else
          f_J1_getNode_71 κ F  l1 v5 v4 s3
set_option maxHeartbeats 4000000 in
theorem w_J1_getNode_0 {E : gE} {F z0 n0 : Nat} {r : (Option Nat)} {s' : gS}   : ∀ (l0 : Option Nat) (l1 : Option Nat)  (s : gS), f_J1_getNode_0 (gk E) F  l0 l1 s = some (r, s') → W_J1_getNode E z0 n0 r s' 0 [(0, vR l0), (1, vR l1)] [] s := by
  intro l0 l1 s hB
  unfold f_J1_getNode_0 at hB
  refine gw_aload_n 0 rfl dJ1_getNode_0 ?_
  obtain ⟨v1, hv1, hB⟩ := gB1_some hB
  refine gw_getf (C := RJ2) (T := TJ2) (N := 12) (k := 0) gcl10 (by decide) in_J2 q236 (gfR_spec hv1) dJ1_getNode_1 ?_
  refine gw_dup rfl dJ1_getNode_4 ?_
  refine gw_astore_n (L' := [(2, vR v1), (0, vR l0), (1, vR l1)]) (Nat.le_of_ble_eq_true rfl) rfl dJ1_getNode_5 ?_
  refine gw_ifnull (tgt := 148) dJ1_getNode_6 (by decide) (fun hcnd => ?_) (fun hcnd => ?_)
  · rw [if_pos hcnd] at hB
    exact gw_sub [] rfl (w_J1_getNode_148   _ hB)
  · rw [if_neg hcnd] at hB
    refine gw_aload_n 0 rfl dJ1_getNode_9 ?_
    obtain ⟨v2, hv2, hB⟩ := gB1_some hB
    refine gw_alen hv2 dJ1_getNode_10 ?_
    refine gw_dup rfl dJ1_getNode_11 ?_
    refine gw_istore (L' := [(5, vI v2), (2, vR v1), (0, vR l0), (1, vR l1)]) (Nat.le_of_ble_eq_true rfl) rfl dJ1_getNode_12 ?_
    refine gw_if_le (tgt := 148) dJ1_getNode_14 (by decide) (fun hcnd => ?_) (fun hcnd => ?_)
    · rw [if_pos hcnd] at hB
      exact gw_sub [] rfl (w_J1_getNode_148   _ hB)
    · rw [if_neg hcnd] at hB
      refine gw_aload_n 1 rfl dJ1_getNode_17 ?_
      refine gw_iload 0 rfl dJ1_getNode_18 ?_
      refine gw_iconst (v := (1 : Int32)) (by decide) dJ1_getNode_20 ?_
      refine gw_isub dJ1_getNode_21 ?_
      refine gw_aload_n 3 rfl dJ1_getNode_22 ?_
      obtain ⟨v4, s3, hv4, hB⟩ := gB2_some hB
      refine gw_callS (y := yJ1_hash) (lw_S q335 q336 q113 q337) hdS_J1_hash (As := [vR l1]) (rest := [vI (v2 - (1 : Int32)), vR v1]) (m_J1_hash _ _ _ _ hv4) (Nat.le_of_ble_eq_true rfl) (Nat.le_of_ble_eq_true rfl) rfl (Nat.le_of_ble_eq_true rfl) dJ1_getNode_23 (gCont_i ?_)
      refine gw_dup rfl dJ1_getNode_26 ?_
      refine gw_istore (L' := [(6, vI v4), (5, vI v2), (2, vR v1), (0, vR l0), (1, vR l1)]) (Nat.le_of_ble_eq_true rfl) rfl dJ1_getNode_27 ?_
      refine gw_iand dJ1_getNode_29 ?_
      obtain ⟨v5, hv5, hB⟩ := gB1_some hB
      refine gw_aaload hv5 dJ1_getNode_30 ?_
      refine gw_dup rfl dJ1_getNode_31 ?_
      refine gw_astore_n (L' := [(3, vR v5), (6, vI v4), (5, vI v2), (2, vR v1), (0, vR l0), (1, vR l1)]) (Nat.le_of_ble_eq_true rfl) rfl dJ1_getNode_32 ?_
      refine gw_ifnull (tgt := 148) dJ1_getNode_33 (by decide) (fun hcnd => ?_) (fun hcnd => ?_)
      · rw [if_pos hcnd] at hB
        exact gw_sub [] rfl (w_J1_getNode_148   _ hB)
      · rw [if_neg hcnd] at hB
        refine gw_aload_n 0 rfl dJ1_getNode_36 ?_
        obtain ⟨v6, hv6, hB⟩ := gB1_some hB
        refine gw_getf (C := RJ19) (T := TJ19) (N := 6) (k := 0) gcl11 (by decide) in_J19 q803 (gfI_spec hv6) dJ1_getNode_37 ?_
        refine gw_iload 1 rfl dJ1_getNode_40 ?_
        refine gw_icmp_ne (tgt := 71) dJ1_getNode_42 (by decide) (fun hcnd => ?_) (fun hcnd => ?_)
        · rw [if_neg hcnd] at hB
          exact gw_sub [5, 0, 1] rfl (w_J1_getNode_71  _ _ _ _ hB)
        · rw [if_pos hcnd] at hB
          refine gw_aload_n 0 rfl dJ1_getNode_45 ?_
          obtain ⟨v7, hv7, hB⟩ := gB1_some hB
          refine gw_getf (C := RJ19) (T := TJ19) (N := 6) (k := 1) gcl11 (by decide) in_J19 q810 (gfR_spec hv7) dJ1_getNode_46 ?_
          refine gw_dup rfl dJ1_getNode_49 ?_
          refine gw_astore (L' := [(7, vR v7), (3, vR v5), (6, vI v4), (5, vI v2), (2, vR v1), (0, vR l0), (1, vR l1)]) (Nat.le_of_ble_eq_true rfl) rfl dJ1_getNode_50 ?_
          refine gw_aload_n 6 rfl dJ1_getNode_52 ?_
          refine gw_acmp_eq (tgt := 69) dJ1_getNode_53 (by decide) (fun hcnd => ?_) (fun hcnd => ?_)
          · rw [if_pos hcnd] at hB
            exact gw_sub [1] rfl (w_J1_getNode_69  _ _ hB)
          · rw [if_neg hcnd] at hB
            refine gw_aload_n 6 rfl dJ1_getNode_56 ?_
            refine gw_ifnull (tgt := 71) dJ1_getNode_57 (by decide) (fun hcnd => ?_) (fun hcnd => ?_)
            · rw [if_pos hcnd] at hB
              exact gw_sub [6, 1, 2] rfl (w_J1_getNode_71  _ _ _ _ hB)
            · rw [if_neg hcnd] at hB
              refine gw_aload_n 6 rfl dJ1_getNode_60 ?_
              refine gw_aload 0 rfl dJ1_getNode_61 ?_
              obtain ⟨u0, hu10, hB⟩ := gB1_some hB
              obtain ⟨v9, s8, hv9, hB⟩ := gB2_some hB
              refine gw_callA (C := "PageGarden$Bed") (owner := "java/lang/Object") (x := ⟨"java/lang/Object", "equals", "(Ljava/lang/Object;)Z"⟩) (y := yX2_equals) (lw_app (lw_in (([Cond.methodLink "java/util/HashMap" 173 ⟨"java/lang/Object", "equals", "(Ljava/lang/Object;)Z"⟩, Cond.sameMethod "java/lang/Object" "java/lang/Object" "equals" "(Ljava/lang/Object;)Z", Cond.selects "PageGarden$Bed" ⟨"java/lang/Object", "equals", "(Ljava/lang/Object;)Z"⟩ yX2_equals, Cond.instanceMethod yX2_equals, Cond.initialized "PageGarden$Bed"] : List Cond)) [1127, 1129, 1131, 1132, 109] (by decide +kernel) (by decide +kernel)) (lw_meth q1133)) q1126 (show _ ∧ _ ∧ _ = some 1 from by decide +kernel) gcl1 hu10 (As := [vR v7]) (rest := []) (m_X2_equals _ _ _ _ _ hv9) (Nat.le_of_ble_eq_true rfl) (Nat.le_of_ble_eq_true rfl) rfl (Nat.le_of_ble_eq_true rfl) dJ1_getNode_63 (gCont_i ?_)
              refine gw_if_eq (tgt := 71) dJ1_getNode_66 (by decide) (fun hcnd => ?_) (fun hcnd => ?_)
              · rw [if_pos hcnd] at hB
                exact gw_sub [6, 1, 2] rfl (w_J1_getNode_71  _ _ _ _ hB)
              · rw [if_neg hcnd] at hB
                exact gw_sub [1] rfl (w_J1_getNode_69  _ _ hB)
noncomputable def f_J1_getNode (κ : gK) (F : Nat) (a0 : Option Nat) (a1 : Option Nat) (s : gS) : Option ((Option Nat) × gS) := f_J1_getNode_0 κ F a0 a1 s
theorem m_J1_getNode {E : gE} {F : Nat} (a0 : Option Nat) (a1 : Option Nat) (s : gS) (r : (Option Nat)) (s' : gS) (h : f_J1_getNode (gk E) F a0 a1 s = some (r, s')) : gCT E 3 yJ1_getNode (ws_ yJ1_getNode cJ1_getNode 8 (some (FieldType.object "java/util/HashMap$Node"))) [vR a0, vR a1] s (.inl (some (vR r))) s' := by
  refine gCT_of2 (fun h => absurd h (by decide)) (plainFor_of_name (by decide)) (Nat.le_of_ble_eq_true rfl) ?_
  exact gw_sub [0, 1] rfl (w_J1_getNode_0 _ _ _ h)
def dkwJ1_containsKey_0 : List UInt8 := [42, 43, 182, 0, 158, 198, 0, 7, 4, 167, 0, 4, 3, 172]
abbrev dktJ1_containsKey_0 : List UInt8 := dkwJ1_containsKey_0 ++ []
theorem dksJ1_containsKey_0 : cJ1_containsKey.data.toList.drop 0 = dktJ1_containsKey_0 := by decide +kernel
theorem dJ1_containsKey_0 : decode cJ1_containsKey 0 = .ok (.aload_n 0, 1) := dk_42 (dk_at dksJ1_containsKey_0 0 rfl rfl)
theorem dJ1_containsKey_1 : decode cJ1_containsKey 1 = .ok (.aload_n 1, 1) := dk_43 (dk_at dksJ1_containsKey_0 1 rfl rfl)
theorem dJ1_containsKey_2 : decode cJ1_containsKey 2 = .ok (.invokevirtual 158, 3) := dk_182 0 158 (dk_at dksJ1_containsKey_0 2 rfl rfl)
theorem dJ1_containsKey_5 : decode cJ1_containsKey 5 = .ok (.ifnull 7, 3) := dk_198 0 7 (dk_at dksJ1_containsKey_0 5 rfl rfl)
theorem dJ1_containsKey_8 : decode cJ1_containsKey 8 = .ok (.iconst 1, 1) := dk_4 (dk_at dksJ1_containsKey_0 8 rfl rfl)
theorem dJ1_containsKey_9 : decode cJ1_containsKey 9 = .ok (.goto 4, 3) := dk_167 0 4 (dk_at dksJ1_containsKey_0 9 rfl rfl)
theorem dJ1_containsKey_12 : decode cJ1_containsKey 12 = .ok (.iconst 0, 1) := dk_3 (dk_at dksJ1_containsKey_0 12 rfl rfl)
theorem dJ1_containsKey_13 : decode cJ1_containsKey 13 = .ok (.ireturn, 1) := dk_172 (dk_at dksJ1_containsKey_0 13 rfl rfl)
/-! java/util/HashMap.containsKey(Ljava/lang/Object;)Z -/
abbrev M_J1_containsKey (z0 n0 : Nat) (s' : gS) : gM := (RJ1, cJ1_containsKey, 2, (some FieldType.boolean), "containsKey", [], 4, z0, n0, s'.2.1, s'.2.2)
abbrev W_J1_containsKey (E : gE) (z0 n0 : Nat) (r : Int32) (s' : gS) (pc : Nat) (L : List (Nat × gV)) (st : List gV) (s : gS) : Prop := gW E (M_J1_containsKey z0 n0 s') (gQm E (M_J1_containsKey z0 n0 s') (.inl (some (vI r))) s') pc L st s
noncomputable def f_J1_containsKey_13 (κ : gK) (F : Nat)  (t0 : Int32) (s : gS) : Option (Int32 × gS) :=
  gB1 (gok .boolean t0) fun _ => some (t0, s)
set_option maxHeartbeats 4000000 in
theorem w_J1_containsKey_13 {E : gE} {F z0 n0 : Nat} {r : Int32} {s' : gS}   : ∀  (t0 : Int32) (s : gS), f_J1_containsKey_13 (gk E) F  t0 s = some (r, s') → W_J1_containsKey E z0 n0 r s' 13 [] [vI t0] s := by
  intro t0 s hB
  unfold f_J1_containsKey_13 at hB
  obtain ⟨u, hu, hB⟩ := gB1_some hB
  obtain ⟨rfl, rfl⟩ := Prod.mk.inj (Option.some.inj hB)
  exact gw_zret rfl hu rfl rfl dJ1_containsKey_13
noncomputable def f_J1_containsKey_0 (κ : gK) (F : Nat)  (l0 : Option Nat) (l1 : Option Nat) (s : gS) : Option (Int32 × gS) :=
  gB1 (gck s l0 10) fun _ =>
  gB2 (f_J1_getNode κ F l0 l1 s) fun v2 s1 =>
  if v2 = none then
    f_J1_containsKey_13 κ F  (0 : Int32) s1
  else
    f_J1_containsKey_13 κ F  (1 : Int32) s1
set_option maxHeartbeats 4000000 in
theorem w_J1_containsKey_0 {E : gE} {F z0 n0 : Nat} {r : Int32} {s' : gS}   : ∀ (l0 : Option Nat) (l1 : Option Nat)  (s : gS), f_J1_containsKey_0 (gk E) F  l0 l1 s = some (r, s') → W_J1_containsKey E z0 n0 r s' 0 [(0, vR l0), (1, vR l1)] [] s := by
  intro l0 l1 s hB
  unfold f_J1_containsKey_0 at hB
  refine gw_aload_n 0 rfl dJ1_containsKey_0 ?_
  refine gw_aload_n 1 rfl dJ1_containsKey_1 ?_
  obtain ⟨u0, hu3, hB⟩ := gB1_some hB
  obtain ⟨v2, s1, hv2, hB⟩ := gB2_some hB
  refine gw_callU (C := "java/util/LinkedHashMap") (owner := "java/util/HashMap") (x := ⟨"java/util/HashMap", "getNode", "(Ljava/lang/Object;)Ljava/util/HashMap$Node;"⟩) (y := yJ1_getNode) (lw_app (lw_in (([Cond.methodLink "java/util/HashMap" 158 ⟨"java/util/HashMap", "getNode", "(Ljava/lang/Object;)Ljava/util/HashMap$Node;"⟩, Cond.sameMethod "java/util/HashMap" "java/util/HashMap" "getNode" "(Ljava/lang/Object;)Ljava/util/HashMap$Node;", Cond.selects "java/util/LinkedHashMap" ⟨"java/util/HashMap", "getNode", "(Ljava/lang/Object;)Ljava/util/HashMap$Node;"⟩ yJ1_getNode, Cond.instanceMethod yJ1_getNode, Cond.initialized "java/util/HashMap"] : List Cond)) [2091, 3130, 3131, 1451, 113] (by decide +kernel) (by decide +kernel)) (lw_meth q1452)) rfl (show _ ∧ _ ∧ _ = some 1 from by decide +kernel) gcl10 hu3 (As := [vR l1]) (rest := []) (m_J1_getNode _ _ _ _ _ hv2) (Nat.le_of_ble_eq_true rfl) (Nat.le_of_ble_eq_true rfl) rfl (Nat.le_of_ble_eq_true rfl) dJ1_containsKey_2 (gCont_i ?_)
  refine gw_ifnull (tgt := 12) dJ1_containsKey_5 (by decide) (fun hcnd => ?_) (fun hcnd => ?_)
  · rw [if_pos hcnd] at hB
    refine gw_iconst (v := (0 : Int32)) (by decide) dJ1_containsKey_12 ?_
    exact gw_sub [] rfl (w_J1_containsKey_13  _ _ hB)
  · rw [if_neg hcnd] at hB
    refine gw_iconst (v := (1 : Int32)) (by decide) dJ1_containsKey_8 ?_
    refine gw_goto (tgt := 13) dJ1_containsKey_9 (by decide) ?_
    exact gw_sub [] rfl (w_J1_containsKey_13  _ _ hB)
noncomputable def f_J1_containsKey (κ : gK) (F : Nat) (a0 : Option Nat) (a1 : Option Nat) (s : gS) : Option (Int32 × gS) := f_J1_containsKey_0 κ F a0 a1 s
theorem m_J1_containsKey {E : gE} {F : Nat} (a0 : Option Nat) (a1 : Option Nat) (s : gS) (r : Int32) (s' : gS) (h : f_J1_containsKey (gk E) F a0 a1 s = some (r, s')) : gCT E 4 yJ1_containsKey (ws_ yJ1_containsKey cJ1_containsKey 2 (some FieldType.boolean)) [vR a0, vR a1] s (.inl (some (vI r))) s' := by
  refine gCT_of2 (fun h => absurd h (by decide)) (plainFor_of_name (by decide)) (Nat.le_of_ble_eq_true rfl) ?_
  exact gw_sub [0, 1] rfl (w_J1_containsKey_0 _ _ _ h)
def dkwJ27_contains_0 : List UInt8 := [42, 180, 0, 10, 43, 182, 0, 60, 172]
abbrev dktJ27_contains_0 : List UInt8 := dkwJ27_contains_0 ++ []
theorem dksJ27_contains_0 : cJ27_contains.data.toList.drop 0 = dktJ27_contains_0 := by decide +kernel
theorem dJ27_contains_0 : decode cJ27_contains 0 = .ok (.aload_n 0, 1) := dk_42 (dk_at dksJ27_contains_0 0 rfl rfl)
theorem dJ27_contains_1 : decode cJ27_contains 1 = .ok (.getfield 10, 3) := dk_180 0 10 (dk_at dksJ27_contains_0 1 rfl rfl)
theorem dJ27_contains_4 : decode cJ27_contains 4 = .ok (.aload_n 1, 1) := dk_43 (dk_at dksJ27_contains_0 4 rfl rfl)
theorem dJ27_contains_5 : decode cJ27_contains 5 = .ok (.invokevirtual 60, 3) := dk_182 0 60 (dk_at dksJ27_contains_0 5 rfl rfl)
theorem dJ27_contains_8 : decode cJ27_contains 8 = .ok (.ireturn, 1) := dk_172 (dk_at dksJ27_contains_0 8 rfl rfl)
/-! java/util/HashSet.contains(Ljava/lang/Object;)Z -/
abbrev M_J27_contains (z0 n0 : Nat) (s' : gS) : gM := (RJ27, cJ27_contains, 2, (some FieldType.boolean), "contains", [], 5, z0, n0, s'.2.1, s'.2.2)
abbrev W_J27_contains (E : gE) (z0 n0 : Nat) (r : Int32) (s' : gS) (pc : Nat) (L : List (Nat × gV)) (st : List gV) (s : gS) : Prop := gW E (M_J27_contains z0 n0 s') (gQm E (M_J27_contains z0 n0 s') (.inl (some (vI r))) s') pc L st s
noncomputable def f_J27_contains_0 (κ : gK) (F : Nat)  (l0 : Option Nat) (l1 : Option Nat) (s : gS) : Option (Int32 × gS) :=
  gB1 (gfR s l0 12 0) fun v1 =>
  gB1 (gck s v1 10) fun _ =>
  gB2 (f_J1_containsKey κ F v1 l1 s) fun v3 s2 =>
  gB1 (gok .boolean v3) fun _ => some (v3, s2)
set_option maxHeartbeats 4000000 in
theorem w_J27_contains_0 {E : gE} {F z0 n0 : Nat} {r : Int32} {s' : gS}   : ∀ (l0 : Option Nat) (l1 : Option Nat)  (s : gS), f_J27_contains_0 (gk E) F  l0 l1 s = some (r, s') → W_J27_contains E z0 n0 r s' 0 [(0, vR l0), (1, vR l1)] [] s := by
  intro l0 l1 s hB
  unfold f_J27_contains_0 at hB
  refine gw_aload_n 0 rfl dJ27_contains_0 ?_
  obtain ⟨v1, hv1, hB⟩ := gB1_some hB
  refine gw_getf (C := RJ28) (T := TJ28) (N := 1) (k := 0) gcl12 (by decide) in_J28 q1781 (gfR_spec hv1) dJ27_contains_1 ?_
  refine gw_aload_n 1 rfl dJ27_contains_4 ?_
  obtain ⟨u0, hu4, hB⟩ := gB1_some hB
  obtain ⟨v3, s2, hv3, hB⟩ := gB2_some hB
  refine gw_callU (C := "java/util/LinkedHashMap") (owner := "java/util/HashMap") (x := ⟨"java/util/HashMap", "containsKey", "(Ljava/lang/Object;)Z"⟩) (y := yJ1_containsKey) (lw_app (lw_in (([Cond.methodLink "java/util/HashSet" 60 ⟨"java/util/HashMap", "containsKey", "(Ljava/lang/Object;)Z"⟩, Cond.sameMethod "java/util/HashMap" "java/util/HashMap" "containsKey" "(Ljava/lang/Object;)Z", Cond.selects "java/util/LinkedHashMap" ⟨"java/util/HashMap", "containsKey", "(Ljava/lang/Object;)Z"⟩ yJ1_containsKey, Cond.instanceMethod yJ1_containsKey, Cond.initialized "java/util/HashMap"] : List Cond)) [2086, 2088, 2089, 2087, 113] (by decide +kernel) (by decide +kernel)) (lw_meth q2090)) rfl (show _ ∧ _ ∧ _ = some 1 from by decide +kernel) gcl10 hu4 (As := [vR l1]) (rest := []) (m_J1_containsKey _ _ _ _ _ hv3) (Nat.le_of_ble_eq_true rfl) (Nat.le_of_ble_eq_true rfl) rfl (Nat.le_of_ble_eq_true rfl) dJ27_contains_5 (gCont_i ?_)
  obtain ⟨u, hu, hB⟩ := gB1_some hB
  obtain ⟨rfl, rfl⟩ := Prod.mk.inj (Option.some.inj hB)
  exact gw_zret rfl hu rfl rfl dJ27_contains_8
noncomputable def f_J27_contains (κ : gK) (F : Nat) (a0 : Option Nat) (a1 : Option Nat) (s : gS) : Option (Int32 × gS) := f_J27_contains_0 κ F a0 a1 s
theorem m_J27_contains {E : gE} {F : Nat} (a0 : Option Nat) (a1 : Option Nat) (s : gS) (r : Int32) (s' : gS) (h : f_J27_contains (gk E) F a0 a1 s = some (r, s')) : gCT E 5 yJ27_contains (ws_ yJ27_contains cJ27_contains 2 (some FieldType.boolean)) [vR a0, vR a1] s (.inl (some (vI r))) s' := by
  refine gCT_of2 (fun h => absurd h (by decide)) (plainFor_of_name (by decide)) (Nat.le_of_ble_eq_true rfl) ?_
  exact gw_sub [0, 1] rfl (w_J27_contains_0 _ _ _ h)
def dkwX7_isNew_0 : List UInt8 := [42, 180, 0, 10, 187, 0, 40, 89, 27, 183, 0, 46, 182, 0, 47, 172]
abbrev dktX7_isNew_0 : List UInt8 := dkwX7_isNew_0 ++ []
theorem dksX7_isNew_0 : cX7_isNew.data.toList.drop 0 = dktX7_isNew_0 := by decide +kernel
theorem dX7_isNew_0 : decode cX7_isNew 0 = .ok (.aload_n 0, 1) := dk_42 (dk_at dksX7_isNew_0 0 rfl rfl)
theorem dX7_isNew_1 : decode cX7_isNew 1 = .ok (.getfield 10, 3) := dk_180 0 10 (dk_at dksX7_isNew_0 1 rfl rfl)
theorem dX7_isNew_4 : decode cX7_isNew 4 = .ok (.new 40, 3) := dk_187 0 40 (dk_at dksX7_isNew_0 4 rfl rfl)
theorem dX7_isNew_7 : decode cX7_isNew 7 = .ok (.dup, 1) := dk_89 (dk_at dksX7_isNew_0 7 rfl rfl)
theorem dX7_isNew_8 : decode cX7_isNew 8 = .ok (.iload_n 1, 1) := dk_27 (dk_at dksX7_isNew_0 8 rfl rfl)
theorem dX7_isNew_9 : decode cX7_isNew 9 = .ok (.invokespecial 46, 3) := dk_183 0 46 (dk_at dksX7_isNew_0 9 rfl rfl)
theorem dX7_isNew_12 : decode cX7_isNew 12 = .ok (.invokevirtual 47, 3) := dk_182 0 47 (dk_at dksX7_isNew_0 12 rfl rfl)
theorem dX7_isNew_15 : decode cX7_isNew 15 = .ok (.ireturn, 1) := dk_172 (dk_at dksX7_isNew_0 15 rfl rfl)
/-! PageGarden$Draft.isNew(I)Z -/
abbrev M_X7_isNew (z0 n0 : Nat) (s' : gS) : gM := (RX7, cX7_isNew, 2, (some FieldType.boolean), "isNew", [], 6, z0, n0, s'.2.1, s'.2.2)
abbrev W_X7_isNew (E : gE) (z0 n0 : Nat) (r : Int32) (s' : gS) (pc : Nat) (L : List (Nat × gV)) (st : List gV) (s : gS) : Prop := gW E (M_X7_isNew z0 n0 s') (gQm E (M_X7_isNew z0 n0 s') (.inl (some (vI r))) s') pc L st s
noncomputable def f_X7_isNew_0 (κ : gK) (F : Nat)  (l0 : Option Nat) (l1 : Int32) (s : gS) : Option (Int32 × gS) :=
  gB1 (gfR s l0 6 0) fun v1 =>
  gB2 (gnw s 1 g0_X2 1) fun v2 s3 =>
  gB1 (gsm v2) fun _ =>
  gB2 (f_X2_init κ F v2 l1 s3) fun v5 s4 =>
  gB1 (gck s4 v1 12) fun _ =>
  gB2 (f_J27_contains κ F v1 v2 s4) fun v8 s7 =>
  gB1 (gok .boolean v8) fun _ => some (v8, s7)
set_option maxHeartbeats 4000000 in
theorem w_X7_isNew_0 {E : gE} {F z0 n0 : Nat} {r : Int32} {s' : gS}   : ∀ (l0 : Option Nat) (l1 : Int32)  (s : gS), f_X7_isNew_0 (gk E) F  l0 l1 s = some (r, s') → W_X7_isNew E z0 n0 r s' 0 [(0, vR l0), (1, vI l1)] [] s := by
  intro l0 l1 s hB
  unfold f_X7_isNew_0 at hB
  refine gw_aload_n 0 rfl dX7_isNew_0 ?_
  obtain ⟨v1, hv1, hB⟩ := gB1_some hB
  refine gw_getf (C := RX7) (T := TX7) (N := 3) (k := 0) gcl6 (by decide) in_X7 q1786 (gfR_spec hv1) dX7_isNew_1 ?_
  obtain ⟨v2, s3, hv2, hB⟩ := gB2_some hB
  refine gw_new (C := RX2) (T := TX2) (N := 1) tyX2 tyX2_ok gcl1 in_X2 q1949 q179 q109 g0_X2_ok hv2 dX7_isNew_4 ?_
  refine gw_dup rfl dX7_isNew_7 ?_
  refine gw_iload_n 1 rfl dX7_isNew_8 ?_
  obtain ⟨u0, hu6, hB⟩ := gB1_some hB
  obtain ⟨v5, s4, hv5, hB⟩ := gB2_some hB
  refine gw_callI (y := yX2_init) (lw_meth q182) q109 q2079 q181 rfl hdS_X2_init (gsm_spec hu6) (As := [vI l1]) (rest := [vR v2, vR v1]) (m_X2_init _ _ _ _ _ hv5) (Nat.le_of_ble_eq_true rfl) (Nat.le_of_ble_eq_true rfl) rfl (Nat.le_of_ble_eq_true rfl) dX7_isNew_9 (gCont_v ?_)
  obtain ⟨u0, hu9, hB⟩ := gB1_some hB
  obtain ⟨v8, s7, hv8, hB⟩ := gB2_some hB
  refine gw_callU (C := "java/util/LinkedHashSet") (owner := "java/util/HashSet") (x := ⟨"java/util/LinkedHashSet", "contains", "(Ljava/lang/Object;)Z"⟩) (y := yJ27_contains) (lw_app (lw_in (([Cond.methodLink "PageGarden$Draft" 47 ⟨"java/util/LinkedHashSet", "contains", "(Ljava/lang/Object;)Z"⟩, Cond.sameMethod "java/util/LinkedHashSet" "java/util/HashSet" "contains" "(Ljava/lang/Object;)Z", Cond.selects "java/util/LinkedHashSet" ⟨"java/util/LinkedHashSet", "contains", "(Ljava/lang/Object;)Z"⟩ yJ27_contains, Cond.instanceMethod yJ27_contains, Cond.initialized "java/util/HashSet"] : List Cond)) [2080, 2081, 2083, 2084, 146] (by decide +kernel) (by decide +kernel)) (lw_meth q2085)) rfl (show _ ∧ _ ∧ _ = some 1 from by decide +kernel) gcl12 hu9 (As := [vR v2]) (rest := []) (m_J27_contains _ _ _ _ _ hv8) (Nat.le_of_ble_eq_true rfl) (Nat.le_of_ble_eq_true rfl) rfl (Nat.le_of_ble_eq_true rfl) dX7_isNew_12 (gCont_i ?_)
  obtain ⟨u, hu, hB⟩ := gB1_some hB
  obtain ⟨rfl, rfl⟩ := Prod.mk.inj (Option.some.inj hB)
  exact gw_zret rfl hu rfl rfl dX7_isNew_15
noncomputable def f_X7_isNew (κ : gK) (F : Nat) (a0 : Option Nat) (a1 : Int32) (s : gS) : Option (Int32 × gS) := f_X7_isNew_0 κ F a0 a1 s
theorem m_X7_isNew {E : gE} {F : Nat} (a0 : Option Nat) (a1 : Int32) (s : gS) (r : Int32) (s' : gS) (h : f_X7_isNew (gk E) F a0 a1 s = some (r, s')) : gCT E 6 yX7_isNew (ws_ yX7_isNew cX7_isNew 2 (some FieldType.boolean)) [vR a0, vI a1] s (.inl (some (vI r))) s' := by
  refine gCT_of2 (fun h => absurd h (by decide)) (plainFor_of_name (by decide)) (Nat.le_of_ble_eq_true rfl) ?_
  exact gw_sub [0, 1] rfl (w_X7_isNew_0 _ _ _ h)
def dkwJ1_init_0 : List UInt8 := [42, 183, 0, 43, 42, 18, 92, 181, 0, 81, 177]
abbrev dktJ1_init_0 : List UInt8 := dkwJ1_init_0 ++ []
theorem dksJ1_init_0 : cJ1_init.data.toList.drop 0 = dktJ1_init_0 := by decide +kernel
theorem dJ1_init_0 : decode cJ1_init 0 = .ok (.aload_n 0, 1) := dk_42 (dk_at dksJ1_init_0 0 rfl rfl)
theorem dJ1_init_1 : decode cJ1_init 1 = .ok (.invokespecial 43, 3) := dk_183 0 43 (dk_at dksJ1_init_0 1 rfl rfl)
theorem dJ1_init_4 : decode cJ1_init 4 = .ok (.aload_n 0, 1) := dk_42 (dk_at dksJ1_init_0 4 rfl rfl)
theorem dJ1_init_5 : decode cJ1_init 5 = .ok (.ldc 92, 2) := dk_18 92 (dk_at dksJ1_init_0 5 rfl rfl)
theorem dJ1_init_7 : decode cJ1_init 7 = .ok (.putfield 81, 3) := dk_181 0 81 (dk_at dksJ1_init_0 7 rfl rfl)
theorem dJ1_init_10 : decode cJ1_init 10 = .ok (.return_, 1) := dk_177 (dk_at dksJ1_init_0 10 rfl rfl)
/-! java/util/HashMap.<init>()V -/
abbrev M_J1_init (z0 n0 : Nat) (s' : gS) : gM := (RJ1, cJ1_init, 1, none, "<init>", [], 2, z0, n0, s'.2.1, s'.2.2)
abbrev W_J1_init (E : gE) (z0 n0 : Nat) (r : Unit) (s' : gS) (pc : Nat) (L : List (Nat × gV)) (st : List gV) (s : gS) : Prop := gW E (M_J1_init z0 n0 s') (gQm E (M_J1_init z0 n0 s') (.inl none) s') pc L st s
noncomputable def f_J1_init_0 (κ : gK) (F : Nat)  (l0 : Option Nat) (s : gS) : Option (Unit × gS) :=
  gB1 (gsm l0) fun _ =>
  gB2 (f_J0_init κ F l0  s) fun v2 s1 =>
  gB1 (gpf κ s1 l0 10 5 (.float (1061158912 : UInt32))) fun s4 =>
  some ((), s4)
set_option maxHeartbeats 4000000 in
theorem w_J1_init_0 {E : gE} {F z0 n0 : Nat} {r : Unit} {s' : gS}   : ∀ (l0 : Option Nat)  (s : gS), f_J1_init_0 (gk E) F  l0 s = some (r, s') → W_J1_init E z0 n0 r s' 0 [(0, vR l0)] [] s := by
  intro l0 s hB
  unfold f_J1_init_0 at hB
  refine gw_aload_n 0 rfl dJ1_init_0 ?_
  obtain ⟨u0, hu3, hB⟩ := gB1_some hB
  obtain ⟨v2, s1, hv2, hB⟩ := gB2_some hB
  refine gw_callI (y := yJ0_init) (lw_meth q226) q112 q224 q225 rfl hdS_J0_init (gsm_spec hu3) (As := []) (rest := []) (m_J0_init _ _ _ _ hv2) (Nat.le_of_ble_eq_true rfl) (Nat.le_of_ble_eq_true rfl) rfl (Nat.le_of_ble_eq_true rfl) dJ1_init_1 (gCont_v ?_)
  refine gw_aload_n 0 rfl dJ1_init_4 ?_
  refine gw_ldcf (1061158912 : UInt32) q228 dJ1_init_5 ?_
  obtain ⟨s4, hs4, hB⟩ := gB1_some hB
  refine gw_putfF (C := RJ2) (T := TJ2) (N := 12) (k := 5) tyJ2 tyJ2_ok nmJ2 gcl10 (by decide) in_J2 q245 rfl rfl rfl (tyJ2_ok 5 (by decide)) (gNF_f _) hs4 dJ1_init_7 ?_
  obtain ⟨rfl, rfl⟩ := Prod.mk.inj (Option.some.inj hB)
  exact gw_vret rfl rfl rfl dJ1_init_10
noncomputable def f_J1_init (κ : gK) (F : Nat) (a0 : Option Nat) (s : gS) : Option (Unit × gS) := f_J1_init_0 κ F a0 s
theorem m_J1_init {E : gE} {F : Nat} (a0 : Option Nat) (s : gS) (r : Unit) (s' : gS) (h : f_J1_init (gk E) F a0 s = some (r, s')) : gCT E 2 yJ1_init (ws_ yJ1_init cJ1_init 1 none) [vR a0] s (.inl none) s' := by
  refine gCT_of2 (fun h => absurd h (by decide)) (plainFor_of_name (by decide)) (Nat.le_of_ble_eq_true rfl) ?_
  exact gw_sub [0] rfl (w_J1_init_0 _ _ h)
def dkwJ2_init_0 : List UInt8 := [42, 183, 0, 87, 42, 3, 181, 0, 1, 42, 3, 181, 0, 64, 177]
abbrev dktJ2_init_0 : List UInt8 := dkwJ2_init_0 ++ []
theorem dksJ2_init_0 : cJ2_init.data.toList.drop 0 = dktJ2_init_0 := by decide +kernel
theorem dJ2_init_0 : decode cJ2_init 0 = .ok (.aload_n 0, 1) := dk_42 (dk_at dksJ2_init_0 0 rfl rfl)
theorem dJ2_init_1 : decode cJ2_init 1 = .ok (.invokespecial 87, 3) := dk_183 0 87 (dk_at dksJ2_init_0 1 rfl rfl)
theorem dJ2_init_4 : decode cJ2_init 4 = .ok (.aload_n 0, 1) := dk_42 (dk_at dksJ2_init_0 4 rfl rfl)
theorem dJ2_init_5 : decode cJ2_init 5 = .ok (.iconst 0, 1) := dk_3 (dk_at dksJ2_init_0 5 rfl rfl)
theorem dJ2_init_6 : decode cJ2_init 6 = .ok (.putfield 1, 3) := dk_181 0 1 (dk_at dksJ2_init_0 6 rfl rfl)
theorem dJ2_init_9 : decode cJ2_init 9 = .ok (.aload_n 0, 1) := dk_42 (dk_at dksJ2_init_0 9 rfl rfl)
theorem dJ2_init_10 : decode cJ2_init 10 = .ok (.iconst 0, 1) := dk_3 (dk_at dksJ2_init_0 10 rfl rfl)
theorem dJ2_init_11 : decode cJ2_init 11 = .ok (.putfield 64, 3) := dk_181 0 64 (dk_at dksJ2_init_0 11 rfl rfl)
theorem dJ2_init_14 : decode cJ2_init 14 = .ok (.return_, 1) := dk_177 (dk_at dksJ2_init_0 14 rfl rfl)
/-! java/util/LinkedHashMap.<init>()V -/
abbrev M_J2_init (z0 n0 : Nat) (s' : gS) : gM := (RJ2, cJ2_init, 1, none, "<init>", [], 3, z0, n0, s'.2.1, s'.2.2)
abbrev W_J2_init (E : gE) (z0 n0 : Nat) (r : Unit) (s' : gS) (pc : Nat) (L : List (Nat × gV)) (st : List gV) (s : gS) : Prop := gW E (M_J2_init z0 n0 s') (gQm E (M_J2_init z0 n0 s') (.inl none) s') pc L st s
noncomputable def f_J2_init_0 (κ : gK) (F : Nat)  (l0 : Option Nat) (s : gS) : Option (Unit × gS) :=
  gB1 (gsm l0) fun _ =>
  gB2 (f_J1_init κ F l0  s) fun v2 s1 =>
  gB1 (gpf κ s1 l0 10 11 (.int (0 : Int32))) fun s4 =>
  gB1 (gok .boolean (0 : Int32)) fun _ =>
  gB1 (gpf κ s4 l0 10 10 (.int (0 : Int32))) fun s6 =>
  some ((), s6)
set_option maxHeartbeats 4000000 in
theorem w_J2_init_0 {E : gE} {F z0 n0 : Nat} {r : Unit} {s' : gS}   : ∀ (l0 : Option Nat)  (s : gS), f_J2_init_0 (gk E) F  l0 s = some (r, s') → W_J2_init E z0 n0 r s' 0 [(0, vR l0)] [] s := by
  intro l0 s hB
  unfold f_J2_init_0 at hB
  refine gw_aload_n 0 rfl dJ2_init_0 ?_
  obtain ⟨u0, hu3, hB⟩ := gB1_some hB
  obtain ⟨v2, s1, hv2, hB⟩ := gB2_some hB
  refine gw_callI (y := yJ1_init) (lw_meth q223) q113 q221 q222 rfl hdS_J1_init (gsm_spec hu3) (As := []) (rest := []) (m_J1_init _ _ _ _ hv2) (Nat.le_of_ble_eq_true rfl) (Nat.le_of_ble_eq_true rfl) rfl (Nat.le_of_ble_eq_true rfl) dJ2_init_1 (gCont_v ?_)
  refine gw_aload_n 0 rfl dJ2_init_4 ?_
  refine gw_iconst (v := (0 : Int32)) (by decide) dJ2_init_5 ?_
  obtain ⟨s4, hs4, hB⟩ := gB1_some hB
  refine gw_putf (C := RJ2) (T := TJ2) (N := 12) (k := 11) tyJ2 tyJ2_ok nmJ2 gcl10 (by decide) in_J2 q234 rfl (tyJ2_ok 11 (by decide)) (gNF_i _) hs4 dJ2_init_6 ?_
  refine gw_aload_n 0 rfl dJ2_init_9 ?_
  refine gw_iconst (v := (0 : Int32)) (by decide) dJ2_init_10 ?_
  obtain ⟨u0, hu5, hB⟩ := gB1_some hB
  obtain ⟨s6, hs6, hB⟩ := gB1_some hB
  refine gw_putfF (C := RJ2) (T := TJ2) (N := 12) (k := 10) tyJ2 tyJ2_ok nmJ2 gcl10 (by decide) in_J2 q233 rfl rfl rfl (tyJ2_ok 10 (by decide)) (gok_spec hu5) hs6 dJ2_init_11 ?_
  obtain ⟨rfl, rfl⟩ := Prod.mk.inj (Option.some.inj hB)
  exact gw_vret rfl rfl rfl dJ2_init_14
noncomputable def f_J2_init (κ : gK) (F : Nat) (a0 : Option Nat) (s : gS) : Option (Unit × gS) := f_J2_init_0 κ F a0 s
theorem m_J2_init {E : gE} {F : Nat} (a0 : Option Nat) (s : gS) (r : Unit) (s' : gS) (h : f_J2_init (gk E) F a0 s = some (r, s')) : gCT E 3 yJ2_init (ws_ yJ2_init cJ2_init 1 none) [vR a0] s (.inl none) s' := by
  refine gCT_of2 (fun h => absurd h (by decide)) (plainFor_of_name (by decide)) (Nat.le_of_ble_eq_true rfl) ?_
  exact gw_sub [0] rfl (w_J2_init_0 _ _ h)
def dkwX3_init_3 : List UInt8 := [167, 255, 236, 177]
abbrev dktX3_init_3 : List UInt8 := dkwX3_init_3 ++ []
def dkwX3_init_2 : List UInt8 := [54, 4, 21, 4, 16, 32, 162, 0, 19, 42, 180, 0, 20, 21, 4, 178, 0, 42, 83, 132, 4, 1]
abbrev dktX3_init_2 : List UInt8 := dkwX3_init_2 ++ dktX3_init_3
def dkwX3_init_1 : List UInt8 := [42, 7, 189, 0, 24, 181, 0, 26, 42, 43, 181, 0, 30, 42, 44, 181, 0, 34, 42, 45, 181, 0, 38, 3]
abbrev dktX3_init_1 : List UInt8 := dkwX3_init_1 ++ dktX3_init_2
def dkwX3_init_0 : List UInt8 := [42, 183, 0, 3, 42, 187, 0, 9, 89, 183, 0, 11, 181, 0, 12, 42, 16, 32, 189, 0, 18, 181, 0, 20]
abbrev dktX3_init_0 : List UInt8 := dkwX3_init_0 ++ dktX3_init_1
theorem dksX3_init_0 : cX3_init.data.toList.drop 0 = dktX3_init_0 := by decide +kernel
theorem dksX3_init_1 : cX3_init.data.toList.drop 24 = dktX3_init_1 := dk_seg dksX3_init_0 24 rfl rfl
theorem dksX3_init_2 : cX3_init.data.toList.drop 48 = dktX3_init_2 := dk_seg dksX3_init_1 24 rfl rfl
theorem dksX3_init_3 : cX3_init.data.toList.drop 70 = dktX3_init_3 := dk_seg dksX3_init_2 22 rfl rfl
theorem dX3_init_0 : decode cX3_init 0 = .ok (.aload_n 0, 1) := dk_42 (dk_at dksX3_init_0 0 rfl rfl)
theorem dX3_init_1 : decode cX3_init 1 = .ok (.invokespecial 3, 3) := dk_183 0 3 (dk_at dksX3_init_0 1 rfl rfl)
theorem dX3_init_4 : decode cX3_init 4 = .ok (.aload_n 0, 1) := dk_42 (dk_at dksX3_init_0 4 rfl rfl)
theorem dX3_init_5 : decode cX3_init 5 = .ok (.new 9, 3) := dk_187 0 9 (dk_at dksX3_init_0 5 rfl rfl)
theorem dX3_init_8 : decode cX3_init 8 = .ok (.dup, 1) := dk_89 (dk_at dksX3_init_0 8 rfl rfl)
theorem dX3_init_9 : decode cX3_init 9 = .ok (.invokespecial 11, 3) := dk_183 0 11 (dk_at dksX3_init_0 9 rfl rfl)
theorem dX3_init_12 : decode cX3_init 12 = .ok (.putfield 12, 3) := dk_181 0 12 (dk_at dksX3_init_0 12 rfl rfl)
theorem dX3_init_15 : decode cX3_init 15 = .ok (.aload_n 0, 1) := dk_42 (dk_at dksX3_init_0 15 rfl rfl)
theorem dX3_init_16 : decode cX3_init 16 = .ok (.bipush 32, 2) := dk_16 32 (dk_at dksX3_init_0 16 rfl rfl)
theorem dX3_init_18 : decode cX3_init 18 = .ok (.anewarray 18, 3) := dk_189 0 18 (dk_at dksX3_init_0 18 rfl rfl)
theorem dX3_init_21 : decode cX3_init 21 = .ok (.putfield 20, 3) := dk_181 0 20 (dk_at dksX3_init_0 21 rfl rfl)
theorem dX3_init_24 : decode cX3_init 24 = .ok (.aload_n 0, 1) := dk_42 (dk_at dksX3_init_1 0 rfl rfl)
theorem dX3_init_25 : decode cX3_init 25 = .ok (.iconst 4, 1) := dk_7 (dk_at dksX3_init_1 1 rfl rfl)
theorem dX3_init_26 : decode cX3_init 26 = .ok (.anewarray 24, 3) := dk_189 0 24 (dk_at dksX3_init_1 2 rfl rfl)
theorem dX3_init_29 : decode cX3_init 29 = .ok (.putfield 26, 3) := dk_181 0 26 (dk_at dksX3_init_1 5 rfl rfl)
theorem dX3_init_32 : decode cX3_init 32 = .ok (.aload_n 0, 1) := dk_42 (dk_at dksX3_init_1 8 rfl rfl)
theorem dX3_init_33 : decode cX3_init 33 = .ok (.aload_n 1, 1) := dk_43 (dk_at dksX3_init_1 9 rfl rfl)
theorem dX3_init_34 : decode cX3_init 34 = .ok (.putfield 30, 3) := dk_181 0 30 (dk_at dksX3_init_1 10 rfl rfl)
theorem dX3_init_37 : decode cX3_init 37 = .ok (.aload_n 0, 1) := dk_42 (dk_at dksX3_init_1 13 rfl rfl)
theorem dX3_init_38 : decode cX3_init 38 = .ok (.aload_n 2, 1) := dk_44 (dk_at dksX3_init_1 14 rfl rfl)
theorem dX3_init_39 : decode cX3_init 39 = .ok (.putfield 34, 3) := dk_181 0 34 (dk_at dksX3_init_1 15 rfl rfl)
theorem dX3_init_42 : decode cX3_init 42 = .ok (.aload_n 0, 1) := dk_42 (dk_at dksX3_init_1 18 rfl rfl)
theorem dX3_init_43 : decode cX3_init 43 = .ok (.aload_n 3, 1) := dk_45 (dk_at dksX3_init_1 19 rfl rfl)
theorem dX3_init_44 : decode cX3_init 44 = .ok (.putfield 38, 3) := dk_181 0 38 (dk_at dksX3_init_1 20 rfl rfl)
theorem dX3_init_47 : decode cX3_init 47 = .ok (.iconst 0, 1) := dk_3 (dk_at dksX3_init_1 23 rfl rfl)
theorem dX3_init_48 : decode cX3_init 48 = .ok (.istore 4, 2) := dk_54 4 (dk_at dksX3_init_2 0 rfl rfl)
theorem dX3_init_50 : decode cX3_init 50 = .ok (.iload 4, 2) := dk_21 4 (dk_at dksX3_init_2 2 rfl rfl)
theorem dX3_init_52 : decode cX3_init 52 = .ok (.bipush 32, 2) := dk_16 32 (dk_at dksX3_init_2 4 rfl rfl)
theorem dX3_init_54 : decode cX3_init 54 = .ok (.if_icmp .ge 19, 3) := dk_162 0 19 (dk_at dksX3_init_2 6 rfl rfl)
theorem dX3_init_57 : decode cX3_init 57 = .ok (.aload_n 0, 1) := dk_42 (dk_at dksX3_init_2 9 rfl rfl)
theorem dX3_init_58 : decode cX3_init 58 = .ok (.getfield 20, 3) := dk_180 0 20 (dk_at dksX3_init_2 10 rfl rfl)
theorem dX3_init_61 : decode cX3_init 61 = .ok (.iload 4, 2) := dk_21 4 (dk_at dksX3_init_2 13 rfl rfl)
theorem dX3_init_63 : decode cX3_init 63 = .ok (.getstatic 42, 3) := dk_178 0 42 (dk_at dksX3_init_2 15 rfl rfl)
theorem dX3_init_66 : decode cX3_init 66 = .ok (.aastore, 1) := dk_83 (dk_at dksX3_init_2 18 rfl rfl)
theorem dX3_init_67 : decode cX3_init 67 = .ok (.iinc 4 1, 3) := dk_132 4 1 (dk_at dksX3_init_2 19 rfl rfl)
theorem dX3_init_70 : decode cX3_init 70 = .ok (.goto (-20), 3) := dk_167 255 236 (dk_at dksX3_init_3 0 rfl rfl)
theorem dX3_init_73 : decode cX3_init 73 = .ok (.return_, 1) := dk_177 (dk_at dksX3_init_3 3 rfl rfl)
/-! PageGarden$Garden.<init>([LPageGarden$Bed;[I[LPageGarden$Root;)V -/
abbrev M_X3_init (z0 n0 : Nat) (s' : gS) : gM := (RX3, cX3_init, 5, none, "<init>", [], 4, z0, n0, s'.2.1, s'.2.2)
abbrev W_X3_init (E : gE) (z0 n0 : Nat) (r : Unit) (s' : gS) (pc : Nat) (L : List (Nat × gV)) (st : List gV) (s : gS) : Prop := gW E (M_X3_init z0 n0 s') (gQm E (M_X3_init z0 n0 s') (.inl none) s') pc L st s
noncomputable def f_X3_init_50b (κ : gK) (F : Nat) (k50 : Option Nat → Int32 → gS → Option (Unit × gS)) (l0 : Option Nat) (l4 : Int32) (s : gS) : Option (Unit × gS) :=
  if (32 : Int32) ≤ l4 then
    some ((), s)
  else
    gB1 (gfR s l0 7 1) fun v1 =>
    gB1 (gsR κ s v1 l4 (κ.2 0)) fun s2 =>
    k50 l0 (l4 + (1 : Int32)) s2
noncomputable def f_X3_init_50 (κ : gK) (F : Nat)  : Nat → Option Nat → Int32 → gS → Option (Unit × gS)
  | 0 => fun _ _ _ => none
  | n + 1 => f_X3_init_50b κ F  (f_X3_init_50 κ F  n)
set_option maxHeartbeats 4000000 in
theorem w_X3_init_50b {E : gE} {F z0 n0 : Nat} {r : Unit} {s' : gS} {k50 : Option Nat → Int32 → gS → Option (Unit × gS)} (hk50 : ∀ (l0 : Option Nat) (l4 : Int32) (s : gS), k50 l0 l4 s = some (r, s') → W_X3_init E z0 n0 r s' 50 [(0, vR l0), (4, vI l4)] [] s) : ∀ (l0 : Option Nat) (l4 : Int32)  (s : gS), f_X3_init_50b (gk E) F k50 l0 l4 s = some (r, s') → W_X3_init E z0 n0 r s' 50 [(0, vR l0), (4, vI l4)] [] s := by
  intro l0 l4 s hB
  unfold f_X3_init_50b at hB
  refine gw_iload 1 rfl dX3_init_50 ?_
  refine gw_bipush (v := (32 : Int32)) (by decide) dX3_init_52 ?_
  refine gw_icmp_ge (tgt := 73) dX3_init_54 (by decide) (fun hcnd => ?_) (fun hcnd => ?_)
  · rw [if_pos hcnd] at hB
    obtain ⟨rfl, rfl⟩ := Prod.mk.inj (Option.some.inj hB)
    exact gw_vret rfl rfl rfl dX3_init_73
  · rw [if_neg hcnd] at hB
    refine gw_aload_n 0 rfl dX3_init_57 ?_
    obtain ⟨v1, hv1, hB⟩ := gB1_some hB
    refine gw_getf (C := RX3) (T := TX3) (N := 9) (k := 1) gcl7 (by decide) in_X3 q282 (gfR_spec hv1) dX3_init_58 ?_
    refine gw_iload 1 rfl dX3_init_61 ?_
    refine gw_gets (i := 0) (by decide) q279 dX3_init_63 ?_
    obtain ⟨s2, hs2, hB⟩ := gB1_some hB
    refine gw_aastore hs2 dX3_init_66 ?_
    refine gw_iinc (w := (1 : Int32)) (L' := [(4, vI (l4 + (1 : Int32))), (0, vR l0)]) 1 rfl (by decide) (Nat.le_of_ble_eq_true rfl) rfl dX3_init_67 ?_
    refine gw_goto (tgt := 50) dX3_init_70 (by decide) ?_
    exact gw_sub [1, 0] rfl (hk50 _ _ _ hB)
theorem w_X3_init_50 {E : gE} {F z0 n0 : Nat} {r : Unit} {s' : gS}   : ∀ (n : Nat) (l0 : Option Nat) (l4 : Int32)  (s : gS), f_X3_init_50 (gk E) F  n l0 l4 s = some (r, s') → W_X3_init E z0 n0 r s' 50 [(0, vR l0), (4, vI l4)] [] s := by
  intro n
  induction n with
  | zero => intro l0 l4 s hB; cases hB
  | succ n ih => intro l0 l4 s hB; exact w_X3_init_50b ih l0 l4 s hB
noncomputable def f_X3_init_0 (κ : gK) (F : Nat)  (l0 : Option Nat) (l1 : Option Nat) (l2 : Option Nat) (l3 : Option Nat) (s : gS) : Option (Unit × gS) :=
  gB1 (gsm l0) fun _ =>
  gB2 (gnw s 10 g0_J2 12) fun v2 s3 =>
  gB1 (gsm v2) fun _ =>
  gB2 (f_J2_init κ F v2  s3) fun v5 s4 =>
  gB1 (gpf κ s4 l0 7 0 (va_rf v2)) fun s7 =>
  gB2 (gna s7 4 (32 : Int32)) fun v8 s9 =>
  gB1 (gpf κ s9 l0 7 1 (va_rf v8)) fun s10 =>
  gB2 (gna s10 6 (4 : Int32)) fun v11 s12 =>
  gB1 (gpf κ s12 l0 7 5 (va_rf v11)) fun s13 =>
  gB1 (gpf κ s13 l0 7 2 (va_rf l1)) fun s14 =>
  gB1 (gpf κ s14 l0 7 3 (va_rf l2)) fun s15 =>
  gB1 (gpf κ s15 l0 7 4 (va_rf l3)) fun s16 =>
  f_X3_init_50 κ F  F l0 (0 : Int32) s16
set_option maxHeartbeats 4000000 in
theorem w_X3_init_0 {E : gE} {F z0 n0 : Nat} {r : Unit} {s' : gS}   : ∀ (l0 : Option Nat) (l1 : Option Nat) (l2 : Option Nat) (l3 : Option Nat)  (s : gS), f_X3_init_0 (gk E) F  l0 l1 l2 l3 s = some (r, s') → W_X3_init E z0 n0 r s' 0 [(0, vR l0), (1, vR l1), (2, vR l2), (3, vR l3)] [] s := by
  intro l0 l1 l2 l3 s hB
  unfold f_X3_init_0 at hB
  refine gw_aload_n 0 rfl dX3_init_0 ?_
  obtain ⟨u0, hu1, hB⟩ := gB1_some hB
  refine gw_objInit (gsm_spec hu1) q215 q172 q173 (Nat.le_of_ble_eq_true rfl) (Nat.le_of_ble_eq_true rfl) dX3_init_1 ?_
  refine gw_aload_n 0 rfl dX3_init_4 ?_
  obtain ⟨v2, s3, hv2, hB⟩ := gB2_some hB
  refine gw_new (C := RJ2) (T := TJ2) (N := 12) tyJ2 tyJ2_ok gcl10 in_J2 q216 q217 q114 g0_J2_ok hv2 dX3_init_5 ?_
  refine gw_dup rfl dX3_init_8 ?_
  obtain ⟨u0, hu6, hB⟩ := gB1_some hB
  obtain ⟨v5, s4, hv5, hB⟩ := gB2_some hB
  refine gw_callI (y := yJ2_init) (lw_meth q220) q114 q218 q219 rfl hdS_J2_init (gsm_spec hu6) (As := []) (rest := [vR v2, vR l0]) (m_J2_init _ _ _ _ hv5) (Nat.le_of_ble_eq_true rfl) (Nat.le_of_ble_eq_true rfl) rfl (Nat.le_of_ble_eq_true rfl) dX3_init_9 (gCont_v ?_)
  obtain ⟨s7, hs7, hB⟩ := gB1_some hB
  refine gw_putfF (C := RX3) (T := TX3) (N := 9) (k := 0) tyX3 tyX3_ok nmX3 gcl7 (by decide) in_X3 q281 rfl rfl rfl (tyX3_ok 0 (by decide)) (gNF_o _ _) hs7 dX3_init_12 ?_
  refine gw_aload_n 0 rfl dX3_init_15 ?_
  refine gw_bipush (v := (32 : Int32)) (by decide) dX3_init_16 ?_
  obtain ⟨v8, s9, hv8, hB⟩ := gB2_some hB
  refine gw_anewarr (C := "PageGarden$State") (t := 4) (by decide) rfl q275 q276 hv8 dX3_init_18 ?_
  obtain ⟨s10, hs10, hB⟩ := gB1_some hB
  refine gw_putfF (C := RX3) (T := TX3) (N := 9) (k := 1) tyX3 tyX3_ok nmX3 gcl7 (by decide) in_X3 q282 rfl rfl rfl (tyX3_ok 1 (by decide)) (gNF_a _ _) hs10 dX3_init_21 ?_
  refine gw_aload_n 0 rfl dX3_init_24 ?_
  refine gw_iconst (v := (4 : Int32)) (by decide) dX3_init_25 ?_
  obtain ⟨v11, s12, hv11, hB⟩ := gB2_some hB
  refine gw_anewarr (C := "PageGarden$Reader") (t := 6) (by decide) rfl q277 q278 hv11 dX3_init_26 ?_
  obtain ⟨s13, hs13, hB⟩ := gB1_some hB
  refine gw_putfF (C := RX3) (T := TX3) (N := 9) (k := 5) tyX3 tyX3_ok nmX3 gcl7 (by decide) in_X3 q287 rfl rfl rfl (tyX3_ok 5 (by decide)) (gNF_a _ _) hs13 dX3_init_29 ?_
  refine gw_aload_n 0 rfl dX3_init_32 ?_
  refine gw_aload_n 1 rfl dX3_init_33 ?_
  obtain ⟨s14, hs14, hB⟩ := gB1_some hB
  refine gw_putfF (C := RX3) (T := TX3) (N := 9) (k := 2) tyX3 tyX3_ok nmX3 gcl7 (by decide) in_X3 q284 rfl rfl rfl (tyX3_ok 2 (by decide)) (gNF_a _ _) hs14 dX3_init_34 ?_
  refine gw_aload_n 0 rfl dX3_init_37 ?_
  refine gw_aload_n 2 rfl dX3_init_38 ?_
  obtain ⟨s15, hs15, hB⟩ := gB1_some hB
  refine gw_putfF (C := RX3) (T := TX3) (N := 9) (k := 3) tyX3 tyX3_ok nmX3 gcl7 (by decide) in_X3 q285 rfl rfl rfl (tyX3_ok 3 (by decide)) (gNF_a _ _) hs15 dX3_init_39 ?_
  refine gw_aload_n 0 rfl dX3_init_42 ?_
  refine gw_aload_n 3 rfl dX3_init_43 ?_
  obtain ⟨s16, hs16, hB⟩ := gB1_some hB
  refine gw_putfF (C := RX3) (T := TX3) (N := 9) (k := 4) tyX3 tyX3_ok nmX3 gcl7 (by decide) in_X3 q286 rfl rfl rfl (tyX3_ok 4 (by decide)) (gNF_a _ _) hs16 dX3_init_44 ?_
  refine gw_iconst (v := (0 : Int32)) (by decide) dX3_init_47 ?_
  refine gw_istore (L' := [(4, vI (0 : Int32)), (0, vR l0), (1, vR l1), (2, vR l2), (3, vR l3)]) (Nat.le_of_ble_eq_true rfl) rfl dX3_init_48 ?_
  exact gw_sub [1, 0] rfl (w_X3_init_50  F _ _ _ hB)
noncomputable def f_X3_init (κ : gK) (F : Nat) (a0 : Option Nat) (a1 : Option Nat) (a2 : Option Nat) (a3 : Option Nat) (s : gS) : Option (Unit × gS) := f_X3_init_0 κ F a0 a1 a2 a3 s
theorem m_X3_init {E : gE} {F : Nat} (a0 : Option Nat) (a1 : Option Nat) (a2 : Option Nat) (a3 : Option Nat) (s : gS) (r : Unit) (s' : gS) (h : f_X3_init (gk E) F a0 a1 a2 a3 s = some (r, s')) : gCT E 4 yX3_init (ws_ yX3_init cX3_init 5 none) [vR a0, vR a1, vR a2, vR a3] s (.inl none) s' := by
  refine gCT_of2 (fun h => absurd h (by decide)) (plainFor_of_name (by decide)) (Nat.le_of_ble_eq_true rfl) ?_
  exact gw_sub [0, 1, 2, 3] rfl (w_X3_init_0 _ _ _ _ _ h)
def dkwJ38_init_0 : List UInt8 := [42, 43, 183, 0, 7, 177]
abbrev dktJ38_init_0 : List UInt8 := dkwJ38_init_0 ++ []
theorem dksJ38_init_0 : cJ38_init.data.toList.drop 0 = dktJ38_init_0 := by decide +kernel
theorem dJ38_init_0 : decode cJ38_init 0 = .ok (.aload_n 0, 1) := dk_42 (dk_at dksJ38_init_0 0 rfl rfl)
theorem dJ38_init_1 : decode cJ38_init 1 = .ok (.aload_n 1, 1) := dk_43 (dk_at dksJ38_init_0 1 rfl rfl)
theorem dJ38_init_2 : decode cJ38_init 2 = .ok (.invokespecial 7, 3) := dk_183 0 7 (dk_at dksJ38_init_0 2 rfl rfl)
theorem dJ38_init_5 : decode cJ38_init 5 = .ok (.return_, 1) := dk_177 (dk_at dksJ38_init_0 5 rfl rfl)
/-! java/lang/IllegalStateException.<init>(Ljava/lang/String;)V -/
abbrev M_J38_init (z0 n0 : Nat) (s' : gS) : gM := (RJ38, cJ38_init, 2, none, "<init>", [], 3, z0, n0, s'.2.1, s'.2.2)
abbrev W_J38_init (E : gE) (z0 n0 : Nat) (r : Unit) (s' : gS) (pc : Nat) (L : List (Nat × gV)) (st : List gV) (s : gS) : Prop := gW E (M_J38_init z0 n0 s') (gQm E (M_J38_init z0 n0 s') (.inl none) s') pc L st s
noncomputable def f_J38_init_0 (κ : gK) (F : Nat)  (l0 : Option Nat) (l1 : Option Nat) (s : gS) : Option (Unit × gS) :=
  gB1 (gsm l0) fun _ =>
  gB2 (f_J10_init κ F l0 l1 s) fun v2 s1 =>
  some ((), s1)
set_option maxHeartbeats 4000000 in
theorem w_J38_init_0 {E : gE} {F z0 n0 : Nat} {r : Unit} {s' : gS}   : ∀ (l0 : Option Nat) (l1 : Option Nat)  (s : gS), f_J38_init_0 (gk E) F  l0 l1 s = some (r, s') → W_J38_init E z0 n0 r s' 0 [(0, vR l0), (1, vR l1)] [] s := by
  intro l0 l1 s hB
  unfold f_J38_init_0 at hB
  refine gw_aload_n 0 rfl dJ38_init_0 ?_
  refine gw_aload_n 1 rfl dJ38_init_1 ?_
  obtain ⟨u0, hu3, hB⟩ := gB1_some hB
  obtain ⟨v2, s1, hv2, hB⟩ := gB2_some hB
  refine gw_callI (y := yJ10_init) (lw_meth q700) q125 q2030 q699 rfl hdS_J10_init (gsm_spec hu3) (As := [vR l1]) (rest := []) (m_J10_init _ _ _ _ _ hv2) (Nat.le_of_ble_eq_true rfl) (Nat.le_of_ble_eq_true rfl) rfl (Nat.le_of_ble_eq_true rfl) dJ38_init_2 (gCont_v ?_)
  obtain ⟨rfl, rfl⟩ := Prod.mk.inj (Option.some.inj hB)
  exact gw_vret rfl rfl rfl dJ38_init_5
noncomputable def f_J38_init (κ : gK) (F : Nat) (a0 : Option Nat) (a1 : Option Nat) (s : gS) : Option (Unit × gS) := f_J38_init_0 κ F a0 a1 s
theorem m_J38_init {E : gE} {F : Nat} (a0 : Option Nat) (a1 : Option Nat) (s : gS) (r : Unit) (s' : gS) (h : f_J38_init (gk E) F a0 a1 s = some (r, s')) : gCT E 3 yJ38_init (ws_ yJ38_init cJ38_init 2 none) [vR a0, vR a1] s (.inl none) s' := by
  refine gCT_of2 (fun h => absurd h (by decide)) (plainFor_of_name (by decide)) (Nat.le_of_ble_eq_true rfl) ?_
  exact gw_sub [0, 1] rfl (w_J38_init_0 _ _ _ h)
def dkwX1_requireState_0 : List UInt8 := [26, 154, 0, 12, 187, 0, 10, 89, 43, 183, 0, 12, 191, 177]
abbrev dktX1_requireState_0 : List UInt8 := dkwX1_requireState_0 ++ []
theorem dksX1_requireState_0 : cX1_requireState.data.toList.drop 0 = dktX1_requireState_0 := by decide +kernel
theorem dX1_requireState_0 : decode cX1_requireState 0 = .ok (.iload_n 0, 1) := dk_26 (dk_at dksX1_requireState_0 0 rfl rfl)
theorem dX1_requireState_1 : decode cX1_requireState 1 = .ok (.ifCond .ne 12, 3) := dk_154 0 12 (dk_at dksX1_requireState_0 1 rfl rfl)
theorem dX1_requireState_4 : decode cX1_requireState 4 = .ok (.new 10, 3) := dk_187 0 10 (dk_at dksX1_requireState_0 4 rfl rfl)
theorem dX1_requireState_7 : decode cX1_requireState 7 = .ok (.dup, 1) := dk_89 (dk_at dksX1_requireState_0 7 rfl rfl)
theorem dX1_requireState_8 : decode cX1_requireState 8 = .ok (.aload_n 1, 1) := dk_43 (dk_at dksX1_requireState_0 8 rfl rfl)
theorem dX1_requireState_9 : decode cX1_requireState 9 = .ok (.invokespecial 12, 3) := dk_183 0 12 (dk_at dksX1_requireState_0 9 rfl rfl)
theorem dX1_requireState_12 : decode cX1_requireState 12 = .ok (.athrow, 1) := dk_191 (dk_at dksX1_requireState_0 12 rfl rfl)
theorem dX1_requireState_13 : decode cX1_requireState 13 = .ok (.return_, 1) := dk_177 (dk_at dksX1_requireState_0 13 rfl rfl)
/-! PageGarden.requireState(ZLjava/lang/String;)V -/
abbrev M_X1_requireState (z0 n0 : Nat) (s' : gS) : gM := (RX1, cX1_requireState, 2, none, "requireState", [], 9, z0, n0, s'.2.1, s'.2.2)
abbrev W_X1_requireState (E : gE) (z0 n0 : Nat) (r : (Unit ⊕ String)) (s' : gS) (pc : Nat) (L : List (Nat × gV)) (st : List gV) (s : gS) : Prop := gW E (M_X1_requireState z0 n0 s') (gQm E (M_X1_requireState z0 n0 s') (gOv r) s') pc L st s
noncomputable def f_X1_requireState_0 (κ : gK) (F : Nat)  (l0 : Int32) (l1 : Option Nat) (s : gS) : Option ((Unit ⊕ String) × gS) :=
  if l0 = 0 then
    gB1 (gsm l1) fun _ =>
    some (.inr "java/lang/IllegalStateException", gthr s)
  else
    some ((.inl ()), s)
set_option maxHeartbeats 4000000 in
theorem w_X1_requireState_0 {E : gE} {F z0 n0 : Nat} {r : (Unit ⊕ String)} {s' : gS}   : ∀ (l0 : Int32) (l1 : Option Nat)  (s : gS), f_X1_requireState_0 (gk E) F  l0 l1 s = some (r, s') → W_X1_requireState E z0 n0 r s' 0 [(0, vI l0), (1, vR l1)] [] s := by
  intro l0 l1 s hB
  unfold f_X1_requireState_0 at hB
  refine gw_iload_n 0 rfl dX1_requireState_0 ?_
  refine gw_if_ne (tgt := 13) dX1_requireState_1 (by decide) (fun hcnd => ?_) (fun hcnd => ?_)
  · rw [if_neg hcnd] at hB
    obtain ⟨rfl, rfl⟩ := Prod.mk.inj (Option.some.inj hB)
    exact gw_vret rfl rfl rfl dX1_requireState_13
  · rw [if_pos hcnd] at hB
    obtain ⟨u0, hu1, hB⟩ := gB1_some hB
    obtain ⟨rfl, rfl⟩ := Prod.mk.inj (Option.some.inj hB)
    exact gw_throwA (names := ["java/lang/RuntimeException", "java/lang/Exception"]) 1 rfl (gsm_spec hu1) rfl (by decide) (by decide) q2018 q157 gtw_ISE gtm_ISE dX1_requireState_4 dX1_requireState_7 dX1_requireState_8 dX1_requireState_9 dX1_requireState_12 rfl (Nat.le_of_ble_eq_true rfl) (Nat.le_of_ble_eq_true rfl) rfl rfl
noncomputable def f_X1_requireState (κ : gK) (F : Nat) (a1 : Int32) (a2 : Option Nat) (s : gS) : Option ((Unit ⊕ String) × gS) := f_X1_requireState_0 κ F a1 a2 s
theorem m_X1_requireState {E : gE} {F : Nat} (a1 : Int32) (a2 : Option Nat) (s : gS) (r : (Unit ⊕ String)) (s' : gS) (h : f_X1_requireState (gk E) F a1 a2 s = some (r, s')) : gCT E 9 yX1_requireState (ws_ yX1_requireState cX1_requireState 2 none) [vI a1, vR a2] s (gOv r) s' := by
  refine gCT_of2 (fun h => absurd h (by decide)) (plainFor_of_name (by decide)) (Nat.le_of_ble_eq_true rfl) ?_
  exact gw_sub [0, 1] rfl (w_X1_requireState_0 _ _ _ h)
def dkwX3_requireDraft_0 : List UInt8 := [42, 180, 0, 80, 198, 0, 7, 4, 167, 0, 4, 3, 18, 219, 184, 0, 183, 177]
abbrev dktX3_requireDraft_0 : List UInt8 := dkwX3_requireDraft_0 ++ []
theorem dksX3_requireDraft_0 : cX3_requireDraft.data.toList.drop 0 = dktX3_requireDraft_0 := by decide +kernel
theorem dX3_requireDraft_0 : decode cX3_requireDraft 0 = .ok (.aload_n 0, 1) := dk_42 (dk_at dksX3_requireDraft_0 0 rfl rfl)
theorem dX3_requireDraft_1 : decode cX3_requireDraft 1 = .ok (.getfield 80, 3) := dk_180 0 80 (dk_at dksX3_requireDraft_0 1 rfl rfl)
theorem dX3_requireDraft_4 : decode cX3_requireDraft 4 = .ok (.ifnull 7, 3) := dk_198 0 7 (dk_at dksX3_requireDraft_0 4 rfl rfl)
theorem dX3_requireDraft_7 : decode cX3_requireDraft 7 = .ok (.iconst 1, 1) := dk_4 (dk_at dksX3_requireDraft_0 7 rfl rfl)
theorem dX3_requireDraft_8 : decode cX3_requireDraft 8 = .ok (.goto 4, 3) := dk_167 0 4 (dk_at dksX3_requireDraft_0 8 rfl rfl)
theorem dX3_requireDraft_11 : decode cX3_requireDraft 11 = .ok (.iconst 0, 1) := dk_3 (dk_at dksX3_requireDraft_0 11 rfl rfl)
theorem dX3_requireDraft_12 : decode cX3_requireDraft 12 = .ok (.ldc 219, 2) := dk_18 219 (dk_at dksX3_requireDraft_0 12 rfl rfl)
theorem dX3_requireDraft_14 : decode cX3_requireDraft 14 = .ok (.invokestatic 183, 3) := dk_184 0 183 (dk_at dksX3_requireDraft_0 14 rfl rfl)
theorem dX3_requireDraft_17 : decode cX3_requireDraft 17 = .ok (.return_, 1) := dk_177 (dk_at dksX3_requireDraft_0 17 rfl rfl)
/-! PageGarden$Garden.requireDraft()V -/
abbrev M_X3_requireDraft (z0 n0 : Nat) (s' : gS) : gM := (RX3, cX3_requireDraft, 1, none, "requireDraft", [], 10, z0, n0, s'.2.1, s'.2.2)
abbrev W_X3_requireDraft (E : gE) (z0 n0 : Nat) (r : (Unit ⊕ String)) (s' : gS) (pc : Nat) (L : List (Nat × gV)) (st : List gV) (s : gS) : Prop := gW E (M_X3_requireDraft z0 n0 s') (gQm E (M_X3_requireDraft z0 n0 s') (gOv r) s') pc L st s
noncomputable def f_X3_requireDraft_12 (κ : gK) (F : Nat)  (t0 : Int32) (s : gS) : Option ((Unit ⊕ String) × gS) :=
  gB3 (f_X1_requireState κ F t0 (κ.2 27) s) fun v2 s1 =>
  some ((.inl ()), s1)
set_option maxHeartbeats 4000000 in
theorem w_X3_requireDraft_12 {E : gE} {F z0 n0 : Nat} {r : (Unit ⊕ String)} {s' : gS}   : ∀  (t0 : Int32) (s : gS), f_X3_requireDraft_12 (gk E) F  t0 s = some (r, s') → W_X3_requireDraft E z0 n0 r s' 12 [] [vI t0] s := by
  intro t0 s hB
  unfold f_X3_requireDraft_12 at hB
  refine gw_ldcS (own := "PageGarden$Garden") (tx := "no draft") (i := 27) rfl (by decide) dX3_requireDraft_12 ?_
  rcases gB3_some hB with ⟨v2, s1, hv2, hB⟩ | ⟨Cv2, hv2, hzv2⟩
  rotate_left
  · subst hzv2
    exact gw_callSN (y := yX1_requireState) (lw_meth q2017) q108 q2015 q2016 hdS_X1_requireState (As := [vI t0, vR ((gk E).2 27)]) (rest := []) (m_X1_requireState _ _ _ _ _ hv2) (Nat.le_of_ble_eq_true rfl) (Nat.le_of_ble_eq_true rfl) rfl (Nat.le_of_ble_eq_true rfl) dX3_requireDraft_14 (gCont_x (gx_out rfl rfl rfl))
  refine gw_callSN (y := yX1_requireState) (lw_meth q2017) q108 q2015 q2016 hdS_X1_requireState (As := [vI t0, vR ((gk E).2 27)]) (rest := []) (m_X1_requireState _ _ _ _ _ hv2) (Nat.le_of_ble_eq_true rfl) (Nat.le_of_ble_eq_true rfl) rfl (Nat.le_of_ble_eq_true rfl) dX3_requireDraft_14 (gCont_v ?_)
  obtain ⟨rfl, rfl⟩ := Prod.mk.inj (Option.some.inj hB)
  exact gw_vret rfl rfl rfl dX3_requireDraft_17
noncomputable def f_X3_requireDraft_0 (κ : gK) (F : Nat)  (l0 : Option Nat) (s : gS) : Option ((Unit ⊕ String) × gS) :=
  gB1 (gfR s l0 7 6) fun v1 =>
  if v1 = none then
    f_X3_requireDraft_12 κ F  (0 : Int32) s
  else
    f_X3_requireDraft_12 κ F  (1 : Int32) s
set_option maxHeartbeats 4000000 in
theorem w_X3_requireDraft_0 {E : gE} {F z0 n0 : Nat} {r : (Unit ⊕ String)} {s' : gS}   : ∀ (l0 : Option Nat)  (s : gS), f_X3_requireDraft_0 (gk E) F  l0 s = some (r, s') → W_X3_requireDraft E z0 n0 r s' 0 [(0, vR l0)] [] s := by
  intro l0 s hB
  unfold f_X3_requireDraft_0 at hB
  refine gw_aload_n 0 rfl dX3_requireDraft_0 ?_
  obtain ⟨v1, hv1, hB⟩ := gB1_some hB
  refine gw_getf (C := RX3) (T := TX3) (N := 9) (k := 6) gcl7 (by decide) in_X3 q289 (gfR_spec hv1) dX3_requireDraft_1 ?_
  refine gw_ifnull (tgt := 11) dX3_requireDraft_4 (by decide) (fun hcnd => ?_) (fun hcnd => ?_)
  · rw [if_pos hcnd] at hB
    refine gw_iconst (v := (0 : Int32)) (by decide) dX3_requireDraft_11 ?_
    exact gw_sub [] rfl (w_X3_requireDraft_12  _ _ hB)
  · rw [if_neg hcnd] at hB
    refine gw_iconst (v := (1 : Int32)) (by decide) dX3_requireDraft_7 ?_
    refine gw_goto (tgt := 12) dX3_requireDraft_8 (by decide) ?_
    exact gw_sub [] rfl (w_X3_requireDraft_12  _ _ hB)
noncomputable def f_X3_requireDraft (κ : gK) (F : Nat) (a0 : Option Nat) (s : gS) : Option ((Unit ⊕ String) × gS) := f_X3_requireDraft_0 κ F a0 s
theorem m_X3_requireDraft {E : gE} {F : Nat} (a0 : Option Nat) (s : gS) (r : (Unit ⊕ String)) (s' : gS) (h : f_X3_requireDraft (gk E) F a0 s = some (r, s')) : gCT E 10 yX3_requireDraft (ws_ yX3_requireDraft cX3_requireDraft 1 none) [vR a0] s (gOv r) s' := by
  refine gCT_of2 (fun h => absurd h (by decide)) (plainFor_of_name (by decide)) (Nat.le_of_ble_eq_true rfl) ?_
  exact gw_sub [0] rfl (w_X3_requireDraft_0 _ _ h)
def dkwJ2_afterNodeRemoval_2 : List UInt8 := [199, 0, 11, 42, 45, 181, 0, 11, 167, 0, 9, 25, 4, 45, 181, 0, 19, 177]
abbrev dktJ2_afterNodeRemoval_2 : List UInt8 := dkwJ2_afterNodeRemoval_2 ++ []
def dkwJ2_afterNodeRemoval_1 : List UInt8 := [181, 0, 19, 45, 199, 0, 12, 42, 25, 4, 181, 0, 7, 167, 0, 9, 45, 25, 4, 181, 0, 14, 25, 4]
abbrev dktJ2_afterNodeRemoval_1 : List UInt8 := dkwJ2_afterNodeRemoval_1 ++ dktJ2_afterNodeRemoval_2
def dkwJ2_afterNodeRemoval_0 : List UInt8 := [43, 192, 0, 15, 77, 44, 180, 0, 19, 78, 44, 180, 0, 14, 58, 4, 44, 44, 1, 90, 181, 0, 14]
abbrev dktJ2_afterNodeRemoval_0 : List UInt8 := dkwJ2_afterNodeRemoval_0 ++ dktJ2_afterNodeRemoval_1
theorem dksJ2_afterNodeRemoval_0 : cJ2_afterNodeRemoval.data.toList.drop 0 = dktJ2_afterNodeRemoval_0 := by decide +kernel
theorem dksJ2_afterNodeRemoval_1 : cJ2_afterNodeRemoval.data.toList.drop 23 = dktJ2_afterNodeRemoval_1 := dk_seg dksJ2_afterNodeRemoval_0 23 rfl rfl
theorem dksJ2_afterNodeRemoval_2 : cJ2_afterNodeRemoval.data.toList.drop 47 = dktJ2_afterNodeRemoval_2 := dk_seg dksJ2_afterNodeRemoval_1 24 rfl rfl
theorem dJ2_afterNodeRemoval_0 : decode cJ2_afterNodeRemoval 0 = .ok (.aload_n 1, 1) := dk_43 (dk_at dksJ2_afterNodeRemoval_0 0 rfl rfl)
theorem dJ2_afterNodeRemoval_1 : decode cJ2_afterNodeRemoval 1 = .ok (.checkcast 15, 3) := dk_192 0 15 (dk_at dksJ2_afterNodeRemoval_0 1 rfl rfl)
theorem dJ2_afterNodeRemoval_4 : decode cJ2_afterNodeRemoval 4 = .ok (.astore_n 2, 1) := dk_77 (dk_at dksJ2_afterNodeRemoval_0 4 rfl rfl)
theorem dJ2_afterNodeRemoval_5 : decode cJ2_afterNodeRemoval 5 = .ok (.aload_n 2, 1) := dk_44 (dk_at dksJ2_afterNodeRemoval_0 5 rfl rfl)
theorem dJ2_afterNodeRemoval_6 : decode cJ2_afterNodeRemoval 6 = .ok (.getfield 19, 3) := dk_180 0 19 (dk_at dksJ2_afterNodeRemoval_0 6 rfl rfl)
theorem dJ2_afterNodeRemoval_9 : decode cJ2_afterNodeRemoval 9 = .ok (.astore_n 3, 1) := dk_78 (dk_at dksJ2_afterNodeRemoval_0 9 rfl rfl)
theorem dJ2_afterNodeRemoval_10 : decode cJ2_afterNodeRemoval 10 = .ok (.aload_n 2, 1) := dk_44 (dk_at dksJ2_afterNodeRemoval_0 10 rfl rfl)
theorem dJ2_afterNodeRemoval_11 : decode cJ2_afterNodeRemoval 11 = .ok (.getfield 14, 3) := dk_180 0 14 (dk_at dksJ2_afterNodeRemoval_0 11 rfl rfl)
theorem dJ2_afterNodeRemoval_14 : decode cJ2_afterNodeRemoval 14 = .ok (.astore 4, 2) := dk_58 4 (dk_at dksJ2_afterNodeRemoval_0 14 rfl rfl)
theorem dJ2_afterNodeRemoval_16 : decode cJ2_afterNodeRemoval 16 = .ok (.aload_n 2, 1) := dk_44 (dk_at dksJ2_afterNodeRemoval_0 16 rfl rfl)
theorem dJ2_afterNodeRemoval_17 : decode cJ2_afterNodeRemoval 17 = .ok (.aload_n 2, 1) := dk_44 (dk_at dksJ2_afterNodeRemoval_0 17 rfl rfl)
theorem dJ2_afterNodeRemoval_18 : decode cJ2_afterNodeRemoval 18 = .ok (.aconst_null, 1) := dk_1 (dk_at dksJ2_afterNodeRemoval_0 18 rfl rfl)
theorem dJ2_afterNodeRemoval_19 : decode cJ2_afterNodeRemoval 19 = .ok (.dup_x1, 1) := dk_90 (dk_at dksJ2_afterNodeRemoval_0 19 rfl rfl)
theorem dJ2_afterNodeRemoval_20 : decode cJ2_afterNodeRemoval 20 = .ok (.putfield 14, 3) := dk_181 0 14 (dk_at dksJ2_afterNodeRemoval_0 20 rfl rfl)
theorem dJ2_afterNodeRemoval_23 : decode cJ2_afterNodeRemoval 23 = .ok (.putfield 19, 3) := dk_181 0 19 (dk_at dksJ2_afterNodeRemoval_1 0 rfl rfl)
theorem dJ2_afterNodeRemoval_26 : decode cJ2_afterNodeRemoval 26 = .ok (.aload_n 3, 1) := dk_45 (dk_at dksJ2_afterNodeRemoval_1 3 rfl rfl)
theorem dJ2_afterNodeRemoval_27 : decode cJ2_afterNodeRemoval 27 = .ok (.ifnonnull 12, 3) := dk_199 0 12 (dk_at dksJ2_afterNodeRemoval_1 4 rfl rfl)
theorem dJ2_afterNodeRemoval_30 : decode cJ2_afterNodeRemoval 30 = .ok (.aload_n 0, 1) := dk_42 (dk_at dksJ2_afterNodeRemoval_1 7 rfl rfl)
theorem dJ2_afterNodeRemoval_31 : decode cJ2_afterNodeRemoval 31 = .ok (.aload 4, 2) := dk_25 4 (dk_at dksJ2_afterNodeRemoval_1 8 rfl rfl)
theorem dJ2_afterNodeRemoval_33 : decode cJ2_afterNodeRemoval 33 = .ok (.putfield 7, 3) := dk_181 0 7 (dk_at dksJ2_afterNodeRemoval_1 10 rfl rfl)
theorem dJ2_afterNodeRemoval_36 : decode cJ2_afterNodeRemoval 36 = .ok (.goto 9, 3) := dk_167 0 9 (dk_at dksJ2_afterNodeRemoval_1 13 rfl rfl)
theorem dJ2_afterNodeRemoval_39 : decode cJ2_afterNodeRemoval 39 = .ok (.aload_n 3, 1) := dk_45 (dk_at dksJ2_afterNodeRemoval_1 16 rfl rfl)
theorem dJ2_afterNodeRemoval_40 : decode cJ2_afterNodeRemoval 40 = .ok (.aload 4, 2) := dk_25 4 (dk_at dksJ2_afterNodeRemoval_1 17 rfl rfl)
theorem dJ2_afterNodeRemoval_42 : decode cJ2_afterNodeRemoval 42 = .ok (.putfield 14, 3) := dk_181 0 14 (dk_at dksJ2_afterNodeRemoval_1 19 rfl rfl)
theorem dJ2_afterNodeRemoval_45 : decode cJ2_afterNodeRemoval 45 = .ok (.aload 4, 2) := dk_25 4 (dk_at dksJ2_afterNodeRemoval_1 22 rfl rfl)
theorem dJ2_afterNodeRemoval_47 : decode cJ2_afterNodeRemoval 47 = .ok (.ifnonnull 11, 3) := dk_199 0 11 (dk_at dksJ2_afterNodeRemoval_2 0 rfl rfl)
theorem dJ2_afterNodeRemoval_50 : decode cJ2_afterNodeRemoval 50 = .ok (.aload_n 0, 1) := dk_42 (dk_at dksJ2_afterNodeRemoval_2 3 rfl rfl)
theorem dJ2_afterNodeRemoval_51 : decode cJ2_afterNodeRemoval 51 = .ok (.aload_n 3, 1) := dk_45 (dk_at dksJ2_afterNodeRemoval_2 4 rfl rfl)
theorem dJ2_afterNodeRemoval_52 : decode cJ2_afterNodeRemoval 52 = .ok (.putfield 11, 3) := dk_181 0 11 (dk_at dksJ2_afterNodeRemoval_2 5 rfl rfl)
theorem dJ2_afterNodeRemoval_55 : decode cJ2_afterNodeRemoval 55 = .ok (.goto 9, 3) := dk_167 0 9 (dk_at dksJ2_afterNodeRemoval_2 8 rfl rfl)
theorem dJ2_afterNodeRemoval_58 : decode cJ2_afterNodeRemoval 58 = .ok (.aload 4, 2) := dk_25 4 (dk_at dksJ2_afterNodeRemoval_2 11 rfl rfl)
theorem dJ2_afterNodeRemoval_60 : decode cJ2_afterNodeRemoval 60 = .ok (.aload_n 3, 1) := dk_45 (dk_at dksJ2_afterNodeRemoval_2 13 rfl rfl)
theorem dJ2_afterNodeRemoval_61 : decode cJ2_afterNodeRemoval 61 = .ok (.putfield 19, 3) := dk_181 0 19 (dk_at dksJ2_afterNodeRemoval_2 14 rfl rfl)
theorem dJ2_afterNodeRemoval_64 : decode cJ2_afterNodeRemoval 64 = .ok (.return_, 1) := dk_177 (dk_at dksJ2_afterNodeRemoval_2 17 rfl rfl)
/-! java/util/LinkedHashMap.afterNodeRemoval(Ljava/util/HashMap$Node;)V -/
abbrev M_J2_afterNodeRemoval (z0 n0 : Nat) (s' : gS) : gM := (RJ2, cJ2_afterNodeRemoval, 5, none, "afterNodeRemoval", [], 1, z0, n0, s'.2.1, s'.2.2)
abbrev W_J2_afterNodeRemoval (E : gE) (z0 n0 : Nat) (r : Unit) (s' : gS) (pc : Nat) (L : List (Nat × gV)) (st : List gV) (s : gS) : Prop := gW E (M_J2_afterNodeRemoval z0 n0 s') (gQm E (M_J2_afterNodeRemoval z0 n0 s') (.inl none) s') pc L st s
noncomputable def f_J2_afterNodeRemoval_64 (κ : gK) (F : Nat)   (s : gS) : Option (Unit × gS) :=
  some ((), s)
set_option maxHeartbeats 4000000 in
theorem w_J2_afterNodeRemoval_64 {E : gE} {F z0 n0 : Nat} {r : Unit} {s' : gS}   : ∀   (s : gS), f_J2_afterNodeRemoval_64 (gk E) F   s = some (r, s') → W_J2_afterNodeRemoval E z0 n0 r s' 64 [] [] s := by
  intro  s hB
  unfold f_J2_afterNodeRemoval_64 at hB
  obtain ⟨rfl, rfl⟩ := Prod.mk.inj (Option.some.inj hB)
  exact gw_vret rfl rfl rfl dJ2_afterNodeRemoval_64
noncomputable def f_J2_afterNodeRemoval_45 (κ : gK) (F : Nat)  (l0 : Option Nat) (l3 : Option Nat) (l4 : Option Nat) (s : gS) : Option (Unit × gS) :=
  if l4 = none then
    gB1 (gpf κ s l0 10 9 (va_rf l3)) fun s2 =>
    f_J2_afterNodeRemoval_64 κ F  s2
  else
    gB1 (gpf κ s l4 11 4 (va_rf l3)) fun s1 =>
    f_J2_afterNodeRemoval_64 κ F  s1
set_option maxHeartbeats 4000000 in
theorem w_J2_afterNodeRemoval_45 {E : gE} {F z0 n0 : Nat} {r : Unit} {s' : gS}   : ∀ (l0 : Option Nat) (l3 : Option Nat) (l4 : Option Nat)  (s : gS), f_J2_afterNodeRemoval_45 (gk E) F  l0 l3 l4 s = some (r, s') → W_J2_afterNodeRemoval E z0 n0 r s' 45 [(0, vR l0), (3, vR l3), (4, vR l4)] [] s := by
  intro l0 l3 l4 s hB
  unfold f_J2_afterNodeRemoval_45 at hB
  refine gw_aload 2 rfl dJ2_afterNodeRemoval_45 ?_
  refine gw_ifnonnull (tgt := 58) dJ2_afterNodeRemoval_47 (by decide) (fun hcnd => ?_) (fun hcnd => ?_)
  · rw [if_neg hcnd] at hB
    refine gw_aload 2 rfl dJ2_afterNodeRemoval_58 ?_
    refine gw_aload_n 1 rfl dJ2_afterNodeRemoval_60 ?_
    obtain ⟨s1, hs1, hB⟩ := gB1_some hB
    refine gw_putf (C := RJ19) (T := TJ19) (N := 6) (k := 4) tyJ19 tyJ19_ok nmJ19 gcl11 (by decide) in_J19 q794 rfl (tyJ19_ok 4 (by decide)) (gNF_o _ _) hs1 dJ2_afterNodeRemoval_61 ?_
    exact gw_sub [] rfl (w_J2_afterNodeRemoval_64   _ hB)
  · rw [if_pos hcnd] at hB
    refine gw_aload_n 0 rfl dJ2_afterNodeRemoval_50 ?_
    refine gw_aload_n 1 rfl dJ2_afterNodeRemoval_51 ?_
    obtain ⟨s2, hs2, hB⟩ := gB1_some hB
    refine gw_putf (C := RJ2) (T := TJ2) (N := 12) (k := 9) tyJ2 tyJ2_ok nmJ2 gcl10 (by decide) in_J2 q232 rfl (tyJ2_ok 9 (by decide)) (gNF_o _ _) hs2 dJ2_afterNodeRemoval_52 ?_
    refine gw_goto (tgt := 64) dJ2_afterNodeRemoval_55 (by decide) ?_
    exact gw_sub [] rfl (w_J2_afterNodeRemoval_64   _ hB)
noncomputable def f_J2_afterNodeRemoval_0 (κ : gK) (F : Nat)  (l0 : Option Nat) (l1 : Option Nat) (s : gS) : Option (Unit × gS) :=
  gB1 (gcc s l1 11) fun _ =>
  gB1 (gfR s l1 11 4) fun v2 =>
  gB1 (gfR s l1 11 5) fun v3 =>
  gB1 (gpf κ s l1 11 5 (va_rf none)) fun s4 =>
  gB1 (gpf κ s4 l1 11 4 (va_rf none)) fun s5 =>
  if v2 = none then
    gB1 (gpf κ s5 l0 10 8 (va_rf v3)) fun s7 =>
    f_J2_afterNodeRemoval_45 κ F  l0 v2 v3 s7
  else
    gB1 (gpf κ s5 v2 11 5 (va_rf v3)) fun s6 =>
    f_J2_afterNodeRemoval_45 κ F  l0 v2 v3 s6
set_option maxHeartbeats 4000000 in
theorem w_J2_afterNodeRemoval_0 {E : gE} {F z0 n0 : Nat} {r : Unit} {s' : gS}   : ∀ (l0 : Option Nat) (l1 : Option Nat)  (s : gS), f_J2_afterNodeRemoval_0 (gk E) F  l0 l1 s = some (r, s') → W_J2_afterNodeRemoval E z0 n0 r s' 0 [(0, vR l0), (1, vR l1)] [] s := by
  intro l0 l1 s hB
  unfold f_J2_afterNodeRemoval_0 at hB
  refine gw_aload_n 1 rfl dJ2_afterNodeRemoval_0 ?_
  obtain ⟨u0, hu1, hB⟩ := gB1_some hB
  refine gw_cast (C := RJ19) gcl11 hu1 q785 (Or.inl rfl) dJ2_afterNodeRemoval_1 ?_
  refine gw_astore_n (L' := [(2, vR l1), (0, vR l0), (1, vR l1)]) (Nat.le_of_ble_eq_true rfl) rfl dJ2_afterNodeRemoval_4 ?_
  refine gw_aload_n 0 rfl dJ2_afterNodeRemoval_5 ?_
  obtain ⟨v2, hv2, hB⟩ := gB1_some hB
  refine gw_getf (C := RJ19) (T := TJ19) (N := 6) (k := 4) gcl11 (by decide) in_J19 q794 (gfR_spec hv2) dJ2_afterNodeRemoval_6 ?_
  refine gw_astore_n (L' := [(3, vR v2), (2, vR l1), (0, vR l0), (1, vR l1)]) (Nat.le_of_ble_eq_true rfl) rfl dJ2_afterNodeRemoval_9 ?_
  refine gw_aload_n 1 rfl dJ2_afterNodeRemoval_10 ?_
  obtain ⟨v3, hv3, hB⟩ := gB1_some hB
  refine gw_getf (C := RJ19) (T := TJ19) (N := 6) (k := 5) gcl11 (by decide) in_J19 q796 (gfR_spec hv3) dJ2_afterNodeRemoval_11 ?_
  refine gw_astore (L' := [(4, vR v3), (3, vR v2), (2, vR l1), (0, vR l0), (1, vR l1)]) (Nat.le_of_ble_eq_true rfl) rfl dJ2_afterNodeRemoval_14 ?_
  refine gw_aload_n 2 rfl dJ2_afterNodeRemoval_16 ?_
  refine gw_aload_n 2 rfl dJ2_afterNodeRemoval_17 ?_
  refine gw_null dJ2_afterNodeRemoval_18 ?_
  refine gw_dup_x1 rfl rfl dJ2_afterNodeRemoval_19 ?_
  obtain ⟨s4, hs4, hB⟩ := gB1_some hB
  refine gw_putf (C := RJ19) (T := TJ19) (N := 6) (k := 5) tyJ19 tyJ19_ok nmJ19 gcl11 (by decide) in_J19 q796 rfl (tyJ19_ok 5 (by decide)) (gNF_o _ _) hs4 dJ2_afterNodeRemoval_20 ?_
  obtain ⟨s5, hs5, hB⟩ := gB1_some hB
  refine gw_putf (C := RJ19) (T := TJ19) (N := 6) (k := 4) tyJ19 tyJ19_ok nmJ19 gcl11 (by decide) in_J19 q794 rfl (tyJ19_ok 4 (by decide)) (gNF_o _ _) hs5 dJ2_afterNodeRemoval_23 ?_
  refine gw_aload_n 1 rfl dJ2_afterNodeRemoval_26 ?_
  refine gw_ifnonnull (tgt := 39) dJ2_afterNodeRemoval_27 (by decide) (fun hcnd => ?_) (fun hcnd => ?_)
  · rw [if_neg hcnd] at hB
    refine gw_aload_n 1 rfl dJ2_afterNodeRemoval_39 ?_
    refine gw_aload 0 rfl dJ2_afterNodeRemoval_40 ?_
    obtain ⟨s6, hs6, hB⟩ := gB1_some hB
    refine gw_putf (C := RJ19) (T := TJ19) (N := 6) (k := 5) tyJ19 tyJ19_ok nmJ19 gcl11 (by decide) in_J19 q796 rfl (tyJ19_ok 5 (by decide)) (gNF_o _ _) hs6 dJ2_afterNodeRemoval_42 ?_
    exact gw_sub [3, 1, 0] rfl (w_J2_afterNodeRemoval_45  _ _ _ _ hB)
  · rw [if_pos hcnd] at hB
    refine gw_aload_n 3 rfl dJ2_afterNodeRemoval_30 ?_
    refine gw_aload 0 rfl dJ2_afterNodeRemoval_31 ?_
    obtain ⟨s7, hs7, hB⟩ := gB1_some hB
    refine gw_putf (C := RJ2) (T := TJ2) (N := 12) (k := 8) tyJ2 tyJ2_ok nmJ2 gcl10 (by decide) in_J2 q229 rfl (tyJ2_ok 8 (by decide)) (gNF_o _ _) hs7 dJ2_afterNodeRemoval_33 ?_
    refine gw_goto (tgt := 45) dJ2_afterNodeRemoval_36 (by decide) ?_
    exact gw_sub [3, 1, 0] rfl (w_J2_afterNodeRemoval_45  _ _ _ _ hB)
noncomputable def f_J2_afterNodeRemoval (κ : gK) (F : Nat) (a0 : Option Nat) (a1 : Option Nat) (s : gS) : Option (Unit × gS) := f_J2_afterNodeRemoval_0 κ F a0 a1 s
theorem m_J2_afterNodeRemoval {E : gE} {F : Nat} (a0 : Option Nat) (a1 : Option Nat) (s : gS) (r : Unit) (s' : gS) (h : f_J2_afterNodeRemoval (gk E) F a0 a1 s = some (r, s')) : gCT E 1 yJ2_afterNodeRemoval (ws_ yJ2_afterNodeRemoval cJ2_afterNodeRemoval 5 none) [vR a0, vR a1] s (.inl none) s' := by
  refine gCT_of2 (fun h => absurd h (by decide)) (plainFor_of_name (by decide)) (Nat.le_of_ble_eq_true rfl) ?_
  exact gw_sub [0, 1] rfl (w_J2_afterNodeRemoval_0 _ _ _ h)
def dkwJ1_removeNode_12 : List UInt8 := [181, 0, 156, 42, 25, 10, 182, 0, 236, 25, 10, 176, 1, 176]
abbrev dktJ1_removeNode_12 : List UInt8 := dkwJ1_removeNode_12 ++ []
def dkwJ1_removeNode_11 : List UInt8 := [180, 0, 177, 181, 0, 177, 42, 89, 180, 0, 202, 4, 96, 181, 0, 202, 42, 89, 180, 0, 156, 4, 100]
abbrev dktJ1_removeNode_11 : List UInt8 := dkwJ1_removeNode_11 ++ dktJ1_removeNode_12
def dkwJ1_removeNode_10 : List UInt8 := [25, 10, 25, 7, 166, 0, 16, 25, 6, 21, 9, 25, 10, 180, 0, 177, 83, 167, 0, 13, 25, 7, 25, 10]
abbrev dktJ1_removeNode_10 : List UInt8 := dkwJ1_removeNode_10 ++ dktJ1_removeNode_11
def dkwJ1_removeNode_9 : List UInt8 := [25, 10, 193, 0, 180, 153, 0, 19, 25, 10, 192, 0, 180, 42, 25, 6, 21, 5, 182, 0, 232, 167, 0, 33]
abbrev dktJ1_removeNode_9 : List UInt8 := dkwJ1_removeNode_9 ++ dktJ1_removeNode_10
def dkwJ1_removeNode_8 : List UInt8 := [180, 0, 162, 89, 58, 13, 45, 165, 0, 16, 45, 198, 0, 95, 45, 25, 13, 182, 0, 173, 153, 0, 86]
abbrev dktJ1_removeNode_8 : List UInt8 := dkwJ1_removeNode_8 ++ dktJ1_removeNode_9
def dkwJ1_removeNode_7 : List UInt8 := [25, 11, 180, 0, 177, 89, 58, 11, 199, 255, 203, 25, 10, 198, 0, 116, 21, 4, 153, 0, 28, 25, 10]
abbrev dktJ1_removeNode_7 : List UInt8 := dkwJ1_removeNode_7 ++ dktJ1_removeNode_8
def dkwJ1_removeNode_6 : List UInt8 := [198, 0, 19, 44, 25, 12, 182, 0, 173, 153, 0, 10, 25, 11, 58, 10, 167, 0, 18, 25, 11, 58, 7]
abbrev dktJ1_removeNode_6 : List UInt8 := dkwJ1_removeNode_6 ++ dktJ1_removeNode_7
def dkwJ1_removeNode_5 : List UInt8 := [25, 11, 180, 0, 168, 27, 160, 0, 35, 25, 11, 180, 0, 170, 89, 58, 12, 44, 165, 0, 16, 44]
abbrev dktJ1_removeNode_5 : List UInt8 := dkwJ1_removeNode_5 ++ dktJ1_removeNode_6
def dkwJ1_removeNode_4 : List UInt8 := [25, 7, 193, 0, 180, 153, 0, 18, 25, 7, 192, 0, 180, 27, 44, 182, 0, 182, 58, 10, 167, 0, 59]
abbrev dktJ1_removeNode_4 : List UInt8 := dkwJ1_removeNode_4 ++ dktJ1_removeNode_5
def dkwJ1_removeNode_3 : List UInt8 := [182, 0, 173, 153, 0, 10, 25, 7, 58, 10, 167, 0, 93, 25, 7, 180, 0, 177, 89, 58, 11, 198, 0, 82]
abbrev dktJ1_removeNode_3 : List UInt8 := dkwJ1_removeNode_3 ++ dktJ1_removeNode_4
def dkwJ1_removeNode_2 : List UInt8 := [160, 0, 35, 25, 7, 180, 0, 170, 89, 58, 12, 44, 165, 0, 16, 44, 198, 0, 19, 44, 25, 12]
abbrev dktJ1_removeNode_2 : List UInt8 := dkwJ1_removeNode_2 ++ dktJ1_removeNode_3
def dkwJ1_removeNode_1 : List UInt8 := [100, 27, 126, 89, 54, 9, 50, 89, 58, 7, 198, 0, 255, 1, 58, 10, 25, 7, 180, 0, 168, 27]
abbrev dktJ1_removeNode_1 : List UInt8 := dkwJ1_removeNode_1 ++ dktJ1_removeNode_2
def dkwJ1_removeNode_0 : List UInt8 := [42, 180, 0, 105, 89, 58, 6, 198, 1, 26, 25, 6, 190, 89, 54, 8, 158, 1, 17, 25, 6, 21, 8, 4]
abbrev dktJ1_removeNode_0 : List UInt8 := dkwJ1_removeNode_0 ++ dktJ1_removeNode_1
theorem dksJ1_removeNode_0 : cJ1_removeNode.data.toList.drop 0 = dktJ1_removeNode_0 := by decide +kernel
theorem dksJ1_removeNode_1 : cJ1_removeNode.data.toList.drop 24 = dktJ1_removeNode_1 := dk_seg dksJ1_removeNode_0 24 rfl rfl
theorem dksJ1_removeNode_2 : cJ1_removeNode.data.toList.drop 46 = dktJ1_removeNode_2 := dk_seg dksJ1_removeNode_1 22 rfl rfl
theorem dksJ1_removeNode_3 : cJ1_removeNode.data.toList.drop 68 = dktJ1_removeNode_3 := dk_seg dksJ1_removeNode_2 22 rfl rfl
theorem dksJ1_removeNode_4 : cJ1_removeNode.data.toList.drop 92 = dktJ1_removeNode_4 := dk_seg dksJ1_removeNode_3 24 rfl rfl
theorem dksJ1_removeNode_5 : cJ1_removeNode.data.toList.drop 115 = dktJ1_removeNode_5 := dk_seg dksJ1_removeNode_4 23 rfl rfl
theorem dksJ1_removeNode_6 : cJ1_removeNode.data.toList.drop 137 = dktJ1_removeNode_6 := dk_seg dksJ1_removeNode_5 22 rfl rfl
theorem dksJ1_removeNode_7 : cJ1_removeNode.data.toList.drop 160 = dktJ1_removeNode_7 := dk_seg dksJ1_removeNode_6 23 rfl rfl
theorem dksJ1_removeNode_8 : cJ1_removeNode.data.toList.drop 183 = dktJ1_removeNode_8 := dk_seg dksJ1_removeNode_7 23 rfl rfl
theorem dksJ1_removeNode_9 : cJ1_removeNode.data.toList.drop 206 = dktJ1_removeNode_9 := dk_seg dksJ1_removeNode_8 23 rfl rfl
theorem dksJ1_removeNode_10 : cJ1_removeNode.data.toList.drop 230 = dktJ1_removeNode_10 := dk_seg dksJ1_removeNode_9 24 rfl rfl
theorem dksJ1_removeNode_11 : cJ1_removeNode.data.toList.drop 254 = dktJ1_removeNode_11 := dk_seg dksJ1_removeNode_10 24 rfl rfl
theorem dksJ1_removeNode_12 : cJ1_removeNode.data.toList.drop 277 = dktJ1_removeNode_12 := dk_seg dksJ1_removeNode_11 23 rfl rfl
theorem dJ1_removeNode_0 : decode cJ1_removeNode 0 = .ok (.aload_n 0, 1) := dk_42 (dk_at dksJ1_removeNode_0 0 rfl rfl)
theorem dJ1_removeNode_1 : decode cJ1_removeNode 1 = .ok (.getfield 105, 3) := dk_180 0 105 (dk_at dksJ1_removeNode_0 1 rfl rfl)
theorem dJ1_removeNode_4 : decode cJ1_removeNode 4 = .ok (.dup, 1) := dk_89 (dk_at dksJ1_removeNode_0 4 rfl rfl)
theorem dJ1_removeNode_5 : decode cJ1_removeNode 5 = .ok (.astore 6, 2) := dk_58 6 (dk_at dksJ1_removeNode_0 5 rfl rfl)
theorem dJ1_removeNode_7 : decode cJ1_removeNode 7 = .ok (.ifnull 282, 3) := dk_198 1 26 (dk_at dksJ1_removeNode_0 7 rfl rfl)
theorem dJ1_removeNode_10 : decode cJ1_removeNode 10 = .ok (.aload 6, 2) := dk_25 6 (dk_at dksJ1_removeNode_0 10 rfl rfl)
theorem dJ1_removeNode_12 : decode cJ1_removeNode 12 = .ok (.arraylength, 1) := dk_190 (dk_at dksJ1_removeNode_0 12 rfl rfl)
theorem dJ1_removeNode_13 : decode cJ1_removeNode 13 = .ok (.dup, 1) := dk_89 (dk_at dksJ1_removeNode_0 13 rfl rfl)
theorem dJ1_removeNode_14 : decode cJ1_removeNode 14 = .ok (.istore 8, 2) := dk_54 8 (dk_at dksJ1_removeNode_0 14 rfl rfl)
theorem dJ1_removeNode_16 : decode cJ1_removeNode 16 = .ok (.ifCond .le 273, 3) := dk_158 1 17 (dk_at dksJ1_removeNode_0 16 rfl rfl)
theorem dJ1_removeNode_19 : decode cJ1_removeNode 19 = .ok (.aload 6, 2) := dk_25 6 (dk_at dksJ1_removeNode_0 19 rfl rfl)
theorem dJ1_removeNode_21 : decode cJ1_removeNode 21 = .ok (.iload 8, 2) := dk_21 8 (dk_at dksJ1_removeNode_0 21 rfl rfl)
theorem dJ1_removeNode_23 : decode cJ1_removeNode 23 = .ok (.iconst 1, 1) := dk_4 (dk_at dksJ1_removeNode_0 23 rfl rfl)
theorem dJ1_removeNode_24 : decode cJ1_removeNode 24 = .ok (.isub, 1) := dk_100 (dk_at dksJ1_removeNode_1 0 rfl rfl)
theorem dJ1_removeNode_25 : decode cJ1_removeNode 25 = .ok (.iload_n 1, 1) := dk_27 (dk_at dksJ1_removeNode_1 1 rfl rfl)
theorem dJ1_removeNode_26 : decode cJ1_removeNode 26 = .ok (.iand, 1) := dk_126 (dk_at dksJ1_removeNode_1 2 rfl rfl)
theorem dJ1_removeNode_27 : decode cJ1_removeNode 27 = .ok (.dup, 1) := dk_89 (dk_at dksJ1_removeNode_1 3 rfl rfl)
theorem dJ1_removeNode_28 : decode cJ1_removeNode 28 = .ok (.istore 9, 2) := dk_54 9 (dk_at dksJ1_removeNode_1 4 rfl rfl)
theorem dJ1_removeNode_30 : decode cJ1_removeNode 30 = .ok (.aaload, 1) := dk_50 (dk_at dksJ1_removeNode_1 6 rfl rfl)
theorem dJ1_removeNode_31 : decode cJ1_removeNode 31 = .ok (.dup, 1) := dk_89 (dk_at dksJ1_removeNode_1 7 rfl rfl)
theorem dJ1_removeNode_32 : decode cJ1_removeNode 32 = .ok (.astore 7, 2) := dk_58 7 (dk_at dksJ1_removeNode_1 8 rfl rfl)
theorem dJ1_removeNode_34 : decode cJ1_removeNode 34 = .ok (.ifnull 255, 3) := dk_198 0 255 (dk_at dksJ1_removeNode_1 10 rfl rfl)
theorem dJ1_removeNode_37 : decode cJ1_removeNode 37 = .ok (.aconst_null, 1) := dk_1 (dk_at dksJ1_removeNode_1 13 rfl rfl)
theorem dJ1_removeNode_38 : decode cJ1_removeNode 38 = .ok (.astore 10, 2) := dk_58 10 (dk_at dksJ1_removeNode_1 14 rfl rfl)
theorem dJ1_removeNode_40 : decode cJ1_removeNode 40 = .ok (.aload 7, 2) := dk_25 7 (dk_at dksJ1_removeNode_1 16 rfl rfl)
theorem dJ1_removeNode_42 : decode cJ1_removeNode 42 = .ok (.getfield 168, 3) := dk_180 0 168 (dk_at dksJ1_removeNode_1 18 rfl rfl)
theorem dJ1_removeNode_45 : decode cJ1_removeNode 45 = .ok (.iload_n 1, 1) := dk_27 (dk_at dksJ1_removeNode_1 21 rfl rfl)
theorem dJ1_removeNode_46 : decode cJ1_removeNode 46 = .ok (.if_icmp .ne 35, 3) := dk_160 0 35 (dk_at dksJ1_removeNode_2 0 rfl rfl)
theorem dJ1_removeNode_49 : decode cJ1_removeNode 49 = .ok (.aload 7, 2) := dk_25 7 (dk_at dksJ1_removeNode_2 3 rfl rfl)
theorem dJ1_removeNode_51 : decode cJ1_removeNode 51 = .ok (.getfield 170, 3) := dk_180 0 170 (dk_at dksJ1_removeNode_2 5 rfl rfl)
theorem dJ1_removeNode_54 : decode cJ1_removeNode 54 = .ok (.dup, 1) := dk_89 (dk_at dksJ1_removeNode_2 8 rfl rfl)
theorem dJ1_removeNode_55 : decode cJ1_removeNode 55 = .ok (.astore 12, 2) := dk_58 12 (dk_at dksJ1_removeNode_2 9 rfl rfl)
theorem dJ1_removeNode_57 : decode cJ1_removeNode 57 = .ok (.aload_n 2, 1) := dk_44 (dk_at dksJ1_removeNode_2 11 rfl rfl)
theorem dJ1_removeNode_58 : decode cJ1_removeNode 58 = .ok (.if_acmp .eq 16, 3) := dk_165 0 16 (dk_at dksJ1_removeNode_2 12 rfl rfl)
theorem dJ1_removeNode_61 : decode cJ1_removeNode 61 = .ok (.aload_n 2, 1) := dk_44 (dk_at dksJ1_removeNode_2 15 rfl rfl)
theorem dJ1_removeNode_62 : decode cJ1_removeNode 62 = .ok (.ifnull 19, 3) := dk_198 0 19 (dk_at dksJ1_removeNode_2 16 rfl rfl)
theorem dJ1_removeNode_65 : decode cJ1_removeNode 65 = .ok (.aload_n 2, 1) := dk_44 (dk_at dksJ1_removeNode_2 19 rfl rfl)
theorem dJ1_removeNode_66 : decode cJ1_removeNode 66 = .ok (.aload 12, 2) := dk_25 12 (dk_at dksJ1_removeNode_2 20 rfl rfl)
theorem dJ1_removeNode_68 : decode cJ1_removeNode 68 = .ok (.invokevirtual 173, 3) := dk_182 0 173 (dk_at dksJ1_removeNode_3 0 rfl rfl)
theorem dJ1_removeNode_71 : decode cJ1_removeNode 71 = .ok (.ifCond .eq 10, 3) := dk_153 0 10 (dk_at dksJ1_removeNode_3 3 rfl rfl)
theorem dJ1_removeNode_74 : decode cJ1_removeNode 74 = .ok (.aload 7, 2) := dk_25 7 (dk_at dksJ1_removeNode_3 6 rfl rfl)
theorem dJ1_removeNode_76 : decode cJ1_removeNode 76 = .ok (.astore 10, 2) := dk_58 10 (dk_at dksJ1_removeNode_3 8 rfl rfl)
theorem dJ1_removeNode_78 : decode cJ1_removeNode 78 = .ok (.goto 93, 3) := dk_167 0 93 (dk_at dksJ1_removeNode_3 10 rfl rfl)
theorem dJ1_removeNode_81 : decode cJ1_removeNode 81 = .ok (.aload 7, 2) := dk_25 7 (dk_at dksJ1_removeNode_3 13 rfl rfl)
theorem dJ1_removeNode_83 : decode cJ1_removeNode 83 = .ok (.getfield 177, 3) := dk_180 0 177 (dk_at dksJ1_removeNode_3 15 rfl rfl)
theorem dJ1_removeNode_86 : decode cJ1_removeNode 86 = .ok (.dup, 1) := dk_89 (dk_at dksJ1_removeNode_3 18 rfl rfl)
theorem dJ1_removeNode_87 : decode cJ1_removeNode 87 = .ok (.astore 11, 2) := dk_58 11 (dk_at dksJ1_removeNode_3 19 rfl rfl)
theorem dJ1_removeNode_89 : decode cJ1_removeNode 89 = .ok (.ifnull 82, 3) := dk_198 0 82 (dk_at dksJ1_removeNode_3 21 rfl rfl)
theorem dJ1_removeNode_92 : decode cJ1_removeNode 92 = .ok (.aload 7, 2) := dk_25 7 (dk_at dksJ1_removeNode_4 0 rfl rfl)
theorem dJ1_removeNode_94 : decode cJ1_removeNode 94 = .ok (.instanceof 180, 3) := dk_193 0 180 (dk_at dksJ1_removeNode_4 2 rfl rfl)
theorem dJ1_removeNode_97 : decode cJ1_removeNode 97 = .ok (.ifCond .eq 18, 3) := dk_153 0 18 (dk_at dksJ1_removeNode_4 5 rfl rfl)
theorem dJ1_removeNode_100 : decode cJ1_removeNode 100 = .ok (.aload 7, 2) := dk_25 7 (dk_at dksJ1_removeNode_4 8 rfl rfl)
theorem dJ1_removeNode_102 : decode cJ1_removeNode 102 = .ok (.checkcast 180, 3) := dk_192 0 180 (dk_at dksJ1_removeNode_4 10 rfl rfl)
theorem dJ1_removeNode_105 : decode cJ1_removeNode 105 = .ok (.iload_n 1, 1) := dk_27 (dk_at dksJ1_removeNode_4 13 rfl rfl)
theorem dJ1_removeNode_106 : decode cJ1_removeNode 106 = .ok (.aload_n 2, 1) := dk_44 (dk_at dksJ1_removeNode_4 14 rfl rfl)
theorem dJ1_removeNode_107 : decode cJ1_removeNode 107 = .ok (.invokevirtual 182, 3) := dk_182 0 182 (dk_at dksJ1_removeNode_4 15 rfl rfl)
theorem dJ1_removeNode_110 : decode cJ1_removeNode 110 = .ok (.astore 10, 2) := dk_58 10 (dk_at dksJ1_removeNode_4 18 rfl rfl)
theorem dJ1_removeNode_112 : decode cJ1_removeNode 112 = .ok (.goto 59, 3) := dk_167 0 59 (dk_at dksJ1_removeNode_4 20 rfl rfl)
theorem dJ1_removeNode_115 : decode cJ1_removeNode 115 = .ok (.aload 11, 2) := dk_25 11 (dk_at dksJ1_removeNode_5 0 rfl rfl)
theorem dJ1_removeNode_117 : decode cJ1_removeNode 117 = .ok (.getfield 168, 3) := dk_180 0 168 (dk_at dksJ1_removeNode_5 2 rfl rfl)
theorem dJ1_removeNode_120 : decode cJ1_removeNode 120 = .ok (.iload_n 1, 1) := dk_27 (dk_at dksJ1_removeNode_5 5 rfl rfl)
theorem dJ1_removeNode_121 : decode cJ1_removeNode 121 = .ok (.if_icmp .ne 35, 3) := dk_160 0 35 (dk_at dksJ1_removeNode_5 6 rfl rfl)
theorem dJ1_removeNode_124 : decode cJ1_removeNode 124 = .ok (.aload 11, 2) := dk_25 11 (dk_at dksJ1_removeNode_5 9 rfl rfl)
theorem dJ1_removeNode_126 : decode cJ1_removeNode 126 = .ok (.getfield 170, 3) := dk_180 0 170 (dk_at dksJ1_removeNode_5 11 rfl rfl)
theorem dJ1_removeNode_129 : decode cJ1_removeNode 129 = .ok (.dup, 1) := dk_89 (dk_at dksJ1_removeNode_5 14 rfl rfl)
theorem dJ1_removeNode_130 : decode cJ1_removeNode 130 = .ok (.astore 12, 2) := dk_58 12 (dk_at dksJ1_removeNode_5 15 rfl rfl)
theorem dJ1_removeNode_132 : decode cJ1_removeNode 132 = .ok (.aload_n 2, 1) := dk_44 (dk_at dksJ1_removeNode_5 17 rfl rfl)
theorem dJ1_removeNode_133 : decode cJ1_removeNode 133 = .ok (.if_acmp .eq 16, 3) := dk_165 0 16 (dk_at dksJ1_removeNode_5 18 rfl rfl)
theorem dJ1_removeNode_136 : decode cJ1_removeNode 136 = .ok (.aload_n 2, 1) := dk_44 (dk_at dksJ1_removeNode_5 21 rfl rfl)
theorem dJ1_removeNode_137 : decode cJ1_removeNode 137 = .ok (.ifnull 19, 3) := dk_198 0 19 (dk_at dksJ1_removeNode_6 0 rfl rfl)
theorem dJ1_removeNode_140 : decode cJ1_removeNode 140 = .ok (.aload_n 2, 1) := dk_44 (dk_at dksJ1_removeNode_6 3 rfl rfl)
theorem dJ1_removeNode_141 : decode cJ1_removeNode 141 = .ok (.aload 12, 2) := dk_25 12 (dk_at dksJ1_removeNode_6 4 rfl rfl)
theorem dJ1_removeNode_143 : decode cJ1_removeNode 143 = .ok (.invokevirtual 173, 3) := dk_182 0 173 (dk_at dksJ1_removeNode_6 6 rfl rfl)
theorem dJ1_removeNode_146 : decode cJ1_removeNode 146 = .ok (.ifCond .eq 10, 3) := dk_153 0 10 (dk_at dksJ1_removeNode_6 9 rfl rfl)
theorem dJ1_removeNode_149 : decode cJ1_removeNode 149 = .ok (.aload 11, 2) := dk_25 11 (dk_at dksJ1_removeNode_6 12 rfl rfl)
theorem dJ1_removeNode_151 : decode cJ1_removeNode 151 = .ok (.astore 10, 2) := dk_58 10 (dk_at dksJ1_removeNode_6 14 rfl rfl)
theorem dJ1_removeNode_153 : decode cJ1_removeNode 153 = .ok (.goto 18, 3) := dk_167 0 18 (dk_at dksJ1_removeNode_6 16 rfl rfl)
theorem dJ1_removeNode_156 : decode cJ1_removeNode 156 = .ok (.aload 11, 2) := dk_25 11 (dk_at dksJ1_removeNode_6 19 rfl rfl)
theorem dJ1_removeNode_158 : decode cJ1_removeNode 158 = .ok (.astore 7, 2) := dk_58 7 (dk_at dksJ1_removeNode_6 21 rfl rfl)
theorem dJ1_removeNode_160 : decode cJ1_removeNode 160 = .ok (.aload 11, 2) := dk_25 11 (dk_at dksJ1_removeNode_7 0 rfl rfl)
theorem dJ1_removeNode_162 : decode cJ1_removeNode 162 = .ok (.getfield 177, 3) := dk_180 0 177 (dk_at dksJ1_removeNode_7 2 rfl rfl)
theorem dJ1_removeNode_165 : decode cJ1_removeNode 165 = .ok (.dup, 1) := dk_89 (dk_at dksJ1_removeNode_7 5 rfl rfl)
theorem dJ1_removeNode_166 : decode cJ1_removeNode 166 = .ok (.astore 11, 2) := dk_58 11 (dk_at dksJ1_removeNode_7 6 rfl rfl)
theorem dJ1_removeNode_168 : decode cJ1_removeNode 168 = .ok (.ifnonnull (-53), 3) := dk_199 255 203 (dk_at dksJ1_removeNode_7 8 rfl rfl)
theorem dJ1_removeNode_171 : decode cJ1_removeNode 171 = .ok (.aload 10, 2) := dk_25 10 (dk_at dksJ1_removeNode_7 11 rfl rfl)
theorem dJ1_removeNode_173 : decode cJ1_removeNode 173 = .ok (.ifnull 116, 3) := dk_198 0 116 (dk_at dksJ1_removeNode_7 13 rfl rfl)
theorem dJ1_removeNode_176 : decode cJ1_removeNode 176 = .ok (.iload 4, 2) := dk_21 4 (dk_at dksJ1_removeNode_7 16 rfl rfl)
theorem dJ1_removeNode_178 : decode cJ1_removeNode 178 = .ok (.ifCond .eq 28, 3) := dk_153 0 28 (dk_at dksJ1_removeNode_7 18 rfl rfl)
theorem dJ1_removeNode_181 : decode cJ1_removeNode 181 = .ok (.aload 10, 2) := dk_25 10 (dk_at dksJ1_removeNode_7 21 rfl rfl)
theorem dJ1_removeNode_183 : decode cJ1_removeNode 183 = .ok (.getfield 162, 3) := dk_180 0 162 (dk_at dksJ1_removeNode_8 0 rfl rfl)
theorem dJ1_removeNode_186 : decode cJ1_removeNode 186 = .ok (.dup, 1) := dk_89 (dk_at dksJ1_removeNode_8 3 rfl rfl)
theorem dJ1_removeNode_187 : decode cJ1_removeNode 187 = .ok (.astore 13, 2) := dk_58 13 (dk_at dksJ1_removeNode_8 4 rfl rfl)
theorem dJ1_removeNode_189 : decode cJ1_removeNode 189 = .ok (.aload_n 3, 1) := dk_45 (dk_at dksJ1_removeNode_8 6 rfl rfl)
theorem dJ1_removeNode_190 : decode cJ1_removeNode 190 = .ok (.if_acmp .eq 16, 3) := dk_165 0 16 (dk_at dksJ1_removeNode_8 7 rfl rfl)
theorem dJ1_removeNode_193 : decode cJ1_removeNode 193 = .ok (.aload_n 3, 1) := dk_45 (dk_at dksJ1_removeNode_8 10 rfl rfl)
theorem dJ1_removeNode_194 : decode cJ1_removeNode 194 = .ok (.ifnull 95, 3) := dk_198 0 95 (dk_at dksJ1_removeNode_8 11 rfl rfl)
theorem dJ1_removeNode_197 : decode cJ1_removeNode 197 = .ok (.aload_n 3, 1) := dk_45 (dk_at dksJ1_removeNode_8 14 rfl rfl)
theorem dJ1_removeNode_198 : decode cJ1_removeNode 198 = .ok (.aload 13, 2) := dk_25 13 (dk_at dksJ1_removeNode_8 15 rfl rfl)
theorem dJ1_removeNode_200 : decode cJ1_removeNode 200 = .ok (.invokevirtual 173, 3) := dk_182 0 173 (dk_at dksJ1_removeNode_8 17 rfl rfl)
theorem dJ1_removeNode_203 : decode cJ1_removeNode 203 = .ok (.ifCond .eq 86, 3) := dk_153 0 86 (dk_at dksJ1_removeNode_8 20 rfl rfl)
theorem dJ1_removeNode_206 : decode cJ1_removeNode 206 = .ok (.aload 10, 2) := dk_25 10 (dk_at dksJ1_removeNode_9 0 rfl rfl)
theorem dJ1_removeNode_208 : decode cJ1_removeNode 208 = .ok (.instanceof 180, 3) := dk_193 0 180 (dk_at dksJ1_removeNode_9 2 rfl rfl)
theorem dJ1_removeNode_211 : decode cJ1_removeNode 211 = .ok (.ifCond .eq 19, 3) := dk_153 0 19 (dk_at dksJ1_removeNode_9 5 rfl rfl)
theorem dJ1_removeNode_214 : decode cJ1_removeNode 214 = .ok (.aload 10, 2) := dk_25 10 (dk_at dksJ1_removeNode_9 8 rfl rfl)
theorem dJ1_removeNode_216 : decode cJ1_removeNode 216 = .ok (.checkcast 180, 3) := dk_192 0 180 (dk_at dksJ1_removeNode_9 10 rfl rfl)
theorem dJ1_removeNode_219 : decode cJ1_removeNode 219 = .ok (.aload_n 0, 1) := dk_42 (dk_at dksJ1_removeNode_9 13 rfl rfl)
theorem dJ1_removeNode_220 : decode cJ1_removeNode 220 = .ok (.aload 6, 2) := dk_25 6 (dk_at dksJ1_removeNode_9 14 rfl rfl)
theorem dJ1_removeNode_222 : decode cJ1_removeNode 222 = .ok (.iload 5, 2) := dk_21 5 (dk_at dksJ1_removeNode_9 16 rfl rfl)
theorem dJ1_removeNode_224 : decode cJ1_removeNode 224 = .ok (.invokevirtual 232, 3) := dk_182 0 232 (dk_at dksJ1_removeNode_9 18 rfl rfl)
theorem dJ1_removeNode_227 : decode cJ1_removeNode 227 = .ok (.goto 33, 3) := dk_167 0 33 (dk_at dksJ1_removeNode_9 21 rfl rfl)
theorem dJ1_removeNode_230 : decode cJ1_removeNode 230 = .ok (.aload 10, 2) := dk_25 10 (dk_at dksJ1_removeNode_10 0 rfl rfl)
theorem dJ1_removeNode_232 : decode cJ1_removeNode 232 = .ok (.aload 7, 2) := dk_25 7 (dk_at dksJ1_removeNode_10 2 rfl rfl)
theorem dJ1_removeNode_234 : decode cJ1_removeNode 234 = .ok (.if_acmp .ne 16, 3) := dk_166 0 16 (dk_at dksJ1_removeNode_10 4 rfl rfl)
theorem dJ1_removeNode_237 : decode cJ1_removeNode 237 = .ok (.aload 6, 2) := dk_25 6 (dk_at dksJ1_removeNode_10 7 rfl rfl)
theorem dJ1_removeNode_239 : decode cJ1_removeNode 239 = .ok (.iload 9, 2) := dk_21 9 (dk_at dksJ1_removeNode_10 9 rfl rfl)
theorem dJ1_removeNode_241 : decode cJ1_removeNode 241 = .ok (.aload 10, 2) := dk_25 10 (dk_at dksJ1_removeNode_10 11 rfl rfl)
theorem dJ1_removeNode_243 : decode cJ1_removeNode 243 = .ok (.getfield 177, 3) := dk_180 0 177 (dk_at dksJ1_removeNode_10 13 rfl rfl)
theorem dJ1_removeNode_246 : decode cJ1_removeNode 246 = .ok (.aastore, 1) := dk_83 (dk_at dksJ1_removeNode_10 16 rfl rfl)
theorem dJ1_removeNode_247 : decode cJ1_removeNode 247 = .ok (.goto 13, 3) := dk_167 0 13 (dk_at dksJ1_removeNode_10 17 rfl rfl)
theorem dJ1_removeNode_250 : decode cJ1_removeNode 250 = .ok (.aload 7, 2) := dk_25 7 (dk_at dksJ1_removeNode_10 20 rfl rfl)
theorem dJ1_removeNode_252 : decode cJ1_removeNode 252 = .ok (.aload 10, 2) := dk_25 10 (dk_at dksJ1_removeNode_10 22 rfl rfl)
theorem dJ1_removeNode_254 : decode cJ1_removeNode 254 = .ok (.getfield 177, 3) := dk_180 0 177 (dk_at dksJ1_removeNode_11 0 rfl rfl)
theorem dJ1_removeNode_257 : decode cJ1_removeNode 257 = .ok (.putfield 177, 3) := dk_181 0 177 (dk_at dksJ1_removeNode_11 3 rfl rfl)
theorem dJ1_removeNode_260 : decode cJ1_removeNode 260 = .ok (.aload_n 0, 1) := dk_42 (dk_at dksJ1_removeNode_11 6 rfl rfl)
theorem dJ1_removeNode_261 : decode cJ1_removeNode 261 = .ok (.dup, 1) := dk_89 (dk_at dksJ1_removeNode_11 7 rfl rfl)
theorem dJ1_removeNode_262 : decode cJ1_removeNode 262 = .ok (.getfield 202, 3) := dk_180 0 202 (dk_at dksJ1_removeNode_11 8 rfl rfl)
theorem dJ1_removeNode_265 : decode cJ1_removeNode 265 = .ok (.iconst 1, 1) := dk_4 (dk_at dksJ1_removeNode_11 11 rfl rfl)
theorem dJ1_removeNode_266 : decode cJ1_removeNode 266 = .ok (.iadd, 1) := dk_96 (dk_at dksJ1_removeNode_11 12 rfl rfl)
theorem dJ1_removeNode_267 : decode cJ1_removeNode 267 = .ok (.putfield 202, 3) := dk_181 0 202 (dk_at dksJ1_removeNode_11 13 rfl rfl)
theorem dJ1_removeNode_270 : decode cJ1_removeNode 270 = .ok (.aload_n 0, 1) := dk_42 (dk_at dksJ1_removeNode_11 16 rfl rfl)
theorem dJ1_removeNode_271 : decode cJ1_removeNode 271 = .ok (.dup, 1) := dk_89 (dk_at dksJ1_removeNode_11 17 rfl rfl)
theorem dJ1_removeNode_272 : decode cJ1_removeNode 272 = .ok (.getfield 156, 3) := dk_180 0 156 (dk_at dksJ1_removeNode_11 18 rfl rfl)
theorem dJ1_removeNode_275 : decode cJ1_removeNode 275 = .ok (.iconst 1, 1) := dk_4 (dk_at dksJ1_removeNode_11 21 rfl rfl)
theorem dJ1_removeNode_276 : decode cJ1_removeNode 276 = .ok (.isub, 1) := dk_100 (dk_at dksJ1_removeNode_11 22 rfl rfl)
theorem dJ1_removeNode_277 : decode cJ1_removeNode 277 = .ok (.putfield 156, 3) := dk_181 0 156 (dk_at dksJ1_removeNode_12 0 rfl rfl)
theorem dJ1_removeNode_280 : decode cJ1_removeNode 280 = .ok (.aload_n 0, 1) := dk_42 (dk_at dksJ1_removeNode_12 3 rfl rfl)
theorem dJ1_removeNode_281 : decode cJ1_removeNode 281 = .ok (.aload 10, 2) := dk_25 10 (dk_at dksJ1_removeNode_12 4 rfl rfl)
theorem dJ1_removeNode_283 : decode cJ1_removeNode 283 = .ok (.invokevirtual 236, 3) := dk_182 0 236 (dk_at dksJ1_removeNode_12 6 rfl rfl)
theorem dJ1_removeNode_286 : decode cJ1_removeNode 286 = .ok (.aload 10, 2) := dk_25 10 (dk_at dksJ1_removeNode_12 9 rfl rfl)
theorem dJ1_removeNode_288 : decode cJ1_removeNode 288 = .ok (.areturn, 1) := dk_176 (dk_at dksJ1_removeNode_12 11 rfl rfl)
theorem dJ1_removeNode_289 : decode cJ1_removeNode 289 = .ok (.aconst_null, 1) := dk_1 (dk_at dksJ1_removeNode_12 12 rfl rfl)
theorem dJ1_removeNode_290 : decode cJ1_removeNode 290 = .ok (.areturn, 1) := dk_176 (dk_at dksJ1_removeNode_12 13 rfl rfl)
/-! java/util/HashMap.removeNode(ILjava/lang/Object;Ljava/lang/Object;ZZ)Ljava/util/HashMap$Node; -/
abbrev M_J1_removeNode (z0 n0 : Nat) (s' : gS) : gM := (RJ1, cJ1_removeNode, 14, (some (FieldType.object "java/util/HashMap$Node")), "removeNode", [], 2, z0, n0, s'.2.1, s'.2.2)
abbrev W_J1_removeNode (E : gE) (z0 n0 : Nat) (r : (Option Nat)) (s' : gS) (pc : Nat) (L : List (Nat × gV)) (st : List gV) (s : gS) : Prop := gW E (M_J1_removeNode z0 n0 s') (gQm E (M_J1_removeNode z0 n0 s') (.inl (some (vR r))) s') pc L st s
noncomputable def f_J1_removeNode_260 (κ : gK) (F : Nat)  (l0 : Option Nat) (l10 : Option Nat) (s : gS) : Option ((Option Nat) × gS) :=
  gB1 (gfI s l0 10 3) fun v1 =>
  gB1 (gpf κ s l0 10 3 (.int (v1 + (1 : Int32)))) fun s2 =>
  gB1 (gfI s2 l0 10 2) fun v3 =>
  gB1 (gpf κ s2 l0 10 2 (.int (v3 - (1 : Int32)))) fun s4 =>
  gB1 (gck s4 l0 10) fun _ =>
  gB2 (f_J2_afterNodeRemoval κ F l0 l10 s4) fun v6 s5 =>
  some (l10, s5)
set_option maxHeartbeats 4000000 in
theorem w_J1_removeNode_260 {E : gE} {F z0 n0 : Nat} {r : (Option Nat)} {s' : gS}   : ∀ (l0 : Option Nat) (l10 : Option Nat)  (s : gS), f_J1_removeNode_260 (gk E) F  l0 l10 s = some (r, s') → W_J1_removeNode E z0 n0 r s' 260 [(0, vR l0), (10, vR l10)] [] s := by
  intro l0 l10 s hB
  unfold f_J1_removeNode_260 at hB
  refine gw_aload_n 0 rfl dJ1_removeNode_260 ?_
  refine gw_dup rfl dJ1_removeNode_261 ?_
  obtain ⟨v1, hv1, hB⟩ := gB1_some hB
  refine gw_getf (C := RJ2) (T := TJ2) (N := 12) (k := 3) gcl10 (by decide) in_J2 q243 (gfI_spec hv1) dJ1_removeNode_262 ?_
  refine gw_iconst (v := (1 : Int32)) (by decide) dJ1_removeNode_265 ?_
  refine gw_iadd dJ1_removeNode_266 ?_
  obtain ⟨s2, hs2, hB⟩ := gB1_some hB
  refine gw_putf (C := RJ2) (T := TJ2) (N := 12) (k := 3) tyJ2 tyJ2_ok nmJ2 gcl10 (by decide) in_J2 q243 rfl (tyJ2_ok 3 (by decide)) (gNF_i _) hs2 dJ1_removeNode_267 ?_
  refine gw_aload_n 0 rfl dJ1_removeNode_270 ?_
  refine gw_dup rfl dJ1_removeNode_271 ?_
  obtain ⟨v3, hv3, hB⟩ := gB1_some hB
  refine gw_getf (C := RJ2) (T := TJ2) (N := 12) (k := 2) gcl10 (by decide) in_J2 q238 (gfI_spec hv3) dJ1_removeNode_272 ?_
  refine gw_iconst (v := (1 : Int32)) (by decide) dJ1_removeNode_275 ?_
  refine gw_isub dJ1_removeNode_276 ?_
  obtain ⟨s4, hs4, hB⟩ := gB1_some hB
  refine gw_putf (C := RJ2) (T := TJ2) (N := 12) (k := 2) tyJ2 tyJ2_ok nmJ2 gcl10 (by decide) in_J2 q238 rfl (tyJ2_ok 2 (by decide)) (gNF_i _) hs4 dJ1_removeNode_277 ?_
  refine gw_aload_n 0 rfl dJ1_removeNode_280 ?_
  refine gw_aload 1 rfl dJ1_removeNode_281 ?_
  obtain ⟨u0, hu7, hB⟩ := gB1_some hB
  obtain ⟨v6, s5, hv6, hB⟩ := gB2_some hB
  refine gw_callA (C := "java/util/LinkedHashMap") (owner := "java/util/HashMap") (x := ⟨"java/util/HashMap", "afterNodeRemoval", "(Ljava/util/HashMap$Node;)V"⟩) (y := yJ2_afterNodeRemoval) (lw_app (lw_in (([Cond.methodLink "java/util/HashMap" 236 ⟨"java/util/HashMap", "afterNodeRemoval", "(Ljava/util/HashMap$Node;)V"⟩, Cond.sameMethod "java/util/HashMap" "java/util/HashMap" "afterNodeRemoval" "(Ljava/util/HashMap$Node;)V", Cond.selects "java/util/LinkedHashMap" ⟨"java/util/HashMap", "afterNodeRemoval", "(Ljava/util/HashMap$Node;)V"⟩ yJ2_afterNodeRemoval, Cond.instanceMethod yJ2_afterNodeRemoval, Cond.initialized "java/util/LinkedHashMap"] : List Cond)) [2150, 2152, 2153, 2154, 114] (by decide +kernel) (by decide +kernel)) (lw_meth q2155)) q2156 (show _ ∧ _ ∧ _ = some 1 from by decide +kernel) gcl10 hu7 (As := [vR l10]) (rest := []) (m_J2_afterNodeRemoval _ _ _ _ _ hv6) (Nat.le_of_ble_eq_true rfl) (Nat.le_of_ble_eq_true rfl) rfl (Nat.le_of_ble_eq_true rfl) dJ1_removeNode_283 (gCont_v ?_)
  refine gw_aload 1 rfl dJ1_removeNode_286 ?_
  obtain ⟨rfl, rfl⟩ := Prod.mk.inj (Option.some.inj hB)
  exact gw_aret rfl (Or.inl ⟨_, rfl⟩) rfl rfl dJ1_removeNode_288
noncomputable def f_J1_removeNode_206 (κ : gK) (F : Nat)  (l0 : Option Nat) (l5 : Int32) (l6 : Option Nat) (l7 : Option Nat) (l9 : Int32) (l10 : Option Nat) (s : gS) : Option ((Option Nat) × gS) :=
  gB1 (gio s l10 [] [11]) fun v1 =>
  if v1 = 0 then
    if l10 = l7 then
      gB1 (gfR s l10 11 3) fun v4 =>
      gB1 (gsR κ s l6 l9 v4) fun s5 =>
      f_J1_removeNode_260 κ F  l0 l10 s5
    else
      gB1 (gfR s l10 11 3) fun v2 =>
      gB1 (gpf κ s l7 11 3 (va_rf v2)) fun s3 =>
      f_J1_removeNode_260 κ F  l0 l10 s3
  else
    none
set_option maxHeartbeats 4000000 in
theorem w_J1_removeNode_206 {E : gE} {F z0 n0 : Nat} {r : (Option Nat)} {s' : gS}   : ∀ (l0 : Option Nat) (l5 : Int32) (l6 : Option Nat) (l7 : Option Nat) (l9 : Int32) (l10 : Option Nat)  (s : gS), f_J1_removeNode_206 (gk E) F  l0 l5 l6 l7 l9 l10 s = some (r, s') → W_J1_removeNode E z0 n0 r s' 206 [(0, vR l0), (5, vI l5), (6, vR l6), (7, vR l7), (9, vI l9), (10, vR l10)] [] s := by
  intro l0 l5 l6 l7 l9 l10 s hB
  unfold f_J1_removeNode_206 at hB
  refine gw_aload 5 rfl dJ1_removeNode_206 ?_
  obtain ⟨v1, hv1, hB⟩ := gB1_some hB
  refine gw_inst (ys := []) (ns := [11]) gisY_java_util_HashMap_TreeNode gisN_java_util_HashMap_TreeNode hv1 q769 dJ1_removeNode_208 ?_
  refine gw_if_eq (tgt := 230) dJ1_removeNode_211 (by decide) (fun hcnd => ?_) (fun hcnd => ?_)
  · rw [if_pos hcnd] at hB
    refine gw_aload 5 rfl dJ1_removeNode_230 ?_
    refine gw_aload 3 rfl dJ1_removeNode_232 ?_
    refine gw_acmp_ne (tgt := 250) dJ1_removeNode_234 (by decide) (fun hcnd => ?_) (fun hcnd => ?_)
    · rw [if_neg hcnd] at hB
      refine gw_aload 3 rfl dJ1_removeNode_250 ?_
      refine gw_aload 5 rfl dJ1_removeNode_252 ?_
      obtain ⟨v2, hv2, hB⟩ := gB1_some hB
      refine gw_getf (C := RJ19) (T := TJ19) (N := 6) (k := 3) gcl11 (by decide) in_J19 q821 (gfR_spec hv2) dJ1_removeNode_254 ?_
      obtain ⟨s3, hs3, hB⟩ := gB1_some hB
      refine gw_putf (C := RJ19) (T := TJ19) (N := 6) (k := 3) tyJ19 tyJ19_ok nmJ19 gcl11 (by decide) in_J19 q821 rfl (tyJ19_ok 3 (by decide)) (gNF_o _ _) hs3 dJ1_removeNode_257 ?_
      exact gw_sub [0, 5] rfl (w_J1_removeNode_260  _ _ _ hB)
    · rw [if_pos hcnd] at hB
      refine gw_aload 2 rfl dJ1_removeNode_237 ?_
      refine gw_iload 4 rfl dJ1_removeNode_239 ?_
      refine gw_aload 5 rfl dJ1_removeNode_241 ?_
      obtain ⟨v4, hv4, hB⟩ := gB1_some hB
      refine gw_getf (C := RJ19) (T := TJ19) (N := 6) (k := 3) gcl11 (by decide) in_J19 q821 (gfR_spec hv4) dJ1_removeNode_243 ?_
      obtain ⟨s5, hs5, hB⟩ := gB1_some hB
      refine gw_aastore hs5 dJ1_removeNode_246 ?_
      refine gw_goto (tgt := 260) dJ1_removeNode_247 (by decide) ?_
      exact gw_sub [0, 5] rfl (w_J1_removeNode_260  _ _ _ hB)
  · rw [if_neg hcnd] at hB
    refine gw_aload 5 rfl dJ1_removeNode_214 ?_
    cases hB
noncomputable def f_J1_removeNode_289 (κ : gK) (F : Nat)   (s : gS) : Option ((Option Nat) × gS) :=
  some (none, s)
set_option maxHeartbeats 4000000 in
theorem w_J1_removeNode_289 {E : gE} {F z0 n0 : Nat} {r : (Option Nat)} {s' : gS}   : ∀   (s : gS), f_J1_removeNode_289 (gk E) F   s = some (r, s') → W_J1_removeNode E z0 n0 r s' 289 [] [] s := by
  intro  s hB
  unfold f_J1_removeNode_289 at hB
  refine gw_null dJ1_removeNode_289 ?_
  obtain ⟨rfl, rfl⟩ := Prod.mk.inj (Option.some.inj hB)
  exact gw_aret rfl (Or.inl ⟨_, rfl⟩) rfl rfl dJ1_removeNode_290
noncomputable def f_J1_removeNode_171 (κ : gK) (F : Nat)  (l0 : Option Nat) (l3 : Option Nat) (l4 : Int32) (l5 : Int32) (l6 : Option Nat) (l7 : Option Nat) (l9 : Int32) (l10 : Option Nat) (s : gS) : Option ((Option Nat) × gS) :=
  if l10 = none then
    f_J1_removeNode_289 κ F  s
  else
    if l4 = 0 then
      f_J1_removeNode_206 κ F  l0 l5 l6 l7 l9 l10 s
    else
      gB1 (gfR s l10 11 2) fun v1 =>
      if v1 = l3 then
        f_J1_removeNode_206 κ F  l0 l5 l6 l7 l9 l10 s
      else
        if l3 = none then
          f_J1_removeNode_289 κ F  s
        else
          gB1 (gck s l3 1) fun _ =>
          gB2 (f_X2_equals κ F l3 v1 s) fun v3 s2 =>
          if v3 = 0 then
            f_J1_removeNode_289 κ F  s2
          else
            f_J1_removeNode_206 κ F  l0 l5 l6 l7 l9 l10 s2
set_option maxHeartbeats 4000000 in
theorem w_J1_removeNode_171 {E : gE} {F z0 n0 : Nat} {r : (Option Nat)} {s' : gS}   : ∀ (l0 : Option Nat) (l3 : Option Nat) (l4 : Int32) (l5 : Int32) (l6 : Option Nat) (l7 : Option Nat) (l9 : Int32) (l10 : Option Nat)  (s : gS), f_J1_removeNode_171 (gk E) F  l0 l3 l4 l5 l6 l7 l9 l10 s = some (r, s') → W_J1_removeNode E z0 n0 r s' 171 [(0, vR l0), (3, vR l3), (4, vI l4), (5, vI l5), (6, vR l6), (7, vR l7), (9, vI l9), (10, vR l10)] [] s := by
  intro l0 l3 l4 l5 l6 l7 l9 l10 s hB
  unfold f_J1_removeNode_171 at hB
  refine gw_aload 7 rfl dJ1_removeNode_171 ?_
  refine gw_ifnull (tgt := 289) dJ1_removeNode_173 (by decide) (fun hcnd => ?_) (fun hcnd => ?_)
  · rw [if_pos hcnd] at hB
    exact gw_sub [] rfl (w_J1_removeNode_289   _ hB)
  · rw [if_neg hcnd] at hB
    refine gw_iload 2 rfl dJ1_removeNode_176 ?_
    refine gw_if_eq (tgt := 206) dJ1_removeNode_178 (by decide) (fun hcnd => ?_) (fun hcnd => ?_)
    · rw [if_pos hcnd] at hB
      exact gw_sub [0, 3, 4, 5, 6, 7] rfl (w_J1_removeNode_206  _ _ _ _ _ _ _ hB)
    · rw [if_neg hcnd] at hB
      refine gw_aload 7 rfl dJ1_removeNode_181 ?_
      obtain ⟨v1, hv1, hB⟩ := gB1_some hB
      refine gw_getf (C := RJ19) (T := TJ19) (N := 6) (k := 2) gcl11 (by decide) in_J19 q814 (gfR_spec hv1) dJ1_removeNode_183 ?_
      refine gw_dup rfl dJ1_removeNode_186 ?_
      refine gw_astore (L' := [(13, vR v1), (0, vR l0), (3, vR l3), (4, vI l4), (5, vI l5), (6, vR l6), (7, vR l7), (9, vI l9), (10, vR l10)]) (Nat.le_of_ble_eq_true rfl) rfl dJ1_removeNode_187 ?_
      refine gw_aload_n 2 rfl dJ1_removeNode_189 ?_
      refine gw_acmp_eq (tgt := 206) dJ1_removeNode_190 (by decide) (fun hcnd => ?_) (fun hcnd => ?_)
      · rw [if_pos hcnd] at hB
        exact gw_sub [1, 4, 5, 6, 7, 8] rfl (w_J1_removeNode_206  _ _ _ _ _ _ _ hB)
      · rw [if_neg hcnd] at hB
        refine gw_aload_n 2 rfl dJ1_removeNode_193 ?_
        refine gw_ifnull (tgt := 289) dJ1_removeNode_194 (by decide) (fun hcnd => ?_) (fun hcnd => ?_)
        · rw [if_pos hcnd] at hB
          exact gw_sub [] rfl (w_J1_removeNode_289   _ hB)
        · rw [if_neg hcnd] at hB
          refine gw_aload_n 2 rfl dJ1_removeNode_197 ?_
          refine gw_aload 0 rfl dJ1_removeNode_198 ?_
          obtain ⟨u0, hu4, hB⟩ := gB1_some hB
          obtain ⟨v3, s2, hv3, hB⟩ := gB2_some hB
          refine gw_callA (C := "PageGarden$Bed") (owner := "java/lang/Object") (x := ⟨"java/lang/Object", "equals", "(Ljava/lang/Object;)Z"⟩) (y := yX2_equals) (lw_app (lw_in (([Cond.methodLink "java/util/HashMap" 173 ⟨"java/lang/Object", "equals", "(Ljava/lang/Object;)Z"⟩, Cond.sameMethod "java/lang/Object" "java/lang/Object" "equals" "(Ljava/lang/Object;)Z", Cond.selects "PageGarden$Bed" ⟨"java/lang/Object", "equals", "(Ljava/lang/Object;)Z"⟩ yX2_equals, Cond.instanceMethod yX2_equals, Cond.initialized "PageGarden$Bed"] : List Cond)) [1127, 1129, 1131, 1132, 109] (by decide +kernel) (by decide +kernel)) (lw_meth q1133)) q1126 (show _ ∧ _ ∧ _ = some 1 from by decide +kernel) gcl1 hu4 (As := [vR v1]) (rest := []) (m_X2_equals _ _ _ _ _ hv3) (Nat.le_of_ble_eq_true rfl) (Nat.le_of_ble_eq_true rfl) rfl (Nat.le_of_ble_eq_true rfl) dJ1_removeNode_200 (gCont_i ?_)
          refine gw_if_eq (tgt := 289) dJ1_removeNode_203 (by decide) (fun hcnd => ?_) (fun hcnd => ?_)
          · rw [if_pos hcnd] at hB
            exact gw_sub [] rfl (w_J1_removeNode_289   _ hB)
          · rw [if_neg hcnd] at hB
            exact gw_sub [1, 4, 5, 6, 7, 8] rfl (w_J1_removeNode_206  _ _ _ _ _ _ _ hB)
noncomputable def f_J1_removeNode_74 (κ : gK) (F : Nat)  (l0 : Option Nat) (l3 : Option Nat) (l4 : Int32) (l5 : Int32) (l6 : Option Nat) (l7 : Option Nat) (l9 : Int32) (s : gS) : Option ((Option Nat) × gS) :=
  f_J1_removeNode_171 κ F  l0 l3 l4 l5 l6 l7 l9 l7 s
set_option maxHeartbeats 4000000 in
theorem w_J1_removeNode_74 {E : gE} {F z0 n0 : Nat} {r : (Option Nat)} {s' : gS}   : ∀ (l0 : Option Nat) (l3 : Option Nat) (l4 : Int32) (l5 : Int32) (l6 : Option Nat) (l7 : Option Nat) (l9 : Int32)  (s : gS), f_J1_removeNode_74 (gk E) F  l0 l3 l4 l5 l6 l7 l9 s = some (r, s') → W_J1_removeNode E z0 n0 r s' 74 [(0, vR l0), (3, vR l3), (4, vI l4), (5, vI l5), (6, vR l6), (7, vR l7), (9, vI l9)] [] s := by
  intro l0 l3 l4 l5 l6 l7 l9 s hB
  unfold f_J1_removeNode_74 at hB
  refine gw_aload 5 rfl dJ1_removeNode_74 ?_
  refine gw_astore (L' := [(10, vR l7), (0, vR l0), (3, vR l3), (4, vI l4), (5, vI l5), (6, vR l6), (7, vR l7), (9, vI l9)]) (Nat.le_of_ble_eq_true rfl) rfl dJ1_removeNode_76 ?_
  refine gw_goto (tgt := 171) dJ1_removeNode_78 (by decide) ?_
  exact gw_sub [1, 2, 3, 4, 5, 6, 7, 0] rfl (w_J1_removeNode_171  _ _ _ _ _ _ _ _ _ hB)
noncomputable def f_J1_removeNode_149 (κ : gK) (F : Nat)  (l0 : Option Nat) (l3 : Option Nat) (l4 : Int32) (l5 : Int32) (l6 : Option Nat) (l7 : Option Nat) (l9 : Int32) (l11 : Option Nat) (s : gS) : Option ((Option Nat) × gS) :=
  f_J1_removeNode_171 κ F  l0 l3 l4 l5 l6 l7 l9 l11 s
set_option maxHeartbeats 4000000 in
theorem w_J1_removeNode_149 {E : gE} {F z0 n0 : Nat} {r : (Option Nat)} {s' : gS}   : ∀ (l0 : Option Nat) (l3 : Option Nat) (l4 : Int32) (l5 : Int32) (l6 : Option Nat) (l7 : Option Nat) (l9 : Int32) (l11 : Option Nat)  (s : gS), f_J1_removeNode_149 (gk E) F  l0 l3 l4 l5 l6 l7 l9 l11 s = some (r, s') → W_J1_removeNode E z0 n0 r s' 149 [(0, vR l0), (3, vR l3), (4, vI l4), (5, vI l5), (6, vR l6), (7, vR l7), (9, vI l9), (11, vR l11)] [] s := by
  intro l0 l3 l4 l5 l6 l7 l9 l11 s hB
  unfold f_J1_removeNode_149 at hB
  refine gw_aload 7 rfl dJ1_removeNode_149 ?_
  refine gw_astore (L' := [(10, vR l11), (0, vR l0), (3, vR l3), (4, vI l4), (5, vI l5), (6, vR l6), (7, vR l7), (9, vI l9), (11, vR l11)]) (Nat.le_of_ble_eq_true rfl) rfl dJ1_removeNode_151 ?_
  refine gw_goto (tgt := 171) dJ1_removeNode_153 (by decide) ?_
  exact gw_sub [1, 2, 3, 4, 5, 6, 7, 0] rfl (w_J1_removeNode_171  _ _ _ _ _ _ _ _ _ hB)
noncomputable def f_J1_removeNode_156 (κ : gK) (F : Nat) (k115 : Option Nat → Int32 → Option Nat → Option Nat → Int32 → Int32 → Option Nat → Option Nat → Int32 → Option Nat → Option Nat → gS → Option ((Option Nat) × gS)) (l0 : Option Nat) (l1 : Int32) (l2 : Option Nat) (l3 : Option Nat) (l4 : Int32) (l5 : Int32) (l6 : Option Nat) (l9 : Int32) (l10 : Option Nat) (l11 : Option Nat) (s : gS) : Option ((Option Nat) × gS) :=
  gB1 (gfR s l11 11 3) fun v1 =>
  if v1 = none then
    f_J1_removeNode_171 κ F  l0 l3 l4 l5 l6 l11 l9 l10 s
  else
    k115 l0 l1 l2 l3 l4 l5 l6 l11 l9 l10 v1 s
set_option maxHeartbeats 4000000 in
theorem w_J1_removeNode_156 {E : gE} {F z0 n0 : Nat} {r : (Option Nat)} {s' : gS} {k115 : Option Nat → Int32 → Option Nat → Option Nat → Int32 → Int32 → Option Nat → Option Nat → Int32 → Option Nat → Option Nat → gS → Option ((Option Nat) × gS)} (hk115 : ∀ (l0 : Option Nat) (l1 : Int32) (l2 : Option Nat) (l3 : Option Nat) (l4 : Int32) (l5 : Int32) (l6 : Option Nat) (l7 : Option Nat) (l9 : Int32) (l10 : Option Nat) (l11 : Option Nat) (s : gS), k115 l0 l1 l2 l3 l4 l5 l6 l7 l9 l10 l11 s = some (r, s') → W_J1_removeNode E z0 n0 r s' 115 [(0, vR l0), (1, vI l1), (2, vR l2), (3, vR l3), (4, vI l4), (5, vI l5), (6, vR l6), (7, vR l7), (9, vI l9), (10, vR l10), (11, vR l11)] [] s) : ∀ (l0 : Option Nat) (l1 : Int32) (l2 : Option Nat) (l3 : Option Nat) (l4 : Int32) (l5 : Int32) (l6 : Option Nat) (l9 : Int32) (l10 : Option Nat) (l11 : Option Nat)  (s : gS), f_J1_removeNode_156 (gk E) F k115 l0 l1 l2 l3 l4 l5 l6 l9 l10 l11 s = some (r, s') → W_J1_removeNode E z0 n0 r s' 156 [(0, vR l0), (1, vI l1), (2, vR l2), (3, vR l3), (4, vI l4), (5, vI l5), (6, vR l6), (9, vI l9), (10, vR l10), (11, vR l11)] [] s := by
  intro l0 l1 l2 l3 l4 l5 l6 l9 l10 l11 s hB
  unfold f_J1_removeNode_156 at hB
  refine gw_aload 9 rfl dJ1_removeNode_156 ?_
  refine gw_astore (L' := [(7, vR l11), (0, vR l0), (1, vI l1), (2, vR l2), (3, vR l3), (4, vI l4), (5, vI l5), (6, vR l6), (9, vI l9), (10, vR l10), (11, vR l11)]) (Nat.le_of_ble_eq_true rfl) rfl dJ1_removeNode_158 ?_
  refine gw_aload 10 rfl dJ1_removeNode_160 ?_
  obtain ⟨v1, hv1, hB⟩ := gB1_some hB
  refine gw_getf (C := RJ19) (T := TJ19) (N := 6) (k := 3) gcl11 (by decide) in_J19 q821 (gfR_spec hv1) dJ1_removeNode_162 ?_
  refine gw_dup rfl dJ1_removeNode_165 ?_
  refine gw_astore (L' := [(11, vR v1), (7, vR l11), (0, vR l0), (1, vI l1), (2, vR l2), (3, vR l3), (4, vI l4), (5, vI l5), (6, vR l6), (9, vI l9), (10, vR l10)]) (Nat.le_of_ble_eq_true rfl) rfl dJ1_removeNode_166 ?_
  refine gw_ifnonnull (tgt := 115) dJ1_removeNode_168 (by decide) (fun hcnd => ?_) (fun hcnd => ?_)
  · rw [if_neg hcnd] at hB
    exact gw_sub [2, 3, 4, 5, 6, 7, 8, 1, 9, 10, 0] rfl (hk115 _ _ _ _ _ _ _ _ _ _ _ _ hB)
  · rw [if_pos hcnd] at hB
    exact gw_sub [2, 5, 6, 7, 8, 1, 9, 10] rfl (w_J1_removeNode_171  _ _ _ _ _ _ _ _ _ hB)
noncomputable def f_J1_removeNode_115b (κ : gK) (F : Nat) (k115 : Option Nat → Int32 → Option Nat → Option Nat → Int32 → Int32 → Option Nat → Option Nat → Int32 → Option Nat → Option Nat → gS → Option ((Option Nat) × gS)) (l0 : Option Nat) (l1 : Int32) (l2 : Option Nat) (l3 : Option Nat) (l4 : Int32) (l5 : Int32) (l6 : Option Nat) (l7 : Option Nat) (l9 : Int32) (l10 : Option Nat) (l11 : Option Nat) (s : gS) : Option ((Option Nat) × gS) :=
  gB1 (gfI s l11 11 0) fun v1 =>
  if v1 = l1 then
    gB1 (gfR s l11 11 1) fun v2 =>
    if v2 = l2 then
      f_J1_removeNode_149 κ F  l0 l3 l4 l5 l6 l7 l9 l11 s
    else
      if l2 = none then
        f_J1_removeNode_156 κ F k115 l0 l1 l2 l3 l4 l5 l6 l9 l10 l11 s
      else
        gB1 (gck s l2 1) fun _ =>
        gB2 (f_X2_equals κ F l2 v2 s) fun v4 s3 =>
        if v4 = 0 then
          f_J1_removeNode_156 κ F k115 l0 l1 l2 l3 l4 l5 l6 l9 l10 l11 s3
        else
          f_J1_removeNode_149 κ F  l0 l3 l4 l5 l6 l7 l9 l11 s3
  else
    f_J1_removeNode_156 κ F k115 l0 l1 l2 l3 l4 l5 l6 l9 l10 l11 s
noncomputable def f_J1_removeNode_115 (κ : gK) (F : Nat)  : Nat → Option Nat → Int32 → Option Nat → Option Nat → Int32 → Int32 → Option Nat → Option Nat → Int32 → Option Nat → Option Nat → gS → Option ((Option Nat) × gS)
  | 0 => fun _ _ _ _ _ _ _ _ _ _ _ _ => none
  | n + 1 => f_J1_removeNode_115b κ F  (f_J1_removeNode_115 κ F  n)
set_option maxHeartbeats 4000000 in
theorem w_J1_removeNode_115b {E : gE} {F z0 n0 : Nat} {r : (Option Nat)} {s' : gS} {k115 : Option Nat → Int32 → Option Nat → Option Nat → Int32 → Int32 → Option Nat → Option Nat → Int32 → Option Nat → Option Nat → gS → Option ((Option Nat) × gS)} (hk115 : ∀ (l0 : Option Nat) (l1 : Int32) (l2 : Option Nat) (l3 : Option Nat) (l4 : Int32) (l5 : Int32) (l6 : Option Nat) (l7 : Option Nat) (l9 : Int32) (l10 : Option Nat) (l11 : Option Nat) (s : gS), k115 l0 l1 l2 l3 l4 l5 l6 l7 l9 l10 l11 s = some (r, s') → W_J1_removeNode E z0 n0 r s' 115 [(0, vR l0), (1, vI l1), (2, vR l2), (3, vR l3), (4, vI l4), (5, vI l5), (6, vR l6), (7, vR l7), (9, vI l9), (10, vR l10), (11, vR l11)] [] s) : ∀ (l0 : Option Nat) (l1 : Int32) (l2 : Option Nat) (l3 : Option Nat) (l4 : Int32) (l5 : Int32) (l6 : Option Nat) (l7 : Option Nat) (l9 : Int32) (l10 : Option Nat) (l11 : Option Nat)  (s : gS), f_J1_removeNode_115b (gk E) F k115 l0 l1 l2 l3 l4 l5 l6 l7 l9 l10 l11 s = some (r, s') → W_J1_removeNode E z0 n0 r s' 115 [(0, vR l0), (1, vI l1), (2, vR l2), (3, vR l3), (4, vI l4), (5, vI l5), (6, vR l6), (7, vR l7), (9, vI l9), (10, vR l10), (11, vR l11)] [] s := by
  intro l0 l1 l2 l3 l4 l5 l6 l7 l9 l10 l11 s hB
  unfold f_J1_removeNode_115b at hB
  refine gw_aload 10 rfl dJ1_removeNode_115 ?_
  obtain ⟨v1, hv1, hB⟩ := gB1_some hB
  refine gw_getf (C := RJ19) (T := TJ19) (N := 6) (k := 0) gcl11 (by decide) in_J19 q803 (gfI_spec hv1) dJ1_removeNode_117 ?_
  refine gw_iload_n 1 rfl dJ1_removeNode_120 ?_
  refine gw_icmp_ne (tgt := 156) dJ1_removeNode_121 (by decide) (fun hcnd => ?_) (fun hcnd => ?_)
  · rw [if_neg hcnd] at hB
    exact gw_sub [0, 1, 2, 3, 4, 5, 6, 8, 9, 10] rfl (w_J1_removeNode_156 hk115 _ _ _ _ _ _ _ _ _ _ _ hB)
  · rw [if_pos hcnd] at hB
    refine gw_aload 10 rfl dJ1_removeNode_124 ?_
    obtain ⟨v2, hv2, hB⟩ := gB1_some hB
    refine gw_getf (C := RJ19) (T := TJ19) (N := 6) (k := 1) gcl11 (by decide) in_J19 q810 (gfR_spec hv2) dJ1_removeNode_126 ?_
    refine gw_dup rfl dJ1_removeNode_129 ?_
    refine gw_astore (L' := [(12, vR v2), (0, vR l0), (1, vI l1), (2, vR l2), (3, vR l3), (4, vI l4), (5, vI l5), (6, vR l6), (7, vR l7), (9, vI l9), (10, vR l10), (11, vR l11)]) (Nat.le_of_ble_eq_true rfl) rfl dJ1_removeNode_130 ?_
    refine gw_aload_n 3 rfl dJ1_removeNode_132 ?_
    refine gw_acmp_eq (tgt := 149) dJ1_removeNode_133 (by decide) (fun hcnd => ?_) (fun hcnd => ?_)
    · rw [if_pos hcnd] at hB
      exact gw_sub [1, 4, 5, 6, 7, 8, 9, 11] rfl (w_J1_removeNode_149  _ _ _ _ _ _ _ _ _ hB)
    · rw [if_neg hcnd] at hB
      refine gw_aload_n 3 rfl dJ1_removeNode_136 ?_
      refine gw_ifnull (tgt := 156) dJ1_removeNode_137 (by decide) (fun hcnd => ?_) (fun hcnd => ?_)
      · rw [if_pos hcnd] at hB
        exact gw_sub [1, 2, 3, 4, 5, 6, 7, 9, 10, 11] rfl (w_J1_removeNode_156 hk115 _ _ _ _ _ _ _ _ _ _ _ hB)
      · rw [if_neg hcnd] at hB
        refine gw_aload_n 3 rfl dJ1_removeNode_140 ?_
        refine gw_aload 0 rfl dJ1_removeNode_141 ?_
        obtain ⟨u0, hu5, hB⟩ := gB1_some hB
        obtain ⟨v4, s3, hv4, hB⟩ := gB2_some hB
        refine gw_callA (C := "PageGarden$Bed") (owner := "java/lang/Object") (x := ⟨"java/lang/Object", "equals", "(Ljava/lang/Object;)Z"⟩) (y := yX2_equals) (lw_app (lw_in (([Cond.methodLink "java/util/HashMap" 173 ⟨"java/lang/Object", "equals", "(Ljava/lang/Object;)Z"⟩, Cond.sameMethod "java/lang/Object" "java/lang/Object" "equals" "(Ljava/lang/Object;)Z", Cond.selects "PageGarden$Bed" ⟨"java/lang/Object", "equals", "(Ljava/lang/Object;)Z"⟩ yX2_equals, Cond.instanceMethod yX2_equals, Cond.initialized "PageGarden$Bed"] : List Cond)) [1127, 1129, 1131, 1132, 109] (by decide +kernel) (by decide +kernel)) (lw_meth q1133)) q1126 (show _ ∧ _ ∧ _ = some 1 from by decide +kernel) gcl1 hu5 (As := [vR v2]) (rest := []) (m_X2_equals _ _ _ _ _ hv4) (Nat.le_of_ble_eq_true rfl) (Nat.le_of_ble_eq_true rfl) rfl (Nat.le_of_ble_eq_true rfl) dJ1_removeNode_143 (gCont_i ?_)
        refine gw_if_eq (tgt := 156) dJ1_removeNode_146 (by decide) (fun hcnd => ?_) (fun hcnd => ?_)
        · rw [if_pos hcnd] at hB
          exact gw_sub [1, 2, 3, 4, 5, 6, 7, 9, 10, 11] rfl (w_J1_removeNode_156 hk115 _ _ _ _ _ _ _ _ _ _ _ hB)
        · rw [if_neg hcnd] at hB
          exact gw_sub [1, 4, 5, 6, 7, 8, 9, 11] rfl (w_J1_removeNode_149  _ _ _ _ _ _ _ _ _ hB)
theorem w_J1_removeNode_115 {E : gE} {F z0 n0 : Nat} {r : (Option Nat)} {s' : gS}   : ∀ (n : Nat) (l0 : Option Nat) (l1 : Int32) (l2 : Option Nat) (l3 : Option Nat) (l4 : Int32) (l5 : Int32) (l6 : Option Nat) (l7 : Option Nat) (l9 : Int32) (l10 : Option Nat) (l11 : Option Nat)  (s : gS), f_J1_removeNode_115 (gk E) F  n l0 l1 l2 l3 l4 l5 l6 l7 l9 l10 l11 s = some (r, s') → W_J1_removeNode E z0 n0 r s' 115 [(0, vR l0), (1, vI l1), (2, vR l2), (3, vR l3), (4, vI l4), (5, vI l5), (6, vR l6), (7, vR l7), (9, vI l9), (10, vR l10), (11, vR l11)] [] s := by
  intro n
  induction n with
  | zero => intro l0 l1 l2 l3 l4 l5 l6 l7 l9 l10 l11 s hB; cases hB
  | succ n ih => intro l0 l1 l2 l3 l4 l5 l6 l7 l9 l10 l11 s hB; exact w_J1_removeNode_115b ih l0 l1 l2 l3 l4 l5 l6 l7 l9 l10 l11 s hB
noncomputable def f_J1_removeNode_81 (κ : gK) (F : Nat)  (l0 : Option Nat) (l1 : Int32) (l2 : Option Nat) (l3 : Option Nat) (l4 : Int32) (l5 : Int32) (l6 : Option Nat) (l7 : Option Nat) (l9 : Int32) (l10 : Option Nat) (s : gS) : Option ((Option Nat) × gS) :=
  gB1 (gfR s l7 11 3) fun v1 =>
  if v1 = none then
    f_J1_removeNode_171 κ F  l0 l3 l4 l5 l6 l7 l9 l10 s
  else
    gB1 (gio s l7 [] [11]) fun v2 =>
    if v2 = 0 then
      f_J1_removeNode_115 κ F  F l0 l1 l2 l3 l4 l5 l6 l7 l9 l10 v1 s
    else
      none
set_option maxHeartbeats 4000000 in
theorem w_J1_removeNode_81 {E : gE} {F z0 n0 : Nat} {r : (Option Nat)} {s' : gS}   : ∀ (l0 : Option Nat) (l1 : Int32) (l2 : Option Nat) (l3 : Option Nat) (l4 : Int32) (l5 : Int32) (l6 : Option Nat) (l7 : Option Nat) (l9 : Int32) (l10 : Option Nat)  (s : gS), f_J1_removeNode_81 (gk E) F  l0 l1 l2 l3 l4 l5 l6 l7 l9 l10 s = some (r, s') → W_J1_removeNode E z0 n0 r s' 81 [(0, vR l0), (1, vI l1), (2, vR l2), (3, vR l3), (4, vI l4), (5, vI l5), (6, vR l6), (7, vR l7), (9, vI l9), (10, vR l10)] [] s := by
  intro l0 l1 l2 l3 l4 l5 l6 l7 l9 l10 s hB
  unfold f_J1_removeNode_81 at hB
  refine gw_aload 7 rfl dJ1_removeNode_81 ?_
  obtain ⟨v1, hv1, hB⟩ := gB1_some hB
  refine gw_getf (C := RJ19) (T := TJ19) (N := 6) (k := 3) gcl11 (by decide) in_J19 q821 (gfR_spec hv1) dJ1_removeNode_83 ?_
  refine gw_dup rfl dJ1_removeNode_86 ?_
  refine gw_astore (L' := [(11, vR v1), (0, vR l0), (1, vI l1), (2, vR l2), (3, vR l3), (4, vI l4), (5, vI l5), (6, vR l6), (7, vR l7), (9, vI l9), (10, vR l10)]) (Nat.le_of_ble_eq_true rfl) rfl dJ1_removeNode_87 ?_
  refine gw_ifnull (tgt := 171) dJ1_removeNode_89 (by decide) (fun hcnd => ?_) (fun hcnd => ?_)
  · rw [if_pos hcnd] at hB
    exact gw_sub [1, 4, 5, 6, 7, 8, 9, 10] rfl (w_J1_removeNode_171  _ _ _ _ _ _ _ _ _ hB)
  · rw [if_neg hcnd] at hB
    refine gw_aload 8 rfl dJ1_removeNode_92 ?_
    obtain ⟨v2, hv2, hB⟩ := gB1_some hB
    refine gw_inst (ys := []) (ns := [11]) gisY_java_util_HashMap_TreeNode gisN_java_util_HashMap_TreeNode hv2 q769 dJ1_removeNode_94 ?_
    refine gw_if_eq (tgt := 115) dJ1_removeNode_97 (by decide) (fun hcnd => ?_) (fun hcnd => ?_)
    · rw [if_pos hcnd] at hB
      exact gw_sub [1, 2, 3, 4, 5, 6, 7, 8, 9, 10, 0] rfl (w_J1_removeNode_115  F _ _ _ _ _ _ _ _ _ _ _ _ hB)
    · rw [if_neg hcnd] at hB
      refine gw_aload 8 rfl dJ1_removeNode_100 ?_
      cases hB
noncomputable def f_J1_removeNode_0 (κ : gK) (F : Nat)  (l0 : Option Nat) (l1 : Int32) (l2 : Option Nat) (l3 : Option Nat) (l4 : Int32) (l5 : Int32) (s : gS) : Option ((Option Nat) × gS) :=
  gB1 (gfR s l0 10 0) fun v1 =>
  if v1 = none then
    f_J1_removeNode_289 κ F  s
  else
    gB1 (gal s v1) fun v2 =>
    if v2 ≤ 0 then
      f_J1_removeNode_289 κ F  s
    else
      gB1 (gaR s v1 ((v2 - (1 : Int32)) &&& l1)) fun v3 =>
      if v3 = none then
        f_J1_removeNode_289 κ F  s
      else
        gB1 (gfI s v3 11 0) fun v4 =>
        if v4 = l1 then
          gB1 (gfR s v3 11 1) fun v5 =>
          if v5 = l2 then
            f_J1_removeNode_74 κ F  l0 l3 l4 l5 v1 v3 ((v2 - (1 : Int32)) &&& l1) s
          else
            if l2 = none then
              f_J1_removeNode_81 κ F  l0 l1 l2 l3 l4 l5 v1 v3 ((v2 - (1 : Int32)) &&& l1) none s
            else
              gB1 (gck s l2 1) fun _ =>
              gB2 (f_X2_equals κ F l2 v5 s) fun v7 s6 =>
              if v7 = 0 then
                f_J1_removeNode_81 κ F  l0 l1 l2 l3 l4 l5 v1 v3 ((v2 - (1 : Int32)) &&& l1) none s6
              else
                f_J1_removeNode_74 κ F  l0 l3 l4 l5 v1 v3 ((v2 - (1 : Int32)) &&& l1) s6
        else
          f_J1_removeNode_81 κ F  l0 l1 l2 l3 l4 l5 v1 v3 ((v2 - (1 : Int32)) &&& l1) none s
set_option maxHeartbeats 4000000 in
theorem w_J1_removeNode_0 {E : gE} {F z0 n0 : Nat} {r : (Option Nat)} {s' : gS}   : ∀ (l0 : Option Nat) (l1 : Int32) (l2 : Option Nat) (l3 : Option Nat) (l4 : Int32) (l5 : Int32)  (s : gS), f_J1_removeNode_0 (gk E) F  l0 l1 l2 l3 l4 l5 s = some (r, s') → W_J1_removeNode E z0 n0 r s' 0 [(0, vR l0), (1, vI l1), (2, vR l2), (3, vR l3), (4, vI l4), (5, vI l5)] [] s := by
  intro l0 l1 l2 l3 l4 l5 s hB
  unfold f_J1_removeNode_0 at hB
  refine gw_aload_n 0 rfl dJ1_removeNode_0 ?_
  obtain ⟨v1, hv1, hB⟩ := gB1_some hB
  refine gw_getf (C := RJ2) (T := TJ2) (N := 12) (k := 0) gcl10 (by decide) in_J2 q236 (gfR_spec hv1) dJ1_removeNode_1 ?_
  refine gw_dup rfl dJ1_removeNode_4 ?_
  refine gw_astore (L' := [(6, vR v1), (0, vR l0), (1, vI l1), (2, vR l2), (3, vR l3), (4, vI l4), (5, vI l5)]) (Nat.le_of_ble_eq_true rfl) rfl dJ1_removeNode_5 ?_
  refine gw_ifnull (tgt := 289) dJ1_removeNode_7 (by decide) (fun hcnd => ?_) (fun hcnd => ?_)
  · rw [if_pos hcnd] at hB
    exact gw_sub [] rfl (w_J1_removeNode_289   _ hB)
  · rw [if_neg hcnd] at hB
    refine gw_aload 0 rfl dJ1_removeNode_10 ?_
    obtain ⟨v2, hv2, hB⟩ := gB1_some hB
    refine gw_alen hv2 dJ1_removeNode_12 ?_
    refine gw_dup rfl dJ1_removeNode_13 ?_
    refine gw_istore (L' := [(8, vI v2), (6, vR v1), (0, vR l0), (1, vI l1), (2, vR l2), (3, vR l3), (4, vI l4), (5, vI l5)]) (Nat.le_of_ble_eq_true rfl) rfl dJ1_removeNode_14 ?_
    refine gw_if_le (tgt := 289) dJ1_removeNode_16 (by decide) (fun hcnd => ?_) (fun hcnd => ?_)
    · rw [if_pos hcnd] at hB
      exact gw_sub [] rfl (w_J1_removeNode_289   _ hB)
    · rw [if_neg hcnd] at hB
      refine gw_aload 1 rfl dJ1_removeNode_19 ?_
      refine gw_iload 0 rfl dJ1_removeNode_21 ?_
      refine gw_iconst (v := (1 : Int32)) (by decide) dJ1_removeNode_23 ?_
      refine gw_isub dJ1_removeNode_24 ?_
      refine gw_iload_n 3 rfl dJ1_removeNode_25 ?_
      refine gw_iand dJ1_removeNode_26 ?_
      refine gw_dup rfl dJ1_removeNode_27 ?_
      refine gw_istore (L' := [(9, vI ((v2 - (1 : Int32)) &&& l1)), (8, vI v2), (6, vR v1), (0, vR l0), (1, vI l1), (2, vR l2), (3, vR l3), (4, vI l4), (5, vI l5)]) (Nat.le_of_ble_eq_true rfl) rfl dJ1_removeNode_28 ?_
      obtain ⟨v3, hv3, hB⟩ := gB1_some hB
      refine gw_aaload hv3 dJ1_removeNode_30 ?_
      refine gw_dup rfl dJ1_removeNode_31 ?_
      refine gw_astore (L' := [(7, vR v3), (9, vI ((v2 - (1 : Int32)) &&& l1)), (8, vI v2), (6, vR v1), (0, vR l0), (1, vI l1), (2, vR l2), (3, vR l3), (4, vI l4), (5, vI l5)]) (Nat.le_of_ble_eq_true rfl) rfl dJ1_removeNode_32 ?_
      refine gw_ifnull (tgt := 289) dJ1_removeNode_34 (by decide) (fun hcnd => ?_) (fun hcnd => ?_)
      · rw [if_pos hcnd] at hB
        exact gw_sub [] rfl (w_J1_removeNode_289   _ hB)
      · rw [if_neg hcnd] at hB
        refine gw_null dJ1_removeNode_37 ?_
        refine gw_astore (L' := [(10, vR none), (7, vR v3), (9, vI ((v2 - (1 : Int32)) &&& l1)), (8, vI v2), (6, vR v1), (0, vR l0), (1, vI l1), (2, vR l2), (3, vR l3), (4, vI l4), (5, vI l5)]) (Nat.le_of_ble_eq_true rfl) rfl dJ1_removeNode_38 ?_
        refine gw_aload 1 rfl dJ1_removeNode_40 ?_
        obtain ⟨v4, hv4, hB⟩ := gB1_some hB
        refine gw_getf (C := RJ19) (T := TJ19) (N := 6) (k := 0) gcl11 (by decide) in_J19 q803 (gfI_spec hv4) dJ1_removeNode_42 ?_
        refine gw_iload_n 6 rfl dJ1_removeNode_45 ?_
        refine gw_icmp_ne (tgt := 81) dJ1_removeNode_46 (by decide) (fun hcnd => ?_) (fun hcnd => ?_)
        · rw [if_neg hcnd] at hB
          exact gw_sub [5, 6, 7, 8, 9, 10, 4, 1, 2, 0] rfl (w_J1_removeNode_81  _ _ _ _ _ _ _ _ _ _ _ hB)
        · rw [if_pos hcnd] at hB
          refine gw_aload 1 rfl dJ1_removeNode_49 ?_
          obtain ⟨v5, hv5, hB⟩ := gB1_some hB
          refine gw_getf (C := RJ19) (T := TJ19) (N := 6) (k := 1) gcl11 (by decide) in_J19 q810 (gfR_spec hv5) dJ1_removeNode_51 ?_
          refine gw_dup rfl dJ1_removeNode_54 ?_
          refine gw_astore (L' := [(12, vR v5), (10, vR none), (7, vR v3), (9, vI ((v2 - (1 : Int32)) &&& l1)), (8, vI v2), (6, vR v1), (0, vR l0), (1, vI l1), (2, vR l2), (3, vR l3), (4, vI l4), (5, vI l5)]) (Nat.le_of_ble_eq_true rfl) rfl dJ1_removeNode_55 ?_
          refine gw_aload_n 8 rfl dJ1_removeNode_57 ?_
          refine gw_acmp_eq (tgt := 74) dJ1_removeNode_58 (by decide) (fun hcnd => ?_) (fun hcnd => ?_)
          · rw [if_pos hcnd] at hB
            exact gw_sub [6, 9, 10, 11, 5, 2, 3] rfl (w_J1_removeNode_74  _ _ _ _ _ _ _ _ hB)
          · rw [if_neg hcnd] at hB
            refine gw_aload_n 8 rfl dJ1_removeNode_61 ?_
            refine gw_ifnull (tgt := 81) dJ1_removeNode_62 (by decide) (fun hcnd => ?_) (fun hcnd => ?_)
            · rw [if_pos hcnd] at hB
              exact gw_sub [6, 7, 8, 9, 10, 11, 5, 2, 3, 1] rfl (w_J1_removeNode_81  _ _ _ _ _ _ _ _ _ _ _ hB)
            · rw [if_neg hcnd] at hB
              refine gw_aload_n 8 rfl dJ1_removeNode_65 ?_
              refine gw_aload 0 rfl dJ1_removeNode_66 ?_
              obtain ⟨u0, hu8, hB⟩ := gB1_some hB
              obtain ⟨v7, s6, hv7, hB⟩ := gB2_some hB
              refine gw_callA (C := "PageGarden$Bed") (owner := "java/lang/Object") (x := ⟨"java/lang/Object", "equals", "(Ljava/lang/Object;)Z"⟩) (y := yX2_equals) (lw_app (lw_in (([Cond.methodLink "java/util/HashMap" 173 ⟨"java/lang/Object", "equals", "(Ljava/lang/Object;)Z"⟩, Cond.sameMethod "java/lang/Object" "java/lang/Object" "equals" "(Ljava/lang/Object;)Z", Cond.selects "PageGarden$Bed" ⟨"java/lang/Object", "equals", "(Ljava/lang/Object;)Z"⟩ yX2_equals, Cond.instanceMethod yX2_equals, Cond.initialized "PageGarden$Bed"] : List Cond)) [1127, 1129, 1131, 1132, 109] (by decide +kernel) (by decide +kernel)) (lw_meth q1133)) q1126 (show _ ∧ _ ∧ _ = some 1 from by decide +kernel) gcl1 hu8 (As := [vR v5]) (rest := []) (m_X2_equals _ _ _ _ _ hv7) (Nat.le_of_ble_eq_true rfl) (Nat.le_of_ble_eq_true rfl) rfl (Nat.le_of_ble_eq_true rfl) dJ1_removeNode_68 (gCont_i ?_)
              refine gw_if_eq (tgt := 81) dJ1_removeNode_71 (by decide) (fun hcnd => ?_) (fun hcnd => ?_)
              · rw [if_pos hcnd] at hB
                exact gw_sub [6, 7, 8, 9, 10, 11, 5, 2, 3, 1] rfl (w_J1_removeNode_81  _ _ _ _ _ _ _ _ _ _ _ hB)
              · rw [if_neg hcnd] at hB
                exact gw_sub [6, 9, 10, 11, 5, 2, 3] rfl (w_J1_removeNode_74  _ _ _ _ _ _ _ _ hB)
noncomputable def f_J1_removeNode (κ : gK) (F : Nat) (a0 : Option Nat) (a1 : Int32) (a2 : Option Nat) (a3 : Option Nat) (a4 : Int32) (a5 : Int32) (s : gS) : Option ((Option Nat) × gS) := f_J1_removeNode_0 κ F a0 a1 a2 a3 a4 a5 s
theorem m_J1_removeNode {E : gE} {F : Nat} (a0 : Option Nat) (a1 : Int32) (a2 : Option Nat) (a3 : Option Nat) (a4 : Int32) (a5 : Int32) (s : gS) (r : (Option Nat)) (s' : gS) (h : f_J1_removeNode (gk E) F a0 a1 a2 a3 a4 a5 s = some (r, s')) : gCT E 2 yJ1_removeNode (ws_ yJ1_removeNode cJ1_removeNode 14 (some (FieldType.object "java/util/HashMap$Node"))) [vR a0, vI a1, vR a2, vR a3, vI a4, vI a5] s (.inl (some (vR r))) s' := by
  refine gCT_of2 (fun h => absurd h (by decide)) (plainFor_of_name (by decide)) (Nat.le_of_ble_eq_true rfl) ?_
  exact gw_sub [0, 1, 2, 3, 4, 5] rfl (w_J1_removeNode_0 _ _ _ _ _ _ _ h)
def dkwJ1_remove_1 : List UInt8 := [180, 0, 162, 176]
abbrev dktJ1_remove_1 : List UInt8 := dkwJ1_remove_1 ++ []
def dkwJ1_remove_0 : List UInt8 := [42, 43, 184, 0, 149, 43, 1, 3, 4, 182, 0, 228, 89, 77, 199, 0, 7, 1, 167, 0, 7, 44]
abbrev dktJ1_remove_0 : List UInt8 := dkwJ1_remove_0 ++ dktJ1_remove_1
theorem dksJ1_remove_0 : cJ1_remove.data.toList.drop 0 = dktJ1_remove_0 := by decide +kernel
theorem dksJ1_remove_1 : cJ1_remove.data.toList.drop 22 = dktJ1_remove_1 := dk_seg dksJ1_remove_0 22 rfl rfl
theorem dJ1_remove_0 : decode cJ1_remove 0 = .ok (.aload_n 0, 1) := dk_42 (dk_at dksJ1_remove_0 0 rfl rfl)
theorem dJ1_remove_1 : decode cJ1_remove 1 = .ok (.aload_n 1, 1) := dk_43 (dk_at dksJ1_remove_0 1 rfl rfl)
theorem dJ1_remove_2 : decode cJ1_remove 2 = .ok (.invokestatic 149, 3) := dk_184 0 149 (dk_at dksJ1_remove_0 2 rfl rfl)
theorem dJ1_remove_5 : decode cJ1_remove 5 = .ok (.aload_n 1, 1) := dk_43 (dk_at dksJ1_remove_0 5 rfl rfl)
theorem dJ1_remove_6 : decode cJ1_remove 6 = .ok (.aconst_null, 1) := dk_1 (dk_at dksJ1_remove_0 6 rfl rfl)
theorem dJ1_remove_7 : decode cJ1_remove 7 = .ok (.iconst 0, 1) := dk_3 (dk_at dksJ1_remove_0 7 rfl rfl)
theorem dJ1_remove_8 : decode cJ1_remove 8 = .ok (.iconst 1, 1) := dk_4 (dk_at dksJ1_remove_0 8 rfl rfl)
theorem dJ1_remove_9 : decode cJ1_remove 9 = .ok (.invokevirtual 228, 3) := dk_182 0 228 (dk_at dksJ1_remove_0 9 rfl rfl)
theorem dJ1_remove_12 : decode cJ1_remove 12 = .ok (.dup, 1) := dk_89 (dk_at dksJ1_remove_0 12 rfl rfl)
theorem dJ1_remove_13 : decode cJ1_remove 13 = .ok (.astore_n 2, 1) := dk_77 (dk_at dksJ1_remove_0 13 rfl rfl)
theorem dJ1_remove_14 : decode cJ1_remove 14 = .ok (.ifnonnull 7, 3) := dk_199 0 7 (dk_at dksJ1_remove_0 14 rfl rfl)
theorem dJ1_remove_17 : decode cJ1_remove 17 = .ok (.aconst_null, 1) := dk_1 (dk_at dksJ1_remove_0 17 rfl rfl)
theorem dJ1_remove_18 : decode cJ1_remove 18 = .ok (.goto 7, 3) := dk_167 0 7 (dk_at dksJ1_remove_0 18 rfl rfl)
theorem dJ1_remove_21 : decode cJ1_remove 21 = .ok (.aload_n 2, 1) := dk_44 (dk_at dksJ1_remove_0 21 rfl rfl)
theorem dJ1_remove_22 : decode cJ1_remove 22 = .ok (.getfield 162, 3) := dk_180 0 162 (dk_at dksJ1_remove_1 0 rfl rfl)
theorem dJ1_remove_25 : decode cJ1_remove 25 = .ok (.areturn, 1) := dk_176 (dk_at dksJ1_remove_1 3 rfl rfl)
/-! java/util/HashMap.remove(Ljava/lang/Object;)Ljava/lang/Object; -/
abbrev M_J1_remove (z0 n0 : Nat) (s' : gS) : gM := (RJ1, cJ1_remove, 3, (some (FieldType.object "java/lang/Object")), "remove", [], 3, z0, n0, s'.2.1, s'.2.2)
abbrev W_J1_remove (E : gE) (z0 n0 : Nat) (r : (Option Nat)) (s' : gS) (pc : Nat) (L : List (Nat × gV)) (st : List gV) (s : gS) : Prop := gW E (M_J1_remove z0 n0 s') (gQm E (M_J1_remove z0 n0 s') (.inl (some (vR r))) s') pc L st s
noncomputable def f_J1_remove_25 (κ : gK) (F : Nat)  (t0 : Option Nat) (s : gS) : Option ((Option Nat) × gS) :=
  some (t0, s)
set_option maxHeartbeats 4000000 in
theorem w_J1_remove_25 {E : gE} {F z0 n0 : Nat} {r : (Option Nat)} {s' : gS}   : ∀  (t0 : Option Nat) (s : gS), f_J1_remove_25 (gk E) F  t0 s = some (r, s') → W_J1_remove E z0 n0 r s' 25 [] [vR t0] s := by
  intro t0 s hB
  unfold f_J1_remove_25 at hB
  obtain ⟨rfl, rfl⟩ := Prod.mk.inj (Option.some.inj hB)
  exact gw_aret rfl (Or.inl ⟨_, rfl⟩) rfl rfl dJ1_remove_25
noncomputable def f_J1_remove_0 (κ : gK) (F : Nat)  (l0 : Option Nat) (l1 : Option Nat) (s : gS) : Option ((Option Nat) × gS) :=
  gB2 (f_J1_hash κ F l1 s) fun v2 s1 =>
  gB1 (gck s1 l0 10) fun _ =>
  gB2 (f_J1_removeNode κ F l0 v2 l1 none (0 : Int32) (1 : Int32) s1) fun v4 s3 =>
  if v4 = none then
    f_J1_remove_25 κ F  none s3
  else
    gB1 (gfR s3 v4 11 2) fun v6 =>
    f_J1_remove_25 κ F  v6 s3
set_option maxHeartbeats 4000000 in
theorem w_J1_remove_0 {E : gE} {F z0 n0 : Nat} {r : (Option Nat)} {s' : gS}   : ∀ (l0 : Option Nat) (l1 : Option Nat)  (s : gS), f_J1_remove_0 (gk E) F  l0 l1 s = some (r, s') → W_J1_remove E z0 n0 r s' 0 [(0, vR l0), (1, vR l1)] [] s := by
  intro l0 l1 s hB
  unfold f_J1_remove_0 at hB
  refine gw_aload_n 0 rfl dJ1_remove_0 ?_
  refine gw_aload_n 1 rfl dJ1_remove_1 ?_
  obtain ⟨v2, s1, hv2, hB⟩ := gB2_some hB
  refine gw_callS (y := yJ1_hash) (lw_S q335 q336 q113 q337) hdS_J1_hash (As := [vR l1]) (rest := [vR l0]) (m_J1_hash _ _ _ _ hv2) (Nat.le_of_ble_eq_true rfl) (Nat.le_of_ble_eq_true rfl) rfl (Nat.le_of_ble_eq_true rfl) dJ1_remove_2 (gCont_i ?_)
  refine gw_aload_n 1 rfl dJ1_remove_5 ?_
  refine gw_null dJ1_remove_6 ?_
  refine gw_iconst (v := (0 : Int32)) (by decide) dJ1_remove_7 ?_
  refine gw_iconst (v := (1 : Int32)) (by decide) dJ1_remove_8 ?_
  obtain ⟨u0, hu5, hB⟩ := gB1_some hB
  obtain ⟨v4, s3, hv4, hB⟩ := gB2_some hB
  refine gw_callU (C := "java/util/LinkedHashMap") (owner := "java/util/HashMap") (x := ⟨"java/util/HashMap", "removeNode", "(ILjava/lang/Object;Ljava/lang/Object;ZZ)Ljava/util/HashMap$Node;"⟩) (y := yJ1_removeNode) (lw_app (lw_in (([Cond.methodLink "java/util/HashMap" 228 ⟨"java/util/HashMap", "removeNode", "(ILjava/lang/Object;Ljava/lang/Object;ZZ)Ljava/util/HashMap$Node;"⟩, Cond.sameMethod "java/util/HashMap" "java/util/HashMap" "removeNode" "(ILjava/lang/Object;Ljava/lang/Object;ZZ)Ljava/util/HashMap$Node;", Cond.selects "java/util/LinkedHashMap" ⟨"java/util/HashMap", "removeNode", "(ILjava/lang/Object;Ljava/lang/Object;ZZ)Ljava/util/HashMap$Node;"⟩ yJ1_removeNode, Cond.instanceMethod yJ1_removeNode, Cond.initialized "java/util/HashMap"] : List Cond)) [2138, 2140, 2141, 2139, 113] (by decide +kernel) (by decide +kernel)) (lw_meth q2142)) rfl (show _ ∧ _ ∧ _ = some 5 from by decide +kernel) gcl10 hu5 (As := [vI v2, vR l1, vR none, vI (0 : Int32), vI (1 : Int32)]) (rest := []) (m_J1_removeNode _ _ _ _ _ _ _ _ _ hv4) (Nat.le_of_ble_eq_true rfl) (Nat.le_of_ble_eq_true rfl) rfl (Nat.le_of_ble_eq_true rfl) dJ1_remove_9 (gCont_i ?_)
  refine gw_dup rfl dJ1_remove_12 ?_
  refine gw_astore_n (L' := [(2, vR v4), (0, vR l0), (1, vR l1)]) (Nat.le_of_ble_eq_true rfl) rfl dJ1_remove_13 ?_
  refine gw_ifnonnull (tgt := 21) dJ1_remove_14 (by decide) (fun hcnd => ?_) (fun hcnd => ?_)
  · rw [if_neg hcnd] at hB
    refine gw_aload_n 0 rfl dJ1_remove_21 ?_
    obtain ⟨v6, hv6, hB⟩ := gB1_some hB
    refine gw_getf (C := RJ19) (T := TJ19) (N := 6) (k := 2) gcl11 (by decide) in_J19 q814 (gfR_spec hv6) dJ1_remove_22 ?_
    exact gw_sub [] rfl (w_J1_remove_25  _ _ hB)
  · rw [if_pos hcnd] at hB
    refine gw_null dJ1_remove_17 ?_
    refine gw_goto (tgt := 25) dJ1_remove_18 (by decide) ?_
    exact gw_sub [] rfl (w_J1_remove_25  _ _ hB)
noncomputable def f_J1_remove (κ : gK) (F : Nat) (a0 : Option Nat) (a1 : Option Nat) (s : gS) : Option ((Option Nat) × gS) := f_J1_remove_0 κ F a0 a1 s
theorem m_J1_remove {E : gE} {F : Nat} (a0 : Option Nat) (a1 : Option Nat) (s : gS) (r : (Option Nat)) (s' : gS) (h : f_J1_remove (gk E) F a0 a1 s = some (r, s')) : gCT E 3 yJ1_remove (ws_ yJ1_remove cJ1_remove 3 (some (FieldType.object "java/lang/Object"))) [vR a0, vR a1] s (.inl (some (vR r))) s' := by
  refine gCT_of2 (fun h => absurd h (by decide)) (plainFor_of_name (by decide)) (Nat.le_of_ble_eq_true rfl) ?_
  exact gw_sub [0, 1] rfl (w_J1_remove_0 _ _ _ h)
def dkwX3_makeWild_1 : List UInt8 := [192, 0, 72, 77, 177]
abbrev dktX3_makeWild_1 : List UInt8 := dkwX3_makeWild_1 ++ []
def dkwX3_makeWild_0 : List UInt8 := [42, 180, 0, 20, 27, 178, 0, 42, 83, 42, 180, 0, 12, 42, 180, 0, 30, 27, 50, 182, 0, 204]
abbrev dktX3_makeWild_0 : List UInt8 := dkwX3_makeWild_0 ++ dktX3_makeWild_1
theorem dksX3_makeWild_0 : cX3_makeWild.data.toList.drop 0 = dktX3_makeWild_0 := by decide +kernel
theorem dksX3_makeWild_1 : cX3_makeWild.data.toList.drop 22 = dktX3_makeWild_1 := dk_seg dksX3_makeWild_0 22 rfl rfl
theorem dX3_makeWild_0 : decode cX3_makeWild 0 = .ok (.aload_n 0, 1) := dk_42 (dk_at dksX3_makeWild_0 0 rfl rfl)
theorem dX3_makeWild_1 : decode cX3_makeWild 1 = .ok (.getfield 20, 3) := dk_180 0 20 (dk_at dksX3_makeWild_0 1 rfl rfl)
theorem dX3_makeWild_4 : decode cX3_makeWild 4 = .ok (.iload_n 1, 1) := dk_27 (dk_at dksX3_makeWild_0 4 rfl rfl)
theorem dX3_makeWild_5 : decode cX3_makeWild 5 = .ok (.getstatic 42, 3) := dk_178 0 42 (dk_at dksX3_makeWild_0 5 rfl rfl)
theorem dX3_makeWild_8 : decode cX3_makeWild 8 = .ok (.aastore, 1) := dk_83 (dk_at dksX3_makeWild_0 8 rfl rfl)
theorem dX3_makeWild_9 : decode cX3_makeWild 9 = .ok (.aload_n 0, 1) := dk_42 (dk_at dksX3_makeWild_0 9 rfl rfl)
theorem dX3_makeWild_10 : decode cX3_makeWild 10 = .ok (.getfield 12, 3) := dk_180 0 12 (dk_at dksX3_makeWild_0 10 rfl rfl)
theorem dX3_makeWild_13 : decode cX3_makeWild 13 = .ok (.aload_n 0, 1) := dk_42 (dk_at dksX3_makeWild_0 13 rfl rfl)
theorem dX3_makeWild_14 : decode cX3_makeWild 14 = .ok (.getfield 30, 3) := dk_180 0 30 (dk_at dksX3_makeWild_0 14 rfl rfl)
theorem dX3_makeWild_17 : decode cX3_makeWild 17 = .ok (.iload_n 1, 1) := dk_27 (dk_at dksX3_makeWild_0 17 rfl rfl)
theorem dX3_makeWild_18 : decode cX3_makeWild 18 = .ok (.aaload, 1) := dk_50 (dk_at dksX3_makeWild_0 18 rfl rfl)
theorem dX3_makeWild_19 : decode cX3_makeWild 19 = .ok (.invokevirtual 204, 3) := dk_182 0 204 (dk_at dksX3_makeWild_0 19 rfl rfl)
theorem dX3_makeWild_22 : decode cX3_makeWild 22 = .ok (.checkcast 72, 3) := dk_192 0 72 (dk_at dksX3_makeWild_1 0 rfl rfl)
theorem dX3_makeWild_25 : decode cX3_makeWild 25 = .ok (.astore_n 2, 1) := dk_77 (dk_at dksX3_makeWild_1 3 rfl rfl)
theorem dX3_makeWild_26 : decode cX3_makeWild 26 = .ok (.return_, 1) := dk_177 (dk_at dksX3_makeWild_1 4 rfl rfl)
/-! PageGarden$Garden.makeWild(I)V -/
abbrev M_X3_makeWild (z0 n0 : Nat) (s' : gS) : gM := (RX3, cX3_makeWild, 3, none, "makeWild", [], 4, z0, n0, s'.2.1, s'.2.2)
abbrev W_X3_makeWild (E : gE) (z0 n0 : Nat) (r : Unit) (s' : gS) (pc : Nat) (L : List (Nat × gV)) (st : List gV) (s : gS) : Prop := gW E (M_X3_makeWild z0 n0 s') (gQm E (M_X3_makeWild z0 n0 s') (.inl none) s') pc L st s
noncomputable def f_X3_makeWild_0 (κ : gK) (F : Nat)  (l0 : Option Nat) (l1 : Int32) (s : gS) : Option (Unit × gS) :=
  gB1 (gfR s l0 7 1) fun v1 =>
  gB1 (gsR κ s v1 l1 (κ.2 0)) fun s2 =>
  gB1 (gfR s2 l0 7 0) fun v3 =>
  gB1 (gfR s2 l0 7 2) fun v4 =>
  gB1 (gaR s2 v4 l1) fun v5 =>
  gB1 (gck s2 v3 10) fun _ =>
  gB2 (f_J1_remove κ F v3 v5 s2) fun v7 s6 =>
  gB1 (gcm s6 v7 [2, 3]) fun _ =>
  some ((), s6)
set_option maxHeartbeats 4000000 in
theorem w_X3_makeWild_0 {E : gE} {F z0 n0 : Nat} {r : Unit} {s' : gS}   : ∀ (l0 : Option Nat) (l1 : Int32)  (s : gS), f_X3_makeWild_0 (gk E) F  l0 l1 s = some (r, s') → W_X3_makeWild E z0 n0 r s' 0 [(0, vR l0), (1, vI l1)] [] s := by
  intro l0 l1 s hB
  unfold f_X3_makeWild_0 at hB
  refine gw_aload_n 0 rfl dX3_makeWild_0 ?_
  obtain ⟨v1, hv1, hB⟩ := gB1_some hB
  refine gw_getf (C := RX3) (T := TX3) (N := 9) (k := 1) gcl7 (by decide) in_X3 q282 (gfR_spec hv1) dX3_makeWild_1 ?_
  refine gw_iload_n 1 rfl dX3_makeWild_4 ?_
  refine gw_gets (i := 0) (by decide) q279 dX3_makeWild_5 ?_
  obtain ⟨s2, hs2, hB⟩ := gB1_some hB
  refine gw_aastore hs2 dX3_makeWild_8 ?_
  refine gw_aload_n 0 rfl dX3_makeWild_9 ?_
  obtain ⟨v3, hv3, hB⟩ := gB1_some hB
  refine gw_getf (C := RX3) (T := TX3) (N := 9) (k := 0) gcl7 (by decide) in_X3 q281 (gfR_spec hv3) dX3_makeWild_10 ?_
  refine gw_aload_n 0 rfl dX3_makeWild_13 ?_
  obtain ⟨v4, hv4, hB⟩ := gB1_some hB
  refine gw_getf (C := RX3) (T := TX3) (N := 9) (k := 2) gcl7 (by decide) in_X3 q284 (gfR_spec hv4) dX3_makeWild_14 ?_
  refine gw_iload_n 1 rfl dX3_makeWild_17 ?_
  obtain ⟨v5, hv5, hB⟩ := gB1_some hB
  refine gw_aaload hv5 dX3_makeWild_18 ?_
  obtain ⟨u0, hu8, hB⟩ := gB1_some hB
  obtain ⟨v7, s6, hv7, hB⟩ := gB2_some hB
  refine gw_callU (C := "java/util/LinkedHashMap") (owner := "java/util/HashMap") (x := ⟨"java/util/LinkedHashMap", "remove", "(Ljava/lang/Object;)Ljava/lang/Object;"⟩) (y := yJ1_remove) (lw_app (lw_in (([Cond.methodLink "PageGarden$Garden" 204 ⟨"java/util/LinkedHashMap", "remove", "(Ljava/lang/Object;)Ljava/lang/Object;"⟩, Cond.sameMethod "java/util/LinkedHashMap" "java/util/HashMap" "remove" "(Ljava/lang/Object;)Ljava/lang/Object;", Cond.selects "java/util/LinkedHashMap" ⟨"java/util/LinkedHashMap", "remove", "(Ljava/lang/Object;)Ljava/lang/Object;"⟩ yJ1_remove, Cond.instanceMethod yJ1_remove, Cond.initialized "java/util/HashMap"] : List Cond)) [2161, 2162, 2164, 2134, 113] (by decide +kernel) (by decide +kernel)) (lw_meth q2137)) rfl (show _ ∧ _ ∧ _ = some 1 from by decide +kernel) gcl10 hu8 (As := [vR v5]) (rest := []) (m_J1_remove _ _ _ _ _ hv7) (Nat.le_of_ble_eq_true rfl) (Nat.le_of_ble_eq_true rfl) rfl (Nat.le_of_ble_eq_true rfl) dX3_makeWild_19 (gCont_i ?_)
  obtain ⟨u0, hu9, hB⟩ := gB1_some hB
  refine gw_castM (cs := [2, 3]) gcm_PageGarden_Page hu9 q1244 dX3_makeWild_22 ?_
  refine gw_astore_n (L' := [(2, vR v7), (0, vR l0), (1, vI l1)]) (Nat.le_of_ble_eq_true rfl) rfl dX3_makeWild_25 ?_
  obtain ⟨rfl, rfl⟩ := Prod.mk.inj (Option.some.inj hB)
  exact gw_vret rfl rfl rfl dX3_makeWild_26
noncomputable def f_X3_makeWild (κ : gK) (F : Nat) (a0 : Option Nat) (a1 : Int32) (s : gS) : Option (Unit × gS) := f_X3_makeWild_0 κ F a0 a1 s
theorem m_X3_makeWild {E : gE} {F : Nat} (a0 : Option Nat) (a1 : Int32) (s : gS) (r : Unit) (s' : gS) (h : f_X3_makeWild (gk E) F a0 a1 s = some (r, s')) : gCT E 4 yX3_makeWild (ws_ yX3_makeWild cX3_makeWild 3 none) [vR a0, vI a1] s (.inl none) s' := by
  refine gCT_of2 (fun h => absurd h (by decide)) (plainFor_of_name (by decide)) (Nat.le_of_ble_eq_true rfl) ?_
  exact gw_sub [0, 1] rfl (w_X3_makeWild_0 _ _ _ h)
def dkwX3_drop_2 : List UInt8 := [182, 0, 212, 167, 255, 229, 42, 1, 181, 0, 80, 27, 172]
abbrev dktX3_drop_2 : List UInt8 := dkwX3_drop_2 ++ []
def dkwX3_drop_1 : List UInt8 := [185, 1, 74, 1, 0, 153, 0, 24, 44, 185, 1, 79, 1, 0, 192, 1, 82, 78, 42, 45, 180, 1, 84]
abbrev dktX3_drop_1 : List UInt8 := dkwX3_drop_1 ++ dktX3_drop_2
def dkwX3_drop_0 : List UInt8 := [42, 180, 0, 80, 180, 0, 194, 182, 1, 69, 60, 42, 180, 0, 80, 180, 0, 194, 182, 1, 70, 77, 44]
abbrev dktX3_drop_0 : List UInt8 := dkwX3_drop_0 ++ dktX3_drop_1
theorem dksX3_drop_0 : cX3_drop.data.toList.drop 0 = dktX3_drop_0 := by decide +kernel
theorem dksX3_drop_1 : cX3_drop.data.toList.drop 23 = dktX3_drop_1 := dk_seg dksX3_drop_0 23 rfl rfl
theorem dksX3_drop_2 : cX3_drop.data.toList.drop 46 = dktX3_drop_2 := dk_seg dksX3_drop_1 23 rfl rfl
theorem dX3_drop_0 : decode cX3_drop 0 = .ok (.aload_n 0, 1) := dk_42 (dk_at dksX3_drop_0 0 rfl rfl)
theorem dX3_drop_1 : decode cX3_drop 1 = .ok (.getfield 80, 3) := dk_180 0 80 (dk_at dksX3_drop_0 1 rfl rfl)
theorem dX3_drop_4 : decode cX3_drop 4 = .ok (.getfield 194, 3) := dk_180 0 194 (dk_at dksX3_drop_0 4 rfl rfl)
theorem dX3_drop_7 : decode cX3_drop 7 = .ok (.invokevirtual 325, 3) := dk_182 1 69 (dk_at dksX3_drop_0 7 rfl rfl)
theorem dX3_drop_10 : decode cX3_drop 10 = .ok (.istore_n 1, 1) := dk_60 (dk_at dksX3_drop_0 10 rfl rfl)
theorem dX3_drop_11 : decode cX3_drop 11 = .ok (.aload_n 0, 1) := dk_42 (dk_at dksX3_drop_0 11 rfl rfl)
theorem dX3_drop_12 : decode cX3_drop 12 = .ok (.getfield 80, 3) := dk_180 0 80 (dk_at dksX3_drop_0 12 rfl rfl)
theorem dX3_drop_15 : decode cX3_drop 15 = .ok (.getfield 194, 3) := dk_180 0 194 (dk_at dksX3_drop_0 15 rfl rfl)
theorem dX3_drop_18 : decode cX3_drop 18 = .ok (.invokevirtual 326, 3) := dk_182 1 70 (dk_at dksX3_drop_0 18 rfl rfl)
theorem dX3_drop_21 : decode cX3_drop 21 = .ok (.astore_n 2, 1) := dk_77 (dk_at dksX3_drop_0 21 rfl rfl)
theorem dX3_drop_22 : decode cX3_drop 22 = .ok (.aload_n 2, 1) := dk_44 (dk_at dksX3_drop_0 22 rfl rfl)
theorem dX3_drop_23 : decode cX3_drop 23 = .ok (.invokeinterface 330 1, 5) := by decide +kernel
theorem dX3_drop_28 : decode cX3_drop 28 = .ok (.ifCond .eq 24, 3) := dk_153 0 24 (dk_at dksX3_drop_1 5 rfl rfl)
theorem dX3_drop_31 : decode cX3_drop 31 = .ok (.aload_n 2, 1) := dk_44 (dk_at dksX3_drop_1 8 rfl rfl)
theorem dX3_drop_32 : decode cX3_drop 32 = .ok (.invokeinterface 335 1, 5) := by decide +kernel
theorem dX3_drop_37 : decode cX3_drop 37 = .ok (.checkcast 338, 3) := dk_192 1 82 (dk_at dksX3_drop_1 14 rfl rfl)
theorem dX3_drop_40 : decode cX3_drop 40 = .ok (.astore_n 3, 1) := dk_78 (dk_at dksX3_drop_1 17 rfl rfl)
theorem dX3_drop_41 : decode cX3_drop 41 = .ok (.aload_n 0, 1) := dk_42 (dk_at dksX3_drop_1 18 rfl rfl)
theorem dX3_drop_42 : decode cX3_drop 42 = .ok (.aload_n 3, 1) := dk_45 (dk_at dksX3_drop_1 19 rfl rfl)
theorem dX3_drop_43 : decode cX3_drop 43 = .ok (.getfield 340, 3) := dk_180 1 84 (dk_at dksX3_drop_1 20 rfl rfl)
theorem dX3_drop_46 : decode cX3_drop 46 = .ok (.invokevirtual 212, 3) := dk_182 0 212 (dk_at dksX3_drop_2 0 rfl rfl)
theorem dX3_drop_49 : decode cX3_drop 49 = .ok (.goto (-27), 3) := dk_167 255 229 (dk_at dksX3_drop_2 3 rfl rfl)
theorem dX3_drop_52 : decode cX3_drop 52 = .ok (.aload_n 0, 1) := dk_42 (dk_at dksX3_drop_2 6 rfl rfl)
theorem dX3_drop_53 : decode cX3_drop 53 = .ok (.aconst_null, 1) := dk_1 (dk_at dksX3_drop_2 7 rfl rfl)
theorem dX3_drop_54 : decode cX3_drop 54 = .ok (.putfield 80, 3) := dk_181 0 80 (dk_at dksX3_drop_2 8 rfl rfl)
theorem dX3_drop_57 : decode cX3_drop 57 = .ok (.iload_n 1, 1) := dk_27 (dk_at dksX3_drop_2 11 rfl rfl)
theorem dX3_drop_58 : decode cX3_drop 58 = .ok (.ireturn, 1) := dk_172 (dk_at dksX3_drop_2 12 rfl rfl)
/-! PageGarden$Garden.drop()I -/
abbrev M_X3_drop (z0 n0 : Nat) (s' : gS) : gM := (RX3, cX3_drop, 4, (some FieldType.int), "drop", [], 7, z0, n0, s'.2.1, s'.2.2)
abbrev W_X3_drop (E : gE) (z0 n0 : Nat) (r : Int32) (s' : gS) (pc : Nat) (L : List (Nat × gV)) (st : List gV) (s : gS) : Prop := gW E (M_X3_drop z0 n0 s') (gQm E (M_X3_drop z0 n0 s') (.inl (some (vI r))) s') pc L st s
noncomputable def f_X3_drop_22b (κ : gK) (F : Nat) (k22 : Option Nat → Int32 → Option Nat → gS → Option (Int32 × gS)) (l0 : Option Nat) (l1 : Int32) (l2 : Option Nat) (s : gS) : Option (Int32 × gS) :=
  gB1 (gck s l2 14) fun _ =>
  gB2 (f_J36_hasNext κ F l2  s) fun v2 s1 =>
  if v2 = 0 then
    gB1 (gpf κ s1 l0 7 6 (va_rf none)) fun s4 =>
    some (l1, s4)
  else
    gB1 (gck s1 l2 14) fun _ =>
    gB2 (f_J37_next κ F l2  s1) fun v6 s5 =>
    gB1 (gcc s5 v6 1) fun _ =>
    gB1 (gfI s5 v6 1 0) fun v9 =>
    gB1 (gck s5 l0 7) fun _ =>
    gB2 (f_X3_makeWild κ F l0 v9 s5) fun v11 s10 =>
    k22 l0 l1 l2 s10
noncomputable def f_X3_drop_22 (κ : gK) (F : Nat)  : Nat → Option Nat → Int32 → Option Nat → gS → Option (Int32 × gS)
  | 0 => fun _ _ _ _ => none
  | n + 1 => f_X3_drop_22b κ F  (f_X3_drop_22 κ F  n)
set_option maxHeartbeats 4000000 in
theorem w_X3_drop_22b {E : gE} {F z0 n0 : Nat} {r : Int32} {s' : gS} {k22 : Option Nat → Int32 → Option Nat → gS → Option (Int32 × gS)} (hk22 : ∀ (l0 : Option Nat) (l1 : Int32) (l2 : Option Nat) (s : gS), k22 l0 l1 l2 s = some (r, s') → W_X3_drop E z0 n0 r s' 22 [(0, vR l0), (1, vI l1), (2, vR l2)] [] s) : ∀ (l0 : Option Nat) (l1 : Int32) (l2 : Option Nat)  (s : gS), f_X3_drop_22b (gk E) F k22 l0 l1 l2 s = some (r, s') → W_X3_drop E z0 n0 r s' 22 [(0, vR l0), (1, vI l1), (2, vR l2)] [] s := by
  intro l0 l1 l2 s hB
  unfold f_X3_drop_22b at hB
  refine gw_aload_n 2 rfl dX3_drop_22 ?_
  obtain ⟨u0, hu3, hB⟩ := gB1_some hB
  obtain ⟨v2, s1, hv2, hB⟩ := gB2_some hB
  refine gw_callF (C := "java/util/LinkedHashMap$LinkedKeyIterator") (x := ⟨"java/util/Iterator", "hasNext", "()Z"⟩) (y := yJ36_hasNext) (lw_app (lw_in (([Cond.methodLink "PageGarden$Garden" 330 ⟨"java/util/Iterator", "hasNext", "()Z"⟩, Cond.selects "java/util/LinkedHashMap$LinkedKeyIterator" ⟨"java/util/Iterator", "hasNext", "()Z"⟩ yJ36_hasNext, Cond.instanceMethod yJ36_hasNext, Cond.initialized yJ36_hasNext.cls] : List Cond)) [2265, 1911, 1913, 155] (by decide +kernel) (by decide +kernel)) (lw_meth q1915)) q1903 q1902 q1914 q1912 q1910 (show _ ∧ _ ∧ _ = some 0 from by decide +kernel) gcl14 hu3 (As := []) (rest := []) (m_J36_hasNext _ _ _ _ hv2) (Nat.le_of_ble_eq_true rfl) (Nat.le_of_ble_eq_true rfl) rfl (Nat.le_of_ble_eq_true rfl) dX3_drop_23 (gCont_i ?_)
  refine gw_if_eq (tgt := 52) dX3_drop_28 (by decide) (fun hcnd => ?_) (fun hcnd => ?_)
  · rw [if_pos hcnd] at hB
    refine gw_aload_n 0 rfl dX3_drop_52 ?_
    refine gw_null dX3_drop_53 ?_
    obtain ⟨s4, hs4, hB⟩ := gB1_some hB
    refine gw_putf (C := RX3) (T := TX3) (N := 9) (k := 6) tyX3 tyX3_ok nmX3 gcl7 (by decide) in_X3 q289 rfl (tyX3_ok 6 (by decide)) (gNF_o _ _) hs4 dX3_drop_54 ?_
    refine gw_iload_n 1 rfl dX3_drop_57 ?_
    obtain ⟨rfl, rfl⟩ := Prod.mk.inj (Option.some.inj hB)
    exact gw_iret rfl rfl rfl dX3_drop_58
  · rw [if_neg hcnd] at hB
    refine gw_aload_n 2 rfl dX3_drop_31 ?_
    obtain ⟨u0, hu7, hB⟩ := gB1_some hB
    obtain ⟨v6, s5, hv6, hB⟩ := gB2_some hB
    refine gw_callF (C := "java/util/LinkedHashMap$LinkedKeyIterator") (x := ⟨"java/util/Iterator", "next", "()Ljava/lang/Object;"⟩) (y := yJ37_next) (lw_app (lw_in (([Cond.methodLink "PageGarden$Garden" 335 ⟨"java/util/Iterator", "next", "()Ljava/lang/Object;"⟩, Cond.selects "java/util/LinkedHashMap$LinkedKeyIterator" ⟨"java/util/Iterator", "next", "()Ljava/lang/Object;"⟩ yJ37_next, Cond.instanceMethod yJ37_next, Cond.initialized yJ37_next.cls] : List Cond)) [2267, 1931, 1933, 156] (by decide +kernel) (by decide +kernel)) (lw_meth q1935)) q1919 q1918 q1934 q1932 q1910 (show _ ∧ _ ∧ _ = some 0 from by decide +kernel) gcl14 hu7 (As := []) (rest := []) (m_J37_next _ _ _ _ hv6) (Nat.le_of_ble_eq_true rfl) (Nat.le_of_ble_eq_true rfl) rfl (Nat.le_of_ble_eq_true rfl) dX3_drop_32 (gCont_i ?_)
    obtain ⟨u0, hu8, hB⟩ := gB1_some hB
    refine gw_cast (C := RX2) gcl1 hu8 q2268 (Or.inl rfl) dX3_drop_37 ?_
    refine gw_astore_n (L' := [(3, vR v6), (0, vR l0), (1, vI l1), (2, vR l2)]) (Nat.le_of_ble_eq_true rfl) rfl dX3_drop_40 ?_
    refine gw_aload_n 1 rfl dX3_drop_41 ?_
    refine gw_aload_n 0 rfl dX3_drop_42 ?_
    obtain ⟨v9, hv9, hB⟩ := gB1_some hB
    refine gw_getfN (C := RX2) (T := TX2) (N := 1) (k := 0) gcl1 (by decide) in_X2 q185 (gfI_spec hv9) dX3_drop_43 ?_
    obtain ⟨u0, hu12, hB⟩ := gB1_some hB
    obtain ⟨v11, s10, hv11, hB⟩ := gB2_some hB
    refine gw_callV (y := yX3_makeWild) (lw_V q2157 q2159 qs30 q110 q2160) hdV_X3_makeWild gcl7 hu12 (As := [vI v9]) (rest := []) (m_X3_makeWild _ _ _ _ _ hv11) (Nat.le_of_ble_eq_true rfl) (Nat.le_of_ble_eq_true rfl) rfl (Nat.le_of_ble_eq_true rfl) dX3_drop_46 (gCont_v ?_)
    refine gw_goto (tgt := 22) dX3_drop_49 (by decide) ?_
    exact gw_sub [1, 2, 3] rfl (hk22 _ _ _ _ hB)
theorem w_X3_drop_22 {E : gE} {F z0 n0 : Nat} {r : Int32} {s' : gS}   : ∀ (n : Nat) (l0 : Option Nat) (l1 : Int32) (l2 : Option Nat)  (s : gS), f_X3_drop_22 (gk E) F  n l0 l1 l2 s = some (r, s') → W_X3_drop E z0 n0 r s' 22 [(0, vR l0), (1, vI l1), (2, vR l2)] [] s := by
  intro n
  induction n with
  | zero => intro l0 l1 l2 s hB; cases hB
  | succ n ih => intro l0 l1 l2 s hB; exact w_X3_drop_22b ih l0 l1 l2 s hB
noncomputable def f_X3_drop_0 (κ : gK) (F : Nat)  (l0 : Option Nat) (s : gS) : Option (Int32 × gS) :=
  gB1 (gfR s l0 7 6) fun v1 =>
  gB1 (gfR s v1 6 0) fun v2 =>
  gB1 (gck s v2 12) fun _ =>
  gB2 (f_J27_size κ F v2  s) fun v4 s3 =>
  gB1 (gfR s3 l0 7 6) fun v6 =>
  gB1 (gfR s3 v6 6 0) fun v7 =>
  gB1 (gck s3 v7 12) fun _ =>
  gB2 (f_J27_iterator κ F v7  s3) fun v9 s8 =>
  f_X3_drop_22 κ F  F l0 v4 v9 s8
set_option maxHeartbeats 4000000 in
theorem w_X3_drop_0 {E : gE} {F z0 n0 : Nat} {r : Int32} {s' : gS}   : ∀ (l0 : Option Nat)  (s : gS), f_X3_drop_0 (gk E) F  l0 s = some (r, s') → W_X3_drop E z0 n0 r s' 0 [(0, vR l0)] [] s := by
  intro l0 s hB
  unfold f_X3_drop_0 at hB
  refine gw_aload_n 0 rfl dX3_drop_0 ?_
  obtain ⟨v1, hv1, hB⟩ := gB1_some hB
  refine gw_getf (C := RX3) (T := TX3) (N := 9) (k := 6) gcl7 (by decide) in_X3 q289 (gfR_spec hv1) dX3_drop_1 ?_
  obtain ⟨v2, hv2, hB⟩ := gB1_some hB
  refine gw_getfN (C := RX7) (T := TX7) (N := 3) (k := 0) gcl6 (by decide) in_X7 q1787 (gfR_spec hv2) dX3_drop_4 ?_
  obtain ⟨u0, hu5, hB⟩ := gB1_some hB
  obtain ⟨v4, s3, hv4, hB⟩ := gB2_some hB
  refine gw_callU (C := "java/util/LinkedHashSet") (owner := "java/util/HashSet") (x := ⟨"java/util/LinkedHashSet", "size", "()I"⟩) (y := yJ27_size) (lw_app (lw_in (([Cond.methodLink "PageGarden$Garden" 325 ⟨"java/util/LinkedHashSet", "size", "()I"⟩, Cond.sameMethod "java/util/LinkedHashSet" "java/util/HashSet" "size" "()I", Cond.selects "java/util/LinkedHashSet" ⟨"java/util/LinkedHashSet", "size", "()I"⟩ yJ27_size, Cond.instanceMethod yJ27_size, Cond.initialized "java/util/HashSet"] : List Cond)) [2262, 2248, 2250, 2251, 146] (by decide +kernel) (by decide +kernel)) (lw_meth q2252)) rfl (show _ ∧ _ ∧ _ = some 0 from by decide +kernel) gcl12 hu5 (As := []) (rest := []) (m_J27_size _ _ _ _ hv4) (Nat.le_of_ble_eq_true rfl) (Nat.le_of_ble_eq_true rfl) rfl (Nat.le_of_ble_eq_true rfl) dX3_drop_7 (gCont_i ?_)
  refine gw_istore_n (L' := [(1, vI v4), (0, vR l0)]) (Nat.le_of_ble_eq_true rfl) rfl dX3_drop_10 ?_
  refine gw_aload_n 1 rfl dX3_drop_11 ?_
  obtain ⟨v6, hv6, hB⟩ := gB1_some hB
  refine gw_getf (C := RX3) (T := TX3) (N := 9) (k := 6) gcl7 (by decide) in_X3 q289 (gfR_spec hv6) dX3_drop_12 ?_
  obtain ⟨v7, hv7, hB⟩ := gB1_some hB
  refine gw_getfN (C := RX7) (T := TX7) (N := 3) (k := 0) gcl6 (by decide) in_X7 q1787 (gfR_spec hv7) dX3_drop_15 ?_
  obtain ⟨u0, hu10, hB⟩ := gB1_some hB
  obtain ⟨v9, s8, hv9, hB⟩ := gB2_some hB
  refine gw_callU (C := "java/util/LinkedHashSet") (owner := "java/util/HashSet") (x := ⟨"java/util/LinkedHashSet", "iterator", "()Ljava/util/Iterator;"⟩) (y := yJ27_iterator) (lw_app (lw_in (([Cond.methodLink "PageGarden$Garden" 326 ⟨"java/util/LinkedHashSet", "iterator", "()Ljava/util/Iterator;"⟩, Cond.sameMethod "java/util/LinkedHashSet" "java/util/HashSet" "iterator" "()Ljava/util/Iterator;", Cond.selects "java/util/LinkedHashSet" ⟨"java/util/LinkedHashSet", "iterator", "()Ljava/util/Iterator;"⟩ yJ27_iterator, Cond.instanceMethod yJ27_iterator, Cond.initialized "java/util/HashSet"] : List Cond)) [2263, 1800, 1802, 1803, 146] (by decide +kernel) (by decide +kernel)) (lw_meth q1804)) rfl (show _ ∧ _ ∧ _ = some 0 from by decide +kernel) gcl12 hu10 (As := []) (rest := []) (m_J27_iterator _ _ _ _ hv9) (Nat.le_of_ble_eq_true rfl) (Nat.le_of_ble_eq_true rfl) rfl (Nat.le_of_ble_eq_true rfl) dX3_drop_18 (gCont_i ?_)
  refine gw_astore_n (L' := [(2, vR v9), (1, vI v4), (0, vR l0)]) (Nat.le_of_ble_eq_true rfl) rfl dX3_drop_21 ?_
  exact gw_sub [2, 1, 0] rfl (w_X3_drop_22  F _ _ _ _ hB)
noncomputable def f_X3_drop (κ : gK) (F : Nat) (a0 : Option Nat) (s : gS) : Option (Int32 × gS) := f_X3_drop_0 κ F a0 s
theorem m_X3_drop {E : gE} {F : Nat} (a0 : Option Nat) (s : gS) (r : Int32) (s' : gS) (h : f_X3_drop (gk E) F a0 s = some (r, s')) : gCT E 7 yX3_drop (ws_ yX3_drop cX3_drop 4 (some FieldType.int)) [vR a0] s (.inl (some (vI r))) s' := by
  refine gCT_of2 (fun h => absurd h (by decide)) (plainFor_of_name (by decide)) (Nat.le_of_ble_eq_true rfl) ?_
  exact gw_sub [0] rfl (w_X3_drop_0 _ _ h)
def dkwX3_abort_0 : List UInt8 := [42, 182, 0, 227, 42, 182, 1, 87, 172]
abbrev dktX3_abort_0 : List UInt8 := dkwX3_abort_0 ++ []
theorem dksX3_abort_0 : cX3_abort.data.toList.drop 0 = dktX3_abort_0 := by decide +kernel
theorem dX3_abort_0 : decode cX3_abort 0 = .ok (.aload_n 0, 1) := dk_42 (dk_at dksX3_abort_0 0 rfl rfl)
theorem dX3_abort_1 : decode cX3_abort 1 = .ok (.invokevirtual 227, 3) := dk_182 0 227 (dk_at dksX3_abort_0 1 rfl rfl)
theorem dX3_abort_4 : decode cX3_abort 4 = .ok (.aload_n 0, 1) := dk_42 (dk_at dksX3_abort_0 4 rfl rfl)
theorem dX3_abort_5 : decode cX3_abort 5 = .ok (.invokevirtual 343, 3) := dk_182 1 87 (dk_at dksX3_abort_0 5 rfl rfl)
theorem dX3_abort_8 : decode cX3_abort 8 = .ok (.ireturn, 1) := dk_172 (dk_at dksX3_abort_0 8 rfl rfl)
/-! PageGarden$Garden.abort()I -/
abbrev M_X3_abort (z0 n0 : Nat) (s' : gS) : gM := (RX3, cX3_abort, 1, (some FieldType.int), "abort", [], 11, z0, n0, s'.2.1, s'.2.2)
abbrev W_X3_abort (E : gE) (z0 n0 : Nat) (r : (Int32 ⊕ String)) (s' : gS) (pc : Nat) (L : List (Nat × gV)) (st : List gV) (s : gS) : Prop := gW E (M_X3_abort z0 n0 s') (gQm E (M_X3_abort z0 n0 s') (gOi r) s') pc L st s
noncomputable def f_X3_abort_0 (κ : gK) (F : Nat)  (l0 : Option Nat) (s : gS) : Option ((Int32 ⊕ String) × gS) :=
  gB1 (gck s l0 7) fun _ =>
  gB3 (f_X3_requireDraft κ F l0  s) fun v2 s1 =>
  gB1 (gck s1 l0 7) fun _ =>
  gB2 (f_X3_drop κ F l0  s1) fun v5 s4 =>
  some ((.inl v5), s4)
set_option maxHeartbeats 4000000 in
theorem w_X3_abort_0 {E : gE} {F z0 n0 : Nat} {r : (Int32 ⊕ String)} {s' : gS}   : ∀ (l0 : Option Nat)  (s : gS), f_X3_abort_0 (gk E) F  l0 s = some (r, s') → W_X3_abort E z0 n0 r s' 0 [(0, vR l0)] [] s := by
  intro l0 s hB
  unfold f_X3_abort_0 at hB
  refine gw_aload_n 0 rfl dX3_abort_0 ?_
  obtain ⟨u0, hu3, hB⟩ := gB1_some hB
  rcases gB3_some hB with ⟨v2, s1, hv2, hB⟩ | ⟨Cv2, hv2, hzv2⟩
  rotate_left
  · subst hzv2
    exact gw_callV (y := yX3_requireDraft) (lw_V q2010 q2012 qs22 q110 q2013) hdV_X3_requireDraft gcl7 hu3 (As := []) (rest := []) (m_X3_requireDraft _ _ _ _ hv2) (Nat.le_of_ble_eq_true rfl) (Nat.le_of_ble_eq_true rfl) rfl (Nat.le_of_ble_eq_true rfl) dX3_abort_1 (gCont_x (gx_out rfl rfl rfl))
  refine gw_callV (y := yX3_requireDraft) (lw_V q2010 q2012 qs22 q110 q2013) hdV_X3_requireDraft gcl7 hu3 (As := []) (rest := []) (m_X3_requireDraft _ _ _ _ hv2) (Nat.le_of_ble_eq_true rfl) (Nat.le_of_ble_eq_true rfl) rfl (Nat.le_of_ble_eq_true rfl) dX3_abort_1 (gCont_v ?_)
  refine gw_aload_n 0 rfl dX3_abort_4 ?_
  obtain ⟨u0, hu6, hB⟩ := gB1_some hB
  obtain ⟨v5, s4, hv5, hB⟩ := gB2_some hB
  refine gw_callV (y := yX3_drop) (lw_V q2258 q2260 qs34 q110 q2261) hdV_X3_drop gcl7 hu6 (As := []) (rest := []) (m_X3_drop _ _ _ _ hv5) (Nat.le_of_ble_eq_true rfl) (Nat.le_of_ble_eq_true rfl) rfl (Nat.le_of_ble_eq_true rfl) dX3_abort_5 (gCont_i ?_)
  obtain ⟨rfl, rfl⟩ := Prod.mk.inj (Option.some.inj hB)
  exact gw_iret rfl rfl rfl dX3_abort_8
noncomputable def f_X3_abort (κ : gK) (F : Nat) (a0 : Option Nat) (s : gS) : Option ((Int32 ⊕ String) × gS) := f_X3_abort_0 κ F a0 s
theorem m_X3_abort {E : gE} {F : Nat} (a0 : Option Nat) (s : gS) (r : (Int32 ⊕ String)) (s' : gS) (h : f_X3_abort (gk E) F a0 s = some (r, s')) : gCT E 11 yX3_abort (ws_ yX3_abort cX3_abort 1 (some FieldType.int)) [vR a0] s (gOi r) s' := by
  refine gCT_of2 (fun h => absurd h (by decide)) (plainFor_of_name (by decide)) (Nat.le_of_ble_eq_true rfl) ?_
  exact gw_sub [0] rfl (w_X3_abort_0 _ _ h)
theorem dX12_holds_0 : decode cX12_holds 0 = .ok (.iconst 0, 1) := by decide +kernel
theorem dX12_holds_1 : decode cX12_holds 1 = .ok (.ireturn, 1) := by decide +kernel
/-! PageGarden$State$1.holds()Z -/
abbrev M_X12_holds (z0 n0 : Nat) (s' : gS) : gM := (RX12, cX12_holds, 1, (some FieldType.boolean), "holds", [], 1, z0, n0, s'.2.1, s'.2.2)
abbrev W_X12_holds (E : gE) (z0 n0 : Nat) (r : Int32) (s' : gS) (pc : Nat) (L : List (Nat × gV)) (st : List gV) (s : gS) : Prop := gW E (M_X12_holds z0 n0 s') (gQm E (M_X12_holds z0 n0 s') (.inl (some (vI r))) s') pc L st s
noncomputable def f_X12_holds_0 (κ : gK) (F : Nat)   (s : gS) : Option (Int32 × gS) :=
  gB1 (gok .boolean (0 : Int32)) fun _ => some ((0 : Int32), s)
set_option maxHeartbeats 4000000 in
theorem w_X12_holds_0 {E : gE} {F z0 n0 : Nat} {r : Int32} {s' : gS}   : ∀   (s : gS), f_X12_holds_0 (gk E) F   s = some (r, s') → W_X12_holds E z0 n0 r s' 0 [] [] s := by
  intro  s hB
  unfold f_X12_holds_0 at hB
  refine gw_iconst (v := (0 : Int32)) (by decide) dX12_holds_0 ?_
  obtain ⟨u, hu, hB⟩ := gB1_some hB
  obtain ⟨rfl, rfl⟩ := Prod.mk.inj (Option.some.inj hB)
  exact gw_zret rfl hu rfl rfl dX12_holds_1
noncomputable def f_X12_holds (κ : gK) (F : Nat) (a0 : Option Nat) (s : gS) : Option (Int32 × gS) := f_X12_holds_0 κ F  s
theorem m_X12_holds {E : gE} {F : Nat} (a0 : Option Nat) (s : gS) (r : Int32) (s' : gS) (h : f_X12_holds (gk E) F a0 s = some (r, s')) : gCT E 1 yX12_holds (ws_ yX12_holds cX12_holds 1 (some FieldType.boolean)) [vR a0] s (.inl (some (vI r))) s' := by
  refine gCT_of2 (fun h => absurd h (by decide)) (plainFor_of_name (by decide)) (Nat.le_of_ble_eq_true rfl) ?_
  exact gw_sub [] rfl (w_X12_holds_0  _ h)
theorem dX13_holds_0 : decode cX13_holds 0 = .ok (.iconst 1, 1) := by decide +kernel
theorem dX13_holds_1 : decode cX13_holds 1 = .ok (.ireturn, 1) := by decide +kernel
/-! PageGarden$State$2.holds()Z -/
abbrev M_X13_holds (z0 n0 : Nat) (s' : gS) : gM := (RX13, cX13_holds, 1, (some FieldType.boolean), "holds", [], 1, z0, n0, s'.2.1, s'.2.2)
abbrev W_X13_holds (E : gE) (z0 n0 : Nat) (r : Int32) (s' : gS) (pc : Nat) (L : List (Nat × gV)) (st : List gV) (s : gS) : Prop := gW E (M_X13_holds z0 n0 s') (gQm E (M_X13_holds z0 n0 s') (.inl (some (vI r))) s') pc L st s
noncomputable def f_X13_holds_0 (κ : gK) (F : Nat)   (s : gS) : Option (Int32 × gS) :=
  gB1 (gok .boolean (1 : Int32)) fun _ => some ((1 : Int32), s)
set_option maxHeartbeats 4000000 in
theorem w_X13_holds_0 {E : gE} {F z0 n0 : Nat} {r : Int32} {s' : gS}   : ∀   (s : gS), f_X13_holds_0 (gk E) F   s = some (r, s') → W_X13_holds E z0 n0 r s' 0 [] [] s := by
  intro  s hB
  unfold f_X13_holds_0 at hB
  refine gw_iconst (v := (1 : Int32)) (by decide) dX13_holds_0 ?_
  obtain ⟨u, hu, hB⟩ := gB1_some hB
  obtain ⟨rfl, rfl⟩ := Prod.mk.inj (Option.some.inj hB)
  exact gw_zret rfl hu rfl rfl dX13_holds_1
noncomputable def f_X13_holds (κ : gK) (F : Nat) (a0 : Option Nat) (s : gS) : Option (Int32 × gS) := f_X13_holds_0 κ F  s
theorem m_X13_holds {E : gE} {F : Nat} (a0 : Option Nat) (s : gS) (r : Int32) (s' : gS) (h : f_X13_holds (gk E) F a0 s = some (r, s')) : gCT E 1 yX13_holds (ws_ yX13_holds cX13_holds 1 (some FieldType.boolean)) [vR a0] s (.inl (some (vI r))) s' := by
  refine gCT_of2 (fun h => absurd h (by decide)) (plainFor_of_name (by decide)) (Nat.le_of_ble_eq_true rfl) ?_
  exact gw_sub [] rfl (w_X13_holds_0  _ h)
theorem dX14_holds_0 : decode cX14_holds 0 = .ok (.iconst 1, 1) := by decide +kernel
theorem dX14_holds_1 : decode cX14_holds 1 = .ok (.ireturn, 1) := by decide +kernel
/-! PageGarden$State$3.holds()Z -/
abbrev M_X14_holds (z0 n0 : Nat) (s' : gS) : gM := (RX14, cX14_holds, 1, (some FieldType.boolean), "holds", [], 1, z0, n0, s'.2.1, s'.2.2)
abbrev W_X14_holds (E : gE) (z0 n0 : Nat) (r : Int32) (s' : gS) (pc : Nat) (L : List (Nat × gV)) (st : List gV) (s : gS) : Prop := gW E (M_X14_holds z0 n0 s') (gQm E (M_X14_holds z0 n0 s') (.inl (some (vI r))) s') pc L st s
noncomputable def f_X14_holds_0 (κ : gK) (F : Nat)   (s : gS) : Option (Int32 × gS) :=
  gB1 (gok .boolean (1 : Int32)) fun _ => some ((1 : Int32), s)
set_option maxHeartbeats 4000000 in
theorem w_X14_holds_0 {E : gE} {F z0 n0 : Nat} {r : Int32} {s' : gS}   : ∀   (s : gS), f_X14_holds_0 (gk E) F   s = some (r, s') → W_X14_holds E z0 n0 r s' 0 [] [] s := by
  intro  s hB
  unfold f_X14_holds_0 at hB
  refine gw_iconst (v := (1 : Int32)) (by decide) dX14_holds_0 ?_
  obtain ⟨u, hu, hB⟩ := gB1_some hB
  obtain ⟨rfl, rfl⟩ := Prod.mk.inj (Option.some.inj hB)
  exact gw_zret rfl hu rfl rfl dX14_holds_1
noncomputable def f_X14_holds (κ : gK) (F : Nat) (a0 : Option Nat) (s : gS) : Option (Int32 × gS) := f_X14_holds_0 κ F  s
theorem m_X14_holds {E : gE} {F : Nat} (a0 : Option Nat) (s : gS) (r : Int32) (s' : gS) (h : f_X14_holds (gk E) F a0 s = some (r, s')) : gCT E 1 yX14_holds (ws_ yX14_holds cX14_holds 1 (some FieldType.boolean)) [vR a0] s (.inl (some (vI r))) s' := by
  refine gCT_of2 (fun h => absurd h (by decide)) (plainFor_of_name (by decide)) (Nat.le_of_ble_eq_true rfl) ?_
  exact gw_sub [] rfl (w_X14_holds_0  _ h)
def dkwJ2_get_1 : List UInt8 := [44, 180, 0, 107, 176]
abbrev dktJ2_get_1 : List UInt8 := dkwJ2_get_1 ++ []
def dkwJ2_get_0 : List UInt8 := [42, 43, 182, 0, 99, 89, 77, 199, 0, 5, 1, 176, 42, 180, 0, 64, 153, 0, 8, 42, 44, 182, 0, 103]
abbrev dktJ2_get_0 : List UInt8 := dkwJ2_get_0 ++ dktJ2_get_1
theorem dksJ2_get_0 : cJ2_get.data.toList.drop 0 = dktJ2_get_0 := by decide +kernel
theorem dksJ2_get_1 : cJ2_get.data.toList.drop 24 = dktJ2_get_1 := dk_seg dksJ2_get_0 24 rfl rfl
theorem dJ2_get_0 : decode cJ2_get 0 = .ok (.aload_n 0, 1) := dk_42 (dk_at dksJ2_get_0 0 rfl rfl)
theorem dJ2_get_1 : decode cJ2_get 1 = .ok (.aload_n 1, 1) := dk_43 (dk_at dksJ2_get_0 1 rfl rfl)
theorem dJ2_get_2 : decode cJ2_get 2 = .ok (.invokevirtual 99, 3) := dk_182 0 99 (dk_at dksJ2_get_0 2 rfl rfl)
theorem dJ2_get_5 : decode cJ2_get 5 = .ok (.dup, 1) := dk_89 (dk_at dksJ2_get_0 5 rfl rfl)
theorem dJ2_get_6 : decode cJ2_get 6 = .ok (.astore_n 2, 1) := dk_77 (dk_at dksJ2_get_0 6 rfl rfl)
theorem dJ2_get_7 : decode cJ2_get 7 = .ok (.ifnonnull 5, 3) := dk_199 0 5 (dk_at dksJ2_get_0 7 rfl rfl)
theorem dJ2_get_10 : decode cJ2_get 10 = .ok (.aconst_null, 1) := dk_1 (dk_at dksJ2_get_0 10 rfl rfl)
theorem dJ2_get_11 : decode cJ2_get 11 = .ok (.areturn, 1) := dk_176 (dk_at dksJ2_get_0 11 rfl rfl)
theorem dJ2_get_12 : decode cJ2_get 12 = .ok (.aload_n 0, 1) := dk_42 (dk_at dksJ2_get_0 12 rfl rfl)
theorem dJ2_get_13 : decode cJ2_get 13 = .ok (.getfield 64, 3) := dk_180 0 64 (dk_at dksJ2_get_0 13 rfl rfl)
theorem dJ2_get_16 : decode cJ2_get 16 = .ok (.ifCond .eq 8, 3) := dk_153 0 8 (dk_at dksJ2_get_0 16 rfl rfl)
theorem dJ2_get_19 : decode cJ2_get 19 = .ok (.aload_n 0, 1) := dk_42 (dk_at dksJ2_get_0 19 rfl rfl)
theorem dJ2_get_20 : decode cJ2_get 20 = .ok (.aload_n 2, 1) := dk_44 (dk_at dksJ2_get_0 20 rfl rfl)
theorem dJ2_get_21 : decode cJ2_get 21 = .ok (.invokevirtual 103, 3) := dk_182 0 103 (dk_at dksJ2_get_0 21 rfl rfl)
theorem dJ2_get_24 : decode cJ2_get 24 = .ok (.aload_n 2, 1) := dk_44 (dk_at dksJ2_get_1 0 rfl rfl)
theorem dJ2_get_25 : decode cJ2_get 25 = .ok (.getfield 107, 3) := dk_180 0 107 (dk_at dksJ2_get_1 1 rfl rfl)
theorem dJ2_get_28 : decode cJ2_get 28 = .ok (.areturn, 1) := dk_176 (dk_at dksJ2_get_1 4 rfl rfl)
/-! java/util/LinkedHashMap.get(Ljava/lang/Object;)Ljava/lang/Object; -/
abbrev M_J2_get (z0 n0 : Nat) (s' : gS) : gM := (RJ2, cJ2_get, 3, (some (FieldType.object "java/lang/Object")), "get", [], 4, z0, n0, s'.2.1, s'.2.2)
abbrev W_J2_get (E : gE) (z0 n0 : Nat) (r : (Option Nat)) (s' : gS) (pc : Nat) (L : List (Nat × gV)) (st : List gV) (s : gS) : Prop := gW E (M_J2_get z0 n0 s') (gQm E (M_J2_get z0 n0 s') (.inl (some (vR r))) s') pc L st s
noncomputable def f_J2_get_24 (κ : gK) (F : Nat)  (l2 : Option Nat) (s : gS) : Option ((Option Nat) × gS) :=
  gB1 (gfR s l2 11 2) fun v1 =>
  some (v1, s)
set_option maxHeartbeats 4000000 in
theorem w_J2_get_24 {E : gE} {F z0 n0 : Nat} {r : (Option Nat)} {s' : gS}   : ∀ (l2 : Option Nat)  (s : gS), f_J2_get_24 (gk E) F  l2 s = some (r, s') → W_J2_get E z0 n0 r s' 24 [(2, vR l2)] [] s := by
  intro l2 s hB
  unfold f_J2_get_24 at hB
  refine gw_aload_n 0 rfl dJ2_get_24 ?_
  obtain ⟨v1, hv1, hB⟩ := gB1_some hB
  refine gw_getf (C := RJ19) (T := TJ19) (N := 6) (k := 2) gcl11 (by decide) in_J19 q815 (gfR_spec hv1) dJ2_get_25 ?_
  obtain ⟨rfl, rfl⟩ := Prod.mk.inj (Option.some.inj hB)
  exact gw_aret rfl (Or.inl ⟨_, rfl⟩) rfl rfl dJ2_get_28
noncomputable def f_J2_get_0 (κ : gK) (F : Nat)  (l0 : Option Nat) (l1 : Option Nat) (s : gS) : Option ((Option Nat) × gS) :=
  gB1 (gck s l0 10) fun _ =>
  gB2 (f_J1_getNode κ F l0 l1 s) fun v2 s1 =>
  if v2 = none then
    some (none, s1)
  else
    gB1 (gfI s1 l0 10 10) fun v4 =>
    if v4 = 0 then
      f_J2_get_24 κ F  v2 s1
    else
      gB1 (gck s1 l0 10) fun _ =>
      gB2 (f_J2_afterNodeAccess κ F l0 v2 s1) fun v6 s5 =>
      f_J2_get_24 κ F  v2 s5
set_option maxHeartbeats 4000000 in
theorem w_J2_get_0 {E : gE} {F z0 n0 : Nat} {r : (Option Nat)} {s' : gS}   : ∀ (l0 : Option Nat) (l1 : Option Nat)  (s : gS), f_J2_get_0 (gk E) F  l0 l1 s = some (r, s') → W_J2_get E z0 n0 r s' 0 [(0, vR l0), (1, vR l1)] [] s := by
  intro l0 l1 s hB
  unfold f_J2_get_0 at hB
  refine gw_aload_n 0 rfl dJ2_get_0 ?_
  refine gw_aload_n 1 rfl dJ2_get_1 ?_
  obtain ⟨u0, hu3, hB⟩ := gB1_some hB
  obtain ⟨v2, s1, hv2, hB⟩ := gB2_some hB
  refine gw_callU (C := "java/util/LinkedHashMap") (owner := "java/util/HashMap") (x := ⟨"java/util/LinkedHashMap", "getNode", "(Ljava/lang/Object;)Ljava/util/HashMap$Node;"⟩) (y := yJ1_getNode) (lw_app (lw_in (([Cond.methodLink "java/util/LinkedHashMap" 99 ⟨"java/util/LinkedHashMap", "getNode", "(Ljava/lang/Object;)Ljava/util/HashMap$Node;"⟩, Cond.sameMethod "java/util/LinkedHashMap" "java/util/HashMap" "getNode" "(Ljava/lang/Object;)Ljava/util/HashMap$Node;", Cond.selects "java/util/LinkedHashMap" ⟨"java/util/LinkedHashMap", "getNode", "(Ljava/lang/Object;)Ljava/util/HashMap$Node;"⟩ yJ1_getNode, Cond.instanceMethod yJ1_getNode, Cond.initialized "java/util/HashMap"] : List Cond)) [1447, 1448, 1450, 1451, 113] (by decide +kernel) (by decide +kernel)) (lw_meth q1452)) rfl (show _ ∧ _ ∧ _ = some 1 from by decide +kernel) gcl10 hu3 (As := [vR l1]) (rest := []) (m_J1_getNode _ _ _ _ _ hv2) (Nat.le_of_ble_eq_true rfl) (Nat.le_of_ble_eq_true rfl) rfl (Nat.le_of_ble_eq_true rfl) dJ2_get_2 (gCont_i ?_)
  refine gw_dup rfl dJ2_get_5 ?_
  refine gw_astore_n (L' := [(2, vR v2), (0, vR l0), (1, vR l1)]) (Nat.le_of_ble_eq_true rfl) rfl dJ2_get_6 ?_
  refine gw_ifnonnull (tgt := 12) dJ2_get_7 (by decide) (fun hcnd => ?_) (fun hcnd => ?_)
  · rw [if_neg hcnd] at hB
    refine gw_aload_n 1 rfl dJ2_get_12 ?_
    obtain ⟨v4, hv4, hB⟩ := gB1_some hB
    refine gw_getf (C := RJ2) (T := TJ2) (N := 12) (k := 10) gcl10 (by decide) in_J2 q233 (gfI_spec hv4) dJ2_get_13 ?_
    refine gw_if_eq (tgt := 24) dJ2_get_16 (by decide) (fun hcnd => ?_) (fun hcnd => ?_)
    · rw [if_pos hcnd] at hB
      exact gw_sub [0] rfl (w_J2_get_24  _ _ hB)
    · rw [if_neg hcnd] at hB
      refine gw_aload_n 1 rfl dJ2_get_19 ?_
      refine gw_aload_n 0 rfl dJ2_get_20 ?_
      obtain ⟨u0, hu7, hB⟩ := gB1_some hB
      obtain ⟨v6, s5, hv6, hB⟩ := gB2_some hB
      refine gw_callV (y := yJ2_afterNodeAccess) (lw_V q1457 q1230 q3118 q114 q1231) hdV_J2_afterNodeAccess gcl10 hu7 (As := [vR v2]) (rest := []) (m_J2_afterNodeAccess _ _ _ _ _ hv6) (Nat.le_of_ble_eq_true rfl) (Nat.le_of_ble_eq_true rfl) rfl (Nat.le_of_ble_eq_true rfl) dJ2_get_21 (gCont_v ?_)
      exact gw_sub [0] rfl (w_J2_get_24  _ _ hB)
  · rw [if_pos hcnd] at hB
    refine gw_null dJ2_get_10 ?_
    obtain ⟨rfl, rfl⟩ := Prod.mk.inj (Option.some.inj hB)
    exact gw_aret rfl (Or.inl ⟨_, rfl⟩) rfl rfl dJ2_get_11
noncomputable def f_J2_get (κ : gK) (F : Nat) (a0 : Option Nat) (a1 : Option Nat) (s : gS) : Option ((Option Nat) × gS) := f_J2_get_0 κ F a0 a1 s
theorem m_J2_get {E : gE} {F : Nat} (a0 : Option Nat) (a1 : Option Nat) (s : gS) (r : (Option Nat)) (s' : gS) (h : f_J2_get (gk E) F a0 a1 s = some (r, s')) : gCT E 4 yJ2_get (ws_ yJ2_get cJ2_get 3 (some (FieldType.object "java/lang/Object"))) [vR a0, vR a1] s (.inl (some (vR r))) s' := by
  refine gCT_of2 (fun h => absurd h (by decide)) (plainFor_of_name (by decide)) (Nat.le_of_ble_eq_true rfl) ?_
  exact gw_sub [0, 1] rfl (w_J2_get_0 _ _ _ h)
def dkwX3_page_0 : List UInt8 := [42, 180, 0, 12, 42, 180, 0, 30, 27, 50, 182, 0, 96, 192, 0, 72, 176]
abbrev dktX3_page_0 : List UInt8 := dkwX3_page_0 ++ []
theorem dksX3_page_0 : cX3_page.data.toList.drop 0 = dktX3_page_0 := by decide +kernel
theorem dX3_page_0 : decode cX3_page 0 = .ok (.aload_n 0, 1) := dk_42 (dk_at dksX3_page_0 0 rfl rfl)
theorem dX3_page_1 : decode cX3_page 1 = .ok (.getfield 12, 3) := dk_180 0 12 (dk_at dksX3_page_0 1 rfl rfl)
theorem dX3_page_4 : decode cX3_page 4 = .ok (.aload_n 0, 1) := dk_42 (dk_at dksX3_page_0 4 rfl rfl)
theorem dX3_page_5 : decode cX3_page 5 = .ok (.getfield 30, 3) := dk_180 0 30 (dk_at dksX3_page_0 5 rfl rfl)
theorem dX3_page_8 : decode cX3_page 8 = .ok (.iload_n 1, 1) := dk_27 (dk_at dksX3_page_0 8 rfl rfl)
theorem dX3_page_9 : decode cX3_page 9 = .ok (.aaload, 1) := dk_50 (dk_at dksX3_page_0 9 rfl rfl)
theorem dX3_page_10 : decode cX3_page 10 = .ok (.invokevirtual 96, 3) := dk_182 0 96 (dk_at dksX3_page_0 10 rfl rfl)
theorem dX3_page_13 : decode cX3_page 13 = .ok (.checkcast 72, 3) := dk_192 0 72 (dk_at dksX3_page_0 13 rfl rfl)
theorem dX3_page_16 : decode cX3_page 16 = .ok (.areturn, 1) := dk_176 (dk_at dksX3_page_0 16 rfl rfl)
/-! PageGarden$Garden.page(I)LPageGarden$Page; -/
abbrev M_X3_page (z0 n0 : Nat) (s' : gS) : gM := (RX3, cX3_page, 2, (some (FieldType.object "PageGarden$Page")), "page", [], 5, z0, n0, s'.2.1, s'.2.2)
abbrev W_X3_page (E : gE) (z0 n0 : Nat) (r : (Option Nat)) (s' : gS) (pc : Nat) (L : List (Nat × gV)) (st : List gV) (s : gS) : Prop := gW E (M_X3_page z0 n0 s') (gQm E (M_X3_page z0 n0 s') (.inl (some (vR r))) s') pc L st s
noncomputable def f_X3_page_0 (κ : gK) (F : Nat)  (l0 : Option Nat) (l1 : Int32) (s : gS) : Option ((Option Nat) × gS) :=
  gB1 (gfR s l0 7 0) fun v1 =>
  gB1 (gfR s l0 7 2) fun v2 =>
  gB1 (gaR s v2 l1) fun v3 =>
  gB1 (gck s v1 10) fun _ =>
  gB2 (f_J2_get κ F v1 v3 s) fun v5 s4 =>
  gB1 (gcm s4 v5 [2, 3]) fun _ =>
  some (v5, s4)
set_option maxHeartbeats 4000000 in
theorem w_X3_page_0 {E : gE} {F z0 n0 : Nat} {r : (Option Nat)} {s' : gS}   : ∀ (l0 : Option Nat) (l1 : Int32)  (s : gS), f_X3_page_0 (gk E) F  l0 l1 s = some (r, s') → W_X3_page E z0 n0 r s' 0 [(0, vR l0), (1, vI l1)] [] s := by
  intro l0 l1 s hB
  unfold f_X3_page_0 at hB
  refine gw_aload_n 0 rfl dX3_page_0 ?_
  obtain ⟨v1, hv1, hB⟩ := gB1_some hB
  refine gw_getf (C := RX3) (T := TX3) (N := 9) (k := 0) gcl7 (by decide) in_X3 q281 (gfR_spec hv1) dX3_page_1 ?_
  refine gw_aload_n 0 rfl dX3_page_4 ?_
  obtain ⟨v2, hv2, hB⟩ := gB1_some hB
  refine gw_getf (C := RX3) (T := TX3) (N := 9) (k := 2) gcl7 (by decide) in_X3 q284 (gfR_spec hv2) dX3_page_5 ?_
  refine gw_iload_n 1 rfl dX3_page_8 ?_
  obtain ⟨v3, hv3, hB⟩ := gB1_some hB
  refine gw_aaload hv3 dX3_page_9 ?_
  obtain ⟨u0, hu6, hB⟩ := gB1_some hB
  obtain ⟨v5, s4, hv5, hB⟩ := gB2_some hB
  refine gw_callV (y := yJ2_get) (lw_V q1443 q1444 q1445 q114 q1446) hdV_J2_get gcl10 hu6 (As := [vR v3]) (rest := []) (m_J2_get _ _ _ _ _ hv5) (Nat.le_of_ble_eq_true rfl) (Nat.le_of_ble_eq_true rfl) rfl (Nat.le_of_ble_eq_true rfl) dX3_page_10 (gCont_i ?_)
  obtain ⟨u0, hu7, hB⟩ := gB1_some hB
  refine gw_castM (cs := [2, 3]) gcm_PageGarden_Page hu7 q1244 dX3_page_13 ?_
  obtain ⟨rfl, rfl⟩ := Prod.mk.inj (Option.some.inj hB)
  exact gw_aret rfl (Or.inl ⟨_, rfl⟩) rfl rfl dX3_page_16
noncomputable def f_X3_page (κ : gK) (F : Nat) (a0 : Option Nat) (a1 : Int32) (s : gS) : Option ((Option Nat) × gS) := f_X3_page_0 κ F a0 a1 s
theorem m_X3_page {E : gE} {F : Nat} (a0 : Option Nat) (a1 : Int32) (s : gS) (r : (Option Nat)) (s' : gS) (h : f_X3_page (gk E) F a0 a1 s = some (r, s')) : gCT E 5 yX3_page (ws_ yX3_page cX3_page 2 (some (FieldType.object "PageGarden$Page"))) [vR a0, vI a1] s (.inl (some (vR r))) s' := by
  refine gCT_of2 (fun h => absurd h (by decide)) (plainFor_of_name (by decide)) (Nat.le_of_ble_eq_true rfl) ?_
  exact gw_sub [0, 1] rfl (w_X3_page_0 _ _ _ h)
theorem dX9_kind_0 : decode cX9_kind 0 = .ok (.iconst 0, 1) := by decide +kernel
theorem dX9_kind_1 : decode cX9_kind 1 = .ok (.ireturn, 1) := by decide +kernel
/-! PageGarden$Leaf.kind()I -/
abbrev M_X9_kind (z0 n0 : Nat) (s' : gS) : gM := (RX9, cX9_kind, 1, (some FieldType.int), "kind", [], 1, z0, n0, s'.2.1, s'.2.2)
abbrev W_X9_kind (E : gE) (z0 n0 : Nat) (r : Int32) (s' : gS) (pc : Nat) (L : List (Nat × gV)) (st : List gV) (s : gS) : Prop := gW E (M_X9_kind z0 n0 s') (gQm E (M_X9_kind z0 n0 s') (.inl (some (vI r))) s') pc L st s
noncomputable def f_X9_kind_0 (κ : gK) (F : Nat)   (s : gS) : Option (Int32 × gS) :=
  some ((0 : Int32), s)
set_option maxHeartbeats 4000000 in
theorem w_X9_kind_0 {E : gE} {F z0 n0 : Nat} {r : Int32} {s' : gS}   : ∀   (s : gS), f_X9_kind_0 (gk E) F   s = some (r, s') → W_X9_kind E z0 n0 r s' 0 [] [] s := by
  intro  s hB
  unfold f_X9_kind_0 at hB
  refine gw_iconst (v := (0 : Int32)) (by decide) dX9_kind_0 ?_
  obtain ⟨rfl, rfl⟩ := Prod.mk.inj (Option.some.inj hB)
  exact gw_iret rfl rfl rfl dX9_kind_1
noncomputable def f_X9_kind (κ : gK) (F : Nat) (a0 : Option Nat) (s : gS) : Option (Int32 × gS) := f_X9_kind_0 κ F  s
theorem m_X9_kind {E : gE} {F : Nat} (a0 : Option Nat) (s : gS) (r : Int32) (s' : gS) (h : f_X9_kind (gk E) F a0 s = some (r, s')) : gCT E 1 yX9_kind (ws_ yX9_kind cX9_kind 1 (some FieldType.int)) [vR a0] s (.inl (some (vI r))) s' := by
  refine gCT_of2 (fun h => absurd h (by decide)) (plainFor_of_name (by decide)) (Nat.le_of_ble_eq_true rfl) ?_
  exact gw_sub [] rfl (w_X9_kind_0  _ h)
def dkwX9_size_0 : List UInt8 := [42, 180, 0, 7, 190, 172]
abbrev dktX9_size_0 : List UInt8 := dkwX9_size_0 ++ []
theorem dksX9_size_0 : cX9_size.data.toList.drop 0 = dktX9_size_0 := by decide +kernel
theorem dX9_size_0 : decode cX9_size 0 = .ok (.aload_n 0, 1) := dk_42 (dk_at dksX9_size_0 0 rfl rfl)
theorem dX9_size_1 : decode cX9_size 1 = .ok (.getfield 7, 3) := dk_180 0 7 (dk_at dksX9_size_0 1 rfl rfl)
theorem dX9_size_4 : decode cX9_size 4 = .ok (.arraylength, 1) := dk_190 (dk_at dksX9_size_0 4 rfl rfl)
theorem dX9_size_5 : decode cX9_size 5 = .ok (.ireturn, 1) := dk_172 (dk_at dksX9_size_0 5 rfl rfl)
/-! PageGarden$Leaf.size()I -/
abbrev M_X9_size (z0 n0 : Nat) (s' : gS) : gM := (RX9, cX9_size, 1, (some FieldType.int), "size", [], 1, z0, n0, s'.2.1, s'.2.2)
abbrev W_X9_size (E : gE) (z0 n0 : Nat) (r : Int32) (s' : gS) (pc : Nat) (L : List (Nat × gV)) (st : List gV) (s : gS) : Prop := gW E (M_X9_size z0 n0 s') (gQm E (M_X9_size z0 n0 s') (.inl (some (vI r))) s') pc L st s
noncomputable def f_X9_size_0 (κ : gK) (F : Nat)  (l0 : Option Nat) (s : gS) : Option (Int32 × gS) :=
  gB1 (gfR s l0 2 0) fun v1 =>
  gB1 (gal s v1) fun v2 =>
  some (v2, s)
set_option maxHeartbeats 4000000 in
theorem w_X9_size_0 {E : gE} {F z0 n0 : Nat} {r : Int32} {s' : gS}   : ∀ (l0 : Option Nat)  (s : gS), f_X9_size_0 (gk E) F  l0 s = some (r, s') → W_X9_size E z0 n0 r s' 0 [(0, vR l0)] [] s := by
  intro l0 s hB
  unfold f_X9_size_0 at hB
  refine gw_aload_n 0 rfl dX9_size_0 ?_
  obtain ⟨v1, hv1, hB⟩ := gB1_some hB
  refine gw_getf (C := RX9) (T := TX9) (N := 2) (k := 0) gcl2 (by decide) in_X9 q2170 (gfR_spec hv1) dX9_size_1 ?_
  obtain ⟨v2, hv2, hB⟩ := gB1_some hB
  refine gw_alen hv2 dX9_size_4 ?_
  obtain ⟨rfl, rfl⟩ := Prod.mk.inj (Option.some.inj hB)
  exact gw_iret rfl rfl rfl dX9_size_5
noncomputable def f_X9_size (κ : gK) (F : Nat) (a0 : Option Nat) (s : gS) : Option (Int32 × gS) := f_X9_size_0 κ F a0 s
theorem m_X9_size {E : gE} {F : Nat} (a0 : Option Nat) (s : gS) (r : Int32) (s' : gS) (h : f_X9_size (gk E) F a0 s = some (r, s')) : gCT E 1 yX9_size (ws_ yX9_size cX9_size 1 (some FieldType.int)) [vR a0] s (.inl (some (vI r))) s' := by
  refine gCT_of2 (fun h => absurd h (by decide)) (plainFor_of_name (by decide)) (Nat.le_of_ble_eq_true rfl) ?_
  exact gw_sub [0] rfl (w_X9_size_0 _ _ h)
theorem dJ3_ordinal_0 : decode cJ3_ordinal 0 = .ok (.aload_n 0, 1) := by decide +kernel
theorem dJ3_ordinal_1 : decode cJ3_ordinal 1 = .ok (.getfield 7, 3) := by decide +kernel
theorem dJ3_ordinal_4 : decode cJ3_ordinal 4 = .ok (.ireturn, 1) := by decide +kernel
noncomputable def f_hold (κ : gK) (F : Nat) (r : Option Nat) (s : gS) : Option (Int32 × gS) := if r = κ.2 0 then some (0, s) else if r = κ.2 1 then some (1, s) else if r = κ.2 2 then some (1, s) else none
theorem gf_hold {E : gE} {M : gM} {Q : gQ} {pc : Nat} {L : List (Nat × gV)} {st : List gV} {σ σ1 : gS} {F : Nat} {r : Option Nat} {v : Int32} (how : gm_own M = "PageGarden$Garden") (hdp : 2 ≤ gm_d M) (hrest : gSum st ≤ 8) (h : f_hold (gk E) F r σ = some (v, σ1)) (hd : decode (gm_cc M) pc = .ok (.invokevirtual 60, 3)) (kk : gW E M Q (pc + 3) L (vI v :: st) σ1) : gW E M Q pc L (vR r :: st) σ := by
  unfold f_hold at h
  split at h
  · rename_i hk
    obtain ⟨rfl, rfl⟩ := Prod.mk.inj (Option.some.inj h)
    exact gw_callKC (C := "PageGarden$State$1") (owner := "PageGarden$State") (x := ⟨"PageGarden$State", "holds", "()Z"⟩) (y := yX12_holds) (kz := 0) (i := 0) (by rw [how]; exact q1427) q1429 q1430 q1431 q1432 q1428 (by decide +kernel) (by decide) hk (by decide) dX12_holds_0 (by decide) dX12_holds_1 (by rfl) (by omega) hrest hd kk
  split at h
  · rename_i hk
    obtain ⟨rfl, rfl⟩ := Prod.mk.inj (Option.some.inj h)
    exact gw_callKC (C := "PageGarden$State$2") (owner := "PageGarden$State") (x := ⟨"PageGarden$State", "holds", "()Z"⟩) (y := yX13_holds) (kz := 1) (i := 1) (by rw [how]; exact q1427) q1429 q1433 q1434 q1435 q1428 (by decide +kernel) (by decide) hk (by decide) dX13_holds_0 (by decide) dX13_holds_1 (by rfl) (by omega) hrest hd kk
  split at h
  · rename_i hk
    obtain ⟨rfl, rfl⟩ := Prod.mk.inj (Option.some.inj h)
    exact gw_callKC (C := "PageGarden$State$3") (owner := "PageGarden$State") (x := ⟨"PageGarden$State", "holds", "()Z"⟩) (y := yX14_holds) (kz := 1) (i := 2) (by rw [how]; exact q1427) q1429 q1436 q1437 q1438 q1428 (by decide +kernel) (by decide) hk (by decide) dX14_holds_0 (by decide) dX14_holds_1 (by rfl) (by omega) hrest hd kk
  cases h
theorem m_ordK {E : gE} {σ : gS} {i : Nat} {v : Int32} (hm : ("java/lang/Enum", "ordinal", "I", v, i) ∈ gOfL) : gCT E 1 yJ3_ordinal (ws_ yJ3_ordinal cJ3_ordinal 1 (some .int)) [vR ((gk E).2 i)] σ (.inl (some (vI v))) σ := gCT_of2 (fun h => absurd h (by decide)) (plainFor_of_name (by decide)) (Nat.le_of_ble_eq_true rfl) (gw_aload_n 0 rfl dJ3_ordinal_0 (gw_getOF hm q3197 rfl dJ3_ordinal_1 (gw_iret rfl rfl rfl dJ3_ordinal_4)))
noncomputable def f_ord (κ : gK) (F : Nat) (r : Option Nat) (s : gS) : Option (Int32 × gS) := if r = κ.2 0 then some (0, s) else if r = κ.2 1 then some (1, s) else if r = κ.2 2 then some (2, s) else none
theorem gf_ord {E : gE} {M : gM} {Q : gQ} {pc : Nat} {L : List (Nat × gV)} {st : List gV} {σ σ1 : gS} {F : Nat} {r : Option Nat} {v : Int32} (how : gm_own M = "PageGarden$Garden") (hdp : 2 ≤ gm_d M) (hrest : gSum st ≤ 8) (h : f_ord (gk E) F r σ = some (v, σ1)) (hd : decode (gm_cc M) pc = .ok (.invokevirtual 380, 3)) (kk : gW E M Q (pc + 3) L (vI v :: st) σ1) : gW E M Q pc L (vR r :: st) σ := by
  unfold f_ord at h
  split at h
  · rename_i hk
    obtain ⟨rfl, rfl⟩ := Prod.mk.inj (Option.some.inj h)
    subst hk
    exact gw_callKU (C := "PageGarden$State$1") (owner := "java/lang/Enum") (x := ⟨"PageGarden$State", "ordinal", "()I"⟩) (y := yJ3_ordinal) (i := 0) (As := []) (rest := st) (by rw [how]; exact lw_app (lw_in (([Cond.methodLink "PageGarden$Garden" 380 ⟨"PageGarden$State", "ordinal", "()I"⟩, Cond.sameMethod "PageGarden$State" "java/lang/Enum" "ordinal" "()I", Cond.selects "PageGarden$State$1" ⟨"PageGarden$State", "ordinal", "()I"⟩ yJ3_ordinal, Cond.instanceMethod yJ3_ordinal, Cond.initialized "java/lang/Enum"] : List Cond)) [2463, 2464, 2466, 2469, 115] (by decide +kernel) (by decide +kernel)) (lw_meth q2470)) rfl (by decide +kernel) (by decide) rfl (m_ordK (by decide)) hdp (Nat.le_of_ble_eq_true rfl) rfl hrest hd (gCont_i kk)
  split at h
  · rename_i hk
    obtain ⟨rfl, rfl⟩ := Prod.mk.inj (Option.some.inj h)
    subst hk
    exact gw_callKU (C := "PageGarden$State$2") (owner := "java/lang/Enum") (x := ⟨"PageGarden$State", "ordinal", "()I"⟩) (y := yJ3_ordinal) (i := 1) (As := []) (rest := st) (by rw [how]; exact lw_app (lw_in (([Cond.methodLink "PageGarden$Garden" 380 ⟨"PageGarden$State", "ordinal", "()I"⟩, Cond.sameMethod "PageGarden$State" "java/lang/Enum" "ordinal" "()I", Cond.selects "PageGarden$State$2" ⟨"PageGarden$State", "ordinal", "()I"⟩ yJ3_ordinal, Cond.instanceMethod yJ3_ordinal, Cond.initialized "java/lang/Enum"] : List Cond)) [2463, 2464, 2467, 2469, 115] (by decide +kernel) (by decide +kernel)) (lw_meth q2470)) rfl (by decide +kernel) (by decide) rfl (m_ordK (by decide)) hdp (Nat.le_of_ble_eq_true rfl) rfl hrest hd (gCont_i kk)
  split at h
  · rename_i hk
    obtain ⟨rfl, rfl⟩ := Prod.mk.inj (Option.some.inj h)
    subst hk
    exact gw_callKU (C := "PageGarden$State$3") (owner := "java/lang/Enum") (x := ⟨"PageGarden$State", "ordinal", "()I"⟩) (y := yJ3_ordinal) (i := 2) (As := []) (rest := st) (by rw [how]; exact lw_app (lw_in (([Cond.methodLink "PageGarden$Garden" 380 ⟨"PageGarden$State", "ordinal", "()I"⟩, Cond.sameMethod "PageGarden$State" "java/lang/Enum" "ordinal" "()I", Cond.selects "PageGarden$State$3" ⟨"PageGarden$State", "ordinal", "()I"⟩ yJ3_ordinal, Cond.instanceMethod yJ3_ordinal, Cond.initialized "java/lang/Enum"] : List Cond)) [2463, 2464, 2468, 2469, 115] (by decide +kernel) (by decide +kernel)) (lw_meth q2470)) rfl (by decide +kernel) (by decide) rfl (m_ordK (by decide)) hdp (Nat.le_of_ble_eq_true rfl) rfl hrest hd (gCont_i kk)
  cases h
noncomputable def f_psize (κ : gK) (F : Nat) (r : Option Nat) (s : gS) : Option (Int32 × gS) := match gck s r 2 with
  | some _ => f_X9_size κ F r s
  | none => gB1 (gck s r 3) fun _ => f_X5_size κ F r s
theorem gf_psize {E : gE} {M : gM} {Q : gQ} {pc : Nat} {L : List (Nat × gV)} {st : List gV} {σ σ1 : gS} {F : Nat} {r : Option Nat} {v : Int32} (how : gm_own M = "PageGarden$Garden") (hdp : 2 ≤ gm_d M) (hrest : gSum st ≤ 8) (h : f_psize (gk E) F r σ = some (v, σ1)) {cnt : Nat} (hd : decode (gm_cc M) pc = .ok (.invokeinterface 141 cnt, 5)) (kk : gW E M Q (pc + 5) L (vI v :: st) σ1) : gW E M Q pc L (vR r :: st) σ := by
  unfold f_psize at h
  split at h
  · rename_i hck
    exact gw_callF (C := "PageGarden$Leaf") (x := ⟨"PageGarden$Page", "size", "()I"⟩) (y := yX9_size) (As := []) (rest := st) (by rw [how]; exact lw_app (lw_in (([Cond.methodLink "PageGarden$Garden" 141 ⟨"PageGarden$Page", "size", "()I"⟩, Cond.selects "PageGarden$Leaf" ⟨"PageGarden$Page", "size", "()I"⟩ yX9_size, Cond.instanceMethod yX9_size, Cond.initialized "PageGarden$Leaf"] : List Cond)) [2404, 2414, 2072, 160] (by decide +kernel) (by decide +kernel)) (lw_meth q2074)) q2406 q2405 q2416 q2415 q2413 (by decide +kernel) gcl2 hck (m_X9_size _ _ _ _ h) hdp (Nat.le_of_ble_eq_true rfl) rfl hrest hd (gCont_i kk)
  · obtain ⟨u0, hck, h⟩ := gB1_some h
    exact gw_callF (C := "PageGarden$Directory") (x := ⟨"PageGarden$Page", "size", "()I"⟩) (y := yX5_size) (As := []) (rest := st) (by rw [how]; exact lw_app (lw_in (([Cond.methodLink "PageGarden$Garden" 141 ⟨"PageGarden$Page", "size", "()I"⟩, Cond.selects "PageGarden$Directory" ⟨"PageGarden$Page", "size", "()I"⟩ yX5_size, Cond.instanceMethod yX5_size, Cond.initialized "PageGarden$Directory"] : List Cond)) [2404, 2408, 2410, 117] (by decide +kernel) (by decide +kernel)) (lw_meth q2412)) q2406 q2405 q2411 q2409 q2407 (by decide +kernel) gcl3 hck (m_X5_size _ _ _ _ h) hdp (Nat.le_of_ble_eq_true rfl) rfl hrest hd (gCont_i kk)
noncomputable def f_pkind (κ : gK) (F : Nat) (r : Option Nat) (s : gS) : Option (Int32 × gS) := match gck s r 2 with
  | some _ => f_X9_kind κ F r s
  | none => gB1 (gck s r 3) fun _ => f_X5_kind κ F r s
theorem gf_pkind {E : gE} {M : gM} {Q : gQ} {pc : Nat} {L : List (Nat × gV)} {st : List gV} {σ σ1 : gS} {F : Nat} {r : Option Nat} {v : Int32} (how : gm_own M = "PageGarden$Garden") (hdp : 2 ≤ gm_d M) (hrest : gSum st ≤ 8) (h : f_pkind (gk E) F r σ = some (v, σ1)) {cnt : Nat} (hd : decode (gm_cc M) pc = .ok (.invokeinterface 383 cnt, 5)) (kk : gW E M Q (pc + 5) L (vI v :: st) σ1) : gW E M Q pc L (vR r :: st) σ := by
  unfold f_pkind at h
  split at h
  · rename_i hck
    exact gw_callF (C := "PageGarden$Leaf") (x := ⟨"PageGarden$Page", "kind", "()I"⟩) (y := yX9_kind) (As := []) (rest := st) (by rw [how]; exact lw_app (lw_in (([Cond.methodLink "PageGarden$Garden" 383 ⟨"PageGarden$Page", "kind", "()I"⟩, Cond.selects "PageGarden$Leaf" ⟨"PageGarden$Page", "kind", "()I"⟩ yX9_kind, Cond.instanceMethod yX9_kind, Cond.initialized "PageGarden$Leaf"] : List Cond)) [2472, 2480, 2482, 160] (by decide +kernel) (by decide +kernel)) (lw_meth q2484)) q2474 q2473 q2483 q2481 q2413 (by decide +kernel) gcl2 hck (m_X9_kind _ _ _ _ h) hdp (Nat.le_of_ble_eq_true rfl) rfl hrest hd (gCont_i kk)
  · obtain ⟨u0, hck, h⟩ := gB1_some h
    exact gw_callF (C := "PageGarden$Directory") (x := ⟨"PageGarden$Page", "kind", "()I"⟩) (y := yX5_kind) (As := []) (rest := st) (by rw [how]; exact lw_app (lw_in (([Cond.methodLink "PageGarden$Garden" 383 ⟨"PageGarden$Page", "kind", "()I"⟩, Cond.selects "PageGarden$Directory" ⟨"PageGarden$Page", "kind", "()I"⟩ yX5_kind, Cond.instanceMethod yX5_kind, Cond.initialized "PageGarden$Directory"] : List Cond)) [2472, 2475, 2477, 117] (by decide +kernel) (by decide +kernel)) (lw_meth q2479)) q2474 q2473 q2478 q2476 q2407 (by decide +kernel) gcl3 hck (m_X5_kind _ _ _ _ h) hdp (Nat.le_of_ble_eq_true rfl) rfl hrest hd (gCont_i kk)
def dkwX3_current_2 : List UInt8 := [167, 0, 4, 3, 60, 27, 153, 0, 7, 4, 167, 0, 4, 3, 172]
abbrev dktX3_current_2 : List UInt8 := dkwX3_current_2 ++ []
def dkwX3_current_1 : List UInt8 := [42, 180, 0, 38, 4, 50, 180, 0, 149, 42, 180, 0, 38, 3, 50, 180, 0, 149, 164, 0, 7, 4]
abbrev dktX3_current_1 : List UInt8 := dkwX3_current_1 ++ dktX3_current_2
def dkwX3_current_0 : List UInt8 := [42, 180, 0, 38, 4, 50, 180, 0, 145, 153, 0, 40, 42, 180, 0, 38, 3, 50, 180, 0, 145, 153, 0, 24]
abbrev dktX3_current_0 : List UInt8 := dkwX3_current_0 ++ dktX3_current_1
theorem dksX3_current_0 : cX3_current.data.toList.drop 0 = dktX3_current_0 := by decide +kernel
theorem dksX3_current_1 : cX3_current.data.toList.drop 24 = dktX3_current_1 := dk_seg dksX3_current_0 24 rfl rfl
theorem dksX3_current_2 : cX3_current.data.toList.drop 46 = dktX3_current_2 := dk_seg dksX3_current_1 22 rfl rfl
theorem dX3_current_0 : decode cX3_current 0 = .ok (.aload_n 0, 1) := dk_42 (dk_at dksX3_current_0 0 rfl rfl)
theorem dX3_current_1 : decode cX3_current 1 = .ok (.getfield 38, 3) := dk_180 0 38 (dk_at dksX3_current_0 1 rfl rfl)
theorem dX3_current_4 : decode cX3_current 4 = .ok (.iconst 1, 1) := dk_4 (dk_at dksX3_current_0 4 rfl rfl)
theorem dX3_current_5 : decode cX3_current 5 = .ok (.aaload, 1) := dk_50 (dk_at dksX3_current_0 5 rfl rfl)
theorem dX3_current_6 : decode cX3_current 6 = .ok (.getfield 145, 3) := dk_180 0 145 (dk_at dksX3_current_0 6 rfl rfl)
theorem dX3_current_9 : decode cX3_current 9 = .ok (.ifCond .eq 40, 3) := dk_153 0 40 (dk_at dksX3_current_0 9 rfl rfl)
theorem dX3_current_12 : decode cX3_current 12 = .ok (.aload_n 0, 1) := dk_42 (dk_at dksX3_current_0 12 rfl rfl)
theorem dX3_current_13 : decode cX3_current 13 = .ok (.getfield 38, 3) := dk_180 0 38 (dk_at dksX3_current_0 13 rfl rfl)
theorem dX3_current_16 : decode cX3_current 16 = .ok (.iconst 0, 1) := dk_3 (dk_at dksX3_current_0 16 rfl rfl)
theorem dX3_current_17 : decode cX3_current 17 = .ok (.aaload, 1) := dk_50 (dk_at dksX3_current_0 17 rfl rfl)
theorem dX3_current_18 : decode cX3_current 18 = .ok (.getfield 145, 3) := dk_180 0 145 (dk_at dksX3_current_0 18 rfl rfl)
theorem dX3_current_21 : decode cX3_current 21 = .ok (.ifCond .eq 24, 3) := dk_153 0 24 (dk_at dksX3_current_0 21 rfl rfl)
theorem dX3_current_24 : decode cX3_current 24 = .ok (.aload_n 0, 1) := dk_42 (dk_at dksX3_current_1 0 rfl rfl)
theorem dX3_current_25 : decode cX3_current 25 = .ok (.getfield 38, 3) := dk_180 0 38 (dk_at dksX3_current_1 1 rfl rfl)
theorem dX3_current_28 : decode cX3_current 28 = .ok (.iconst 1, 1) := dk_4 (dk_at dksX3_current_1 4 rfl rfl)
theorem dX3_current_29 : decode cX3_current 29 = .ok (.aaload, 1) := dk_50 (dk_at dksX3_current_1 5 rfl rfl)
theorem dX3_current_30 : decode cX3_current 30 = .ok (.getfield 149, 3) := dk_180 0 149 (dk_at dksX3_current_1 6 rfl rfl)
theorem dX3_current_33 : decode cX3_current 33 = .ok (.aload_n 0, 1) := dk_42 (dk_at dksX3_current_1 9 rfl rfl)
theorem dX3_current_34 : decode cX3_current 34 = .ok (.getfield 38, 3) := dk_180 0 38 (dk_at dksX3_current_1 10 rfl rfl)
theorem dX3_current_37 : decode cX3_current 37 = .ok (.iconst 0, 1) := dk_3 (dk_at dksX3_current_1 13 rfl rfl)
theorem dX3_current_38 : decode cX3_current 38 = .ok (.aaload, 1) := dk_50 (dk_at dksX3_current_1 14 rfl rfl)
theorem dX3_current_39 : decode cX3_current 39 = .ok (.getfield 149, 3) := dk_180 0 149 (dk_at dksX3_current_1 15 rfl rfl)
theorem dX3_current_42 : decode cX3_current 42 = .ok (.if_icmp .le 7, 3) := dk_164 0 7 (dk_at dksX3_current_1 18 rfl rfl)
theorem dX3_current_45 : decode cX3_current 45 = .ok (.iconst 1, 1) := dk_4 (dk_at dksX3_current_1 21 rfl rfl)
theorem dX3_current_46 : decode cX3_current 46 = .ok (.goto 4, 3) := dk_167 0 4 (dk_at dksX3_current_2 0 rfl rfl)
theorem dX3_current_49 : decode cX3_current 49 = .ok (.iconst 0, 1) := dk_3 (dk_at dksX3_current_2 3 rfl rfl)
theorem dX3_current_50 : decode cX3_current 50 = .ok (.istore_n 1, 1) := dk_60 (dk_at dksX3_current_2 4 rfl rfl)
theorem dX3_current_51 : decode cX3_current 51 = .ok (.iload_n 1, 1) := dk_27 (dk_at dksX3_current_2 5 rfl rfl)
theorem dX3_current_52 : decode cX3_current 52 = .ok (.ifCond .eq 7, 3) := dk_153 0 7 (dk_at dksX3_current_2 6 rfl rfl)
theorem dX3_current_55 : decode cX3_current 55 = .ok (.iconst 1, 1) := dk_4 (dk_at dksX3_current_2 9 rfl rfl)
theorem dX3_current_56 : decode cX3_current 56 = .ok (.goto 4, 3) := dk_167 0 4 (dk_at dksX3_current_2 10 rfl rfl)
theorem dX3_current_59 : decode cX3_current 59 = .ok (.iconst 0, 1) := dk_3 (dk_at dksX3_current_2 13 rfl rfl)
theorem dX3_current_60 : decode cX3_current 60 = .ok (.ireturn, 1) := dk_172 (dk_at dksX3_current_2 14 rfl rfl)
/-! PageGarden$Garden.current()I -/
abbrev M_X3_current (z0 n0 : Nat) (s' : gS) : gM := (RX3, cX3_current, 2, (some FieldType.int), "current", [], 1, z0, n0, s'.2.1, s'.2.2)
abbrev W_X3_current (E : gE) (z0 n0 : Nat) (r : Int32) (s' : gS) (pc : Nat) (L : List (Nat × gV)) (st : List gV) (s : gS) : Prop := gW E (M_X3_current z0 n0 s') (gQm E (M_X3_current z0 n0 s') (.inl (some (vI r))) s') pc L st s
noncomputable def f_X3_current_60 (κ : gK) (F : Nat)  (t0 : Int32) (s : gS) : Option (Int32 × gS) :=
  some (t0, s)
set_option maxHeartbeats 4000000 in
theorem w_X3_current_60 {E : gE} {F z0 n0 : Nat} {r : Int32} {s' : gS}   : ∀  (t0 : Int32) (s : gS), f_X3_current_60 (gk E) F  t0 s = some (r, s') → W_X3_current E z0 n0 r s' 60 [] [vI t0] s := by
  intro t0 s hB
  unfold f_X3_current_60 at hB
  obtain ⟨rfl, rfl⟩ := Prod.mk.inj (Option.some.inj hB)
  exact gw_iret rfl rfl rfl dX3_current_60
noncomputable def f_X3_current_50 (κ : gK) (F : Nat)  (t0 : Int32) (s : gS) : Option (Int32 × gS) :=
  if t0 = 0 then
    f_X3_current_60 κ F  (0 : Int32) s
  else
    f_X3_current_60 κ F  (1 : Int32) s
set_option maxHeartbeats 4000000 in
theorem w_X3_current_50 {E : gE} {F z0 n0 : Nat} {r : Int32} {s' : gS}   : ∀  (t0 : Int32) (s : gS), f_X3_current_50 (gk E) F  t0 s = some (r, s') → W_X3_current E z0 n0 r s' 50 [] [vI t0] s := by
  intro t0 s hB
  unfold f_X3_current_50 at hB
  refine gw_istore_n (L' := [(1, vI t0)]) (Nat.le_of_ble_eq_true rfl) rfl dX3_current_50 ?_
  refine gw_iload_n 0 rfl dX3_current_51 ?_
  refine gw_if_eq (tgt := 59) dX3_current_52 (by decide) (fun hcnd => ?_) (fun hcnd => ?_)
  · rw [if_pos hcnd] at hB
    refine gw_iconst (v := (0 : Int32)) (by decide) dX3_current_59 ?_
    exact gw_sub [] rfl (w_X3_current_60  _ _ hB)
  · rw [if_neg hcnd] at hB
    refine gw_iconst (v := (1 : Int32)) (by decide) dX3_current_55 ?_
    refine gw_goto (tgt := 60) dX3_current_56 (by decide) ?_
    exact gw_sub [] rfl (w_X3_current_60  _ _ hB)
noncomputable def f_X3_current_45 (κ : gK) (F : Nat)   (s : gS) : Option (Int32 × gS) :=
  f_X3_current_50 κ F  (1 : Int32) s
set_option maxHeartbeats 4000000 in
theorem w_X3_current_45 {E : gE} {F z0 n0 : Nat} {r : Int32} {s' : gS}   : ∀   (s : gS), f_X3_current_45 (gk E) F   s = some (r, s') → W_X3_current E z0 n0 r s' 45 [] [] s := by
  intro  s hB
  unfold f_X3_current_45 at hB
  refine gw_iconst (v := (1 : Int32)) (by decide) dX3_current_45 ?_
  refine gw_goto (tgt := 50) dX3_current_46 (by decide) ?_
  exact gw_sub [] rfl (w_X3_current_50  _ _ hB)
noncomputable def f_X3_current_49 (κ : gK) (F : Nat)   (s : gS) : Option (Int32 × gS) :=
  f_X3_current_50 κ F  (0 : Int32) s
set_option maxHeartbeats 4000000 in
theorem w_X3_current_49 {E : gE} {F z0 n0 : Nat} {r : Int32} {s' : gS}   : ∀   (s : gS), f_X3_current_49 (gk E) F   s = some (r, s') → W_X3_current E z0 n0 r s' 49 [] [] s := by
  intro  s hB
  unfold f_X3_current_49 at hB
  refine gw_iconst (v := (0 : Int32)) (by decide) dX3_current_49 ?_
  exact gw_sub [] rfl (w_X3_current_50  _ _ hB)
noncomputable def f_X3_current_0 (κ : gK) (F : Nat)  (l0 : Option Nat) (s : gS) : Option (Int32 × gS) :=
  gB1 (gfR s l0 7 4) fun v1 =>
  gB1 (gaR s v1 (1 : Int32)) fun v2 =>
  gB1 (gfI s v2 4 2) fun v3 =>
  if v3 = 0 then
    f_X3_current_49 κ F  s
  else
    gB1 (gfR s l0 7 4) fun v4 =>
    gB1 (gaR s v4 (0 : Int32)) fun v5 =>
    gB1 (gfI s v5 4 2) fun v6 =>
    if v6 = 0 then
      f_X3_current_45 κ F  s
    else
      gB1 (gfR s l0 7 4) fun v7 =>
      gB1 (gaR s v7 (1 : Int32)) fun v8 =>
      gB1 (gfI s v8 4 0) fun v9 =>
      gB1 (gfR s l0 7 4) fun v10 =>
      gB1 (gaR s v10 (0 : Int32)) fun v11 =>
      gB1 (gfI s v11 4 0) fun v12 =>
      if v9 ≤ v12 then
        f_X3_current_49 κ F  s
      else
        f_X3_current_45 κ F  s
set_option maxHeartbeats 4000000 in
theorem w_X3_current_0 {E : gE} {F z0 n0 : Nat} {r : Int32} {s' : gS}   : ∀ (l0 : Option Nat)  (s : gS), f_X3_current_0 (gk E) F  l0 s = some (r, s') → W_X3_current E z0 n0 r s' 0 [(0, vR l0)] [] s := by
  intro l0 s hB
  unfold f_X3_current_0 at hB
  refine gw_aload_n 0 rfl dX3_current_0 ?_
  obtain ⟨v1, hv1, hB⟩ := gB1_some hB
  refine gw_getf (C := RX3) (T := TX3) (N := 9) (k := 4) gcl7 (by decide) in_X3 q286 (gfR_spec hv1) dX3_current_1 ?_
  refine gw_iconst (v := (1 : Int32)) (by decide) dX3_current_4 ?_
  obtain ⟨v2, hv2, hB⟩ := gB1_some hB
  refine gw_aaload hv2 dX3_current_5 ?_
  obtain ⟨v3, hv3, hB⟩ := gB1_some hB
  refine gw_getfN (C := RX4) (T := TX4) (N := 3) (k := 2) gcl4 (by decide) in_X4 q203 (gfI_spec hv3) dX3_current_6 ?_
  refine gw_if_eq (tgt := 49) dX3_current_9 (by decide) (fun hcnd => ?_) (fun hcnd => ?_)
  · rw [if_pos hcnd] at hB
    exact gw_sub [] rfl (w_X3_current_49   _ hB)
  · rw [if_neg hcnd] at hB
    refine gw_aload_n 0 rfl dX3_current_12 ?_
    obtain ⟨v4, hv4, hB⟩ := gB1_some hB
    refine gw_getf (C := RX3) (T := TX3) (N := 9) (k := 4) gcl7 (by decide) in_X3 q286 (gfR_spec hv4) dX3_current_13 ?_
    refine gw_iconst (v := (0 : Int32)) (by decide) dX3_current_16 ?_
    obtain ⟨v5, hv5, hB⟩ := gB1_some hB
    refine gw_aaload hv5 dX3_current_17 ?_
    obtain ⟨v6, hv6, hB⟩ := gB1_some hB
    refine gw_getfN (C := RX4) (T := TX4) (N := 3) (k := 2) gcl4 (by decide) in_X4 q203 (gfI_spec hv6) dX3_current_18 ?_
    refine gw_if_eq (tgt := 45) dX3_current_21 (by decide) (fun hcnd => ?_) (fun hcnd => ?_)
    · rw [if_pos hcnd] at hB
      exact gw_sub [] rfl (w_X3_current_45   _ hB)
    · rw [if_neg hcnd] at hB
      refine gw_aload_n 0 rfl dX3_current_24 ?_
      obtain ⟨v7, hv7, hB⟩ := gB1_some hB
      refine gw_getf (C := RX3) (T := TX3) (N := 9) (k := 4) gcl7 (by decide) in_X3 q286 (gfR_spec hv7) dX3_current_25 ?_
      refine gw_iconst (v := (1 : Int32)) (by decide) dX3_current_28 ?_
      obtain ⟨v8, hv8, hB⟩ := gB1_some hB
      refine gw_aaload hv8 dX3_current_29 ?_
      obtain ⟨v9, hv9, hB⟩ := gB1_some hB
      refine gw_getfN (C := RX4) (T := TX4) (N := 3) (k := 0) gcl4 (by decide) in_X4 q199 (gfI_spec hv9) dX3_current_30 ?_
      refine gw_aload_n 0 rfl dX3_current_33 ?_
      obtain ⟨v10, hv10, hB⟩ := gB1_some hB
      refine gw_getf (C := RX3) (T := TX3) (N := 9) (k := 4) gcl7 (by decide) in_X3 q286 (gfR_spec hv10) dX3_current_34 ?_
      refine gw_iconst (v := (0 : Int32)) (by decide) dX3_current_37 ?_
      obtain ⟨v11, hv11, hB⟩ := gB1_some hB
      refine gw_aaload hv11 dX3_current_38 ?_
      obtain ⟨v12, hv12, hB⟩ := gB1_some hB
      refine gw_getfN (C := RX4) (T := TX4) (N := 3) (k := 0) gcl4 (by decide) in_X4 q199 (gfI_spec hv12) dX3_current_39 ?_
      refine gw_icmp_le (tgt := 49) dX3_current_42 (by decide) (fun hcnd => ?_) (fun hcnd => ?_)
      · rw [if_pos hcnd] at hB
        exact gw_sub [] rfl (w_X3_current_49   _ hB)
      · rw [if_neg hcnd] at hB
        exact gw_sub [] rfl (w_X3_current_45   _ hB)
noncomputable def f_X3_current (κ : gK) (F : Nat) (a0 : Option Nat) (s : gS) : Option (Int32 × gS) := f_X3_current_0 κ F a0 s
theorem m_X3_current {E : gE} {F : Nat} (a0 : Option Nat) (s : gS) (r : Int32) (s' : gS) (h : f_X3_current (gk E) F a0 s = some (r, s')) : gCT E 1 yX3_current (ws_ yX3_current cX3_current 2 (some FieldType.int)) [vR a0] s (.inl (some (vI r))) s' := by
  refine gCT_of2 (fun h => absurd h (by decide)) (plainFor_of_name (by decide)) (Nat.le_of_ble_eq_true rfl) ?_
  exact gw_sub [0] rfl (w_X3_current_0 _ _ h)
def dkwX3_now_0 : List UInt8 := [42, 180, 0, 38, 42, 182, 0, 152, 50, 176]
abbrev dktX3_now_0 : List UInt8 := dkwX3_now_0 ++ []
theorem dksX3_now_0 : cX3_now.data.toList.drop 0 = dktX3_now_0 := by decide +kernel
theorem dX3_now_0 : decode cX3_now 0 = .ok (.aload_n 0, 1) := dk_42 (dk_at dksX3_now_0 0 rfl rfl)
theorem dX3_now_1 : decode cX3_now 1 = .ok (.getfield 38, 3) := dk_180 0 38 (dk_at dksX3_now_0 1 rfl rfl)
theorem dX3_now_4 : decode cX3_now 4 = .ok (.aload_n 0, 1) := dk_42 (dk_at dksX3_now_0 4 rfl rfl)
theorem dX3_now_5 : decode cX3_now 5 = .ok (.invokevirtual 152, 3) := dk_182 0 152 (dk_at dksX3_now_0 5 rfl rfl)
theorem dX3_now_8 : decode cX3_now 8 = .ok (.aaload, 1) := dk_50 (dk_at dksX3_now_0 8 rfl rfl)
theorem dX3_now_9 : decode cX3_now 9 = .ok (.areturn, 1) := dk_176 (dk_at dksX3_now_0 9 rfl rfl)
/-! PageGarden$Garden.now()LPageGarden$Root; -/
abbrev M_X3_now (z0 n0 : Nat) (s' : gS) : gM := (RX3, cX3_now, 1, (some (FieldType.object "PageGarden$Root")), "now", [], 2, z0, n0, s'.2.1, s'.2.2)
abbrev W_X3_now (E : gE) (z0 n0 : Nat) (r : (Option Nat)) (s' : gS) (pc : Nat) (L : List (Nat × gV)) (st : List gV) (s : gS) : Prop := gW E (M_X3_now z0 n0 s') (gQm E (M_X3_now z0 n0 s') (.inl (some (vR r))) s') pc L st s
noncomputable def f_X3_now_0 (κ : gK) (F : Nat)  (l0 : Option Nat) (s : gS) : Option ((Option Nat) × gS) :=
  gB1 (gfR s l0 7 4) fun v1 =>
  gB1 (gck s l0 7) fun _ =>
  gB2 (f_X3_current κ F l0  s) fun v3 s2 =>
  gB1 (gaR s2 v1 v3) fun v5 =>
  some (v5, s2)
set_option maxHeartbeats 4000000 in
theorem w_X3_now_0 {E : gE} {F z0 n0 : Nat} {r : (Option Nat)} {s' : gS}   : ∀ (l0 : Option Nat)  (s : gS), f_X3_now_0 (gk E) F  l0 s = some (r, s') → W_X3_now E z0 n0 r s' 0 [(0, vR l0)] [] s := by
  intro l0 s hB
  unfold f_X3_now_0 at hB
  refine gw_aload_n 0 rfl dX3_now_0 ?_
  obtain ⟨v1, hv1, hB⟩ := gB1_some hB
  refine gw_getf (C := RX3) (T := TX3) (N := 9) (k := 4) gcl7 (by decide) in_X3 q286 (gfR_spec hv1) dX3_now_1 ?_
  refine gw_aload_n 0 rfl dX3_now_4 ?_
  obtain ⟨u0, hu4, hB⟩ := gB1_some hB
  obtain ⟨v3, s2, hv3, hB⟩ := gB2_some hB
  refine gw_callV (y := yX3_current) (lw_V q1306 q1307 q1308 q110 q1309) hdV_X3_current gcl7 hu4 (As := []) (rest := [vR v1]) (m_X3_current _ _ _ _ hv3) (Nat.le_of_ble_eq_true rfl) (Nat.le_of_ble_eq_true rfl) rfl (Nat.le_of_ble_eq_true rfl) dX3_now_5 (gCont_i ?_)
  obtain ⟨v5, hv5, hB⟩ := gB1_some hB
  refine gw_aaload hv5 dX3_now_8 ?_
  obtain ⟨rfl, rfl⟩ := Prod.mk.inj (Option.some.inj hB)
  exact gw_aret rfl (Or.inl ⟨_, rfl⟩) rfl rfl dX3_now_9
noncomputable def f_X3_now (κ : gK) (F : Nat) (a0 : Option Nat) (s : gS) : Option ((Option Nat) × gS) := f_X3_now_0 κ F a0 s
theorem m_X3_now {E : gE} {F : Nat} (a0 : Option Nat) (s : gS) (r : (Option Nat)) (s' : gS) (h : f_X3_now (gk E) F a0 s = some (r, s')) : gCT E 2 yX3_now (ws_ yX3_now cX3_now 1 (some (FieldType.object "PageGarden$Root"))) [vR a0] s (.inl (some (vR r))) s' := by
  refine gCT_of2 (fun h => absurd h (by decide)) (plainFor_of_name (by decide)) (Nat.le_of_ble_eq_true rfl) ?_
  exact gw_sub [0] rfl (w_X3_now_0 _ _ h)
def dkwX3_neededWithout_5 : List UInt8 := [28, 172]
abbrev dktX3_neededWithout_5 : List UInt8 := dkwX3_neededWithout_5 ++ []
def dkwX3_neededWithout_4 : List UInt8 := [28, 42, 180, 0, 26, 29, 50, 180, 0, 164, 184, 0, 158, 167, 0, 4, 28, 61, 132, 3, 1, 167, 255, 204]
abbrev dktX3_neededWithout_4 : List UInt8 := dkwX3_neededWithout_4 ++ dktX3_neededWithout_5
def dkwX3_neededWithout_3 : List UInt8 := [159, 0, 16, 42, 180, 0, 26, 29, 50, 198, 0, 7, 4, 167, 0, 4, 3, 54, 4, 21, 4, 153, 0, 19]
abbrev dktX3_neededWithout_3 : List UInt8 := dkwX3_neededWithout_3 ++ dktX3_neededWithout_4
def dkwX3_neededWithout_2 : List UInt8 := [184, 0, 158, 167, 0, 4, 28, 61, 132, 5, 1, 167, 255, 218, 3, 62, 29, 7, 162, 0, 53, 29, 27]
abbrev dktX3_neededWithout_2 : List UInt8 := dkwX3_neededWithout_2 ++ dktX3_neededWithout_3
def dkwX3_neededWithout_1 : List UInt8 := [162, 0, 37, 45, 21, 5, 50, 58, 6, 25, 6, 180, 0, 145, 153, 0, 15, 28, 25, 6, 180, 0, 149]
abbrev dktX3_neededWithout_1 : List UInt8 := dkwX3_neededWithout_1 ++ dktX3_neededWithout_2
def dkwX3_neededWithout_0 : List UInt8 := [42, 182, 0, 155, 180, 0, 149, 61, 42, 180, 0, 38, 78, 45, 190, 54, 4, 3, 54, 5, 21, 5, 21, 4]
abbrev dktX3_neededWithout_0 : List UInt8 := dkwX3_neededWithout_0 ++ dktX3_neededWithout_1
theorem dksX3_neededWithout_0 : cX3_neededWithout.data.toList.drop 0 = dktX3_neededWithout_0 := by decide +kernel
theorem dksX3_neededWithout_1 : cX3_neededWithout.data.toList.drop 24 = dktX3_neededWithout_1 := dk_seg dksX3_neededWithout_0 24 rfl rfl
theorem dksX3_neededWithout_2 : cX3_neededWithout.data.toList.drop 47 = dktX3_neededWithout_2 := dk_seg dksX3_neededWithout_1 23 rfl rfl
theorem dksX3_neededWithout_3 : cX3_neededWithout.data.toList.drop 70 = dktX3_neededWithout_3 := dk_seg dksX3_neededWithout_2 23 rfl rfl
theorem dksX3_neededWithout_4 : cX3_neededWithout.data.toList.drop 94 = dktX3_neededWithout_4 := dk_seg dksX3_neededWithout_3 24 rfl rfl
theorem dksX3_neededWithout_5 : cX3_neededWithout.data.toList.drop 118 = dktX3_neededWithout_5 := dk_seg dksX3_neededWithout_4 24 rfl rfl
theorem dX3_neededWithout_0 : decode cX3_neededWithout 0 = .ok (.aload_n 0, 1) := dk_42 (dk_at dksX3_neededWithout_0 0 rfl rfl)
theorem dX3_neededWithout_1 : decode cX3_neededWithout 1 = .ok (.invokevirtual 155, 3) := dk_182 0 155 (dk_at dksX3_neededWithout_0 1 rfl rfl)
theorem dX3_neededWithout_4 : decode cX3_neededWithout 4 = .ok (.getfield 149, 3) := dk_180 0 149 (dk_at dksX3_neededWithout_0 4 rfl rfl)
theorem dX3_neededWithout_7 : decode cX3_neededWithout 7 = .ok (.istore_n 2, 1) := dk_61 (dk_at dksX3_neededWithout_0 7 rfl rfl)
theorem dX3_neededWithout_8 : decode cX3_neededWithout 8 = .ok (.aload_n 0, 1) := dk_42 (dk_at dksX3_neededWithout_0 8 rfl rfl)
theorem dX3_neededWithout_9 : decode cX3_neededWithout 9 = .ok (.getfield 38, 3) := dk_180 0 38 (dk_at dksX3_neededWithout_0 9 rfl rfl)
theorem dX3_neededWithout_12 : decode cX3_neededWithout 12 = .ok (.astore_n 3, 1) := dk_78 (dk_at dksX3_neededWithout_0 12 rfl rfl)
theorem dX3_neededWithout_13 : decode cX3_neededWithout 13 = .ok (.aload_n 3, 1) := dk_45 (dk_at dksX3_neededWithout_0 13 rfl rfl)
theorem dX3_neededWithout_14 : decode cX3_neededWithout 14 = .ok (.arraylength, 1) := dk_190 (dk_at dksX3_neededWithout_0 14 rfl rfl)
theorem dX3_neededWithout_15 : decode cX3_neededWithout 15 = .ok (.istore 4, 2) := dk_54 4 (dk_at dksX3_neededWithout_0 15 rfl rfl)
theorem dX3_neededWithout_17 : decode cX3_neededWithout 17 = .ok (.iconst 0, 1) := dk_3 (dk_at dksX3_neededWithout_0 17 rfl rfl)
theorem dX3_neededWithout_18 : decode cX3_neededWithout 18 = .ok (.istore 5, 2) := dk_54 5 (dk_at dksX3_neededWithout_0 18 rfl rfl)
theorem dX3_neededWithout_20 : decode cX3_neededWithout 20 = .ok (.iload 5, 2) := dk_21 5 (dk_at dksX3_neededWithout_0 20 rfl rfl)
theorem dX3_neededWithout_22 : decode cX3_neededWithout 22 = .ok (.iload 4, 2) := dk_21 4 (dk_at dksX3_neededWithout_0 22 rfl rfl)
theorem dX3_neededWithout_24 : decode cX3_neededWithout 24 = .ok (.if_icmp .ge 37, 3) := dk_162 0 37 (dk_at dksX3_neededWithout_1 0 rfl rfl)
theorem dX3_neededWithout_27 : decode cX3_neededWithout 27 = .ok (.aload_n 3, 1) := dk_45 (dk_at dksX3_neededWithout_1 3 rfl rfl)
theorem dX3_neededWithout_28 : decode cX3_neededWithout 28 = .ok (.iload 5, 2) := dk_21 5 (dk_at dksX3_neededWithout_1 4 rfl rfl)
theorem dX3_neededWithout_30 : decode cX3_neededWithout 30 = .ok (.aaload, 1) := dk_50 (dk_at dksX3_neededWithout_1 6 rfl rfl)
theorem dX3_neededWithout_31 : decode cX3_neededWithout 31 = .ok (.astore 6, 2) := dk_58 6 (dk_at dksX3_neededWithout_1 7 rfl rfl)
theorem dX3_neededWithout_33 : decode cX3_neededWithout 33 = .ok (.aload 6, 2) := dk_25 6 (dk_at dksX3_neededWithout_1 9 rfl rfl)
theorem dX3_neededWithout_35 : decode cX3_neededWithout 35 = .ok (.getfield 145, 3) := dk_180 0 145 (dk_at dksX3_neededWithout_1 11 rfl rfl)
theorem dX3_neededWithout_38 : decode cX3_neededWithout 38 = .ok (.ifCond .eq 15, 3) := dk_153 0 15 (dk_at dksX3_neededWithout_1 14 rfl rfl)
theorem dX3_neededWithout_41 : decode cX3_neededWithout 41 = .ok (.iload_n 2, 1) := dk_28 (dk_at dksX3_neededWithout_1 17 rfl rfl)
theorem dX3_neededWithout_42 : decode cX3_neededWithout 42 = .ok (.aload 6, 2) := dk_25 6 (dk_at dksX3_neededWithout_1 18 rfl rfl)
theorem dX3_neededWithout_44 : decode cX3_neededWithout 44 = .ok (.getfield 149, 3) := dk_180 0 149 (dk_at dksX3_neededWithout_1 20 rfl rfl)
theorem dX3_neededWithout_47 : decode cX3_neededWithout 47 = .ok (.invokestatic 158, 3) := dk_184 0 158 (dk_at dksX3_neededWithout_2 0 rfl rfl)
theorem dX3_neededWithout_50 : decode cX3_neededWithout 50 = .ok (.goto 4, 3) := dk_167 0 4 (dk_at dksX3_neededWithout_2 3 rfl rfl)
theorem dX3_neededWithout_53 : decode cX3_neededWithout 53 = .ok (.iload_n 2, 1) := dk_28 (dk_at dksX3_neededWithout_2 6 rfl rfl)
theorem dX3_neededWithout_54 : decode cX3_neededWithout 54 = .ok (.istore_n 2, 1) := dk_61 (dk_at dksX3_neededWithout_2 7 rfl rfl)
theorem dX3_neededWithout_55 : decode cX3_neededWithout 55 = .ok (.iinc 5 1, 3) := dk_132 5 1 (dk_at dksX3_neededWithout_2 8 rfl rfl)
theorem dX3_neededWithout_58 : decode cX3_neededWithout 58 = .ok (.goto (-38), 3) := dk_167 255 218 (dk_at dksX3_neededWithout_2 11 rfl rfl)
theorem dX3_neededWithout_61 : decode cX3_neededWithout 61 = .ok (.iconst 0, 1) := dk_3 (dk_at dksX3_neededWithout_2 14 rfl rfl)
theorem dX3_neededWithout_62 : decode cX3_neededWithout 62 = .ok (.istore_n 3, 1) := dk_62 (dk_at dksX3_neededWithout_2 15 rfl rfl)
theorem dX3_neededWithout_63 : decode cX3_neededWithout 63 = .ok (.iload_n 3, 1) := dk_29 (dk_at dksX3_neededWithout_2 16 rfl rfl)
theorem dX3_neededWithout_64 : decode cX3_neededWithout 64 = .ok (.iconst 4, 1) := dk_7 (dk_at dksX3_neededWithout_2 17 rfl rfl)
theorem dX3_neededWithout_65 : decode cX3_neededWithout 65 = .ok (.if_icmp .ge 53, 3) := dk_162 0 53 (dk_at dksX3_neededWithout_2 18 rfl rfl)
theorem dX3_neededWithout_68 : decode cX3_neededWithout 68 = .ok (.iload_n 3, 1) := dk_29 (dk_at dksX3_neededWithout_2 21 rfl rfl)
theorem dX3_neededWithout_69 : decode cX3_neededWithout 69 = .ok (.iload_n 1, 1) := dk_27 (dk_at dksX3_neededWithout_2 22 rfl rfl)
theorem dX3_neededWithout_70 : decode cX3_neededWithout 70 = .ok (.if_icmp .eq 16, 3) := dk_159 0 16 (dk_at dksX3_neededWithout_3 0 rfl rfl)
theorem dX3_neededWithout_73 : decode cX3_neededWithout 73 = .ok (.aload_n 0, 1) := dk_42 (dk_at dksX3_neededWithout_3 3 rfl rfl)
theorem dX3_neededWithout_74 : decode cX3_neededWithout 74 = .ok (.getfield 26, 3) := dk_180 0 26 (dk_at dksX3_neededWithout_3 4 rfl rfl)
theorem dX3_neededWithout_77 : decode cX3_neededWithout 77 = .ok (.iload_n 3, 1) := dk_29 (dk_at dksX3_neededWithout_3 7 rfl rfl)
theorem dX3_neededWithout_78 : decode cX3_neededWithout 78 = .ok (.aaload, 1) := dk_50 (dk_at dksX3_neededWithout_3 8 rfl rfl)
theorem dX3_neededWithout_79 : decode cX3_neededWithout 79 = .ok (.ifnull 7, 3) := dk_198 0 7 (dk_at dksX3_neededWithout_3 9 rfl rfl)
theorem dX3_neededWithout_82 : decode cX3_neededWithout 82 = .ok (.iconst 1, 1) := dk_4 (dk_at dksX3_neededWithout_3 12 rfl rfl)
theorem dX3_neededWithout_83 : decode cX3_neededWithout 83 = .ok (.goto 4, 3) := dk_167 0 4 (dk_at dksX3_neededWithout_3 13 rfl rfl)
theorem dX3_neededWithout_86 : decode cX3_neededWithout 86 = .ok (.iconst 0, 1) := dk_3 (dk_at dksX3_neededWithout_3 16 rfl rfl)
theorem dX3_neededWithout_87 : decode cX3_neededWithout 87 = .ok (.istore 4, 2) := dk_54 4 (dk_at dksX3_neededWithout_3 17 rfl rfl)
theorem dX3_neededWithout_89 : decode cX3_neededWithout 89 = .ok (.iload 4, 2) := dk_21 4 (dk_at dksX3_neededWithout_3 19 rfl rfl)
theorem dX3_neededWithout_91 : decode cX3_neededWithout 91 = .ok (.ifCond .eq 19, 3) := dk_153 0 19 (dk_at dksX3_neededWithout_3 21 rfl rfl)
theorem dX3_neededWithout_94 : decode cX3_neededWithout 94 = .ok (.iload_n 2, 1) := dk_28 (dk_at dksX3_neededWithout_4 0 rfl rfl)
theorem dX3_neededWithout_95 : decode cX3_neededWithout 95 = .ok (.aload_n 0, 1) := dk_42 (dk_at dksX3_neededWithout_4 1 rfl rfl)
theorem dX3_neededWithout_96 : decode cX3_neededWithout 96 = .ok (.getfield 26, 3) := dk_180 0 26 (dk_at dksX3_neededWithout_4 2 rfl rfl)
theorem dX3_neededWithout_99 : decode cX3_neededWithout 99 = .ok (.iload_n 3, 1) := dk_29 (dk_at dksX3_neededWithout_4 5 rfl rfl)
theorem dX3_neededWithout_100 : decode cX3_neededWithout 100 = .ok (.aaload, 1) := dk_50 (dk_at dksX3_neededWithout_4 6 rfl rfl)
theorem dX3_neededWithout_101 : decode cX3_neededWithout 101 = .ok (.getfield 164, 3) := dk_180 0 164 (dk_at dksX3_neededWithout_4 7 rfl rfl)
theorem dX3_neededWithout_104 : decode cX3_neededWithout 104 = .ok (.invokestatic 158, 3) := dk_184 0 158 (dk_at dksX3_neededWithout_4 10 rfl rfl)
theorem dX3_neededWithout_107 : decode cX3_neededWithout 107 = .ok (.goto 4, 3) := dk_167 0 4 (dk_at dksX3_neededWithout_4 13 rfl rfl)
theorem dX3_neededWithout_110 : decode cX3_neededWithout 110 = .ok (.iload_n 2, 1) := dk_28 (dk_at dksX3_neededWithout_4 16 rfl rfl)
theorem dX3_neededWithout_111 : decode cX3_neededWithout 111 = .ok (.istore_n 2, 1) := dk_61 (dk_at dksX3_neededWithout_4 17 rfl rfl)
theorem dX3_neededWithout_112 : decode cX3_neededWithout 112 = .ok (.iinc 3 1, 3) := dk_132 3 1 (dk_at dksX3_neededWithout_4 18 rfl rfl)
theorem dX3_neededWithout_115 : decode cX3_neededWithout 115 = .ok (.goto (-52), 3) := dk_167 255 204 (dk_at dksX3_neededWithout_4 21 rfl rfl)
theorem dX3_neededWithout_118 : decode cX3_neededWithout 118 = .ok (.iload_n 2, 1) := dk_28 (dk_at dksX3_neededWithout_5 0 rfl rfl)
theorem dX3_neededWithout_119 : decode cX3_neededWithout 119 = .ok (.ireturn, 1) := dk_172 (dk_at dksX3_neededWithout_5 1 rfl rfl)
/-! PageGarden$Garden.neededWithout(I)I -/
abbrev M_X3_neededWithout (z0 n0 : Nat) (s' : gS) : gM := (RX3, cX3_neededWithout, 7, (some FieldType.int), "neededWithout", [], 3, z0, n0, s'.2.1, s'.2.2)
abbrev W_X3_neededWithout (E : gE) (z0 n0 : Nat) (r : Int32) (s' : gS) (pc : Nat) (L : List (Nat × gV)) (st : List gV) (s : gS) : Prop := gW E (M_X3_neededWithout z0 n0 s') (gQm E (M_X3_neededWithout z0 n0 s') (.inl (some (vI r))) s') pc L st s
noncomputable def f_X3_neededWithout_54 (κ : gK) (F : Nat) (k20 : Option Nat → Int32 → Int32 → Option Nat → Int32 → Int32 → gS → Option (Int32 × gS)) (l0 : Option Nat) (l1 : Int32) (l3 : Option Nat) (l4 : Int32) (l5 : Int32) (t0 : Int32) (s : gS) : Option (Int32 × gS) :=
  k20 l0 l1 t0 l3 l4 (l5 + (1 : Int32)) s
set_option maxHeartbeats 4000000 in
theorem w_X3_neededWithout_54 {E : gE} {F z0 n0 : Nat} {r : Int32} {s' : gS} {k20 : Option Nat → Int32 → Int32 → Option Nat → Int32 → Int32 → gS → Option (Int32 × gS)} (hk20 : ∀ (l0 : Option Nat) (l1 : Int32) (l2 : Int32) (l3 : Option Nat) (l4 : Int32) (l5 : Int32) (s : gS), k20 l0 l1 l2 l3 l4 l5 s = some (r, s') → W_X3_neededWithout E z0 n0 r s' 20 [(0, vR l0), (1, vI l1), (2, vI l2), (3, vR l3), (4, vI l4), (5, vI l5)] [] s) : ∀ (l0 : Option Nat) (l1 : Int32) (l3 : Option Nat) (l4 : Int32) (l5 : Int32) (t0 : Int32) (s : gS), f_X3_neededWithout_54 (gk E) F k20 l0 l1 l3 l4 l5 t0 s = some (r, s') → W_X3_neededWithout E z0 n0 r s' 54 [(0, vR l0), (1, vI l1), (3, vR l3), (4, vI l4), (5, vI l5)] [vI t0] s := by
  intro l0 l1 l3 l4 l5 t0 s hB
  unfold f_X3_neededWithout_54 at hB
  refine gw_istore_n (L' := [(2, vI t0), (0, vR l0), (1, vI l1), (3, vR l3), (4, vI l4), (5, vI l5)]) (Nat.le_of_ble_eq_true rfl) rfl dX3_neededWithout_54 ?_
  refine gw_iinc (w := (1 : Int32)) (L' := [(5, vI (l5 + (1 : Int32))), (2, vI t0), (0, vR l0), (1, vI l1), (3, vR l3), (4, vI l4)]) 5 rfl (by decide) (Nat.le_of_ble_eq_true rfl) rfl dX3_neededWithout_55 ?_
  refine gw_goto (tgt := 20) dX3_neededWithout_58 (by decide) ?_
  exact gw_sub [2, 3, 1, 4, 5, 0] rfl (hk20 _ _ _ _ _ _ _ hB)
noncomputable def f_X3_neededWithout_111 (κ : gK) (F : Nat) (k63 : Option Nat → Int32 → Int32 → Int32 → gS → Option (Int32 × gS)) (l0 : Option Nat) (l1 : Int32) (l3 : Int32) (t0 : Int32) (s : gS) : Option (Int32 × gS) :=
  k63 l0 l1 t0 (l3 + (1 : Int32)) s
set_option maxHeartbeats 4000000 in
theorem w_X3_neededWithout_111 {E : gE} {F z0 n0 : Nat} {r : Int32} {s' : gS} {k63 : Option Nat → Int32 → Int32 → Int32 → gS → Option (Int32 × gS)} (hk63 : ∀ (l0 : Option Nat) (l1 : Int32) (l2 : Int32) (l3 : Int32) (s : gS), k63 l0 l1 l2 l3 s = some (r, s') → W_X3_neededWithout E z0 n0 r s' 63 [(0, vR l0), (1, vI l1), (2, vI l2), (3, vI l3)] [] s) : ∀ (l0 : Option Nat) (l1 : Int32) (l3 : Int32) (t0 : Int32) (s : gS), f_X3_neededWithout_111 (gk E) F k63 l0 l1 l3 t0 s = some (r, s') → W_X3_neededWithout E z0 n0 r s' 111 [(0, vR l0), (1, vI l1), (3, vI l3)] [vI t0] s := by
  intro l0 l1 l3 t0 s hB
  unfold f_X3_neededWithout_111 at hB
  refine gw_istore_n (L' := [(2, vI t0), (0, vR l0), (1, vI l1), (3, vI l3)]) (Nat.le_of_ble_eq_true rfl) rfl dX3_neededWithout_111 ?_
  refine gw_iinc (w := (1 : Int32)) (L' := [(3, vI (l3 + (1 : Int32))), (2, vI t0), (0, vR l0), (1, vI l1)]) 3 rfl (by decide) (Nat.le_of_ble_eq_true rfl) rfl dX3_neededWithout_112 ?_
  refine gw_goto (tgt := 63) dX3_neededWithout_115 (by decide) ?_
  exact gw_sub [2, 3, 1, 0] rfl (hk63 _ _ _ _ _ hB)
noncomputable def f_X3_neededWithout_87 (κ : gK) (F : Nat) (k63 : Option Nat → Int32 → Int32 → Int32 → gS → Option (Int32 × gS)) (l0 : Option Nat) (l1 : Int32) (l2 : Int32) (l3 : Int32) (t0 : Int32) (s : gS) : Option (Int32 × gS) :=
  if t0 = 0 then
    f_X3_neededWithout_111 κ F k63 l0 l1 l3 l2 s
  else
    gB1 (gfR s l0 7 5) fun v1 =>
    gB1 (gaR s v1 l3) fun v2 =>
    gB1 (gfI s v2 5 0) fun v3 =>
    f_X3_neededWithout_111 κ F k63 l0 l1 l3 (if v3 < l2 then v3 else l2) s
set_option maxHeartbeats 4000000 in
theorem w_X3_neededWithout_87 {E : gE} {F z0 n0 : Nat} {r : Int32} {s' : gS} {k63 : Option Nat → Int32 → Int32 → Int32 → gS → Option (Int32 × gS)} (hk63 : ∀ (l0 : Option Nat) (l1 : Int32) (l2 : Int32) (l3 : Int32) (s : gS), k63 l0 l1 l2 l3 s = some (r, s') → W_X3_neededWithout E z0 n0 r s' 63 [(0, vR l0), (1, vI l1), (2, vI l2), (3, vI l3)] [] s) : ∀ (l0 : Option Nat) (l1 : Int32) (l2 : Int32) (l3 : Int32) (t0 : Int32) (s : gS), f_X3_neededWithout_87 (gk E) F k63 l0 l1 l2 l3 t0 s = some (r, s') → W_X3_neededWithout E z0 n0 r s' 87 [(0, vR l0), (1, vI l1), (2, vI l2), (3, vI l3)] [vI t0] s := by
  intro l0 l1 l2 l3 t0 s hB
  unfold f_X3_neededWithout_87 at hB
  refine gw_istore (L' := [(4, vI t0), (0, vR l0), (1, vI l1), (2, vI l2), (3, vI l3)]) (Nat.le_of_ble_eq_true rfl) rfl dX3_neededWithout_87 ?_
  refine gw_iload 0 rfl dX3_neededWithout_89 ?_
  refine gw_if_eq (tgt := 110) dX3_neededWithout_91 (by decide) (fun hcnd => ?_) (fun hcnd => ?_)
  · rw [if_pos hcnd] at hB
    refine gw_iload_n 3 rfl dX3_neededWithout_110 ?_
    exact gw_sub [1, 2, 4] rfl (w_X3_neededWithout_111 hk63 _ _ _ _ _ hB)
  · rw [if_neg hcnd] at hB
    refine gw_iload_n 3 rfl dX3_neededWithout_94 ?_
    refine gw_aload_n 1 rfl dX3_neededWithout_95 ?_
    obtain ⟨v1, hv1, hB⟩ := gB1_some hB
    refine gw_getf (C := RX3) (T := TX3) (N := 9) (k := 5) gcl7 (by decide) in_X3 q287 (gfR_spec hv1) dX3_neededWithout_96 ?_
    refine gw_iload_n 4 rfl dX3_neededWithout_99 ?_
    obtain ⟨v2, hv2, hB⟩ := gB1_some hB
    refine gw_aaload hv2 dX3_neededWithout_100 ?_
    obtain ⟨v3, hv3, hB⟩ := gB1_some hB
    refine gw_getfN (C := RX10) (T := TX10) (N := 2) (k := 0) gcl5 (by decide) in_X10 q2323 (gfI_spec hv3) dX3_neededWithout_101 ?_
    refine gw_mmin q1310 q558 q129 q559 (Nat.le_of_ble_eq_true rfl) (Nat.le_of_ble_eq_true rfl) dX3_neededWithout_104 ?_
    refine gw_goto (tgt := 111) dX3_neededWithout_107 (by decide) ?_
    exact gw_sub [1, 2, 4] rfl (w_X3_neededWithout_111 hk63 _ _ _ _ _ hB)
noncomputable def f_X3_neededWithout_86 (κ : gK) (F : Nat) (k63 : Option Nat → Int32 → Int32 → Int32 → gS → Option (Int32 × gS)) (l0 : Option Nat) (l1 : Int32) (l2 : Int32) (l3 : Int32) (s : gS) : Option (Int32 × gS) :=
  f_X3_neededWithout_87 κ F k63 l0 l1 l2 l3 (0 : Int32) s
set_option maxHeartbeats 4000000 in
theorem w_X3_neededWithout_86 {E : gE} {F z0 n0 : Nat} {r : Int32} {s' : gS} {k63 : Option Nat → Int32 → Int32 → Int32 → gS → Option (Int32 × gS)} (hk63 : ∀ (l0 : Option Nat) (l1 : Int32) (l2 : Int32) (l3 : Int32) (s : gS), k63 l0 l1 l2 l3 s = some (r, s') → W_X3_neededWithout E z0 n0 r s' 63 [(0, vR l0), (1, vI l1), (2, vI l2), (3, vI l3)] [] s) : ∀ (l0 : Option Nat) (l1 : Int32) (l2 : Int32) (l3 : Int32)  (s : gS), f_X3_neededWithout_86 (gk E) F k63 l0 l1 l2 l3 s = some (r, s') → W_X3_neededWithout E z0 n0 r s' 86 [(0, vR l0), (1, vI l1), (2, vI l2), (3, vI l3)] [] s := by
  intro l0 l1 l2 l3 s hB
  unfold f_X3_neededWithout_86 at hB
  refine gw_iconst (v := (0 : Int32)) (by decide) dX3_neededWithout_86 ?_
  exact gw_sub [0, 1, 2, 3] rfl (w_X3_neededWithout_87 hk63 _ _ _ _ _ _ hB)
noncomputable def f_X3_neededWithout_63b (κ : gK) (F : Nat) (k63 : Option Nat → Int32 → Int32 → Int32 → gS → Option (Int32 × gS)) (l0 : Option Nat) (l1 : Int32) (l2 : Int32) (l3 : Int32) (s : gS) : Option (Int32 × gS) :=
  if (4 : Int32) ≤ l3 then
    some (l2, s)
  else
    if l3 = l1 then
      f_X3_neededWithout_86 κ F k63 l0 l1 l2 l3 s
    else
      gB1 (gfR s l0 7 5) fun v1 =>
      gB1 (gaR s v1 l3) fun v2 =>
      if v2 = none then
        f_X3_neededWithout_86 κ F k63 l0 l1 l2 l3 s
      else
        f_X3_neededWithout_87 κ F k63 l0 l1 l2 l3 (1 : Int32) s
noncomputable def f_X3_neededWithout_63 (κ : gK) (F : Nat)  : Nat → Option Nat → Int32 → Int32 → Int32 → gS → Option (Int32 × gS)
  | 0 => fun _ _ _ _ _ => none
  | n + 1 => f_X3_neededWithout_63b κ F  (f_X3_neededWithout_63 κ F  n)
set_option maxHeartbeats 4000000 in
theorem w_X3_neededWithout_63b {E : gE} {F z0 n0 : Nat} {r : Int32} {s' : gS} {k63 : Option Nat → Int32 → Int32 → Int32 → gS → Option (Int32 × gS)} (hk63 : ∀ (l0 : Option Nat) (l1 : Int32) (l2 : Int32) (l3 : Int32) (s : gS), k63 l0 l1 l2 l3 s = some (r, s') → W_X3_neededWithout E z0 n0 r s' 63 [(0, vR l0), (1, vI l1), (2, vI l2), (3, vI l3)] [] s) : ∀ (l0 : Option Nat) (l1 : Int32) (l2 : Int32) (l3 : Int32)  (s : gS), f_X3_neededWithout_63b (gk E) F k63 l0 l1 l2 l3 s = some (r, s') → W_X3_neededWithout E z0 n0 r s' 63 [(0, vR l0), (1, vI l1), (2, vI l2), (3, vI l3)] [] s := by
  intro l0 l1 l2 l3 s hB
  unfold f_X3_neededWithout_63b at hB
  refine gw_iload_n 3 rfl dX3_neededWithout_63 ?_
  refine gw_iconst (v := (4 : Int32)) (by decide) dX3_neededWithout_64 ?_
  refine gw_icmp_ge (tgt := 118) dX3_neededWithout_65 (by decide) (fun hcnd => ?_) (fun hcnd => ?_)
  · rw [if_pos hcnd] at hB
    refine gw_iload_n 2 rfl dX3_neededWithout_118 ?_
    obtain ⟨rfl, rfl⟩ := Prod.mk.inj (Option.some.inj hB)
    exact gw_iret rfl rfl rfl dX3_neededWithout_119
  · rw [if_neg hcnd] at hB
    refine gw_iload_n 3 rfl dX3_neededWithout_68 ?_
    refine gw_iload_n 1 rfl dX3_neededWithout_69 ?_
    refine gw_icmp_eq (tgt := 86) dX3_neededWithout_70 (by decide) (fun hcnd => ?_) (fun hcnd => ?_)
    · rw [if_pos hcnd] at hB
      exact gw_sub [0, 1, 2, 3] rfl (w_X3_neededWithout_86 hk63 _ _ _ _ _ hB)
    · rw [if_neg hcnd] at hB
      refine gw_aload_n 0 rfl dX3_neededWithout_73 ?_
      obtain ⟨v1, hv1, hB⟩ := gB1_some hB
      refine gw_getf (C := RX3) (T := TX3) (N := 9) (k := 5) gcl7 (by decide) in_X3 q287 (gfR_spec hv1) dX3_neededWithout_74 ?_
      refine gw_iload_n 3 rfl dX3_neededWithout_77 ?_
      obtain ⟨v2, hv2, hB⟩ := gB1_some hB
      refine gw_aaload hv2 dX3_neededWithout_78 ?_
      refine gw_ifnull (tgt := 86) dX3_neededWithout_79 (by decide) (fun hcnd => ?_) (fun hcnd => ?_)
      · rw [if_pos hcnd] at hB
        exact gw_sub [0, 1, 2, 3] rfl (w_X3_neededWithout_86 hk63 _ _ _ _ _ hB)
      · rw [if_neg hcnd] at hB
        refine gw_iconst (v := (1 : Int32)) (by decide) dX3_neededWithout_82 ?_
        refine gw_goto (tgt := 87) dX3_neededWithout_83 (by decide) ?_
        exact gw_sub [0, 1, 2, 3] rfl (w_X3_neededWithout_87 hk63 _ _ _ _ _ _ hB)
theorem w_X3_neededWithout_63 {E : gE} {F z0 n0 : Nat} {r : Int32} {s' : gS}   : ∀ (n : Nat) (l0 : Option Nat) (l1 : Int32) (l2 : Int32) (l3 : Int32)  (s : gS), f_X3_neededWithout_63 (gk E) F  n l0 l1 l2 l3 s = some (r, s') → W_X3_neededWithout E z0 n0 r s' 63 [(0, vR l0), (1, vI l1), (2, vI l2), (3, vI l3)] [] s := by
  intro n
  induction n with
  | zero => intro l0 l1 l2 l3 s hB; cases hB
  | succ n ih => intro l0 l1 l2 l3 s hB; exact w_X3_neededWithout_63b ih l0 l1 l2 l3 s hB
noncomputable def f_X3_neededWithout_20b (κ : gK) (F : Nat) (k20 : Option Nat → Int32 → Int32 → Option Nat → Int32 → Int32 → gS → Option (Int32 × gS)) (l0 : Option Nat) (l1 : Int32) (l2 : Int32) (l3 : Option Nat) (l4 : Int32) (l5 : Int32) (s : gS) : Option (Int32 × gS) :=
  if l4 ≤ l5 then
    f_X3_neededWithout_63 κ F  F l0 l1 l2 (0 : Int32) s
  else
    gB1 (gaR s l3 l5) fun v1 =>
    gB1 (gfI s v1 4 2) fun v2 =>
    if v2 = 0 then
      f_X3_neededWithout_54 κ F k20 l0 l1 l3 l4 l5 l2 s
    else
      gB1 (gfI s v1 4 0) fun v3 =>
      f_X3_neededWithout_54 κ F k20 l0 l1 l3 l4 l5 (if v3 < l2 then v3 else l2) s
noncomputable def f_X3_neededWithout_20 (κ : gK) (F : Nat)  : Nat → Option Nat → Int32 → Int32 → Option Nat → Int32 → Int32 → gS → Option (Int32 × gS)
  | 0 => fun _ _ _ _ _ _ _ => none
  | n + 1 => f_X3_neededWithout_20b κ F  (f_X3_neededWithout_20 κ F  n)
set_option maxHeartbeats 4000000 in
theorem w_X3_neededWithout_20b {E : gE} {F z0 n0 : Nat} {r : Int32} {s' : gS} {k20 : Option Nat → Int32 → Int32 → Option Nat → Int32 → Int32 → gS → Option (Int32 × gS)} (hk20 : ∀ (l0 : Option Nat) (l1 : Int32) (l2 : Int32) (l3 : Option Nat) (l4 : Int32) (l5 : Int32) (s : gS), k20 l0 l1 l2 l3 l4 l5 s = some (r, s') → W_X3_neededWithout E z0 n0 r s' 20 [(0, vR l0), (1, vI l1), (2, vI l2), (3, vR l3), (4, vI l4), (5, vI l5)] [] s) : ∀ (l0 : Option Nat) (l1 : Int32) (l2 : Int32) (l3 : Option Nat) (l4 : Int32) (l5 : Int32)  (s : gS), f_X3_neededWithout_20b (gk E) F k20 l0 l1 l2 l3 l4 l5 s = some (r, s') → W_X3_neededWithout E z0 n0 r s' 20 [(0, vR l0), (1, vI l1), (2, vI l2), (3, vR l3), (4, vI l4), (5, vI l5)] [] s := by
  intro l0 l1 l2 l3 l4 l5 s hB
  unfold f_X3_neededWithout_20b at hB
  refine gw_iload 5 rfl dX3_neededWithout_20 ?_
  refine gw_iload 4 rfl dX3_neededWithout_22 ?_
  refine gw_icmp_ge (tgt := 61) dX3_neededWithout_24 (by decide) (fun hcnd => ?_) (fun hcnd => ?_)
  · rw [if_pos hcnd] at hB
    refine gw_iconst (v := (0 : Int32)) (by decide) dX3_neededWithout_61 ?_
    refine gw_istore_n (L' := [(3, vI (0 : Int32)), (0, vR l0), (1, vI l1), (2, vI l2), (4, vI l4), (5, vI l5)]) (Nat.le_of_ble_eq_true rfl) rfl dX3_neededWithout_62 ?_
    exact gw_sub [1, 2, 3, 0] rfl (w_X3_neededWithout_63  F _ _ _ _ _ hB)
  · rw [if_neg hcnd] at hB
    refine gw_aload_n 3 rfl dX3_neededWithout_27 ?_
    refine gw_iload 5 rfl dX3_neededWithout_28 ?_
    obtain ⟨v1, hv1, hB⟩ := gB1_some hB
    refine gw_aaload hv1 dX3_neededWithout_30 ?_
    refine gw_astore (L' := [(6, vR v1), (0, vR l0), (1, vI l1), (2, vI l2), (3, vR l3), (4, vI l4), (5, vI l5)]) (Nat.le_of_ble_eq_true rfl) rfl dX3_neededWithout_31 ?_
    refine gw_aload 0 rfl dX3_neededWithout_33 ?_
    obtain ⟨v2, hv2, hB⟩ := gB1_some hB
    refine gw_getfN (C := RX4) (T := TX4) (N := 3) (k := 2) gcl4 (by decide) in_X4 q203 (gfI_spec hv2) dX3_neededWithout_35 ?_
    refine gw_if_eq (tgt := 53) dX3_neededWithout_38 (by decide) (fun hcnd => ?_) (fun hcnd => ?_)
    · rw [if_pos hcnd] at hB
      refine gw_iload_n 3 rfl dX3_neededWithout_53 ?_
      exact gw_sub [1, 2, 4, 5, 6] rfl (w_X3_neededWithout_54 hk20 _ _ _ _ _ _ _ hB)
    · rw [if_neg hcnd] at hB
      refine gw_iload_n 3 rfl dX3_neededWithout_41 ?_
      refine gw_aload 0 rfl dX3_neededWithout_42 ?_
      obtain ⟨v3, hv3, hB⟩ := gB1_some hB
      refine gw_getfN (C := RX4) (T := TX4) (N := 3) (k := 0) gcl4 (by decide) in_X4 q199 (gfI_spec hv3) dX3_neededWithout_44 ?_
      refine gw_mmin q1310 q558 q129 q559 (Nat.le_of_ble_eq_true rfl) (Nat.le_of_ble_eq_true rfl) dX3_neededWithout_47 ?_
      refine gw_goto (tgt := 54) dX3_neededWithout_50 (by decide) ?_
      exact gw_sub [1, 2, 4, 5, 6] rfl (w_X3_neededWithout_54 hk20 _ _ _ _ _ _ _ hB)
theorem w_X3_neededWithout_20 {E : gE} {F z0 n0 : Nat} {r : Int32} {s' : gS}   : ∀ (n : Nat) (l0 : Option Nat) (l1 : Int32) (l2 : Int32) (l3 : Option Nat) (l4 : Int32) (l5 : Int32)  (s : gS), f_X3_neededWithout_20 (gk E) F  n l0 l1 l2 l3 l4 l5 s = some (r, s') → W_X3_neededWithout E z0 n0 r s' 20 [(0, vR l0), (1, vI l1), (2, vI l2), (3, vR l3), (4, vI l4), (5, vI l5)] [] s := by
  intro n
  induction n with
  | zero => intro l0 l1 l2 l3 l4 l5 s hB; cases hB
  | succ n ih => intro l0 l1 l2 l3 l4 l5 s hB; exact w_X3_neededWithout_20b ih l0 l1 l2 l3 l4 l5 s hB
noncomputable def f_X3_neededWithout_0 (κ : gK) (F : Nat)  (l0 : Option Nat) (l1 : Int32) (s : gS) : Option (Int32 × gS) :=
  gB1 (gck s l0 7) fun _ =>
  gB2 (f_X3_now κ F l0  s) fun v2 s1 =>
  gB1 (gfI s1 v2 4 0) fun v4 =>
  gB1 (gfR s1 l0 7 4) fun v5 =>
  gB1 (gal s1 v5) fun v6 =>
  f_X3_neededWithout_20 κ F  F l0 l1 v4 v5 v6 (0 : Int32) s1
set_option maxHeartbeats 4000000 in
theorem w_X3_neededWithout_0 {E : gE} {F z0 n0 : Nat} {r : Int32} {s' : gS}   : ∀ (l0 : Option Nat) (l1 : Int32)  (s : gS), f_X3_neededWithout_0 (gk E) F  l0 l1 s = some (r, s') → W_X3_neededWithout E z0 n0 r s' 0 [(0, vR l0), (1, vI l1)] [] s := by
  intro l0 l1 s hB
  unfold f_X3_neededWithout_0 at hB
  refine gw_aload_n 0 rfl dX3_neededWithout_0 ?_
  obtain ⟨u0, hu3, hB⟩ := gB1_some hB
  obtain ⟨v2, s1, hv2, hB⟩ := gB2_some hB
  refine gw_callV (y := yX3_now) (lw_V q1302 q1303 q1304 q110 q1305) hdV_X3_now gcl7 hu3 (As := []) (rest := []) (m_X3_now _ _ _ _ hv2) (Nat.le_of_ble_eq_true rfl) (Nat.le_of_ble_eq_true rfl) rfl (Nat.le_of_ble_eq_true rfl) dX3_neededWithout_1 (gCont_i ?_)
  obtain ⟨v4, hv4, hB⟩ := gB1_some hB
  refine gw_getfN (C := RX4) (T := TX4) (N := 3) (k := 0) gcl4 (by decide) in_X4 q199 (gfI_spec hv4) dX3_neededWithout_4 ?_
  refine gw_istore_n (L' := [(2, vI v4), (0, vR l0), (1, vI l1)]) (Nat.le_of_ble_eq_true rfl) rfl dX3_neededWithout_7 ?_
  refine gw_aload_n 1 rfl dX3_neededWithout_8 ?_
  obtain ⟨v5, hv5, hB⟩ := gB1_some hB
  refine gw_getf (C := RX3) (T := TX3) (N := 9) (k := 4) gcl7 (by decide) in_X3 q286 (gfR_spec hv5) dX3_neededWithout_9 ?_
  refine gw_astore_n (L' := [(3, vR v5), (2, vI v4), (0, vR l0), (1, vI l1)]) (Nat.le_of_ble_eq_true rfl) rfl dX3_neededWithout_12 ?_
  refine gw_aload_n 0 rfl dX3_neededWithout_13 ?_
  obtain ⟨v6, hv6, hB⟩ := gB1_some hB
  refine gw_alen hv6 dX3_neededWithout_14 ?_
  refine gw_istore (L' := [(4, vI v6), (3, vR v5), (2, vI v4), (0, vR l0), (1, vI l1)]) (Nat.le_of_ble_eq_true rfl) rfl dX3_neededWithout_15 ?_
  refine gw_iconst (v := (0 : Int32)) (by decide) dX3_neededWithout_17 ?_
  refine gw_istore (L' := [(5, vI (0 : Int32)), (4, vI v6), (3, vR v5), (2, vI v4), (0, vR l0), (1, vI l1)]) (Nat.le_of_ble_eq_true rfl) rfl dX3_neededWithout_18 ?_
  exact gw_sub [4, 5, 3, 2, 1, 0] rfl (w_X3_neededWithout_20  F _ _ _ _ _ _ _ hB)
noncomputable def f_X3_neededWithout (κ : gK) (F : Nat) (a0 : Option Nat) (a1 : Int32) (s : gS) : Option (Int32 × gS) := f_X3_neededWithout_0 κ F a0 a1 s
theorem m_X3_neededWithout {E : gE} {F : Nat} (a0 : Option Nat) (a1 : Int32) (s : gS) (r : Int32) (s' : gS) (h : f_X3_neededWithout (gk E) F a0 a1 s = some (r, s')) : gCT E 3 yX3_neededWithout (ws_ yX3_neededWithout cX3_neededWithout 7 (some FieldType.int)) [vR a0, vI a1] s (.inl (some (vI r))) s' := by
  refine gCT_of2 (fun h => absurd h (by decide)) (plainFor_of_name (by decide)) (Nat.le_of_ble_eq_true rfl) ?_
  exact gw_sub [0, 1] rfl (w_X3_neededWithout_0 _ _ _ h)
def dkwX3_needed_0 : List UInt8 := [42, 17, 252, 24, 182, 0, 165, 172]
abbrev dktX3_needed_0 : List UInt8 := dkwX3_needed_0 ++ []
theorem dksX3_needed_0 : cX3_needed.data.toList.drop 0 = dktX3_needed_0 := by decide +kernel
theorem dX3_needed_0 : decode cX3_needed 0 = .ok (.aload_n 0, 1) := dk_42 (dk_at dksX3_needed_0 0 rfl rfl)
theorem dX3_needed_1 : decode cX3_needed 1 = .ok (.sipush (-1000), 3) := dk_17 252 24 (dk_at dksX3_needed_0 1 rfl rfl)
theorem dX3_needed_4 : decode cX3_needed 4 = .ok (.invokevirtual 165, 3) := dk_182 0 165 (dk_at dksX3_needed_0 4 rfl rfl)
theorem dX3_needed_7 : decode cX3_needed 7 = .ok (.ireturn, 1) := dk_172 (dk_at dksX3_needed_0 7 rfl rfl)
/-! PageGarden$Garden.needed()I -/
abbrev M_X3_needed (z0 n0 : Nat) (s' : gS) : gM := (RX3, cX3_needed, 1, (some FieldType.int), "needed", [], 4, z0, n0, s'.2.1, s'.2.2)
abbrev W_X3_needed (E : gE) (z0 n0 : Nat) (r : Int32) (s' : gS) (pc : Nat) (L : List (Nat × gV)) (st : List gV) (s : gS) : Prop := gW E (M_X3_needed z0 n0 s') (gQm E (M_X3_needed z0 n0 s') (.inl (some (vI r))) s') pc L st s
noncomputable def f_X3_needed_0 (κ : gK) (F : Nat)  (l0 : Option Nat) (s : gS) : Option (Int32 × gS) :=
  gB1 (gck s l0 7) fun _ =>
  gB2 (f_X3_neededWithout κ F l0 (-1000 : Int32) s) fun v2 s1 =>
  some (v2, s1)
set_option maxHeartbeats 4000000 in
theorem w_X3_needed_0 {E : gE} {F z0 n0 : Nat} {r : Int32} {s' : gS}   : ∀ (l0 : Option Nat)  (s : gS), f_X3_needed_0 (gk E) F  l0 s = some (r, s') → W_X3_needed E z0 n0 r s' 0 [(0, vR l0)] [] s := by
  intro l0 s hB
  unfold f_X3_needed_0 at hB
  refine gw_aload_n 0 rfl dX3_needed_0 ?_
  refine gw_sipush (v := (-1000 : Int32)) (by decide) dX3_needed_1 ?_
  obtain ⟨u0, hu3, hB⟩ := gB1_some hB
  obtain ⟨v2, s1, hv2, hB⟩ := gB2_some hB
  refine gw_callV (y := yX3_neededWithout) (lw_V q1298 q1299 q1300 q110 q1301) hdV_X3_neededWithout gcl7 hu3 (As := [vI (-1000 : Int32)]) (rest := []) (m_X3_neededWithout _ _ _ _ _ hv2) (Nat.le_of_ble_eq_true rfl) (Nat.le_of_ble_eq_true rfl) rfl (Nat.le_of_ble_eq_true rfl) dX3_needed_4 (gCont_i ?_)
  obtain ⟨rfl, rfl⟩ := Prod.mk.inj (Option.some.inj hB)
  exact gw_iret rfl rfl rfl dX3_needed_7
noncomputable def f_X3_needed (κ : gK) (F : Nat) (a0 : Option Nat) (s : gS) : Option (Int32 × gS) := f_X3_needed_0 κ F a0 s
theorem m_X3_needed {E : gE} {F : Nat} (a0 : Option Nat) (s : gS) (r : Int32) (s' : gS) (h : f_X3_needed (gk E) F a0 s = some (r, s')) : gCT E 4 yX3_needed (ws_ yX3_needed cX3_needed 1 (some FieldType.int)) [vR a0] s (.inl (some (vI r))) s' := by
  refine gCT_of2 (fun h => absurd h (by decide)) (plainFor_of_name (by decide)) (Nat.le_of_ble_eq_true rfl) ?_
  exact gw_sub [0] rfl (w_X3_needed_0 _ _ h)
def dkwX3_canBeDug_1 : List UInt8 := [167, 0, 4, 3, 172]
abbrev dktX3_canBeDug_1 : List UInt8 := dkwX3_canBeDug_1 ++ []
def dkwX3_canBeDug_0 : List UInt8 := [42, 180, 0, 20, 27, 50, 178, 0, 168, 166, 0, 17, 42, 180, 0, 34, 27, 46, 28, 163, 0, 7, 4]
abbrev dktX3_canBeDug_0 : List UInt8 := dkwX3_canBeDug_0 ++ dktX3_canBeDug_1
theorem dksX3_canBeDug_0 : cX3_canBeDug.data.toList.drop 0 = dktX3_canBeDug_0 := by decide +kernel
theorem dksX3_canBeDug_1 : cX3_canBeDug.data.toList.drop 23 = dktX3_canBeDug_1 := dk_seg dksX3_canBeDug_0 23 rfl rfl
theorem dX3_canBeDug_0 : decode cX3_canBeDug 0 = .ok (.aload_n 0, 1) := dk_42 (dk_at dksX3_canBeDug_0 0 rfl rfl)
theorem dX3_canBeDug_1 : decode cX3_canBeDug 1 = .ok (.getfield 20, 3) := dk_180 0 20 (dk_at dksX3_canBeDug_0 1 rfl rfl)
theorem dX3_canBeDug_4 : decode cX3_canBeDug 4 = .ok (.iload_n 1, 1) := dk_27 (dk_at dksX3_canBeDug_0 4 rfl rfl)
theorem dX3_canBeDug_5 : decode cX3_canBeDug 5 = .ok (.aaload, 1) := dk_50 (dk_at dksX3_canBeDug_0 5 rfl rfl)
theorem dX3_canBeDug_6 : decode cX3_canBeDug 6 = .ok (.getstatic 168, 3) := dk_178 0 168 (dk_at dksX3_canBeDug_0 6 rfl rfl)
theorem dX3_canBeDug_9 : decode cX3_canBeDug 9 = .ok (.if_acmp .ne 17, 3) := dk_166 0 17 (dk_at dksX3_canBeDug_0 9 rfl rfl)
theorem dX3_canBeDug_12 : decode cX3_canBeDug 12 = .ok (.aload_n 0, 1) := dk_42 (dk_at dksX3_canBeDug_0 12 rfl rfl)
theorem dX3_canBeDug_13 : decode cX3_canBeDug 13 = .ok (.getfield 34, 3) := dk_180 0 34 (dk_at dksX3_canBeDug_0 13 rfl rfl)
theorem dX3_canBeDug_16 : decode cX3_canBeDug 16 = .ok (.iload_n 1, 1) := dk_27 (dk_at dksX3_canBeDug_0 16 rfl rfl)
theorem dX3_canBeDug_17 : decode cX3_canBeDug 17 = .ok (.iaload, 1) := dk_46 (dk_at dksX3_canBeDug_0 17 rfl rfl)
theorem dX3_canBeDug_18 : decode cX3_canBeDug 18 = .ok (.iload_n 2, 1) := dk_28 (dk_at dksX3_canBeDug_0 18 rfl rfl)
theorem dX3_canBeDug_19 : decode cX3_canBeDug 19 = .ok (.if_icmp .gt 7, 3) := dk_163 0 7 (dk_at dksX3_canBeDug_0 19 rfl rfl)
theorem dX3_canBeDug_22 : decode cX3_canBeDug 22 = .ok (.iconst 1, 1) := dk_4 (dk_at dksX3_canBeDug_0 22 rfl rfl)
theorem dX3_canBeDug_23 : decode cX3_canBeDug 23 = .ok (.goto 4, 3) := dk_167 0 4 (dk_at dksX3_canBeDug_1 0 rfl rfl)
theorem dX3_canBeDug_26 : decode cX3_canBeDug 26 = .ok (.iconst 0, 1) := dk_3 (dk_at dksX3_canBeDug_1 3 rfl rfl)
theorem dX3_canBeDug_27 : decode cX3_canBeDug 27 = .ok (.ireturn, 1) := dk_172 (dk_at dksX3_canBeDug_1 4 rfl rfl)
/-! PageGarden$Garden.canBeDug(II)Z -/
abbrev M_X3_canBeDug (z0 n0 : Nat) (s' : gS) : gM := (RX3, cX3_canBeDug, 3, (some FieldType.boolean), "canBeDug", [], 1, z0, n0, s'.2.1, s'.2.2)
abbrev W_X3_canBeDug (E : gE) (z0 n0 : Nat) (r : Int32) (s' : gS) (pc : Nat) (L : List (Nat × gV)) (st : List gV) (s : gS) : Prop := gW E (M_X3_canBeDug z0 n0 s') (gQm E (M_X3_canBeDug z0 n0 s') (.inl (some (vI r))) s') pc L st s
noncomputable def f_X3_canBeDug_27 (κ : gK) (F : Nat)  (t0 : Int32) (s : gS) : Option (Int32 × gS) :=
  gB1 (gok .boolean t0) fun _ => some (t0, s)
set_option maxHeartbeats 4000000 in
theorem w_X3_canBeDug_27 {E : gE} {F z0 n0 : Nat} {r : Int32} {s' : gS}   : ∀  (t0 : Int32) (s : gS), f_X3_canBeDug_27 (gk E) F  t0 s = some (r, s') → W_X3_canBeDug E z0 n0 r s' 27 [] [vI t0] s := by
  intro t0 s hB
  unfold f_X3_canBeDug_27 at hB
  obtain ⟨u, hu, hB⟩ := gB1_some hB
  obtain ⟨rfl, rfl⟩ := Prod.mk.inj (Option.some.inj hB)
  exact gw_zret rfl hu rfl rfl dX3_canBeDug_27
noncomputable def f_X3_canBeDug_26 (κ : gK) (F : Nat)   (s : gS) : Option (Int32 × gS) :=
  f_X3_canBeDug_27 κ F  (0 : Int32) s
set_option maxHeartbeats 4000000 in
theorem w_X3_canBeDug_26 {E : gE} {F z0 n0 : Nat} {r : Int32} {s' : gS}   : ∀   (s : gS), f_X3_canBeDug_26 (gk E) F   s = some (r, s') → W_X3_canBeDug E z0 n0 r s' 26 [] [] s := by
  intro  s hB
  unfold f_X3_canBeDug_26 at hB
  refine gw_iconst (v := (0 : Int32)) (by decide) dX3_canBeDug_26 ?_
  exact gw_sub [] rfl (w_X3_canBeDug_27  _ _ hB)
noncomputable def f_X3_canBeDug_0 (κ : gK) (F : Nat)  (l0 : Option Nat) (l1 : Int32) (l2 : Int32) (s : gS) : Option (Int32 × gS) :=
  gB1 (gfR s l0 7 1) fun v1 =>
  gB1 (gaR s v1 l1) fun v2 =>
  if v2 = (κ.2 2) then
    gB1 (gfR s l0 7 3) fun v3 =>
    gB1 (gaI s v3 0 l1) fun v4 =>
    if l2 < v4 then
      f_X3_canBeDug_26 κ F  s
    else
      f_X3_canBeDug_27 κ F  (1 : Int32) s
  else
    f_X3_canBeDug_26 κ F  s
set_option maxHeartbeats 4000000 in
theorem w_X3_canBeDug_0 {E : gE} {F z0 n0 : Nat} {r : Int32} {s' : gS}   : ∀ (l0 : Option Nat) (l1 : Int32) (l2 : Int32)  (s : gS), f_X3_canBeDug_0 (gk E) F  l0 l1 l2 s = some (r, s') → W_X3_canBeDug E z0 n0 r s' 0 [(0, vR l0), (1, vI l1), (2, vI l2)] [] s := by
  intro l0 l1 l2 s hB
  unfold f_X3_canBeDug_0 at hB
  refine gw_aload_n 0 rfl dX3_canBeDug_0 ?_
  obtain ⟨v1, hv1, hB⟩ := gB1_some hB
  refine gw_getf (C := RX3) (T := TX3) (N := 9) (k := 1) gcl7 (by decide) in_X3 q282 (gfR_spec hv1) dX3_canBeDug_1 ?_
  refine gw_iload_n 1 rfl dX3_canBeDug_4 ?_
  obtain ⟨v2, hv2, hB⟩ := gB1_some hB
  refine gw_aaload hv2 dX3_canBeDug_5 ?_
  refine gw_gets (i := 2) (by decide) q1315 dX3_canBeDug_6 ?_
  refine gw_acmp_ne (tgt := 26) dX3_canBeDug_9 (by decide) (fun hcnd => ?_) (fun hcnd => ?_)
  · rw [if_neg hcnd] at hB
    exact gw_sub [] rfl (w_X3_canBeDug_26   _ hB)
  · rw [if_pos hcnd] at hB
    refine gw_aload_n 0 rfl dX3_canBeDug_12 ?_
    obtain ⟨v3, hv3, hB⟩ := gB1_some hB
    refine gw_getf (C := RX3) (T := TX3) (N := 9) (k := 3) gcl7 (by decide) in_X3 q285 (gfR_spec hv3) dX3_canBeDug_13 ?_
    refine gw_iload_n 1 rfl dX3_canBeDug_16 ?_
    obtain ⟨v4, hv4, hB⟩ := gB1_some hB
    refine gw_iaload hv4 dX3_canBeDug_17 ?_
    refine gw_iload_n 2 rfl dX3_canBeDug_18 ?_
    refine gw_icmp_gt (tgt := 26) dX3_canBeDug_19 (by decide) (fun hcnd => ?_) (fun hcnd => ?_)
    · rw [if_pos hcnd] at hB
      exact gw_sub [] rfl (w_X3_canBeDug_26   _ hB)
    · rw [if_neg hcnd] at hB
      refine gw_iconst (v := (1 : Int32)) (by decide) dX3_canBeDug_22 ?_
      refine gw_goto (tgt := 27) dX3_canBeDug_23 (by decide) ?_
      exact gw_sub [] rfl (w_X3_canBeDug_27  _ _ hB)
noncomputable def f_X3_canBeDug (κ : gK) (F : Nat) (a0 : Option Nat) (a1 : Int32) (a2 : Int32) (s : gS) : Option (Int32 × gS) := f_X3_canBeDug_0 κ F a0 a1 a2 s
theorem m_X3_canBeDug {E : gE} {F : Nat} (a0 : Option Nat) (a1 : Int32) (a2 : Int32) (s : gS) (r : Int32) (s' : gS) (h : f_X3_canBeDug (gk E) F a0 a1 a2 s = some (r, s')) : gCT E 1 yX3_canBeDug (ws_ yX3_canBeDug cX3_canBeDug 3 (some FieldType.boolean)) [vR a0, vI a1, vI a2] s (.inl (some (vI r))) s' := by
  refine gCT_of2 (fun h => absurd h (by decide)) (plainFor_of_name (by decide)) (Nat.le_of_ble_eq_true rfl) ?_
  exact gw_sub [0, 1, 2] rfl (w_X3_canBeDug_0 _ _ _ _ h)
def dkwX3_bedValue_7 : List UInt8 := [182, 0, 207, 153, 0, 7, 4, 167, 0, 4, 3, 172]
abbrev dktX3_bedValue_7 : List UInt8 := dkwX3_bedValue_7 ++ []
def dkwX3_bedValue_6 : List UInt8 := [153, 0, 7, 4, 167, 0, 30, 3, 167, 0, 26, 42, 180, 0, 80, 198, 0, 18, 42, 180, 0, 80, 27]
abbrev dktX3_bedValue_6 : List UInt8 := dkwX3_bedValue_6 ++ dktX3_bedValue_7
def dkwX3_bedValue_5 : List UInt8 := [180, 0, 34, 27, 46, 167, 0, 52, 17, 252, 24, 167, 0, 46, 42, 27, 42, 182, 0, 171, 182, 0, 174]
abbrev dktX3_bedValue_5 : List UInt8 := dkwX3_bedValue_5 ++ dktX3_bedValue_6
def dkwX3_bedValue_4 : List UInt8 := [185, 0, 141, 1, 0, 167, 0, 74, 17, 252, 24, 167, 0, 68, 45, 178, 0, 168, 166, 0, 12, 42]
abbrev dktX3_bedValue_4 : List UInt8 := dkwX3_bedValue_4 ++ dktX3_bedValue_5
def dkwX3_bedValue_3 : List UInt8 := [167, 0, 100, 17, 252, 24, 167, 0, 94, 45, 182, 0, 60, 153, 0, 16, 42, 27, 182, 0, 64]
abbrev dktX3_bedValue_3 : List UInt8 := dkwX3_bedValue_3 ++ dktX3_bedValue_4
def dkwX3_bedValue_2 : List UInt8 := [45, 182, 1, 124, 167, 0, 120, 45, 182, 0, 60, 153, 0, 16, 42, 27, 182, 0, 64, 185, 1, 127, 1, 0]
abbrev dktX3_bedValue_2 : List UInt8 := dkwX3_bedValue_2 ++ dktX3_bedValue_3
def dkwX3_bedValue_1 : List UInt8 := [170, 0, 0, 0, 0, 0, 0, 137, 0, 0, 0, 0, 0, 0, 0, 4, 0, 0, 0, 36, 0, 0, 0, 43, 0, 0, 0, 69, 0, 0, 0, 95, 0, 0, 0, 117]
abbrev dktX3_bedValue_1 : List UInt8 := dkwX3_bedValue_1 ++ dktX3_bedValue_2
def dkwX3_bedValue_0 : List UInt8 := [42, 180, 0, 20, 27, 50, 78, 28]
abbrev dktX3_bedValue_0 : List UInt8 := dkwX3_bedValue_0 ++ dktX3_bedValue_1
theorem dksX3_bedValue_0 : cX3_bedValue.data.toList.drop 0 = dktX3_bedValue_0 := by decide +kernel
theorem dksX3_bedValue_1 : cX3_bedValue.data.toList.drop 8 = dktX3_bedValue_1 := dk_seg dksX3_bedValue_0 8 rfl rfl
theorem dksX3_bedValue_2 : cX3_bedValue.data.toList.drop 44 = dktX3_bedValue_2 := dk_seg dksX3_bedValue_1 36 rfl rfl
theorem dksX3_bedValue_3 : cX3_bedValue.data.toList.drop 68 = dktX3_bedValue_3 := dk_seg dksX3_bedValue_2 24 rfl rfl
theorem dksX3_bedValue_4 : cX3_bedValue.data.toList.drop 89 = dktX3_bedValue_4 := dk_seg dksX3_bedValue_3 21 rfl rfl
theorem dksX3_bedValue_5 : cX3_bedValue.data.toList.drop 111 = dktX3_bedValue_5 := dk_seg dksX3_bedValue_4 22 rfl rfl
theorem dksX3_bedValue_6 : cX3_bedValue.data.toList.drop 134 = dktX3_bedValue_6 := dk_seg dksX3_bedValue_5 23 rfl rfl
theorem dksX3_bedValue_7 : cX3_bedValue.data.toList.drop 157 = dktX3_bedValue_7 := dk_seg dksX3_bedValue_6 23 rfl rfl
theorem dX3_bedValue_0 : decode cX3_bedValue 0 = .ok (.aload_n 0, 1) := dk_42 (dk_at dksX3_bedValue_0 0 rfl rfl)
theorem dX3_bedValue_1 : decode cX3_bedValue 1 = .ok (.getfield 20, 3) := dk_180 0 20 (dk_at dksX3_bedValue_0 1 rfl rfl)
theorem dX3_bedValue_4 : decode cX3_bedValue 4 = .ok (.iload_n 1, 1) := dk_27 (dk_at dksX3_bedValue_0 4 rfl rfl)
theorem dX3_bedValue_5 : decode cX3_bedValue 5 = .ok (.aaload, 1) := dk_50 (dk_at dksX3_bedValue_0 5 rfl rfl)
theorem dX3_bedValue_6 : decode cX3_bedValue 6 = .ok (.astore_n 3, 1) := dk_78 (dk_at dksX3_bedValue_0 6 rfl rfl)
theorem dX3_bedValue_7 : decode cX3_bedValue 7 = .ok (.iload_n 2, 1) := dk_28 (dk_at dksX3_bedValue_0 7 rfl rfl)
theorem dX3_bedValue_8 : decode cX3_bedValue 8 = .ok (.tableswitch 137 0 4 #[36, 43, 69, 95, 117], 36) := by decide +kernel
theorem dX3_bedValue_44 : decode cX3_bedValue 44 = .ok (.aload_n 3, 1) := dk_45 (dk_at dksX3_bedValue_2 0 rfl rfl)
theorem dX3_bedValue_45 : decode cX3_bedValue 45 = .ok (.invokevirtual 380, 3) := dk_182 1 124 (dk_at dksX3_bedValue_2 1 rfl rfl)
theorem dX3_bedValue_48 : decode cX3_bedValue 48 = .ok (.goto 120, 3) := dk_167 0 120 (dk_at dksX3_bedValue_2 4 rfl rfl)
theorem dX3_bedValue_51 : decode cX3_bedValue 51 = .ok (.aload_n 3, 1) := dk_45 (dk_at dksX3_bedValue_2 7 rfl rfl)
theorem dX3_bedValue_52 : decode cX3_bedValue 52 = .ok (.invokevirtual 60, 3) := dk_182 0 60 (dk_at dksX3_bedValue_2 8 rfl rfl)
theorem dX3_bedValue_55 : decode cX3_bedValue 55 = .ok (.ifCond .eq 16, 3) := dk_153 0 16 (dk_at dksX3_bedValue_2 11 rfl rfl)
theorem dX3_bedValue_58 : decode cX3_bedValue 58 = .ok (.aload_n 0, 1) := dk_42 (dk_at dksX3_bedValue_2 14 rfl rfl)
theorem dX3_bedValue_59 : decode cX3_bedValue 59 = .ok (.iload_n 1, 1) := dk_27 (dk_at dksX3_bedValue_2 15 rfl rfl)
theorem dX3_bedValue_60 : decode cX3_bedValue 60 = .ok (.invokevirtual 64, 3) := dk_182 0 64 (dk_at dksX3_bedValue_2 16 rfl rfl)
theorem dX3_bedValue_63 : decode cX3_bedValue 63 = .ok (.invokeinterface 383 1, 5) := by decide +kernel
theorem dX3_bedValue_68 : decode cX3_bedValue 68 = .ok (.goto 100, 3) := dk_167 0 100 (dk_at dksX3_bedValue_3 0 rfl rfl)
theorem dX3_bedValue_71 : decode cX3_bedValue 71 = .ok (.sipush (-1000), 3) := dk_17 252 24 (dk_at dksX3_bedValue_3 3 rfl rfl)
theorem dX3_bedValue_74 : decode cX3_bedValue 74 = .ok (.goto 94, 3) := dk_167 0 94 (dk_at dksX3_bedValue_3 6 rfl rfl)
theorem dX3_bedValue_77 : decode cX3_bedValue 77 = .ok (.aload_n 3, 1) := dk_45 (dk_at dksX3_bedValue_3 9 rfl rfl)
theorem dX3_bedValue_78 : decode cX3_bedValue 78 = .ok (.invokevirtual 60, 3) := dk_182 0 60 (dk_at dksX3_bedValue_3 10 rfl rfl)
theorem dX3_bedValue_81 : decode cX3_bedValue 81 = .ok (.ifCond .eq 16, 3) := dk_153 0 16 (dk_at dksX3_bedValue_3 13 rfl rfl)
theorem dX3_bedValue_84 : decode cX3_bedValue 84 = .ok (.aload_n 0, 1) := dk_42 (dk_at dksX3_bedValue_3 16 rfl rfl)
theorem dX3_bedValue_85 : decode cX3_bedValue 85 = .ok (.iload_n 1, 1) := dk_27 (dk_at dksX3_bedValue_3 17 rfl rfl)
theorem dX3_bedValue_86 : decode cX3_bedValue 86 = .ok (.invokevirtual 64, 3) := dk_182 0 64 (dk_at dksX3_bedValue_3 18 rfl rfl)
theorem dX3_bedValue_89 : decode cX3_bedValue 89 = .ok (.invokeinterface 141 1, 5) := by decide +kernel
theorem dX3_bedValue_94 : decode cX3_bedValue 94 = .ok (.goto 74, 3) := dk_167 0 74 (dk_at dksX3_bedValue_4 5 rfl rfl)
theorem dX3_bedValue_97 : decode cX3_bedValue 97 = .ok (.sipush (-1000), 3) := dk_17 252 24 (dk_at dksX3_bedValue_4 8 rfl rfl)
theorem dX3_bedValue_100 : decode cX3_bedValue 100 = .ok (.goto 68, 3) := dk_167 0 68 (dk_at dksX3_bedValue_4 11 rfl rfl)
theorem dX3_bedValue_103 : decode cX3_bedValue 103 = .ok (.aload_n 3, 1) := dk_45 (dk_at dksX3_bedValue_4 14 rfl rfl)
theorem dX3_bedValue_104 : decode cX3_bedValue 104 = .ok (.getstatic 168, 3) := dk_178 0 168 (dk_at dksX3_bedValue_4 15 rfl rfl)
theorem dX3_bedValue_107 : decode cX3_bedValue 107 = .ok (.if_acmp .ne 12, 3) := dk_166 0 12 (dk_at dksX3_bedValue_4 18 rfl rfl)
theorem dX3_bedValue_110 : decode cX3_bedValue 110 = .ok (.aload_n 0, 1) := dk_42 (dk_at dksX3_bedValue_4 21 rfl rfl)
theorem dX3_bedValue_111 : decode cX3_bedValue 111 = .ok (.getfield 34, 3) := dk_180 0 34 (dk_at dksX3_bedValue_5 0 rfl rfl)
theorem dX3_bedValue_114 : decode cX3_bedValue 114 = .ok (.iload_n 1, 1) := dk_27 (dk_at dksX3_bedValue_5 3 rfl rfl)
theorem dX3_bedValue_115 : decode cX3_bedValue 115 = .ok (.iaload, 1) := dk_46 (dk_at dksX3_bedValue_5 4 rfl rfl)
theorem dX3_bedValue_116 : decode cX3_bedValue 116 = .ok (.goto 52, 3) := dk_167 0 52 (dk_at dksX3_bedValue_5 5 rfl rfl)
theorem dX3_bedValue_119 : decode cX3_bedValue 119 = .ok (.sipush (-1000), 3) := dk_17 252 24 (dk_at dksX3_bedValue_5 8 rfl rfl)
theorem dX3_bedValue_122 : decode cX3_bedValue 122 = .ok (.goto 46, 3) := dk_167 0 46 (dk_at dksX3_bedValue_5 11 rfl rfl)
theorem dX3_bedValue_125 : decode cX3_bedValue 125 = .ok (.aload_n 0, 1) := dk_42 (dk_at dksX3_bedValue_5 14 rfl rfl)
theorem dX3_bedValue_126 : decode cX3_bedValue 126 = .ok (.iload_n 1, 1) := dk_27 (dk_at dksX3_bedValue_5 15 rfl rfl)
theorem dX3_bedValue_127 : decode cX3_bedValue 127 = .ok (.aload_n 0, 1) := dk_42 (dk_at dksX3_bedValue_5 16 rfl rfl)
theorem dX3_bedValue_128 : decode cX3_bedValue 128 = .ok (.invokevirtual 171, 3) := dk_182 0 171 (dk_at dksX3_bedValue_5 17 rfl rfl)
theorem dX3_bedValue_131 : decode cX3_bedValue 131 = .ok (.invokevirtual 174, 3) := dk_182 0 174 (dk_at dksX3_bedValue_5 20 rfl rfl)
theorem dX3_bedValue_134 : decode cX3_bedValue 134 = .ok (.ifCond .eq 7, 3) := dk_153 0 7 (dk_at dksX3_bedValue_6 0 rfl rfl)
theorem dX3_bedValue_137 : decode cX3_bedValue 137 = .ok (.iconst 1, 1) := dk_4 (dk_at dksX3_bedValue_6 3 rfl rfl)
theorem dX3_bedValue_138 : decode cX3_bedValue 138 = .ok (.goto 30, 3) := dk_167 0 30 (dk_at dksX3_bedValue_6 4 rfl rfl)
theorem dX3_bedValue_141 : decode cX3_bedValue 141 = .ok (.iconst 0, 1) := dk_3 (dk_at dksX3_bedValue_6 7 rfl rfl)
theorem dX3_bedValue_142 : decode cX3_bedValue 142 = .ok (.goto 26, 3) := dk_167 0 26 (dk_at dksX3_bedValue_6 8 rfl rfl)
theorem dX3_bedValue_145 : decode cX3_bedValue 145 = .ok (.aload_n 0, 1) := dk_42 (dk_at dksX3_bedValue_6 11 rfl rfl)
theorem dX3_bedValue_146 : decode cX3_bedValue 146 = .ok (.getfield 80, 3) := dk_180 0 80 (dk_at dksX3_bedValue_6 12 rfl rfl)
theorem dX3_bedValue_149 : decode cX3_bedValue 149 = .ok (.ifnull 18, 3) := dk_198 0 18 (dk_at dksX3_bedValue_6 15 rfl rfl)
theorem dX3_bedValue_152 : decode cX3_bedValue 152 = .ok (.aload_n 0, 1) := dk_42 (dk_at dksX3_bedValue_6 18 rfl rfl)
theorem dX3_bedValue_153 : decode cX3_bedValue 153 = .ok (.getfield 80, 3) := dk_180 0 80 (dk_at dksX3_bedValue_6 19 rfl rfl)
theorem dX3_bedValue_156 : decode cX3_bedValue 156 = .ok (.iload_n 1, 1) := dk_27 (dk_at dksX3_bedValue_6 22 rfl rfl)
theorem dX3_bedValue_157 : decode cX3_bedValue 157 = .ok (.invokevirtual 207, 3) := dk_182 0 207 (dk_at dksX3_bedValue_7 0 rfl rfl)
theorem dX3_bedValue_160 : decode cX3_bedValue 160 = .ok (.ifCond .eq 7, 3) := dk_153 0 7 (dk_at dksX3_bedValue_7 3 rfl rfl)
theorem dX3_bedValue_163 : decode cX3_bedValue 163 = .ok (.iconst 1, 1) := dk_4 (dk_at dksX3_bedValue_7 6 rfl rfl)
theorem dX3_bedValue_164 : decode cX3_bedValue 164 = .ok (.goto 4, 3) := dk_167 0 4 (dk_at dksX3_bedValue_7 7 rfl rfl)
theorem dX3_bedValue_167 : decode cX3_bedValue 167 = .ok (.iconst 0, 1) := dk_3 (dk_at dksX3_bedValue_7 10 rfl rfl)
theorem dX3_bedValue_168 : decode cX3_bedValue 168 = .ok (.ireturn, 1) := dk_172 (dk_at dksX3_bedValue_7 11 rfl rfl)
/-! PageGarden$Garden.bedValue(II)I -/
abbrev M_X3_bedValue (z0 n0 : Nat) (s' : gS) : gM := (RX3, cX3_bedValue, 4, (some FieldType.int), "bedValue", [], 7, z0, n0, s'.2.1, s'.2.2)
abbrev W_X3_bedValue (E : gE) (z0 n0 : Nat) (r : Int32) (s' : gS) (pc : Nat) (L : List (Nat × gV)) (st : List gV) (s : gS) : Prop := gW E (M_X3_bedValue z0 n0 s') (gQm E (M_X3_bedValue z0 n0 s') (.inl (some (vI r))) s') pc L st s
noncomputable def f_X3_bedValue_168 (κ : gK) (F : Nat)  (t0 : Int32) (s : gS) : Option (Int32 × gS) :=
  some (t0, s)
set_option maxHeartbeats 4000000 in
theorem w_X3_bedValue_168 {E : gE} {F z0 n0 : Nat} {r : Int32} {s' : gS}   : ∀  (t0 : Int32) (s : gS), f_X3_bedValue_168 (gk E) F  t0 s = some (r, s') → W_X3_bedValue E z0 n0 r s' 168 [] [vI t0] s := by
  intro t0 s hB
  unfold f_X3_bedValue_168 at hB
  obtain ⟨rfl, rfl⟩ := Prod.mk.inj (Option.some.inj hB)
  exact gw_iret rfl rfl rfl dX3_bedValue_168
noncomputable def f_X3_bedValue_167 (κ : gK) (F : Nat)   (s : gS) : Option (Int32 × gS) :=
  f_X3_bedValue_168 κ F  (0 : Int32) s
set_option maxHeartbeats 4000000 in
theorem w_X3_bedValue_167 {E : gE} {F z0 n0 : Nat} {r : Int32} {s' : gS}   : ∀   (s : gS), f_X3_bedValue_167 (gk E) F   s = some (r, s') → W_X3_bedValue E z0 n0 r s' 167 [] [] s := by
  intro  s hB
  unfold f_X3_bedValue_167 at hB
  refine gw_iconst (v := (0 : Int32)) (by decide) dX3_bedValue_167 ?_
  exact gw_sub [] rfl (w_X3_bedValue_168  _ _ hB)
noncomputable def f_X3_bedValue_0 (κ : gK) (F : Nat)  (l0 : Option Nat) (l1 : Int32) (l2 : Int32) (s : gS) : Option (Int32 × gS) :=
  gB1 (gfR s l0 7 1) fun v1 =>
  gB1 (gaR s v1 l1) fun v2 =>
  if l2 = (0 : Int32) then
    gB2 (f_ord κ F v2 s) fun v3 s4 =>
    f_X3_bedValue_168 κ F  v3 s4
  else
  if l2 = (1 : Int32) then
    gB2 (f_hold κ F v2 s) fun v5 s6 =>
    if v5 = 0 then
      f_X3_bedValue_168 κ F  (-1000 : Int32) s6
    else
      gB1 (gck s6 l0 7) fun _ =>
      gB2 (f_X3_page κ F l0 l1 s6) fun v8 s7 =>
      gB2 (f_pkind κ F v8 s7) fun v10 s11 =>
      f_X3_bedValue_168 κ F  v10 s11
  else
  if l2 = (2 : Int32) then
    gB2 (f_hold κ F v2 s) fun v12 s13 =>
    if v12 = 0 then
      f_X3_bedValue_168 κ F  (-1000 : Int32) s13
    else
      gB1 (gck s13 l0 7) fun _ =>
      gB2 (f_X3_page κ F l0 l1 s13) fun v15 s14 =>
      gB2 (f_psize κ F v15 s14) fun v17 s18 =>
      f_X3_bedValue_168 κ F  v17 s18
  else
  if l2 = (3 : Int32) then
    if v2 = (κ.2 2) then
      gB1 (gfR s l0 7 3) fun v19 =>
      gB1 (gaI s v19 0 l1) fun v20 =>
      f_X3_bedValue_168 κ F  v20 s
    else
      f_X3_bedValue_168 κ F  (-1000 : Int32) s
  else
  if l2 = (4 : Int32) then
    gB1 (gck s l0 7) fun _ =>
    gB2 (f_X3_needed κ F l0  s) fun v22 s21 =>
    gB1 (gck s21 l0 7) fun _ =>
    gB2 (f_X3_canBeDug κ F l0 l1 v22 s21) fun v25 s24 =>
    if v25 = 0 then
      f_X3_bedValue_168 κ F  (0 : Int32) s24
    else
      f_X3_bedValue_168 κ F  (1 : Int32) s24
  else
  gB1 (gfR s l0 7 6) fun v27 =>
  if v27 = none then
    f_X3_bedValue_167 κ F  s
  else
    gB1 (gfR s l0 7 6) fun v28 =>
    gB1 (gck s v28 6) fun _ =>
    gB2 (f_X7_isNew κ F v28 l1 s) fun v30 s29 =>
    if v30 = 0 then
      f_X3_bedValue_167 κ F  s29
    else
      f_X3_bedValue_168 κ F  (1 : Int32) s29
set_option maxHeartbeats 4000000 in
theorem w_X3_bedValue_0 {E : gE} {F z0 n0 : Nat} {r : Int32} {s' : gS}   : ∀ (l0 : Option Nat) (l1 : Int32) (l2 : Int32)  (s : gS), f_X3_bedValue_0 (gk E) F  l0 l1 l2 s = some (r, s') → W_X3_bedValue E z0 n0 r s' 0 [(0, vR l0), (1, vI l1), (2, vI l2)] [] s := by
  intro l0 l1 l2 s hB
  unfold f_X3_bedValue_0 at hB
  refine gw_aload_n 0 rfl dX3_bedValue_0 ?_
  obtain ⟨v1, hv1, hB⟩ := gB1_some hB
  refine gw_getf (C := RX3) (T := TX3) (N := 9) (k := 1) gcl7 (by decide) in_X3 q282 (gfR_spec hv1) dX3_bedValue_1 ?_
  refine gw_iload_n 1 rfl dX3_bedValue_4 ?_
  obtain ⟨v2, hv2, hB⟩ := gB1_some hB
  refine gw_aaload hv2 dX3_bedValue_5 ?_
  refine gw_astore_n (L' := [(3, vR v2), (0, vR l0), (1, vI l1), (2, vI l2)]) (Nat.le_of_ble_eq_true rfl) rfl dX3_bedValue_6 ?_
  refine gw_iload_n 3 rfl dX3_bedValue_7 ?_
  by_cases hs0 : l2 = (0 : Int32)
  · rw [if_pos hs0] at hB
    refine gw_tableIn (off := 36) (tgt := 44) (by rw [hs0]; decide) (by rw [hs0]; decide) (by rw [hs0]; rfl) dX3_bedValue_8 (by decide) ?_
    refine gw_aload_n 0 rfl dX3_bedValue_44 ?_
    obtain ⟨v3, s4, hv3, hB⟩ := gB2_some hB
    refine gf_ord rfl (Nat.le_of_ble_eq_true rfl) (Nat.le_of_ble_eq_true rfl) hv3 dX3_bedValue_45 ?_
    refine gw_goto (tgt := 168) dX3_bedValue_48 (by decide) ?_
    exact gw_sub [] rfl (w_X3_bedValue_168  _ _ hB)
  rw [if_neg hs0] at hB
  by_cases hs1 : l2 = (1 : Int32)
  · rw [if_pos hs1] at hB
    refine gw_tableIn (off := 43) (tgt := 51) (by rw [hs1]; decide) (by rw [hs1]; decide) (by rw [hs1]; rfl) dX3_bedValue_8 (by decide) ?_
    refine gw_aload_n 0 rfl dX3_bedValue_51 ?_
    obtain ⟨v5, s6, hv5, hB⟩ := gB2_some hB
    refine gf_hold rfl (Nat.le_of_ble_eq_true rfl) (Nat.le_of_ble_eq_true rfl) hv5 dX3_bedValue_52 ?_
    refine gw_if_eq (tgt := 71) dX3_bedValue_55 (by decide) (fun hcnd => ?_) (fun hcnd => ?_)
    · rw [if_pos hcnd] at hB
      refine gw_sipush (v := (-1000 : Int32)) (by decide) dX3_bedValue_71 ?_
      refine gw_goto (tgt := 168) dX3_bedValue_74 (by decide) ?_
      exact gw_sub [] rfl (w_X3_bedValue_168  _ _ hB)
    · rw [if_neg hcnd] at hB
      refine gw_aload_n 1 rfl dX3_bedValue_58 ?_
      refine gw_iload_n 2 rfl dX3_bedValue_59 ?_
      obtain ⟨u0, hu9, hB⟩ := gB1_some hB
      obtain ⟨v8, s7, hv8, hB⟩ := gB2_some hB
      refine gw_callV (y := yX3_page) (lw_V q1439 q1440 q1441 q110 q1442) hdV_X3_page gcl7 hu9 (As := [vI l1]) (rest := []) (m_X3_page _ _ _ _ _ hv8) (Nat.le_of_ble_eq_true rfl) (Nat.le_of_ble_eq_true rfl) rfl (Nat.le_of_ble_eq_true rfl) dX3_bedValue_60 (gCont_i ?_)
      obtain ⟨v10, s11, hv10, hB⟩ := gB2_some hB
      refine gf_pkind rfl (Nat.le_of_ble_eq_true rfl) (Nat.le_of_ble_eq_true rfl) hv10 dX3_bedValue_63 ?_
      refine gw_goto (tgt := 168) dX3_bedValue_68 (by decide) ?_
      exact gw_sub [] rfl (w_X3_bedValue_168  _ _ hB)
  rw [if_neg hs1] at hB
  by_cases hs2 : l2 = (2 : Int32)
  · rw [if_pos hs2] at hB
    refine gw_tableIn (off := 69) (tgt := 77) (by rw [hs2]; decide) (by rw [hs2]; decide) (by rw [hs2]; rfl) dX3_bedValue_8 (by decide) ?_
    refine gw_aload_n 0 rfl dX3_bedValue_77 ?_
    obtain ⟨v12, s13, hv12, hB⟩ := gB2_some hB
    refine gf_hold rfl (Nat.le_of_ble_eq_true rfl) (Nat.le_of_ble_eq_true rfl) hv12 dX3_bedValue_78 ?_
    refine gw_if_eq (tgt := 97) dX3_bedValue_81 (by decide) (fun hcnd => ?_) (fun hcnd => ?_)
    · rw [if_pos hcnd] at hB
      refine gw_sipush (v := (-1000 : Int32)) (by decide) dX3_bedValue_97 ?_
      refine gw_goto (tgt := 168) dX3_bedValue_100 (by decide) ?_
      exact gw_sub [] rfl (w_X3_bedValue_168  _ _ hB)
    · rw [if_neg hcnd] at hB
      refine gw_aload_n 1 rfl dX3_bedValue_84 ?_
      refine gw_iload_n 2 rfl dX3_bedValue_85 ?_
      obtain ⟨u0, hu16, hB⟩ := gB1_some hB
      obtain ⟨v15, s14, hv15, hB⟩ := gB2_some hB
      refine gw_callV (y := yX3_page) (lw_V q1439 q1440 q1441 q110 q1442) hdV_X3_page gcl7 hu16 (As := [vI l1]) (rest := []) (m_X3_page _ _ _ _ _ hv15) (Nat.le_of_ble_eq_true rfl) (Nat.le_of_ble_eq_true rfl) rfl (Nat.le_of_ble_eq_true rfl) dX3_bedValue_86 (gCont_i ?_)
      obtain ⟨v17, s18, hv17, hB⟩ := gB2_some hB
      refine gf_psize rfl (Nat.le_of_ble_eq_true rfl) (Nat.le_of_ble_eq_true rfl) hv17 dX3_bedValue_89 ?_
      refine gw_goto (tgt := 168) dX3_bedValue_94 (by decide) ?_
      exact gw_sub [] rfl (w_X3_bedValue_168  _ _ hB)
  rw [if_neg hs2] at hB
  by_cases hs3 : l2 = (3 : Int32)
  · rw [if_pos hs3] at hB
    refine gw_tableIn (off := 95) (tgt := 103) (by rw [hs3]; decide) (by rw [hs3]; decide) (by rw [hs3]; rfl) dX3_bedValue_8 (by decide) ?_
    refine gw_aload_n 0 rfl dX3_bedValue_103 ?_
    refine gw_gets (i := 2) (by decide) q1315 dX3_bedValue_104 ?_
    refine gw_acmp_ne (tgt := 119) dX3_bedValue_107 (by decide) (fun hcnd => ?_) (fun hcnd => ?_)
    · rw [if_neg hcnd] at hB
      refine gw_sipush (v := (-1000 : Int32)) (by decide) dX3_bedValue_119 ?_
      refine gw_goto (tgt := 168) dX3_bedValue_122 (by decide) ?_
      exact gw_sub [] rfl (w_X3_bedValue_168  _ _ hB)
    · rw [if_pos hcnd] at hB
      refine gw_aload_n 1 rfl dX3_bedValue_110 ?_
      obtain ⟨v19, hv19, hB⟩ := gB1_some hB
      refine gw_getf (C := RX3) (T := TX3) (N := 9) (k := 3) gcl7 (by decide) in_X3 q285 (gfR_spec hv19) dX3_bedValue_111 ?_
      refine gw_iload_n 2 rfl dX3_bedValue_114 ?_
      obtain ⟨v20, hv20, hB⟩ := gB1_some hB
      refine gw_iaload hv20 dX3_bedValue_115 ?_
      refine gw_goto (tgt := 168) dX3_bedValue_116 (by decide) ?_
      exact gw_sub [] rfl (w_X3_bedValue_168  _ _ hB)
  rw [if_neg hs3] at hB
  by_cases hs4 : l2 = (4 : Int32)
  · rw [if_pos hs4] at hB
    refine gw_tableIn (off := 117) (tgt := 125) (by rw [hs4]; decide) (by rw [hs4]; decide) (by rw [hs4]; rfl) dX3_bedValue_8 (by decide) ?_
    refine gw_aload_n 1 rfl dX3_bedValue_125 ?_
    refine gw_iload_n 2 rfl dX3_bedValue_126 ?_
    refine gw_aload_n 1 rfl dX3_bedValue_127 ?_
    obtain ⟨u0, hu23, hB⟩ := gB1_some hB
    obtain ⟨v22, s21, hv22, hB⟩ := gB2_some hB
    refine gw_callV (y := yX3_needed) (lw_V q1294 q1295 q1296 q110 q1297) hdV_X3_needed gcl7 hu23 (As := []) (rest := [vI l1, vR l0]) (m_X3_needed _ _ _ _ hv22) (Nat.le_of_ble_eq_true rfl) (Nat.le_of_ble_eq_true rfl) rfl (Nat.le_of_ble_eq_true rfl) dX3_bedValue_128 (gCont_i ?_)
    obtain ⟨u0, hu26, hB⟩ := gB1_some hB
    obtain ⟨v25, s24, hv25, hB⟩ := gB2_some hB
    refine gw_callV (y := yX3_canBeDug) (lw_V q1311 q1312 q1313 q110 q1314) hdV_X3_canBeDug gcl7 hu26 (As := [vI l1, vI v22]) (rest := []) (m_X3_canBeDug _ _ _ _ _ _ hv25) (Nat.le_of_ble_eq_true rfl) (Nat.le_of_ble_eq_true rfl) rfl (Nat.le_of_ble_eq_true rfl) dX3_bedValue_131 (gCont_i ?_)
    refine gw_if_eq (tgt := 141) dX3_bedValue_134 (by decide) (fun hcnd => ?_) (fun hcnd => ?_)
    · rw [if_pos hcnd] at hB
      refine gw_iconst (v := (0 : Int32)) (by decide) dX3_bedValue_141 ?_
      refine gw_goto (tgt := 168) dX3_bedValue_142 (by decide) ?_
      exact gw_sub [] rfl (w_X3_bedValue_168  _ _ hB)
    · rw [if_neg hcnd] at hB
      refine gw_iconst (v := (1 : Int32)) (by decide) dX3_bedValue_137 ?_
      refine gw_goto (tgt := 168) dX3_bedValue_138 (by decide) ?_
      exact gw_sub [] rfl (w_X3_bedValue_168  _ _ hB)
  rw [if_neg hs4] at hB
  have ht0 : l2.toInt ≠ 0 := fun e => hs0 (Int32.toInt_inj.mp (e.trans (by decide)))
  have ht1 : l2.toInt ≠ 1 := fun e => hs1 (Int32.toInt_inj.mp (e.trans (by decide)))
  have ht2 : l2.toInt ≠ 2 := fun e => hs2 (Int32.toInt_inj.mp (e.trans (by decide)))
  have ht3 : l2.toInt ≠ 3 := fun e => hs3 (Int32.toInt_inj.mp (e.trans (by decide)))
  have ht4 : l2.toInt ≠ 4 := fun e => hs4 (Int32.toInt_inj.mp (e.trans (by decide)))
  refine gw_tableOut (tgt := 145) (by omega) dX3_bedValue_8 (by decide) ?_
  refine gw_aload_n 1 rfl dX3_bedValue_145 ?_
  obtain ⟨v27, hv27, hB⟩ := gB1_some hB
  refine gw_getf (C := RX3) (T := TX3) (N := 9) (k := 6) gcl7 (by decide) in_X3 q289 (gfR_spec hv27) dX3_bedValue_146 ?_
  refine gw_ifnull (tgt := 167) dX3_bedValue_149 (by decide) (fun hcnd => ?_) (fun hcnd => ?_)
  · rw [if_pos hcnd] at hB
    exact gw_sub [] rfl (w_X3_bedValue_167   _ hB)
  · rw [if_neg hcnd] at hB
    refine gw_aload_n 1 rfl dX3_bedValue_152 ?_
    obtain ⟨v28, hv28, hB⟩ := gB1_some hB
    refine gw_getf (C := RX3) (T := TX3) (N := 9) (k := 6) gcl7 (by decide) in_X3 q289 (gfR_spec hv28) dX3_bedValue_153 ?_
    refine gw_iload_n 2 rfl dX3_bedValue_156 ?_
    obtain ⟨u0, hu31, hB⟩ := gB1_some hB
    obtain ⟨v30, s29, hv30, hB⟩ := gB2_some hB
    refine gw_callV (y := yX7_isNew) (lw_V q2075 q2076 q2077 q144 q2078) hdV_X7_isNew gcl6 hu31 (As := [vI l1]) (rest := []) (m_X7_isNew _ _ _ _ _ hv30) (Nat.le_of_ble_eq_true rfl) (Nat.le_of_ble_eq_true rfl) rfl (Nat.le_of_ble_eq_true rfl) dX3_bedValue_157 (gCont_i ?_)
    refine gw_if_eq (tgt := 167) dX3_bedValue_160 (by decide) (fun hcnd => ?_) (fun hcnd => ?_)
    · rw [if_pos hcnd] at hB
      exact gw_sub [] rfl (w_X3_bedValue_167   _ hB)
    · rw [if_neg hcnd] at hB
      refine gw_iconst (v := (1 : Int32)) (by decide) dX3_bedValue_163 ?_
      refine gw_goto (tgt := 168) dX3_bedValue_164 (by decide) ?_
      exact gw_sub [] rfl (w_X3_bedValue_168  _ _ hB)
noncomputable def f_X3_bedValue (κ : gK) (F : Nat) (a0 : Option Nat) (a1 : Int32) (a2 : Int32) (s : gS) : Option (Int32 × gS) := f_X3_bedValue_0 κ F a0 a1 a2 s
theorem m_X3_bedValue {E : gE} {F : Nat} (a0 : Option Nat) (a1 : Int32) (a2 : Int32) (s : gS) (r : Int32) (s' : gS) (h : f_X3_bedValue (gk E) F a0 a1 a2 s = some (r, s')) : gCT E 7 yX3_bedValue (ws_ yX3_bedValue cX3_bedValue 4 (some FieldType.int)) [vR a0, vI a1, vI a2] s (.inl (some (vI r))) s' := by
  refine gCT_of2 (fun h => absurd h (by decide)) (plainFor_of_name (by decide)) (Nat.le_of_ble_eq_true rfl) ?_
  exact gw_sub [0, 1, 2] rfl (w_X3_bedValue_0 _ _ _ _ h)
def dkwX3_directory_1 : List UInt8 := [18, 111, 183, 0, 106, 191]
abbrev dktX3_directory_1 : List UInt8 := dkwX3_directory_1 ++ []
def dkwX3_directory_0 : List UInt8 := [42, 27, 182, 0, 64, 78, 45, 193, 0, 109, 153, 0, 10, 45, 192, 0, 109, 77, 44, 176, 187, 0, 102, 89]
abbrev dktX3_directory_0 : List UInt8 := dkwX3_directory_0 ++ dktX3_directory_1
theorem dksX3_directory_0 : cX3_directory.data.toList.drop 0 = dktX3_directory_0 := by decide +kernel
theorem dksX3_directory_1 : cX3_directory.data.toList.drop 24 = dktX3_directory_1 := dk_seg dksX3_directory_0 24 rfl rfl
theorem dX3_directory_0 : decode cX3_directory 0 = .ok (.aload_n 0, 1) := dk_42 (dk_at dksX3_directory_0 0 rfl rfl)
theorem dX3_directory_1 : decode cX3_directory 1 = .ok (.iload_n 1, 1) := dk_27 (dk_at dksX3_directory_0 1 rfl rfl)
theorem dX3_directory_2 : decode cX3_directory 2 = .ok (.invokevirtual 64, 3) := dk_182 0 64 (dk_at dksX3_directory_0 2 rfl rfl)
theorem dX3_directory_5 : decode cX3_directory 5 = .ok (.astore_n 3, 1) := dk_78 (dk_at dksX3_directory_0 5 rfl rfl)
theorem dX3_directory_6 : decode cX3_directory 6 = .ok (.aload_n 3, 1) := dk_45 (dk_at dksX3_directory_0 6 rfl rfl)
theorem dX3_directory_7 : decode cX3_directory 7 = .ok (.instanceof 109, 3) := dk_193 0 109 (dk_at dksX3_directory_0 7 rfl rfl)
theorem dX3_directory_10 : decode cX3_directory 10 = .ok (.ifCond .eq 10, 3) := dk_153 0 10 (dk_at dksX3_directory_0 10 rfl rfl)
theorem dX3_directory_13 : decode cX3_directory 13 = .ok (.aload_n 3, 1) := dk_45 (dk_at dksX3_directory_0 13 rfl rfl)
theorem dX3_directory_14 : decode cX3_directory 14 = .ok (.checkcast 109, 3) := dk_192 0 109 (dk_at dksX3_directory_0 14 rfl rfl)
theorem dX3_directory_17 : decode cX3_directory 17 = .ok (.astore_n 2, 1) := dk_77 (dk_at dksX3_directory_0 17 rfl rfl)
theorem dX3_directory_18 : decode cX3_directory 18 = .ok (.aload_n 2, 1) := dk_44 (dk_at dksX3_directory_0 18 rfl rfl)
theorem dX3_directory_19 : decode cX3_directory 19 = .ok (.areturn, 1) := dk_176 (dk_at dksX3_directory_0 19 rfl rfl)
theorem dX3_directory_20 : decode cX3_directory 20 = .ok (.new 102, 3) := dk_187 0 102 (dk_at dksX3_directory_0 20 rfl rfl)
theorem dX3_directory_23 : decode cX3_directory 23 = .ok (.dup, 1) := dk_89 (dk_at dksX3_directory_0 23 rfl rfl)
theorem dX3_directory_24 : decode cX3_directory 24 = .ok (.ldc 111, 2) := dk_18 111 (dk_at dksX3_directory_1 0 rfl rfl)
theorem dX3_directory_26 : decode cX3_directory 26 = .ok (.invokespecial 106, 3) := dk_183 0 106 (dk_at dksX3_directory_1 2 rfl rfl)
theorem dX3_directory_29 : decode cX3_directory 29 = .ok (.athrow, 1) := dk_191 (dk_at dksX3_directory_1 5 rfl rfl)
/-! PageGarden$Garden.directory(I)LPageGarden$Directory; -/
abbrev M_X3_directory (z0 n0 : Nat) (s' : gS) : gM := (RX3, cX3_directory, 4, (some (FieldType.object "PageGarden$Directory")), "directory", [], 6, z0, n0, s'.2.1, s'.2.2)
abbrev W_X3_directory (E : gE) (z0 n0 : Nat) (r : (Option Nat)) (s' : gS) (pc : Nat) (L : List (Nat × gV)) (st : List gV) (s : gS) : Prop := gW E (M_X3_directory z0 n0 s') (gQm E (M_X3_directory z0 n0 s') (.inl (some (vR r))) s') pc L st s
noncomputable def f_X3_directory_0 (κ : gK) (F : Nat)  (l0 : Option Nat) (l1 : Int32) (s : gS) : Option ((Option Nat) × gS) :=
  gB1 (gck s l0 7) fun _ =>
  gB2 (f_X3_page κ F l0 l1 s) fun v2 s1 =>
  gB1 (gio s1 v2 [3] [2]) fun v4 =>
  if v4 = 0 then
    none
  else
    gB1 (gcc s1 v2 3) fun _ =>
    some (v2, s1)
set_option maxHeartbeats 4000000 in
theorem w_X3_directory_0 {E : gE} {F z0 n0 : Nat} {r : (Option Nat)} {s' : gS}   : ∀ (l0 : Option Nat) (l1 : Int32)  (s : gS), f_X3_directory_0 (gk E) F  l0 l1 s = some (r, s') → W_X3_directory E z0 n0 r s' 0 [(0, vR l0), (1, vI l1)] [] s := by
  intro l0 l1 s hB
  unfold f_X3_directory_0 at hB
  refine gw_aload_n 0 rfl dX3_directory_0 ?_
  refine gw_iload_n 1 rfl dX3_directory_1 ?_
  obtain ⟨u0, hu3, hB⟩ := gB1_some hB
  obtain ⟨v2, s1, hv2, hB⟩ := gB2_some hB
  refine gw_callV (y := yX3_page) (lw_V q1439 q1440 q1441 q110 q1442) hdV_X3_page gcl7 hu3 (As := [vI l1]) (rest := []) (m_X3_page _ _ _ _ _ hv2) (Nat.le_of_ble_eq_true rfl) (Nat.le_of_ble_eq_true rfl) rfl (Nat.le_of_ble_eq_true rfl) dX3_directory_2 (gCont_i ?_)
  refine gw_astore_n (L' := [(3, vR v2), (0, vR l0), (1, vI l1)]) (Nat.le_of_ble_eq_true rfl) rfl dX3_directory_5 ?_
  refine gw_aload_n 0 rfl dX3_directory_6 ?_
  obtain ⟨v4, hv4, hB⟩ := gB1_some hB
  refine gw_inst (ys := [3]) (ns := [2]) gisY_PageGarden_Directory gisN_PageGarden_Directory hv4 q2045 dX3_directory_7 ?_
  refine gw_if_eq (tgt := 20) dX3_directory_10 (by decide) (fun hcnd => ?_) (fun hcnd => ?_)
  · rw [if_pos hcnd] at hB
    cases hB
  · rw [if_neg hcnd] at hB
    refine gw_aload_n 0 rfl dX3_directory_13 ?_
    obtain ⟨u0, hu5, hB⟩ := gB1_some hB
    refine gw_cast (C := RX5) gcl3 hu5 q2045 (Or.inl rfl) dX3_directory_14 ?_
    refine gw_astore_n (L' := [(2, vR v2), (3, vR v2), (0, vR l0), (1, vI l1)]) (Nat.le_of_ble_eq_true rfl) rfl dX3_directory_17 ?_
    refine gw_aload_n 0 rfl dX3_directory_18 ?_
    obtain ⟨rfl, rfl⟩ := Prod.mk.inj (Option.some.inj hB)
    exact gw_aret rfl (Or.inl ⟨_, rfl⟩) rfl rfl dX3_directory_19
noncomputable def f_X3_directory (κ : gK) (F : Nat) (a0 : Option Nat) (a1 : Int32) (s : gS) : Option ((Option Nat) × gS) := f_X3_directory_0 κ F a0 a1 s
theorem m_X3_directory {E : gE} {F : Nat} (a0 : Option Nat) (a1 : Int32) (s : gS) (r : (Option Nat)) (s' : gS) (h : f_X3_directory (gk E) F a0 a1 s = some (r, s')) : gCT E 6 yX3_directory (ws_ yX3_directory cX3_directory 4 (some (FieldType.object "PageGarden$Directory"))) [vR a0, vI a1] s (.inl (some (vR r))) s' := by
  refine gCT_of2 (fun h => absurd h (by decide)) (plainFor_of_name (by decide)) (Nat.le_of_ble_eq_true rfl) ?_
  exact gw_sub [0, 1] rfl (w_X3_directory_0 _ _ _ h)
def dkwX3_leaf_1 : List UInt8 := [18, 104, 183, 0, 106, 191]
abbrev dktX3_leaf_1 : List UInt8 := dkwX3_leaf_1 ++ []
def dkwX3_leaf_0 : List UInt8 := [42, 27, 182, 0, 64, 78, 45, 193, 0, 100, 153, 0, 10, 45, 192, 0, 100, 77, 44, 176, 187, 0, 102, 89]
abbrev dktX3_leaf_0 : List UInt8 := dkwX3_leaf_0 ++ dktX3_leaf_1
theorem dksX3_leaf_0 : cX3_leaf.data.toList.drop 0 = dktX3_leaf_0 := by decide +kernel
theorem dksX3_leaf_1 : cX3_leaf.data.toList.drop 24 = dktX3_leaf_1 := dk_seg dksX3_leaf_0 24 rfl rfl
theorem dX3_leaf_0 : decode cX3_leaf 0 = .ok (.aload_n 0, 1) := dk_42 (dk_at dksX3_leaf_0 0 rfl rfl)
theorem dX3_leaf_1 : decode cX3_leaf 1 = .ok (.iload_n 1, 1) := dk_27 (dk_at dksX3_leaf_0 1 rfl rfl)
theorem dX3_leaf_2 : decode cX3_leaf 2 = .ok (.invokevirtual 64, 3) := dk_182 0 64 (dk_at dksX3_leaf_0 2 rfl rfl)
theorem dX3_leaf_5 : decode cX3_leaf 5 = .ok (.astore_n 3, 1) := dk_78 (dk_at dksX3_leaf_0 5 rfl rfl)
theorem dX3_leaf_6 : decode cX3_leaf 6 = .ok (.aload_n 3, 1) := dk_45 (dk_at dksX3_leaf_0 6 rfl rfl)
theorem dX3_leaf_7 : decode cX3_leaf 7 = .ok (.instanceof 100, 3) := dk_193 0 100 (dk_at dksX3_leaf_0 7 rfl rfl)
theorem dX3_leaf_10 : decode cX3_leaf 10 = .ok (.ifCond .eq 10, 3) := dk_153 0 10 (dk_at dksX3_leaf_0 10 rfl rfl)
theorem dX3_leaf_13 : decode cX3_leaf 13 = .ok (.aload_n 3, 1) := dk_45 (dk_at dksX3_leaf_0 13 rfl rfl)
theorem dX3_leaf_14 : decode cX3_leaf 14 = .ok (.checkcast 100, 3) := dk_192 0 100 (dk_at dksX3_leaf_0 14 rfl rfl)
theorem dX3_leaf_17 : decode cX3_leaf 17 = .ok (.astore_n 2, 1) := dk_77 (dk_at dksX3_leaf_0 17 rfl rfl)
theorem dX3_leaf_18 : decode cX3_leaf 18 = .ok (.aload_n 2, 1) := dk_44 (dk_at dksX3_leaf_0 18 rfl rfl)
theorem dX3_leaf_19 : decode cX3_leaf 19 = .ok (.areturn, 1) := dk_176 (dk_at dksX3_leaf_0 19 rfl rfl)
theorem dX3_leaf_20 : decode cX3_leaf 20 = .ok (.new 102, 3) := dk_187 0 102 (dk_at dksX3_leaf_0 20 rfl rfl)
theorem dX3_leaf_23 : decode cX3_leaf 23 = .ok (.dup, 1) := dk_89 (dk_at dksX3_leaf_0 23 rfl rfl)
theorem dX3_leaf_24 : decode cX3_leaf 24 = .ok (.ldc 104, 2) := dk_18 104 (dk_at dksX3_leaf_1 0 rfl rfl)
theorem dX3_leaf_26 : decode cX3_leaf 26 = .ok (.invokespecial 106, 3) := dk_183 0 106 (dk_at dksX3_leaf_1 2 rfl rfl)
theorem dX3_leaf_29 : decode cX3_leaf 29 = .ok (.athrow, 1) := dk_191 (dk_at dksX3_leaf_1 5 rfl rfl)
/-! PageGarden$Garden.leaf(I)LPageGarden$Leaf; -/
abbrev M_X3_leaf (z0 n0 : Nat) (s' : gS) : gM := (RX3, cX3_leaf, 4, (some (FieldType.object "PageGarden$Leaf")), "leaf", [], 6, z0, n0, s'.2.1, s'.2.2)
abbrev W_X3_leaf (E : gE) (z0 n0 : Nat) (r : (Option Nat)) (s' : gS) (pc : Nat) (L : List (Nat × gV)) (st : List gV) (s : gS) : Prop := gW E (M_X3_leaf z0 n0 s') (gQm E (M_X3_leaf z0 n0 s') (.inl (some (vR r))) s') pc L st s
noncomputable def f_X3_leaf_0 (κ : gK) (F : Nat)  (l0 : Option Nat) (l1 : Int32) (s : gS) : Option ((Option Nat) × gS) :=
  gB1 (gck s l0 7) fun _ =>
  gB2 (f_X3_page κ F l0 l1 s) fun v2 s1 =>
  gB1 (gio s1 v2 [2] [3]) fun v4 =>
  if v4 = 0 then
    none
  else
    gB1 (gcc s1 v2 2) fun _ =>
    some (v2, s1)
set_option maxHeartbeats 4000000 in
theorem w_X3_leaf_0 {E : gE} {F z0 n0 : Nat} {r : (Option Nat)} {s' : gS}   : ∀ (l0 : Option Nat) (l1 : Int32)  (s : gS), f_X3_leaf_0 (gk E) F  l0 l1 s = some (r, s') → W_X3_leaf E z0 n0 r s' 0 [(0, vR l0), (1, vI l1)] [] s := by
  intro l0 l1 s hB
  unfold f_X3_leaf_0 at hB
  refine gw_aload_n 0 rfl dX3_leaf_0 ?_
  refine gw_iload_n 1 rfl dX3_leaf_1 ?_
  obtain ⟨u0, hu3, hB⟩ := gB1_some hB
  obtain ⟨v2, s1, hv2, hB⟩ := gB2_some hB
  refine gw_callV (y := yX3_page) (lw_V q1439 q1440 q1441 q110 q1442) hdV_X3_page gcl7 hu3 (As := [vI l1]) (rest := []) (m_X3_page _ _ _ _ _ hv2) (Nat.le_of_ble_eq_true rfl) (Nat.le_of_ble_eq_true rfl) rfl (Nat.le_of_ble_eq_true rfl) dX3_leaf_2 (gCont_i ?_)
  refine gw_astore_n (L' := [(3, vR v2), (0, vR l0), (1, vI l1)]) (Nat.le_of_ble_eq_true rfl) rfl dX3_leaf_5 ?_
  refine gw_aload_n 0 rfl dX3_leaf_6 ?_
  obtain ⟨v4, hv4, hB⟩ := gB1_some hB
  refine gw_inst (ys := [2]) (ns := [3]) gisY_PageGarden_Leaf gisN_PageGarden_Leaf hv4 q2061 dX3_leaf_7 ?_
  refine gw_if_eq (tgt := 20) dX3_leaf_10 (by decide) (fun hcnd => ?_) (fun hcnd => ?_)
  · rw [if_pos hcnd] at hB
    cases hB
  · rw [if_neg hcnd] at hB
    refine gw_aload_n 0 rfl dX3_leaf_13 ?_
    obtain ⟨u0, hu5, hB⟩ := gB1_some hB
    refine gw_cast (C := RX9) gcl2 hu5 q2061 (Or.inl rfl) dX3_leaf_14 ?_
    refine gw_astore_n (L' := [(2, vR v2), (3, vR v2), (0, vR l0), (1, vI l1)]) (Nat.le_of_ble_eq_true rfl) rfl dX3_leaf_17 ?_
    refine gw_aload_n 0 rfl dX3_leaf_18 ?_
    obtain ⟨rfl, rfl⟩ := Prod.mk.inj (Option.some.inj hB)
    exact gw_aret rfl (Or.inl ⟨_, rfl⟩) rfl rfl dX3_leaf_19
noncomputable def f_X3_leaf (κ : gK) (F : Nat) (a0 : Option Nat) (a1 : Int32) (s : gS) : Option ((Option Nat) × gS) := f_X3_leaf_0 κ F a0 a1 s
theorem m_X3_leaf {E : gE} {F : Nat} (a0 : Option Nat) (a1 : Int32) (s : gS) (r : (Option Nat)) (s' : gS) (h : f_X3_leaf (gk E) F a0 a1 s = some (r, s')) : gCT E 6 yX3_leaf (ws_ yX3_leaf cX3_leaf 4 (some (FieldType.object "PageGarden$Leaf"))) [vR a0, vI a1] s (.inl (some (vR r))) s' := by
  refine gCT_of2 (fun h => absurd h (by decide)) (plainFor_of_name (by decide)) (Nat.le_of_ble_eq_true rfl) ?_
  exact gw_sub [0, 1] rfl (w_X3_leaf_0 _ _ _ h)
def dkwX3_placeOf_2 : List UInt8 := [167, 255, 216, 29, 172]
abbrev dktX3_placeOf_2 : List UInt8 := dkwX3_placeOf_2 ++ []
def dkwX3_placeOf_1 : List UInt8 := [182, 0, 116, 180, 0, 120, 3, 46, 28, 163, 0, 8, 21, 4, 167, 0, 4, 29, 62, 132, 4, 1]
abbrev dktX3_placeOf_1 : List UInt8 := dkwX3_placeOf_1 ++ dktX3_placeOf_2
def dkwX3_placeOf_0 : List UInt8 := [3, 62, 4, 54, 4, 21, 4, 43, 180, 0, 113, 190, 162, 0, 36, 42, 43, 180, 0, 113, 21, 4, 46]
abbrev dktX3_placeOf_0 : List UInt8 := dkwX3_placeOf_0 ++ dktX3_placeOf_1
theorem dksX3_placeOf_0 : cX3_placeOf.data.toList.drop 0 = dktX3_placeOf_0 := by decide +kernel
theorem dksX3_placeOf_1 : cX3_placeOf.data.toList.drop 23 = dktX3_placeOf_1 := dk_seg dksX3_placeOf_0 23 rfl rfl
theorem dksX3_placeOf_2 : cX3_placeOf.data.toList.drop 45 = dktX3_placeOf_2 := dk_seg dksX3_placeOf_1 22 rfl rfl
theorem dX3_placeOf_0 : decode cX3_placeOf 0 = .ok (.iconst 0, 1) := dk_3 (dk_at dksX3_placeOf_0 0 rfl rfl)
theorem dX3_placeOf_1 : decode cX3_placeOf 1 = .ok (.istore_n 3, 1) := dk_62 (dk_at dksX3_placeOf_0 1 rfl rfl)
theorem dX3_placeOf_2 : decode cX3_placeOf 2 = .ok (.iconst 1, 1) := dk_4 (dk_at dksX3_placeOf_0 2 rfl rfl)
theorem dX3_placeOf_3 : decode cX3_placeOf 3 = .ok (.istore 4, 2) := dk_54 4 (dk_at dksX3_placeOf_0 3 rfl rfl)
theorem dX3_placeOf_5 : decode cX3_placeOf 5 = .ok (.iload 4, 2) := dk_21 4 (dk_at dksX3_placeOf_0 5 rfl rfl)
theorem dX3_placeOf_7 : decode cX3_placeOf 7 = .ok (.aload_n 1, 1) := dk_43 (dk_at dksX3_placeOf_0 7 rfl rfl)
theorem dX3_placeOf_8 : decode cX3_placeOf 8 = .ok (.getfield 113, 3) := dk_180 0 113 (dk_at dksX3_placeOf_0 8 rfl rfl)
theorem dX3_placeOf_11 : decode cX3_placeOf 11 = .ok (.arraylength, 1) := dk_190 (dk_at dksX3_placeOf_0 11 rfl rfl)
theorem dX3_placeOf_12 : decode cX3_placeOf 12 = .ok (.if_icmp .ge 36, 3) := dk_162 0 36 (dk_at dksX3_placeOf_0 12 rfl rfl)
theorem dX3_placeOf_15 : decode cX3_placeOf 15 = .ok (.aload_n 0, 1) := dk_42 (dk_at dksX3_placeOf_0 15 rfl rfl)
theorem dX3_placeOf_16 : decode cX3_placeOf 16 = .ok (.aload_n 1, 1) := dk_43 (dk_at dksX3_placeOf_0 16 rfl rfl)
theorem dX3_placeOf_17 : decode cX3_placeOf 17 = .ok (.getfield 113, 3) := dk_180 0 113 (dk_at dksX3_placeOf_0 17 rfl rfl)
theorem dX3_placeOf_20 : decode cX3_placeOf 20 = .ok (.iload 4, 2) := dk_21 4 (dk_at dksX3_placeOf_0 20 rfl rfl)
theorem dX3_placeOf_22 : decode cX3_placeOf 22 = .ok (.iaload, 1) := dk_46 (dk_at dksX3_placeOf_0 22 rfl rfl)
theorem dX3_placeOf_23 : decode cX3_placeOf 23 = .ok (.invokevirtual 116, 3) := dk_182 0 116 (dk_at dksX3_placeOf_1 0 rfl rfl)
theorem dX3_placeOf_26 : decode cX3_placeOf 26 = .ok (.getfield 120, 3) := dk_180 0 120 (dk_at dksX3_placeOf_1 3 rfl rfl)
theorem dX3_placeOf_29 : decode cX3_placeOf 29 = .ok (.iconst 0, 1) := dk_3 (dk_at dksX3_placeOf_1 6 rfl rfl)
theorem dX3_placeOf_30 : decode cX3_placeOf 30 = .ok (.iaload, 1) := dk_46 (dk_at dksX3_placeOf_1 7 rfl rfl)
theorem dX3_placeOf_31 : decode cX3_placeOf 31 = .ok (.iload_n 2, 1) := dk_28 (dk_at dksX3_placeOf_1 8 rfl rfl)
theorem dX3_placeOf_32 : decode cX3_placeOf 32 = .ok (.if_icmp .gt 8, 3) := dk_163 0 8 (dk_at dksX3_placeOf_1 9 rfl rfl)
theorem dX3_placeOf_35 : decode cX3_placeOf 35 = .ok (.iload 4, 2) := dk_21 4 (dk_at dksX3_placeOf_1 12 rfl rfl)
theorem dX3_placeOf_37 : decode cX3_placeOf 37 = .ok (.goto 4, 3) := dk_167 0 4 (dk_at dksX3_placeOf_1 14 rfl rfl)
theorem dX3_placeOf_40 : decode cX3_placeOf 40 = .ok (.iload_n 3, 1) := dk_29 (dk_at dksX3_placeOf_1 17 rfl rfl)
theorem dX3_placeOf_41 : decode cX3_placeOf 41 = .ok (.istore_n 3, 1) := dk_62 (dk_at dksX3_placeOf_1 18 rfl rfl)
theorem dX3_placeOf_42 : decode cX3_placeOf 42 = .ok (.iinc 4 1, 3) := dk_132 4 1 (dk_at dksX3_placeOf_1 19 rfl rfl)
theorem dX3_placeOf_45 : decode cX3_placeOf 45 = .ok (.goto (-40), 3) := dk_167 255 216 (dk_at dksX3_placeOf_2 0 rfl rfl)
theorem dX3_placeOf_48 : decode cX3_placeOf 48 = .ok (.iload_n 3, 1) := dk_29 (dk_at dksX3_placeOf_2 3 rfl rfl)
theorem dX3_placeOf_49 : decode cX3_placeOf 49 = .ok (.ireturn, 1) := dk_172 (dk_at dksX3_placeOf_2 4 rfl rfl)
/-! PageGarden$Garden.placeOf(LPageGarden$Directory;I)I -/
abbrev M_X3_placeOf (z0 n0 : Nat) (s' : gS) : gM := (RX3, cX3_placeOf, 5, (some FieldType.int), "placeOf", [], 7, z0, n0, s'.2.1, s'.2.2)
abbrev W_X3_placeOf (E : gE) (z0 n0 : Nat) (r : Int32) (s' : gS) (pc : Nat) (L : List (Nat × gV)) (st : List gV) (s : gS) : Prop := gW E (M_X3_placeOf z0 n0 s') (gQm E (M_X3_placeOf z0 n0 s') (.inl (some (vI r))) s') pc L st s
noncomputable def f_X3_placeOf_41 (κ : gK) (F : Nat) (k5 : Option Nat → Option Nat → Int32 → Int32 → Int32 → gS → Option (Int32 × gS)) (l0 : Option Nat) (l1 : Option Nat) (l2 : Int32) (l4 : Int32) (t0 : Int32) (s : gS) : Option (Int32 × gS) :=
  k5 l0 l1 l2 t0 (l4 + (1 : Int32)) s
set_option maxHeartbeats 4000000 in
theorem w_X3_placeOf_41 {E : gE} {F z0 n0 : Nat} {r : Int32} {s' : gS} {k5 : Option Nat → Option Nat → Int32 → Int32 → Int32 → gS → Option (Int32 × gS)} (hk5 : ∀ (l0 : Option Nat) (l1 : Option Nat) (l2 : Int32) (l3 : Int32) (l4 : Int32) (s : gS), k5 l0 l1 l2 l3 l4 s = some (r, s') → W_X3_placeOf E z0 n0 r s' 5 [(0, vR l0), (1, vR l1), (2, vI l2), (3, vI l3), (4, vI l4)] [] s) : ∀ (l0 : Option Nat) (l1 : Option Nat) (l2 : Int32) (l4 : Int32) (t0 : Int32) (s : gS), f_X3_placeOf_41 (gk E) F k5 l0 l1 l2 l4 t0 s = some (r, s') → W_X3_placeOf E z0 n0 r s' 41 [(0, vR l0), (1, vR l1), (2, vI l2), (4, vI l4)] [vI t0] s := by
  intro l0 l1 l2 l4 t0 s hB
  unfold f_X3_placeOf_41 at hB
  refine gw_istore_n (L' := [(3, vI t0), (0, vR l0), (1, vR l1), (2, vI l2), (4, vI l4)]) (Nat.le_of_ble_eq_true rfl) rfl dX3_placeOf_41 ?_
  refine gw_iinc (w := (1 : Int32)) (L' := [(4, vI (l4 + (1 : Int32))), (3, vI t0), (0, vR l0), (1, vR l1), (2, vI l2)]) 4 rfl (by decide) (Nat.le_of_ble_eq_true rfl) rfl dX3_placeOf_42 ?_
  refine gw_goto (tgt := 5) dX3_placeOf_45 (by decide) ?_
  exact gw_sub [2, 3, 4, 1, 0] rfl (hk5 _ _ _ _ _ _ hB)
noncomputable def f_X3_placeOf_5b (κ : gK) (F : Nat) (k5 : Option Nat → Option Nat → Int32 → Int32 → Int32 → gS → Option (Int32 × gS)) (l0 : Option Nat) (l1 : Option Nat) (l2 : Int32) (l3 : Int32) (l4 : Int32) (s : gS) : Option (Int32 × gS) :=
  gB1 (gfR s l1 3 0) fun v1 =>
  gB1 (gal s v1) fun v2 =>
  if v2 ≤ l4 then
    some (l3, s)
  else
    gB1 (gfR s l1 3 0) fun v3 =>
    gB1 (gaI s v3 0 l4) fun v4 =>
    gB1 (gck s l0 7) fun _ =>
    gB2 (f_X3_leaf κ F l0 v4 s) fun v6 s5 =>
    gB1 (gfR s5 v6 2 0) fun v8 =>
    gB1 (gaI s5 v8 0 (0 : Int32)) fun v9 =>
    if l2 < v9 then
      f_X3_placeOf_41 κ F k5 l0 l1 l2 l4 l3 s5
    else
      f_X3_placeOf_41 κ F k5 l0 l1 l2 l4 l4 s5
noncomputable def f_X3_placeOf_5 (κ : gK) (F : Nat)  : Nat → Option Nat → Option Nat → Int32 → Int32 → Int32 → gS → Option (Int32 × gS)
  | 0 => fun _ _ _ _ _ _ => none
  | n + 1 => f_X3_placeOf_5b κ F  (f_X3_placeOf_5 κ F  n)
set_option maxHeartbeats 4000000 in
theorem w_X3_placeOf_5b {E : gE} {F z0 n0 : Nat} {r : Int32} {s' : gS} {k5 : Option Nat → Option Nat → Int32 → Int32 → Int32 → gS → Option (Int32 × gS)} (hk5 : ∀ (l0 : Option Nat) (l1 : Option Nat) (l2 : Int32) (l3 : Int32) (l4 : Int32) (s : gS), k5 l0 l1 l2 l3 l4 s = some (r, s') → W_X3_placeOf E z0 n0 r s' 5 [(0, vR l0), (1, vR l1), (2, vI l2), (3, vI l3), (4, vI l4)] [] s) : ∀ (l0 : Option Nat) (l1 : Option Nat) (l2 : Int32) (l3 : Int32) (l4 : Int32)  (s : gS), f_X3_placeOf_5b (gk E) F k5 l0 l1 l2 l3 l4 s = some (r, s') → W_X3_placeOf E z0 n0 r s' 5 [(0, vR l0), (1, vR l1), (2, vI l2), (3, vI l3), (4, vI l4)] [] s := by
  intro l0 l1 l2 l3 l4 s hB
  unfold f_X3_placeOf_5b at hB
  refine gw_iload 4 rfl dX3_placeOf_5 ?_
  refine gw_aload_n 1 rfl dX3_placeOf_7 ?_
  obtain ⟨v1, hv1, hB⟩ := gB1_some hB
  refine gw_getfN (C := RX5) (T := TX5) (N := 1) (k := 0) gcl3 (by decide) in_X5 q321 (gfR_spec hv1) dX3_placeOf_8 ?_
  obtain ⟨v2, hv2, hB⟩ := gB1_some hB
  refine gw_alen hv2 dX3_placeOf_11 ?_
  refine gw_icmp_ge (tgt := 48) dX3_placeOf_12 (by decide) (fun hcnd => ?_) (fun hcnd => ?_)
  · rw [if_pos hcnd] at hB
    refine gw_iload_n 3 rfl dX3_placeOf_48 ?_
    obtain ⟨rfl, rfl⟩ := Prod.mk.inj (Option.some.inj hB)
    exact gw_iret rfl rfl rfl dX3_placeOf_49
  · rw [if_neg hcnd] at hB
    refine gw_aload_n 0 rfl dX3_placeOf_15 ?_
    refine gw_aload_n 1 rfl dX3_placeOf_16 ?_
    obtain ⟨v3, hv3, hB⟩ := gB1_some hB
    refine gw_getfN (C := RX5) (T := TX5) (N := 1) (k := 0) gcl3 (by decide) in_X5 q321 (gfR_spec hv3) dX3_placeOf_17 ?_
    refine gw_iload 4 rfl dX3_placeOf_20 ?_
    obtain ⟨v4, hv4, hB⟩ := gB1_some hB
    refine gw_iaload hv4 dX3_placeOf_22 ?_
    obtain ⟨u0, hu7, hB⟩ := gB1_some hB
    obtain ⟨v6, s5, hv6, hB⟩ := gB2_some hB
    refine gw_callV (y := yX3_leaf) (lw_V q2057 q2059 qs26 q110 q2060) hdV_X3_leaf gcl7 hu7 (As := [vI v4]) (rest := []) (m_X3_leaf _ _ _ _ _ hv6) (Nat.le_of_ble_eq_true rfl) (Nat.le_of_ble_eq_true rfl) rfl (Nat.le_of_ble_eq_true rfl) dX3_placeOf_23 (gCont_i ?_)
    obtain ⟨v8, hv8, hB⟩ := gB1_some hB
    refine gw_getfN (C := RX9) (T := TX9) (N := 2) (k := 0) gcl2 (by decide) in_X9 q2171 (gfR_spec hv8) dX3_placeOf_26 ?_
    refine gw_iconst (v := (0 : Int32)) (by decide) dX3_placeOf_29 ?_
    obtain ⟨v9, hv9, hB⟩ := gB1_some hB
    refine gw_iaload hv9 dX3_placeOf_30 ?_
    refine gw_iload_n 2 rfl dX3_placeOf_31 ?_
    refine gw_icmp_gt (tgt := 40) dX3_placeOf_32 (by decide) (fun hcnd => ?_) (fun hcnd => ?_)
    · rw [if_pos hcnd] at hB
      refine gw_iload_n 3 rfl dX3_placeOf_40 ?_
      exact gw_sub [0, 1, 2, 4] rfl (w_X3_placeOf_41 hk5 _ _ _ _ _ _ hB)
    · rw [if_neg hcnd] at hB
      refine gw_iload 4 rfl dX3_placeOf_35 ?_
      refine gw_goto (tgt := 41) dX3_placeOf_37 (by decide) ?_
      exact gw_sub [0, 1, 2, 4] rfl (w_X3_placeOf_41 hk5 _ _ _ _ _ _ hB)
theorem w_X3_placeOf_5 {E : gE} {F z0 n0 : Nat} {r : Int32} {s' : gS}   : ∀ (n : Nat) (l0 : Option Nat) (l1 : Option Nat) (l2 : Int32) (l3 : Int32) (l4 : Int32)  (s : gS), f_X3_placeOf_5 (gk E) F  n l0 l1 l2 l3 l4 s = some (r, s') → W_X3_placeOf E z0 n0 r s' 5 [(0, vR l0), (1, vR l1), (2, vI l2), (3, vI l3), (4, vI l4)] [] s := by
  intro n
  induction n with
  | zero => intro l0 l1 l2 l3 l4 s hB; cases hB
  | succ n ih => intro l0 l1 l2 l3 l4 s hB; exact w_X3_placeOf_5b ih l0 l1 l2 l3 l4 s hB
noncomputable def f_X3_placeOf_0 (κ : gK) (F : Nat)  (l0 : Option Nat) (l1 : Option Nat) (l2 : Int32) (s : gS) : Option (Int32 × gS) :=
  f_X3_placeOf_5 κ F  F l0 l1 l2 (0 : Int32) (1 : Int32) s
set_option maxHeartbeats 4000000 in
theorem w_X3_placeOf_0 {E : gE} {F z0 n0 : Nat} {r : Int32} {s' : gS}   : ∀ (l0 : Option Nat) (l1 : Option Nat) (l2 : Int32)  (s : gS), f_X3_placeOf_0 (gk E) F  l0 l1 l2 s = some (r, s') → W_X3_placeOf E z0 n0 r s' 0 [(0, vR l0), (1, vR l1), (2, vI l2)] [] s := by
  intro l0 l1 l2 s hB
  unfold f_X3_placeOf_0 at hB
  refine gw_iconst (v := (0 : Int32)) (by decide) dX3_placeOf_0 ?_
  refine gw_istore_n (L' := [(3, vI (0 : Int32)), (0, vR l0), (1, vR l1), (2, vI l2)]) (Nat.le_of_ble_eq_true rfl) rfl dX3_placeOf_1 ?_
  refine gw_iconst (v := (1 : Int32)) (by decide) dX3_placeOf_2 ?_
  refine gw_istore (L' := [(4, vI (1 : Int32)), (3, vI (0 : Int32)), (0, vR l0), (1, vR l1), (2, vI l2)]) (Nat.le_of_ble_eq_true rfl) rfl dX3_placeOf_3 ?_
  exact gw_sub [2, 3, 4, 1, 0] rfl (w_X3_placeOf_5  F _ _ _ _ _ _ hB)
noncomputable def f_X3_placeOf (κ : gK) (F : Nat) (a0 : Option Nat) (a1 : Option Nat) (a2 : Int32) (s : gS) : Option (Int32 × gS) := f_X3_placeOf_0 κ F a0 a1 a2 s
theorem m_X3_placeOf {E : gE} {F : Nat} (a0 : Option Nat) (a1 : Option Nat) (a2 : Int32) (s : gS) (r : Int32) (s' : gS) (h : f_X3_placeOf (gk E) F a0 a1 a2 s = some (r, s')) : gCT E 7 yX3_placeOf (ws_ yX3_placeOf cX3_placeOf 5 (some FieldType.int)) [vR a0, vR a1, vI a2] s (.inl (some (vI r))) s' := by
  refine gCT_of2 (fun h => absurd h (by decide)) (plainFor_of_name (by decide)) (Nat.le_of_ble_eq_true rfl) ?_
  exact gw_sub [0, 1, 2] rfl (w_X3_placeOf_0 _ _ _ _ h)
def dkwX9_placeOf_1 : List UInt8 := [167, 255, 234, 28, 172]
abbrev dktX9_placeOf_1 : List UInt8 := dkwX9_placeOf_1 ++ []
def dkwX9_placeOf_0 : List UInt8 := [3, 61, 28, 42, 180, 0, 7, 190, 162, 0, 19, 42, 180, 0, 7, 28, 46, 27, 162, 0, 9, 132, 2, 1]
abbrev dktX9_placeOf_0 : List UInt8 := dkwX9_placeOf_0 ++ dktX9_placeOf_1
theorem dksX9_placeOf_0 : cX9_placeOf.data.toList.drop 0 = dktX9_placeOf_0 := by decide +kernel
theorem dksX9_placeOf_1 : cX9_placeOf.data.toList.drop 24 = dktX9_placeOf_1 := dk_seg dksX9_placeOf_0 24 rfl rfl
theorem dX9_placeOf_0 : decode cX9_placeOf 0 = .ok (.iconst 0, 1) := dk_3 (dk_at dksX9_placeOf_0 0 rfl rfl)
theorem dX9_placeOf_1 : decode cX9_placeOf 1 = .ok (.istore_n 2, 1) := dk_61 (dk_at dksX9_placeOf_0 1 rfl rfl)
theorem dX9_placeOf_2 : decode cX9_placeOf 2 = .ok (.iload_n 2, 1) := dk_28 (dk_at dksX9_placeOf_0 2 rfl rfl)
theorem dX9_placeOf_3 : decode cX9_placeOf 3 = .ok (.aload_n 0, 1) := dk_42 (dk_at dksX9_placeOf_0 3 rfl rfl)
theorem dX9_placeOf_4 : decode cX9_placeOf 4 = .ok (.getfield 7, 3) := dk_180 0 7 (dk_at dksX9_placeOf_0 4 rfl rfl)
theorem dX9_placeOf_7 : decode cX9_placeOf 7 = .ok (.arraylength, 1) := dk_190 (dk_at dksX9_placeOf_0 7 rfl rfl)
theorem dX9_placeOf_8 : decode cX9_placeOf 8 = .ok (.if_icmp .ge 19, 3) := dk_162 0 19 (dk_at dksX9_placeOf_0 8 rfl rfl)
theorem dX9_placeOf_11 : decode cX9_placeOf 11 = .ok (.aload_n 0, 1) := dk_42 (dk_at dksX9_placeOf_0 11 rfl rfl)
theorem dX9_placeOf_12 : decode cX9_placeOf 12 = .ok (.getfield 7, 3) := dk_180 0 7 (dk_at dksX9_placeOf_0 12 rfl rfl)
theorem dX9_placeOf_15 : decode cX9_placeOf 15 = .ok (.iload_n 2, 1) := dk_28 (dk_at dksX9_placeOf_0 15 rfl rfl)
theorem dX9_placeOf_16 : decode cX9_placeOf 16 = .ok (.iaload, 1) := dk_46 (dk_at dksX9_placeOf_0 16 rfl rfl)
theorem dX9_placeOf_17 : decode cX9_placeOf 17 = .ok (.iload_n 1, 1) := dk_27 (dk_at dksX9_placeOf_0 17 rfl rfl)
theorem dX9_placeOf_18 : decode cX9_placeOf 18 = .ok (.if_icmp .ge 9, 3) := dk_162 0 9 (dk_at dksX9_placeOf_0 18 rfl rfl)
theorem dX9_placeOf_21 : decode cX9_placeOf 21 = .ok (.iinc 2 1, 3) := dk_132 2 1 (dk_at dksX9_placeOf_0 21 rfl rfl)
theorem dX9_placeOf_24 : decode cX9_placeOf 24 = .ok (.goto (-22), 3) := dk_167 255 234 (dk_at dksX9_placeOf_1 0 rfl rfl)
theorem dX9_placeOf_27 : decode cX9_placeOf 27 = .ok (.iload_n 2, 1) := dk_28 (dk_at dksX9_placeOf_1 3 rfl rfl)
theorem dX9_placeOf_28 : decode cX9_placeOf 28 = .ok (.ireturn, 1) := dk_172 (dk_at dksX9_placeOf_1 4 rfl rfl)
/-! PageGarden$Leaf.placeOf(I)I -/
abbrev M_X9_placeOf (z0 n0 : Nat) (s' : gS) : gM := (RX9, cX9_placeOf, 3, (some FieldType.int), "placeOf", [], 1, z0, n0, s'.2.1, s'.2.2)
abbrev W_X9_placeOf (E : gE) (z0 n0 : Nat) (r : Int32) (s' : gS) (pc : Nat) (L : List (Nat × gV)) (st : List gV) (s : gS) : Prop := gW E (M_X9_placeOf z0 n0 s') (gQm E (M_X9_placeOf z0 n0 s') (.inl (some (vI r))) s') pc L st s
noncomputable def f_X9_placeOf_27 (κ : gK) (F : Nat)  (l2 : Int32) (s : gS) : Option (Int32 × gS) :=
  some (l2, s)
set_option maxHeartbeats 4000000 in
theorem w_X9_placeOf_27 {E : gE} {F z0 n0 : Nat} {r : Int32} {s' : gS}   : ∀ (l2 : Int32)  (s : gS), f_X9_placeOf_27 (gk E) F  l2 s = some (r, s') → W_X9_placeOf E z0 n0 r s' 27 [(2, vI l2)] [] s := by
  intro l2 s hB
  unfold f_X9_placeOf_27 at hB
  refine gw_iload_n 0 rfl dX9_placeOf_27 ?_
  obtain ⟨rfl, rfl⟩ := Prod.mk.inj (Option.some.inj hB)
  exact gw_iret rfl rfl rfl dX9_placeOf_28
noncomputable def f_X9_placeOf_2b (κ : gK) (F : Nat) (k2 : Option Nat → Int32 → Int32 → gS → Option (Int32 × gS)) (l0 : Option Nat) (l1 : Int32) (l2 : Int32) (s : gS) : Option (Int32 × gS) :=
  gB1 (gfR s l0 2 0) fun v1 =>
  gB1 (gal s v1) fun v2 =>
  if v2 ≤ l2 then
    f_X9_placeOf_27 κ F  l2 s
  else
    gB1 (gfR s l0 2 0) fun v3 =>
    gB1 (gaI s v3 0 l2) fun v4 =>
    if l1 ≤ v4 then
      f_X9_placeOf_27 κ F  l2 s
    else
      k2 l0 l1 (l2 + (1 : Int32)) s
noncomputable def f_X9_placeOf_2 (κ : gK) (F : Nat)  : Nat → Option Nat → Int32 → Int32 → gS → Option (Int32 × gS)
  | 0 => fun _ _ _ _ => none
  | n + 1 => f_X9_placeOf_2b κ F  (f_X9_placeOf_2 κ F  n)
set_option maxHeartbeats 4000000 in
theorem w_X9_placeOf_2b {E : gE} {F z0 n0 : Nat} {r : Int32} {s' : gS} {k2 : Option Nat → Int32 → Int32 → gS → Option (Int32 × gS)} (hk2 : ∀ (l0 : Option Nat) (l1 : Int32) (l2 : Int32) (s : gS), k2 l0 l1 l2 s = some (r, s') → W_X9_placeOf E z0 n0 r s' 2 [(0, vR l0), (1, vI l1), (2, vI l2)] [] s) : ∀ (l0 : Option Nat) (l1 : Int32) (l2 : Int32)  (s : gS), f_X9_placeOf_2b (gk E) F k2 l0 l1 l2 s = some (r, s') → W_X9_placeOf E z0 n0 r s' 2 [(0, vR l0), (1, vI l1), (2, vI l2)] [] s := by
  intro l0 l1 l2 s hB
  unfold f_X9_placeOf_2b at hB
  refine gw_iload_n 2 rfl dX9_placeOf_2 ?_
  refine gw_aload_n 0 rfl dX9_placeOf_3 ?_
  obtain ⟨v1, hv1, hB⟩ := gB1_some hB
  refine gw_getf (C := RX9) (T := TX9) (N := 2) (k := 0) gcl2 (by decide) in_X9 q2170 (gfR_spec hv1) dX9_placeOf_4 ?_
  obtain ⟨v2, hv2, hB⟩ := gB1_some hB
  refine gw_alen hv2 dX9_placeOf_7 ?_
  refine gw_icmp_ge (tgt := 27) dX9_placeOf_8 (by decide) (fun hcnd => ?_) (fun hcnd => ?_)
  · rw [if_pos hcnd] at hB
    exact gw_sub [2] rfl (w_X9_placeOf_27  _ _ hB)
  · rw [if_neg hcnd] at hB
    refine gw_aload_n 0 rfl dX9_placeOf_11 ?_
    obtain ⟨v3, hv3, hB⟩ := gB1_some hB
    refine gw_getf (C := RX9) (T := TX9) (N := 2) (k := 0) gcl2 (by decide) in_X9 q2170 (gfR_spec hv3) dX9_placeOf_12 ?_
    refine gw_iload_n 2 rfl dX9_placeOf_15 ?_
    obtain ⟨v4, hv4, hB⟩ := gB1_some hB
    refine gw_iaload hv4 dX9_placeOf_16 ?_
    refine gw_iload_n 1 rfl dX9_placeOf_17 ?_
    refine gw_icmp_ge (tgt := 27) dX9_placeOf_18 (by decide) (fun hcnd => ?_) (fun hcnd => ?_)
    · rw [if_pos hcnd] at hB
      exact gw_sub [2] rfl (w_X9_placeOf_27  _ _ hB)
    · rw [if_neg hcnd] at hB
      refine gw_iinc (w := (1 : Int32)) (L' := [(2, vI (l2 + (1 : Int32))), (0, vR l0), (1, vI l1)]) 2 rfl (by decide) (Nat.le_of_ble_eq_true rfl) rfl dX9_placeOf_21 ?_
      refine gw_goto (tgt := 2) dX9_placeOf_24 (by decide) ?_
      exact gw_sub [1, 2, 0] rfl (hk2 _ _ _ _ hB)
theorem w_X9_placeOf_2 {E : gE} {F z0 n0 : Nat} {r : Int32} {s' : gS}   : ∀ (n : Nat) (l0 : Option Nat) (l1 : Int32) (l2 : Int32)  (s : gS), f_X9_placeOf_2 (gk E) F  n l0 l1 l2 s = some (r, s') → W_X9_placeOf E z0 n0 r s' 2 [(0, vR l0), (1, vI l1), (2, vI l2)] [] s := by
  intro n
  induction n with
  | zero => intro l0 l1 l2 s hB; cases hB
  | succ n ih => intro l0 l1 l2 s hB; exact w_X9_placeOf_2b ih l0 l1 l2 s hB
noncomputable def f_X9_placeOf_0 (κ : gK) (F : Nat)  (l0 : Option Nat) (l1 : Int32) (s : gS) : Option (Int32 × gS) :=
  f_X9_placeOf_2 κ F  F l0 l1 (0 : Int32) s
set_option maxHeartbeats 4000000 in
theorem w_X9_placeOf_0 {E : gE} {F z0 n0 : Nat} {r : Int32} {s' : gS}   : ∀ (l0 : Option Nat) (l1 : Int32)  (s : gS), f_X9_placeOf_0 (gk E) F  l0 l1 s = some (r, s') → W_X9_placeOf E z0 n0 r s' 0 [(0, vR l0), (1, vI l1)] [] s := by
  intro l0 l1 s hB
  unfold f_X9_placeOf_0 at hB
  refine gw_iconst (v := (0 : Int32)) (by decide) dX9_placeOf_0 ?_
  refine gw_istore_n (L' := [(2, vI (0 : Int32)), (0, vR l0), (1, vI l1)]) (Nat.le_of_ble_eq_true rfl) rfl dX9_placeOf_1 ?_
  exact gw_sub [1, 2, 0] rfl (w_X9_placeOf_2  F _ _ _ _ hB)
noncomputable def f_X9_placeOf (κ : gK) (F : Nat) (a0 : Option Nat) (a1 : Int32) (s : gS) : Option (Int32 × gS) := f_X9_placeOf_0 κ F a0 a1 s
theorem m_X9_placeOf {E : gE} {F : Nat} (a0 : Option Nat) (a1 : Int32) (s : gS) (r : Int32) (s' : gS) (h : f_X9_placeOf (gk E) F a0 a1 s = some (r, s')) : gCT E 1 yX9_placeOf (ws_ yX9_placeOf cX9_placeOf 3 (some FieldType.int)) [vR a0, vI a1] s (.inl (some (vI r))) s' := by
  refine gCT_of2 (fun h => absurd h (by decide)) (plainFor_of_name (by decide)) (Nat.le_of_ble_eq_true rfl) ?_
  exact gw_sub [0, 1] rfl (w_X9_placeOf_0 _ _ _ h)
