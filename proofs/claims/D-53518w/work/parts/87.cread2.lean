/-! the component: what it tells, what it asks -/
def nT (_ : Nat) : Prop := False
theorem GR_n {κ : gK} {B : Nat → Nat} {bd : Nat} {c n : Nat} {σ σ1 : gS} {ω ω1 : Nat → Nat} {t g : Nat} {ca : gA} {A : aG} (h : GR κ B bd σ ω t g ca A) (e : ext nT c n σ ω σ1 ω1) : GR κ B bd σ1 ω1 t g ca A := GR_mv h e (fun _ _ h => h) (fun h => h)
theorem BD_n {κ : gK} {B : Nat → Nat} {bd : Nat} {c n : Nat} {σ σ1 : gS} {ω ω1 : Nat → Nat} (h : BD κ B bd σ ω) (e : ext nT c n σ ω σ1 ω1) : BD κ B bd σ1 ω1 := BD_mv h e (fun h => h)
theorem PG_n {κ : gK} {c n : Nat} {σ σ1 : gS} {ω ω1 : Nat → Nat} {a : Nat} {p : Pg} (h : PG κ σ ω a p) (e : ext nT c n σ ω σ1 ω1) : PG κ σ1 ω1 a p := PG_mv h e (fun h => h)
theorem nT_le {T : Nat → Prop} {c n c' n' : Nat} {σ σ1 : gS} {ω ω1 : Nat → Nat} (e : ext nT c n σ ω σ1 ω1) (hc : c ≤ c') (hn : n ≤ n') : ext T c' n' σ ω σ1 ω1 := ext_mono e (fun _ h => h.elim) hc hn
theorem nT_refl (σ : gS) (ω : Nat → Nat) : ext nT 0 0 σ ω σ ω := ext_refl nT σ ω
theorem thr_ext (σ : gS) (ω : Nat → Nat) : ext nT 1 6 σ ω (gthr σ) ω := ⟨Nat.le_succ _, Nat.le_refl _, Nat.le_add_right _ _, Nat.le_refl _, fun _ _ => rfl, fun _ _ _ => rfl⟩
theorem npe_ext (σ : gS) (ω : Nat → Nat) : ext nT 1 8 σ ω (gnpe σ) ω := ⟨Nat.le_succ _, Nat.le_refl _, Nat.le_add_right _ _, Nat.le_refl _, fun _ _ => rfl, fun _ _ _ => rfl⟩
/-- the texts of what is thrown are there -/
def KT (κ : gK) : Prop := ∀ i, 10 ≤ i → i ≤ 37 → (κ.2 i).isSome = true
theorem KT_sm {κ : gK} (h : KT κ) {i : Nat} (h1 : 10 ≤ i) (h2 : i ≤ 37) : gsm (κ.2 i) = some () := by
  unfold gsm
  rw [if_pos (h i h1 h2)]
section C
variable {κ : gK} {B : Nat → Nat} {bd : Nat} {F : Nat} {σ : gS} {ω : Nat → Nat} {t g : Nat} {c : gA} {A : aG}
theorem k_reqState (hT : KT κ) {b : Bool} {i : Nat} (h1 : 10 ≤ i) (h2 : i ≤ 37) {x : Int32} (hx : x = if b then 1 else 0) : f_X1_requireState κ F x (κ.2 i) σ = some (if b then (.inl ()) else .inr "java/lang/IllegalStateException", if b then σ else gthr σ) := by
  subst hx
  rw [f_X1_requireState, f_X1_requireState_0]
  cases b with
  | true => rw [if_neg (by decide)]; rfl
  | false => rw [if_pos (by decide), KT_sm hT h1 h2, gB1_s]; rfl
theorem k_reqArg (hT : KT κ) {b : Bool} {i : Nat} (h1 : 10 ≤ i) (h2 : i ≤ 37) {x : Int32} (hx : x = if b then 1 else 0) : f_X1_requireArgument κ F x (κ.2 i) σ = some (if b then (.inl ()) else .inr "java/lang/IllegalArgumentException", if b then σ else gthr σ) := by
  subst hx
  rw [f_X1_requireArgument, f_X1_requireArgument_0]
  cases b with
  | true => rw [if_neg (by decide)]; rfl
  | false => rw [if_pos (by decide), KT_sm hT h1 h2, gB1_s]; rfl
theorem k_reqIdx (hT : KT κ) {b : Bool} {i : Nat} (h1 : 10 ≤ i) (h2 : i ≤ 37) {x : Int32} (hx : x = if b then 1 else 0) : f_X1_requireIndex κ F x (κ.2 i) σ = some (if b then (.inl ()) else .inr "java/lang/IndexOutOfBoundsException", if b then σ else gthr σ) := by
  subst hx
  rw [f_X1_requireIndex, f_X1_requireIndex_0]
  cases b with
  | true => rw [if_neg (by decide)]; rfl
  | false => rw [if_pos (by decide), KT_sm hT h1 h2, gB1_s]; rfl
theorem lg_in {v a b : Int32} {a' b' : Int64} (ha : a' = a.toInt64) (hb : b' = b.toInt64) (s : gS) : f_X1_inRange κ F v.toInt64 a' b' s = some (if inR v a b then 1 else 0, s) := by
  subst ha; subst hb
  have h1 : lg_cmp v.toInt64 a.toInt64 < 0 ↔ v < a := by
    rw [lg_cmp_lt, Int64.lt_iff_toInt_lt, Int32.lt_iff_toInt_lt, Int32.toInt_toInt64, Int32.toInt_toInt64]
  have h2 : 0 < lg_cmp v.toInt64 b.toInt64 ↔ b < v := by
    rw [lg_cmp_gt, Int64.lt_iff_toInt_lt, Int32.lt_iff_toInt_lt, Int32.toInt_toInt64, Int32.toInt_toInt64]
  rw [f_X1_inRange, f_X1_inRange_0]
  unfold inR
  by_cases c1 : v < a
  · rw [if_pos (h1.mpr c1), f_X1_inRange_17, f_X1_inRange_18, gok_z0, gB1_s, if_neg]
    exact fun e => absurd (of_decide_eq_true e).1 (Int32.not_le.mpr c1)
  · rw [if_neg (fun e => c1 (h1.mp e))]
    by_cases c2 : b < v
    · rw [if_pos (h2.mpr c2), f_X1_inRange_17, f_X1_inRange_18, gok_z0, gB1_s, if_neg]
      exact fun e => absurd (of_decide_eq_true e).2 (Int32.not_le.mpr c2)
    · rw [if_neg (fun e => c2 (h2.mp e)), f_X1_inRange_18, gok_z1, gB1_s, if_pos (decide_eq_true ⟨Int32.not_lt.mp c1, Int32.not_lt.mp c2⟩)]
theorem k_isKey (v : Int32) (s : gS) : f_X8_isKey κ F v s = some (if inR v 0 99 then 1 else 0, s) := by
  rw [f_X8_isKey, f_X8_isKey_0, lg_in (a := 0) (b := 99) (by decide) (by decide), gB2_s]
  cases inR v 0 99
  · show gB1 (gok .boolean 0) _ = _
    rw [gok_z0, gB1_s]
  · show gB1 (gok .boolean 1) _ = _
    rw [gok_z1, gB1_s]
theorem k_reqKey (hT : KT κ) (v : Int32) : f_X3_requireKey κ F v σ = some (if inR v 0 99 then (.inl ()) else .inr "java/lang/IllegalArgumentException", if inR v 0 99 then σ else gthr σ) := by
  rw [f_X3_requireKey, f_X3_requireKey_0, k_isKey, gB2_s, k_reqArg hT (b := inR v 0 99) (by decide) (by decide) rfl]
  cases inR v 0 99 <;> rfl
theorem k_reqReader (hT : KT κ) (v : Int32) : f_X3_requireReader κ F v σ = some (if inR v 0 3 then (.inl ()) else .inr "java/lang/IndexOutOfBoundsException", if inR v 0 3 then σ else gthr σ) := by
  rw [f_X3_requireReader, f_X3_requireReader_0, lg_in (a := 0) (b := 3) (by decide) (by decide), gB2_s, k_reqIdx hT (b := inR v 0 3) (by decide) (by decide) rfl]
  cases inR v 0 3 <;> rfl
theorem k_drn (h : GR κ B bd σ ω t g c A) : (c_dr c = none) ↔ isDr A = false := by
  have h7 := h.2.2.2.2.2.2.1
  unfold GDr at h7
  unfold isDr
  cases hd : aDr A with
  | none => rw [hd] at h7; exact ⟨fun _ => rfl, fun _ => h7⟩
  | some d =>
    rw [hd] at h7
    obtain ⟨da, fs, ls, a1, _⟩ := h7
    rw [a1]
    exact ⟨fun e => (by cases e), fun e => (by cases e)⟩
theorem k_reqDraft (h : GR κ B bd σ ω t g c A) (hT : KT κ) : f_X3_requireDraft κ F (some g) σ = some (if isDr A then (.inl ()) else .inr "java/lang/IllegalStateException", if isDr A then σ else gthr σ) := by
  rw [f_X3_requireDraft, f_X3_requireDraft_0, k_f6 h, gB1_s]
  cases hd : isDr A with
  | false =>
    rw [if_pos ((k_drn h).mpr hd), f_X3_requireDraft_12, k_reqState hT (b := false) (i := 27) (x := 0) (by decide) (by decide) rfl]
    rfl
  | true =>
    rw [if_neg (fun e => by rw [(k_drn h).mp e] at hd; cases hd), f_X3_requireDraft_12, k_reqState hT (b := true) (i := 27) (x := 1) (by decide) (by decide) rfl]
    rfl
theorem k_reqOpen (h : GR κ B bd σ ω t g c A) (hT : KT κ) {k : Nat} (hk : k < 4) : f_X3_requireOpen κ F (some g) (Int32.ofNat k) σ = some (if (aRd A k).isSome then (.inl ()) else .inr "java/lang/IllegalStateException", if (aRd A k).isSome then σ else gthr σ) := by
  obtain ⟨r1, r2⟩ := k_rd h hk
  rw [f_X3_requireOpen, f_X3_requireOpen_0, k_f5 h, gB1_s]
  cases hd : aRd A k with
  | none =>
    rw [r1 hd, gB1_s, if_pos rfl, f_X3_requireOpen_14, k_reqState hT (b := false) (i := 35) (x := 0) (by decide) (by decide) rfl]
    rfl
  | some q =>
    obtain ⟨a, a1, a2⟩ := r2 q hd
    rw [a1, gB1_s, if_neg (by simp), f_X3_requireOpen_14, k_reqState hT (b := true) (i := 35) (x := 1) (by decide) (by decide) rfl]
    rfl
/-- the draft's cells -/
theorem k_dr (h : GR κ B bd σ ω t g c A) {d : aD} (hd : aDr A = some d) : ∃ da fs ls, c_dr c = some da ∧ oc κ σ ω (t + 10) da (.inr (6, [.ref fs, .ref ls, .int (Int32.ofNat d.2.2)])) ∧ GSet κ B σ ω (t + 11) (t + 2) fs d.1 ∧ GSet κ B σ ω (t + 11) (t + 3) ls d.2.1 := by
  have h7 := h.2.2.2.2.2.2.1
  unfold GDr at h7
  rw [hd] at h7
  exact h7
theorem k_drI {a fs ls : Nat} {x : Int32} (h : oc κ σ ω t a (.inr (6, [.ref fs, .ref ls, .int x]))) : gck σ (some a) 6 = some () ∧ gfR σ (some a) 6 0 = some (some fs) ∧ gfR σ (some a) 6 1 = some (some ls) ∧ gfI σ (some a) 6 2 = some x := by
  rw [gck_u, gfR_u, gfR_u, gfI_u, h.1]
  exact ⟨rfl, rfl, rfl, rfl⟩
theorem set_ck {m s : Nat} (h : oc κ σ ω t s (.inr (12, [.ref m]))) : gck σ (some s) 12 = some () := by rw [gck_u, h.1]; rfl
/-- is a bed in a set -/
theorem k_isNew {da fs ls : Nat} {x : Int32} {b : Nat} {p : Nat → Bool} {u t2 : Nat} (hB : BD κ B bd σ ω) (hF : 64 ≤ F) (hda : oc κ σ ω t da (.inr (6, [.ref fs, .ref ls, .int x]))) (hs : GSet κ B σ ω u t2 fs p) (hb : b < 32) (hbase : κ.1 ≤ σ.2.1) :
    ∃ σ', f_X7_isNew κ F (some da) (Int32.ofNat b) σ = some (if p b then 1 else 0, σ') ∧ ext nT 1 1 σ ω σ' ω := by
  obtain ⟨m, L, s1, s2, s3⟩ := hs
  have i := k_drI hda
  have e1 : ext nT 1 1 σ ω (gpush σ (.inr (1, g0_X2)) 1) ω := ext_push nT σ ω _ _
  have e2 : ext nT 1 1 σ ω (gup (gpush σ (.inr (1, g0_X2)) 1) σ.2.1 (.inr (1, [.int (Int32.ofNat b)]))) ω := ext_gup (fun hb => absurd hb (Nat.lt_irrefl _)) e1
  have hcell : (gpush σ (.inr (1, g0_X2)) 1).1 σ.2.1 = some (.inr (1, g0_X2)) := gpush_at _ _ _
  have hpf : gpf κ (gpush σ (.inr (1, g0_X2)) 1) (some σ.2.1) 1 0 (.int (Int32.ofNat b)) = some (gup (gpush σ (.inr (1, g0_X2)) 1) σ.2.1 (.inr (1, [.int (Int32.ofNat b)]))) := by
    rw [gpf_u, hcell]
    exact gpf9_s (by decide) hbase
  have s1' := oc_mv s1 e2 (fun h => h)
  have s2' := LM_mv s2 e2 (fun h => h) (fun h => h)
  have hB' := BD_n hB e2
  refine ⟨_, ?_, e2⟩
  rw [f_X7_isNew, f_X7_isNew_0, i.2.1, gB1_s, gnw, gB2_s, gsm_s, gB1_s, f_X2_init, f_X2_init_0, gsm_s, gB1_s, hpf, gB1_s, gB2_s, set_ck s1', gB1_s, p_contains hF hB'.1 s1'.1 s2' (gup_at _ _ _) hb, gB2_s, s3 b hb]
  cases p b with
  | true => rw [if_pos rfl, gok_z1, gB1_s]
  | false => rw [if_neg (by decide), gok_z0, gB1_s]
theorem isDr_true {d : aD} (h : aDr A = some d) : isDr A = true := by unfold isDr; rw [h]; rfl
theorem k_drafted {n : Nat} (h : GR κ B bd σ ω t g c A) (hB : BD κ B bd σ ω) (hT : KT κ) (hF : 64 ≤ F) (hw : WF n A) (key : Int32) : f_X3_drafted κ F (some g) key σ = some (if isDr A then .inl (valBy A (drD A) key) else .inr "java/lang/IllegalStateException", if isDr A then σ else gthr σ) := by
  rw [f_X3_drafted, f_X3_drafted_0, k_ck h, gB1_s, k_reqDraft h hT]
  cases hd : isDr A with
  | false => rfl
  | true =>
    obtain ⟨d, hd2⟩ := isDr_d hd
    obtain ⟨da, fs, ls, c1, c2, c3, c4⟩ := k_dr h hd2
    have i := k_drI c2
    rw [if_pos rfl, if_pos rfl, gB3_l, k_f6 h, c1, gB1_s, i.2.2.2, gB1_s, k_ck h, gB1_s, k_valueBy h hB hF (WF_vdr hw hd2), gB2_s, drD_d hd2]
    rfl
theorem k_get {n : Nat} (h : GR κ B bd σ ω t g c A) (hB : BD κ B bd σ ω) (hF : 64 ≤ F) (hw : WF n A) (key : Int32) : f_X3_get κ F (some g) key σ = some (valBy A (nowD A) key, σ) := by
  rw [f_X3_get, f_X3_get_0, k_ck h, gB1_s, k_now h, gB2_s, k_nowD h hw.1.1, gB1_s, k_ck h, gB1_s, k_valueBy h hB hF (WF_vnow hw), gB2_s]
theorem k_entry26 (h : GR κ B bd σ ω t g c A) (hB : BD κ B bd σ ω) (hF : 64 ≤ F) {d la : Nat} (hV : okV A d) {w : Nat} (hw : w < 4) (d3 : ∀ i, i < (dirL A d).length → gaI σ (some la) 0 (Int32.ofNat i) = some (Int32.ofNat ((dirL A d).getD i 0))) : ∀ (D2 D1 : List Nat) (fuel left : Nat), dirL A d = D1 ++ D2 → D2.length < fuel → left < 1000 → f_X3_entryValue_26 κ F fuel (some g) (Int32.ofNat w) (Int32.ofNat left) (some la) (Int32.ofNat (dirL A d).length) (Int32.ofNat D1.length) σ = some (entry A D2 left w, σ)
  | [], D1, fuel, left, hl, hf, _ => by
    obtain ⟨f, rfl⟩ : ∃ f, fuel = f + 1 := ⟨fuel - 1, by omega⟩
    rw [List.append_nil] at hl
    rw [f_X3_entryValue_26, f_X3_entryValue_26b, hl, if_pos (Int32.le_refl _)]
    rfl
  | x :: D2, D1, fuel, left, hl, hf, hleft => by
    obtain ⟨f, rfl⟩ : ∃ f, fuel = f + 1 := ⟨fuel - 1, by omega⟩
    have hlen : (dirL A d).length = D1.length + (D2.length + 1) := by rw [hl, List.length_append, List.length_cons]
    have h6 := hV.2.1
    have hg : (dirL A d).getD D1.length 0 = x := by rw [hl, List.getD_eq_getElem?_getD, List.getElem?_append_right (Nat.le_refl _), Nat.sub_self]; rfl
    have hm : x ∈ dirL A d := by rw [hl]; exact List.mem_append_right _ List.mem_cons_self
    obtain ⟨b1, b2, b3, b4⟩ := okL_len hV.1 hm
    have hok := hV.2.2 x hm
    have hok4 := hok.2.1
    obtain ⟨e, e1, e2⟩ := k_leaf (F := F) h hB hF b1 b2 b3
    obtain ⟨ka, va, l1, l2, l3, l4, l5, l6⟩ := PG_leaf e2 (by omega)
    have hsz : f_X9_size κ F (some e) σ = some (Int32.ofNat (leafL A x).length, σ) := by rw [f_X9_size, f_X9_size_0, l1, gB1_s, l3, gB1_s]
    rw [f_X3_entryValue_26, f_X3_entryValue_26b, if_neg (by rw [i3_le (by omega) (by omega)]; omega), d3 _ (by omega), gB1_s, hg, k_ck h, gB1_s, e1, gB2_s, l6, gB1_s, hsz, gB2_s, entry]
    by_cases cl : left < (leafL A x).length
    · rw [if_pos cl, if_neg (by rw [i3_le (by omega) (by omega)]; omega)]
      match w, hw with
      | 0, _ => rw [if_pos (by decide), l1, gB1_s, (l5 left cl).1, gB1_s, f_X3_entryValue_97]; rfl
      | 1, _ => rw [if_neg (by decide), if_pos (by decide), l2, gB1_s, (l5 left cl).2, gB1_s, f_X3_entryValue_97]; rfl
      | 2, _ => rw [if_neg (by decide), if_neg (by decide), if_pos (by decide), f_X3_entryValue_97]; rfl
      | 3, _ => rw [if_neg (by decide), if_neg (by decide), if_neg (by decide), f_X3_entryValue_97]; rfl
    · rw [if_neg cl, if_pos ((i3_le (by omega) (by omega)).mpr (by omega)), l6, gB1_s, hsz, gB2_s, i3_sub (by omega), i3_s]
      have ih := k_entry26 h hB hF hV hw d3 D2 (D1 ++ [x]) f (left - (leafL A x).length) (by rw [hl, List.append_assoc]; rfl) (by simpa using hf) (by omega)
      rw [List.length_append, List.length_singleton] at ih
      exact ih
theorem k_entryValue {n : Nat} (h : GR κ B bd σ ω t g c A) (hB : BD κ B bd σ ω) (hF : 64 ≤ F) (hw : WF n A) {k w : Nat} (hw4 : w < 4) (hk : k < 1000) : f_X3_entryValue κ F (some g) (Int32.ofNat k) (Int32.ofNat w) σ = some (entry A (dirL A (nowD A)) k w, σ) := by
  have hV := WF_vnow hw
  have h6 := hV.2.1
  obtain ⟨a, a1, a2⟩ := k_directory (F := F) h hB hF hV.1.1 hV.1.2.1 hV.1.2.2.1
  obtain ⟨la, d1, d2, d3, d4⟩ := PG_dir a2 (by omega)
  rw [f_X3_entryValue, f_X3_entryValue_0, k_ck h, gB1_s, k_now h, gB2_s, k_nowD h hw.1.1, gB1_s, k_ck h, gB1_s, a1, gB2_s, d1, gB1_s, d2, gB1_s]
  exact k_entry26 (F := F) h hB hF hV hw4 d3 (dirL A (nowD A)) [] F k rfl (by omega) hk
theorem k_rootValue (h : GR κ B bd σ ω t g c A) {r w : Nat} (hr : r < 2) (hw : w < 4) : f_X3_rootValue κ F (some g) (Int32.ofNat r) (Int32.ofNat w) σ = some (vRoot A r w, σ) := by
  have rc := k_rcI (k_rc h hr)
  have hc := cur2 A
  rw [f_X3_rootValue, f_X3_rootValue_0, k_f4 h, gB1_s, k_rt h hr, gB1_s]
  match w, hw with
  | 0, _ => rw [if_pos (by decide), rc.1, gB1_s, f_X3_rootValue_78]; rfl
  | 1, _ => rw [if_neg (by decide), if_pos (by decide), rc.2.1, gB1_s, f_X3_rootValue_78]; rfl
  | 2, _ =>
    rw [if_neg (by decide), if_neg (by decide), if_pos (by decide), rc.2.2, gB1_s]
    show _ = some (if (aRt A r).2.2 then 1 else 0, σ)
    cases (aRt A r).2.2 with
    | true => rfl
    | false => rfl
  | 3, _ =>
    rw [if_neg (by decide), if_neg (by decide), if_neg (by decide), k_ck h, gB1_s, k_current h, gB2_s]
    show _ = some (if cur A = r then 1 else 0, σ)
    by_cases e : cur A = r
    · rw [if_pos e, if_pos (by rw [e]), f_X3_rootValue_78]
    · rw [if_neg e, if_neg (fun e2 => e ((i3_inj (by omega) (by omega)).mp e2).symm), f_X3_rootValue_78]
theorem k_readerValue {n : Nat} (h : GR κ B bd σ ω t g c A) (hB : BD κ B bd σ ω) (hF : 64 ≤ F) (hw : WF n A) {k w : Nat} (hk : k < 4) (hw3 : w < 3) : ∃ σ', f_X3_readerValue κ F (some g) (Int32.ofNat k) (Int32.ofNat w) σ = some (vReader A k w, σ') ∧ ext nT 1 8 σ ω σ' ω := by
  obtain ⟨r1, r2⟩ := k_rd h hk
  unfold vReader
  rw [f_X3_readerValue, f_X3_readerValue_0, k_f5 h, gB1_s]
  cases hd : aRd A k with
  | none =>
    rw [r1 hd, gB1_s]
    refine ⟨gnpe σ, ?_, npe_ext σ ω⟩
    match w, hw3 with
    | 0, _ => rw [if_pos (by decide), if_pos rfl, f_X3_readerValue_39]
    | 1, _ => rw [if_neg (by decide), if_pos (by decide), if_pos rfl, f_X3_readerValue_39]
    | 2, _ => rw [if_neg (by decide), if_neg (by decide), if_pos rfl, f_X3_readerValue_39]
  | some q =>
    obtain ⟨a, a1, a2⟩ := r2 q hd
    have f0 : gfI σ (some a) 5 0 = some q.1 := by rw [gfI_u, a2.1]; rfl
    have f1 : gfI σ (some a) 5 1 = some (Int32.ofNat q.2) := by rw [gfI_u, a2.1]; rfl
    rw [a1, gB1_s]
    refine ⟨σ, ?_, nT_le (nT_refl σ ω) (by omega) (by omega)⟩
    match w, hw3 with
    | 0, _ => rw [if_pos (by decide), if_neg (by simp), f0, gB1_s, f_X3_readerValue_38]; rfl
    | 1, _ => rw [if_neg (by decide), if_pos (by decide), if_neg (by simp), f1, gB1_s, f_X3_readerValue_38]; rfl
    | 2, _ => rw [if_neg (by decide), if_neg (by decide), if_neg (by simp), f1, gB1_s, k_ck h, gB1_s, k_entriesBy h hB hF (WF_vrd hw hk hd), gB2_s, f_X3_readerValue_38]; rfl
theorem k_open13 (h : GR κ B bd σ ω t g c A) : ∀ (d fuel k : Nat), k + d = 4 → d < fuel → f_X3_openReaders_13 κ F fuel (Int32.ofNat (cnt (fun k => (aRd A k).isSome) k)) (some (c_rd c)) (4 : Int32) (Int32.ofNat k) σ = some (Int32.ofNat (opens A), σ)
  | 0, fuel, k, hk, hf => by
    obtain ⟨f, rfl⟩ : ∃ f, fuel = f + 1 := ⟨fuel - 1, by omega⟩
    have hk : k = 4 := by omega
    subst hk
    rw [f_X3_openReaders_13, f_X3_openReaders_13b, if_pos (by decide)]
    rfl
  | d + 1, fuel, k, hk, hf => by
    obtain ⟨f, rfl⟩ : ∃ f, fuel = f + 1 := ⟨fuel - 1, by omega⟩
    have c4 : ¬ ((4 : Int32) ≤ Int32.ofNat k) := by rw [L4, i3_le (by omega) (by omega)]; omega
    have ih := k_open13 h d f (k + 1) (by omega) (by omega)
    obtain ⟨r1, r2⟩ := k_rd h (k := k) (by omega)
    rw [cnt_s] at ih
    rw [f_X3_openReaders_13, f_X3_openReaders_13b, if_neg c4]
    cases hd : aRd A k with
    | none =>
      rw [hd] at ih
      rw [r1 hd, gB1_s, if_pos rfl, f_X3_openReaders_36, i3_s, Int32.add_zero]
      exact ih
    | some q =>
      obtain ⟨a, a1, a2⟩ := r2 q hd
      rw [hd] at ih
      rw [a1, gB1_s, if_neg (by simp), f_X3_openReaders_36, i3_s, i3_s]
      exact ih
theorem k_openReaders (h : GR κ B bd σ ω t g c A) (hF : 64 ≤ F) : f_X3_openReaders κ F (some g) σ = some (Int32.ofNat (opens A), σ) := by
  have hl : gal σ (some (c_rd c)) = some (4 : Int32) := by obtain ⟨f, h1, h2⟩ := h.2.2.2.2.1; rw [gal_u, h1.1]; exact gal9_s _ _ _ (by omega)
  rw [f_X3_openReaders, f_X3_openReaders_0, k_f5 h, gB1_s, hl, gB1_s]
  exact k_open13 (F := F) h 4 F 0 (by omega) (by omega)
theorem k_sum54 {k23 : Option Nat → Int32 → Option Nat → Int32 → Int32 → gS → Option (Int32 × gS)} {e va : Nat} {l : List (Int32 × Int32)} {L0 : Option Nat} {l3 l4 : Int32} (l5 : ∀ i, i < l.length → gaI σ (some va) 0 (Int32.ofNat i) = some (l.getD i (0, 0)).2) (hl : l.length < 1000) : ∀ (d fuel k : Nat) (acc : Int32), k + d = l.length → d < fuel → f_X3_sumOfValues_54 κ F k23 fuel (some g) acc L0 l3 l4 (some va) (Int32.ofNat l.length) (Int32.ofNat k) σ = k23 (some g) (((l.map Prod.snd).drop k).foldl (· + ·) acc) L0 l3 (l4 + (1 : Int32)) σ
  | 0, fuel, k, acc, hk, hf => by
    obtain ⟨f, rfl⟩ : ∃ f, fuel = f + 1 := ⟨fuel - 1, by omega⟩
    have hk : k = l.length := by omega
    rw [f_X3_sumOfValues_54, f_X3_sumOfValues_54b, hk, if_pos (Int32.le_refl _), List.drop_of_length_le (by rw [List.length_map]; exact Nat.le_refl _)]
    rfl
  | d + 1, fuel, k, acc, hk, hf => by
    obtain ⟨f, rfl⟩ : ∃ f, fuel = f + 1 := ⟨fuel - 1, by omega⟩
    have ih := k_sum54 (k23 := k23) (e := e) (L0 := L0) (l3 := l3) (l4 := l4) l5 hl d f (k + 1) (acc + (l.getD k (0, 0)).2) (by omega) (by omega)
    rw [f_X3_sumOfValues_54, f_X3_sumOfValues_54b, if_neg (by rw [i3_le (by omega) (by omega)]; omega), l5 k (by omega), gB1_s, i3_s]
    rw [ih, List.drop_eq_getElem_cons (i := k) (by rw [List.length_map]; omega), List.foldl_cons, List.getElem_map, ← getD_get (x := (0, 0)) (by omega)]
theorem k_sum23 (h : GR κ B bd σ ω t g c A) (hB : BD κ B bd σ ω) (hF : 64 ≤ F) {d la : Nat} (hV : okV A d) (d3 : ∀ i, i < (dirL A d).length → gaI σ (some la) 0 (Int32.ofNat i) = some (Int32.ofNat ((dirL A d).getD i 0))) : ∀ (D2 D1 : List Nat) (fuel : Nat) (acc : Int32), dirL A d = D1 ++ D2 → D2.length < fuel → f_X3_sumOfValues_23 κ F fuel (some g) acc (some la) (Int32.ofNat (dirL A d).length) (Int32.ofNat D1.length) σ = some ((valsL A D2).foldl (· + ·) acc, σ)
  | [], D1, fuel, acc, hl, hf => by
    obtain ⟨f, rfl⟩ : ∃ f, fuel = f + 1 := ⟨fuel - 1, by omega⟩
    rw [List.append_nil] at hl
    rw [f_X3_sumOfValues_23, f_X3_sumOfValues_23b, hl, if_pos (Int32.le_refl _)]
    rfl
  | x :: D2, D1, fuel, acc, hl, hf => by
    obtain ⟨f, rfl⟩ : ∃ f, fuel = f + 1 := ⟨fuel - 1, by omega⟩
    have hlen : (dirL A d).length = D1.length + (D2.length + 1) := by rw [hl, List.length_append, List.length_cons]
    have h6 := hV.2.1
    have hg : (dirL A d).getD D1.length 0 = x := by rw [hl, List.getD_eq_getElem?_getD, List.getElem?_append_right (Nat.le_refl _), Nat.sub_self]; rfl
    have hm : x ∈ dirL A d := by rw [hl]; exact List.mem_append_right _ List.mem_cons_self
    obtain ⟨b1, b2, b3, b4⟩ := okL_len hV.1 hm
    have hok4 := (hV.2.2 x hm).2.1
    obtain ⟨e, e1, e2⟩ := k_leaf (F := F) h hB hF b1 b2 b3
    obtain ⟨ka, va, l1, l2, l3, l4, l5, l6⟩ := PG_leaf e2 (by omega)
    have s54 := k_sum54 (κ := κ) (F := F) (σ := σ) (g := g) (k23 := f_X3_sumOfValues_23 κ F f) (e := e) (va := va) (l := leafL A x) (L0 := some la) (l3 := Int32.ofNat (dirL A d).length) (l4 := Int32.ofNat D1.length) (fun i hi => (l5 i hi).2) (by omega) (leafL A x).length F 0 acc (by omega) (by omega)
    have ih := k_sum23 h hB hF hV d3 D2 (D1 ++ [x]) f (((leafL A x).map Prod.snd).foldl (· + ·) acc) (by rw [hl, List.append_assoc]; rfl) (by simpa using hf)
    rw [List.length_append, List.length_singleton] at ih
    rw [f_X3_sumOfValues_23, f_X3_sumOfValues_23b, if_neg (by rw [i3_le (by omega) (by omega)]; omega), d3 _ (by omega), gB1_s, hg, k_ck h, gB1_s, e1, gB2_s, l2, gB1_s, l4, gB1_s]
    refine s54.trans ?_
    rw [List.drop_zero, i3_s, valsL_cons, List.foldl_append]
    exact ih
theorem k_sumOfValues {n : Nat} (h : GR κ B bd σ ω t g c A) (hB : BD κ B bd σ ω) (hF : 64 ≤ F) (hw : WF n A) : f_X3_sumOfValues κ F (some g) σ = some (sumV A (dirL A (nowD A)), σ) := by
  have hV := WF_vnow hw
  have h6 := hV.2.1
  obtain ⟨a, a1, a2⟩ := k_directory (F := F) h hB hF hV.1.1 hV.1.2.1 hV.1.2.2.1
  obtain ⟨la, d1, d2, d3, d4⟩ := PG_dir a2 (by omega)
  rw [f_X3_sumOfValues, f_X3_sumOfValues_0, k_ck h, gB1_s, k_now h, gB2_s, k_nowD h hw.1.1, gB1_s, k_ck h, gB1_s, a1, gB2_s, d1, gB1_s, d2, gB1_s]
  exact k_sum23 (F := F) h hB hF hV d3 (dirL A (nowD A)) [] F 0 rfl (by omega)
theorem f_hold_eq (hK : KS κ) {s : Nat} (hs : s < 3) (σ : gS) : f_hold κ F (κ.2 s) σ = some (if s = 0 then 0 else 1, σ) := by
  unfold f_hold
  match s, hs with
  | 0, _ => rw [if_pos rfl]; rfl
  | 1, _ => rw [if_neg (fun e => hK.1 e.symm), if_pos rfl]; rfl
  | 2, _ => rw [if_neg (fun e => hK.2.1 e.symm), if_neg (fun e => hK.2.2 e.symm), if_pos rfl]; rfl
theorem f_ord_eq (hK : KS κ) {s : Nat} (hs : s < 3) (σ : gS) : f_ord κ F (κ.2 s) σ = some (Int32.ofNat s, σ) := by
  unfold f_ord
  match s, hs with
  | 0, _ => rw [if_pos rfl]; rfl
  | 1, _ => rw [if_neg (fun e => hK.1 e.symm), if_pos rfl]; rfl
  | 2, _ => rw [if_neg (fun e => hK.2.1 e.symm), if_neg (fun e => hK.2.2 e.symm), if_pos rfl]; rfl
theorem pkind_eq {a : Nat} {p : Pg} (hp : PG κ σ ω a p) : f_pkind κ F (some a) σ = some (pKind p, σ) := by
  unfold f_pkind
  cases p with
  | inl l =>
    obtain ⟨ka, va, fk, fv, h1, _⟩ := hp
    have : gck σ (some a) 2 = some () := by rw [gck_u, h1.1]; rfl
    rw [this]
    rfl
  | inr D =>
    obtain ⟨la, f, h1, _⟩ := hp
    have e1 : gck σ (some a) 2 = none := by rw [gck_u, h1.1]; rfl
    have e2 : gck σ (some a) 3 = some () := by rw [gck_u, h1.1]; rfl
    rw [e1]
    simp only
    rw [e2, gB1_s]
    rfl
end C
