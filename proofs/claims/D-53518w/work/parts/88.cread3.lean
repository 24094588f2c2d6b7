/-! the component: sizes, beds for a put, beds' values -/
theorem cnt_one {f g : Nat → Bool} {x : Nat} : ∀ {n : Nat}, x < n → f x = false → g x = true → (∀ b, b ≠ x → g b = f b) → cnt g n = cnt f n + 1
  | 0, h, _, _, _ => absurd h (Nat.not_lt_zero _)
  | n + 1, h, h1, h2, h3 => by
    rw [cnt_s, cnt_s]
    by_cases e : x = n
    · subst e
      have : cnt g x = cnt f x := Nat.le_antisymm (cnt_le2 x (fun b hb hg => by rw [← h3 b (by omega)]; exact hg)) (cnt_le2 x (fun b hb hg => by rw [h3 b (by omega)]; exact hg))
      rw [this, h1, h2]
      simp
    · rw [cnt_one (n := n) (by omega) h1 h2 h3, h3 n (fun e2 => e e2.symm)]
      omega
theorem cnt_mem : ∀ (l : List Nat) (n : Nat), l.Nodup → (∀ x ∈ l, x < n) → cnt (fun b => decide (b ∈ l)) n = l.length
  | [], n, _, _ => by
    have : ∀ n, cnt (fun b => decide (b ∈ ([] : List Nat))) n = 0 := fun n => by
      induction n with
      | zero => rfl
      | succ n ih => rw [cnt_s, ih]; simp
    exact this n
  | x :: l, n, hn, hl => by
    rw [List.nodup_cons] at hn
    have ih := cnt_mem l n hn.2 (fun y hy => hl y (List.mem_cons_of_mem _ hy))
    rw [List.length_cons, ← ih]
    exact cnt_one (hl x List.mem_cons_self) (decide_eq_false hn.1) (decide_eq_true List.mem_cons_self) (fun b hb => by simp [hb])
theorem cnt_congr {f g : Nat → Bool} (n : Nat) (h : ∀ b, b < n → f b = g b) : cnt f n = cnt g n :=
  Nat.le_antisymm (cnt_le2 n (fun b hb hf => by rw [← h b hb]; exact hf)) (cnt_le2 n (fun b hb hf => by rw [h b hb]; exact hf))
theorem EnX_lt {κ : gK} {B : Nat → Nat} {σ : gS} {ω : Nat → Nat} {t : Nat} {nx : mE → List mE → Option Nat} : ∀ {L : List mE} {pre : Option Nat}, EnX κ B σ ω t nx pre L → ∀ x ∈ L, x.2.1 < 32
  | [], _, _, x, hx => by cases hx
  | y :: L, pre, h, x, hx => by
    rcases List.mem_cons.mp hx with rfl | hx
    · exact h.2.1
    · exact EnX_lt h.2.2 x hx
theorem fnd_mem {L : List mE} {b : Nat} : (fnd b L).isSome = decide (b ∈ kys L) := by
  cases hf : fnd b L with
  | none =>
    have h := fnd_none.mp hf
    symm
    refine decide_eq_false (fun hm => ?_)
    unfold kys at hm
    obtain ⟨x, hx, rfl⟩ := List.mem_map.mp hm
    exact h x hx rfl
  | some x =>
    symm
    refine decide_eq_true ?_
    obtain ⟨A, C, e1, e2, e3⟩ := fnd_split hf
    unfold kys
    rw [e1]
    exact List.mem_map.mpr ⟨x, List.mem_append_right _ List.mem_cons_self, e2⟩
theorem LM_cnt {κ : gK} {B : Nat → Nat} {σ : gS} {ω : Nat → Nat} {t m : Nat} {L : List mE} {p : Nat → Bool} (h : LM κ B σ ω t m L) (hp : ∀ b, b < 32 → (fnd b L).isSome = p b) : L.length = cnt p 32 := by
  obtain ⟨tb, ks, md, th, n, h1, h2, h3, h4, h5, h6⟩ := h
  have h7 := cnt_mem (kys L) 32 h5 (fun x hx => by
    unfold kys at hx
    obtain ⟨y, hy, rfl⟩ := List.mem_map.mp hx
    exact EnX_lt h4 y hy)
  have h8 : (kys L).length = L.length := by unfold kys; exact List.length_map _
  rw [← h8, ← h7]
  exact cnt_congr 32 (fun b hb => by rw [← hp b hb, fnd_mem])
section C
variable {κ : gK} {B : Nat → Nat} {bd : Nat} {F : Nat} {σ : gS} {ω : Nat → Nat} {t g : Nat} {c : gA} {A : aG}
theorem k_ssize {u s : Nat} {p : Nat → Bool} (h : GSet κ B σ ω u t s p) : gck σ (some s) 12 = some () ∧ f_J27_size κ F (some s) σ = some (Int32.ofNat (cnt p 32), σ) := by
  obtain ⟨m, L, s1, s2, s3⟩ := h
  exact ⟨set_ck s1, by rw [p_ssize s1.1 s2, LM_cnt s2 s3]⟩
theorem k_base (h : GR κ B bd σ ω t g c A) : κ.1 ≤ σ.2.1 := by
  have h1 := h.1.2.1
  have h2 := h.1.2.2.2
  omega
theorem WF_dirnew {n : Nat} (hw : WF n A) {d : aD} (hd : aDr A = some d) : d.1 d.2.2 = anyNew A := by
  obtain ⟨D, a1, _⟩ := WF_d hw hd
  cases ha : anyNew A with
  | true => exact (hw.2 d hd).2.2.1 ha
  | false => exact any_not hd ha a1
theorem k_bedValue (h : GR κ B bd σ ω t g c A) (hB : BD κ B bd σ ω) (hK : KS κ) (hF : 64 ≤ F) {b w : Nat} (hb : b < 32) (hw : w < 6) : ∃ σ', f_X3_bedValue κ F (some g) (Int32.ofNat b) (Int32.ofNat w) σ = some (vBed A b w, σ') ∧ ext nT 1 1 σ ω σ' ω := by
  have h3 := h.2.2.2.2.2.2.2 b hb
  rw [f_X3_bedValue, f_X3_bedValue_0, k_f1 h, gB1_s, k_st h hb, gB1_s]
  have id : ext nT 1 1 σ ω σ ω := nT_le (nT_refl σ ω) (by omega) (by omega)
  match w, hw with
  | 0, _ =>
    rw [if_pos (by decide), f_ord_eq hK h3, gB2_s, f_X3_bedValue_168]
    exact ⟨σ, rfl, id⟩
  | 1, _ =>
    rw [if_neg (by decide), if_pos (by decide), f_hold_eq hK h3, gB2_s]
    refine ⟨σ, ?_, id⟩
    show _ = some (if aSt A b = 0 then -1000 else pKind (aPg A b), σ)
    by_cases e : aSt A b = 0
    · rw [if_pos e, if_pos rfl, if_pos e, f_X3_bedValue_168]
    · obtain ⟨a, a1, a2⟩ := k_page (F := F) h hB hF hb e
      rw [if_neg e, if_neg (by decide), if_neg e, k_ck h, gB1_s, a1, gB2_s, pkind_eq a2, gB2_s, f_X3_bedValue_168]
  | 2, _ =>
    rw [if_neg (by decide), if_neg (by decide), if_pos (by decide), f_hold_eq hK h3, gB2_s]
    refine ⟨σ, ?_, id⟩
    show _ = some (if aSt A b = 0 then -1000 else Int32.ofNat (pSize (aPg A b)), σ)
    by_cases e : aSt A b = 0
    · rw [if_pos e, if_pos rfl, if_pos e, f_X3_bedValue_168]
    · obtain ⟨a, a1, a2⟩ := k_page (F := F) h hB hF hb e
      rw [if_neg e, if_neg (by decide), if_neg e, k_ck h, gB1_s, a1, gB2_s]
      cases hp : aPg A b with
      | inl l =>
        rw [hp] at a2
        unfold f_psize
        obtain ⟨ka, va, fk, fv, g1, g2, g3, g4⟩ := a2
        have e1 : gck σ (some a) 2 = some () := by rw [gck_u, g1.1]; rfl
        have e2 : gfR σ (some a) 2 0 = some (some ka) := by rw [gfR_u, g1.1]; rfl
        have e3 : gal σ (some ka) = some (Int32.ofNat l.length) := by rw [gal_u, g2.1]; exact gal9_s _ _ _ (by omega)
        rw [e1]
        simp only
        rw [f_X9_size, f_X9_size_0, e2, gB1_s, e3, gB1_s, gB2_s, f_X3_bedValue_168]
        rfl
      | inr D =>
        rw [hp] at a2
        unfold f_psize
        obtain ⟨la, f, g1, g2, g3⟩ := a2
        have e1 : gck σ (some a) 2 = none := by rw [gck_u, g1.1]; rfl
        have e4 : gck σ (some a) 3 = some () := by rw [gck_u, g1.1]; rfl
        have e2 : gfR σ (some a) 3 0 = some (some la) := by rw [gfR_u, g1.1]; rfl
        have e3 : gal σ (some la) = some (Int32.ofNat D.length) := by rw [gal_u, g2.1]; exact gal9_s _ _ _ (by omega)
        rw [e1]
        simp only
        rw [e4, gB1_s, f_X5_size, f_X5_size_0, e2, gB1_s, e3, gB1_s, gB2_s, f_X3_bedValue_168]
        rfl
  | 3, _ =>
    rw [if_neg (by decide), if_neg (by decide), if_neg (by decide), if_pos (by decide)]
    refine ⟨σ, ?_, id⟩
    show _ = some (if aSt A b = 2 then aFw A b else -1000, σ)
    by_cases e : aSt A b = 2
    · rw [if_pos ((KS_eq hK h3 (show 2 < 3 by decide)).mpr e), if_pos e, k_f3 h, gB1_s, k_fw h hb, gB1_s, f_X3_bedValue_168]
    · rw [if_neg (fun e2 => e ((KS_eq hK h3 (show 2 < 3 by decide)).mp e2)), if_neg e, f_X3_bedValue_168]
  | 4, _ =>
    rw [if_neg (by decide), if_neg (by decide), if_neg (by decide), if_neg (by decide), if_pos (by decide), k_ck h, gB1_s, k_needed h (by omega), gB2_s, k_ck h, gB1_s, k_canBeDug h hK hb, gB2_s]
    refine ⟨σ, ?_, id⟩
    show _ = some (if digg A b then 1 else 0, σ)
    cases digg A b with
    | true => rfl
    | false => rfl
  | 5, _ =>
    rw [if_neg (by decide), if_neg (by decide), if_neg (by decide), if_neg (by decide), if_neg (by decide), k_f6 h, gB1_s]
    show ∃ σ', _ = some (if isNew A b then 1 else 0, σ') ∧ _
    cases hd : aDr A with
    | none =>
      have hn : c_dr c = none := (k_drn h).mpr (by unfold isDr; rw [hd]; rfl)
      rw [if_pos hn, f_X3_bedValue_167, f_X3_bedValue_168]
      refine ⟨σ, ?_, id⟩
      unfold isNew
      rw [hd]
      rfl
    | some d =>
      obtain ⟨da, fs, ls, c1, c2, c3, c4⟩ := k_dr h hd
      obtain ⟨σ', n1, n2⟩ := k_isNew (F := F) hB hF c2 c3 hb (k_base h)
      rw [c1, if_neg (by simp), gB1_s, (k_drI c2).1, gB1_s, n1, gB2_s, isNew_d hd]
      refine ⟨σ', ?_, n2⟩
      cases d.1 b with
      | true => rfl
      | false => rfl
theorem k_value {n : Nat} (h : GR κ B bd σ ω t g c A) (hB : BD κ B bd σ ω) (hK : KS κ) (hF : 64 ≤ F) (hw : WF n A) {w : Nat} (hw14 : w < 14) : f_X3_value κ F (some g) (Int32.ofNat w) σ = some (vTell A w, σ) := by
  have hV := WF_vnow hw
  rw [f_X3_value, f_X3_value_0]
  match w, hw14 with
  | 0, _ => rw [if_pos (by decide), k_ck h, gB1_s, k_inState h hK (by omega) (show 0 < 3 by decide), gB2_s, f_X3_value_231]; rfl
  | 1, _ => rw [if_neg (by decide), if_pos (by decide), k_ck h, gB1_s, k_inState h hK (by omega) (show 1 < 3 by decide), gB2_s, f_X3_value_231]; rfl
  | 2, _ => rw [if_neg (by decide), if_neg (by decide), if_pos (by decide), k_ck h, gB1_s, k_inState h hK (by omega) (show 2 < 3 by decide), gB2_s, f_X3_value_231]; rfl
  | 3, _ => rw [if_neg (by decide), if_neg (by decide), if_neg (by decide), if_pos (by decide), k_ck h, gB1_s, k_diggable h hK (by omega), gB2_s, f_X3_value_231]; rfl
  | 4, _ => rw [if_neg (by decide), if_neg (by decide), if_neg (by decide), if_neg (by decide), if_pos (by decide), k_ck h, gB1_s, k_needed h (by omega), gB2_s, f_X3_value_231]; rfl
  | 5, _ => rw [if_neg (by decide), if_neg (by decide), if_neg (by decide), if_neg (by decide), if_neg (by decide), if_pos (by decide), k_ck h, gB1_s, k_now h, gB2_s, k_nowD h hw.1.1, gB1_s, k_ck h, gB1_s, k_entriesBy h hB hF hV, gB2_s, f_X3_value_231]; rfl
  | 6, _ =>
    obtain ⟨a, a1, a2⟩ := k_directory (F := F) h hB hF hV.1.1 hV.1.2.1 hV.1.2.2.1
    obtain ⟨la, d1, d2, d3, d4⟩ := PG_dir a2 (by have := hV.2.1; omega)
    rw [if_neg (by decide), if_neg (by decide), if_neg (by decide), if_neg (by decide), if_neg (by decide), if_neg (by decide), if_pos (by decide), k_ck h, gB1_s, k_now h, gB2_s, k_nowD h hw.1.1, gB1_s, k_ck h, gB1_s, a1, gB2_s, d4, gB1_s, f_X5_size, f_X5_size_0, d1, gB1_s, d2, gB1_s, gB2_s, f_X3_value_231]; rfl
  | 7, _ => rw [if_neg (by decide), if_neg (by decide), if_neg (by decide), if_neg (by decide), if_neg (by decide), if_neg (by decide), if_neg (by decide), if_pos (by decide), k_ck h, gB1_s, k_openReaders h hF, gB2_s, f_X3_value_231]; rfl
  | 8, _ =>
    rw [if_neg (by decide), if_neg (by decide), if_neg (by decide), if_neg (by decide), if_neg (by decide), if_neg (by decide), if_neg (by decide), if_neg (by decide), if_pos (by decide), k_f6 h, gB1_s]
    show _ = some (if isDr A then 1 else 0, σ)
    cases hd : isDr A with
    | false => rw [if_pos ((k_drn h).mpr hd), f_X3_value_231]; rfl
    | true => rw [if_neg (fun e => by rw [(k_drn h).mp e] at hd; cases hd), f_X3_value_231]; rfl
  | 9, _ =>
    rw [if_neg (by decide), if_neg (by decide), if_neg (by decide), if_neg (by decide), if_neg (by decide), if_neg (by decide), if_neg (by decide), if_neg (by decide), if_neg (by decide), if_pos (by decide), k_f6 h, gB1_s]
    show _ = some (Int32.ofNat (cnt (isNew A) 32), σ)
    cases hd : aDr A with
    | none =>
      have hn : c_dr c = none := (k_drn h).mpr (by unfold isDr; rw [hd]; rfl)
      have h0 : cnt (isNew A) 32 = 0 := by
        rcases Nat.eq_zero_or_pos (cnt (isNew A) 32) with e | e
        · exact e
        · obtain ⟨b, hb, hx⟩ := cnt_pos e
          unfold isNew at hx
          rw [hd] at hx
          cases hx
      rw [if_pos hn, f_X3_value_231, h0]
      rfl
    | some d =>
      obtain ⟨da, fs, ls, c1, c2, c3, c4⟩ := k_dr h hd
      have i := k_drI c2
      obtain ⟨z1, z2⟩ := k_ssize (F := F) c3
      rw [c1, if_neg (by simp), gB1_s, i.2.1, gB1_s, z1, gB1_s, z2, gB2_s, f_X3_value_231]
      have : cnt d.1 32 = cnt (isNew A) 32 := cnt_congr 32 (fun b _ => (isNew_d hd b).symm)
      rw [this]
  | 10, _ =>
    rw [if_neg (by decide), if_neg (by decide), if_neg (by decide), if_neg (by decide), if_neg (by decide), if_neg (by decide), if_neg (by decide), if_neg (by decide), if_neg (by decide), if_neg (by decide), if_pos (by decide), k_f6 h, gB1_s]
    show _ = some (Int32.ofNat (cnt (isLeft A) 32), σ)
    cases hd : aDr A with
    | none =>
      have hn : c_dr c = none := (k_drn h).mpr (by unfold isDr; rw [hd]; rfl)
      have h0 : cnt (isLeft A) 32 = 0 := by
        rcases Nat.eq_zero_or_pos (cnt (isLeft A) 32) with e | e
        · exact e
        · obtain ⟨b, hb, hx⟩ := cnt_pos e
          unfold isLeft at hx
          rw [hd] at hx
          cases hx
      rw [if_pos hn, f_X3_value_231, h0]
      rfl
    | some d =>
      obtain ⟨da, fs, ls, c1, c2, c3, c4⟩ := k_dr h hd
      have i := k_drI c2
      obtain ⟨z1, z2⟩ := k_ssize (F := F) c4
      rw [c1, if_neg (by simp), gB1_s, i.2.2.1, gB1_s, z1, gB1_s, z2, gB2_s, f_X3_value_231]
      have : cnt d.2.1 32 = cnt (isLeft A) 32 := cnt_congr 32 (fun b _ => (isLeft_d hd b).symm)
      rw [this]
  | 11, _ => rw [if_neg (by decide), if_neg (by decide), if_neg (by decide), if_neg (by decide), if_neg (by decide), if_neg (by decide), if_neg (by decide), if_neg (by decide), if_neg (by decide), if_neg (by decide), if_neg (by decide), if_pos (by decide), k_f7 h, gB1_s, f_X3_value_231]; rfl
  | 12, _ => rw [if_neg (by decide), if_neg (by decide), if_neg (by decide), if_neg (by decide), if_neg (by decide), if_neg (by decide), if_neg (by decide), if_neg (by decide), if_neg (by decide), if_neg (by decide), if_neg (by decide), if_neg (by decide), if_pos (by decide), k_f8 h, gB1_s, f_X3_value_231]; rfl
  | 13, _ => rw [if_neg (by decide), if_neg (by decide), if_neg (by decide), if_neg (by decide), if_neg (by decide), if_neg (by decide), if_neg (by decide), if_neg (by decide), if_neg (by decide), if_neg (by decide), if_neg (by decide), if_neg (by decide), if_neg (by decide), k_ck h, gB1_s, k_sumOfValues h hB hF hw, gB2_s, f_X3_value_231]; rfl
/-- whether a put splits a leaf -/
def spl (A : aG) (D : List Nat) (key : Int32) : Bool := !D.isEmpty && ((lkp (leafL A (D.getD (plc A D key D.length) 0)) key).isNone && decide ((leafL A (D.getD (plc A D key D.length) 0)).length = 4))
theorem k_splits (h : GR κ B bd σ ω t g c A) (hB : BD κ B bd σ ω) (hF : 64 ≤ F) {d a : Nat} (hV : okV A d) (hp : PG κ σ ω a (.inr (dirL A d))) (key : Int32) : f_X3_splits κ F (some g) (some a) key σ = some (if spl A (dirL A d) key then 1 else 0, σ) := by
  obtain ⟨hD, h6, hL⟩ := hV
  obtain ⟨la, d1, d2, d3, d4⟩ := PG_dir hp (by omega)
  unfold spl
  rw [f_X3_splits, f_X3_splits_0, d1, gB1_s, d2, gB1_s]
  cases hx : dirL A d with
  | nil => rw [if_pos (by decide), gok_z0, gB1_s]; rfl
  | cons x D' =>
    have hne : (dirL A d).isEmpty = false := by rw [hx]; rfl
    rw [← hx, hne]
    have hlen : 0 < (dirL A d).length := by rw [hx]; simp
    have hpl := plc_lt (A := A) (D := dirL A d) (key := key) _ hlen
    have hm : (dirL A d).getD (plc A (dirL A d) key (dirL A d).length) 0 ∈ dirL A d := getD_mem hpl
    obtain ⟨b1, b2, b3, b4⟩ := okL_len hD hm
    have hok := hL _ hm
    have hok4 := hok.2.1
    obtain ⟨e, e1, e2⟩ := k_leaf (F := F) h hB hF b1 b2 b3
    obtain ⟨ka, va, l1, l2, l3, l4, l5, l6⟩ := PG_leaf e2 (by omega)
    rw [if_neg (show ¬ Int32.ofNat (dirL A d).length = (0 : Int32) from fun e => by have := (i3_inj (b := 0) (by omega) (by omega)).mp e; omega), gB1_s, k_ck h, gB1_s, k_placeOf h hB hF hD h6 (fun b hb => by have := (hL b hb).2.1; omega) hp key, gB2_s, d3 _ hpl, gB1_s, k_ck h, gB1_s, e1, gB2_s, l6, gB1_s, k_has e2 (by omega) hok.2.2 hF, gB2_s]
    generalize leafL A ((dirL A d).getD (plc A (dirL A d) key (dirL A d).length) 0) = l at l3 hok4 ⊢
    cases hk : lkp l key with
    | some i =>
      rw [if_pos (show ((some i : Option Nat).isSome = true) from rfl), if_neg (by decide), f_X3_splits_46, f_X3_splits_47, gok_z0, gB1_s]
      rfl
    | none =>
      rw [if_neg (show ¬ ((none : Option Nat).isSome = true) by decide), if_pos rfl, l6, gB1_s, f_X9_size, f_X9_size_0, l1, gB1_s, l3, gB1_s, gB2_s]
      by_cases c4 : l.length = 4
      · rw [if_pos (show Int32.ofNat l.length = (4 : Int32) from by rw [c4]; rfl), f_X3_splits_47, gok_z1, gB1_s, c4]
        rfl
      · rw [if_neg (show ¬ Int32.ofNat l.length = (4 : Int32) from fun e => c4 ((i3_inj (b := 4) (by omega) (by omega)).mp e)), f_X3_splits_46, f_X3_splits_47, gok_z0, gB1_s, decide_eq_false c4]
        rfl
theorem k_bedsFor {n : Nat} (h : GR κ B bd σ ω t g c A) (hB : BD κ B bd σ ω) (hT : KT κ) (hF : 64 ≤ F) (hw : WF n A) (key : Int32) : ∃ σ', f_X3_bedsFor κ F (some g) key σ = some (if isDr A then .inl (bedsFor A (dirL A (drD A)) key) else .inr "java/lang/IllegalStateException", σ') ∧ ext nT 2 6 σ ω σ' ω := by
  rw [f_X3_bedsFor, f_X3_bedsFor_0, k_ck h, gB1_s, k_reqDraft h hT]
  cases hdr : isDr A with
  | false =>
    exact ⟨gthr σ, rfl, nT_le (thr_ext σ ω) (by omega) (by omega)⟩
  | true =>
    obtain ⟨d, hd⟩ := isDr_d hdr
    have hV := WF_vdr hw hd
    have h6 := hV.2.1
    obtain ⟨da, fs, ls, c1, c2, c3, c4⟩ := k_dr h hd
    have i := k_drI c2
    obtain ⟨a, a1, a2⟩ := k_directory (F := F) h hB hF hV.1.1 hV.1.2.1 hV.1.2.2.1
    obtain ⟨la, d1, d2, d3, d4⟩ := PG_dir a2 (by omega)
    have eD := drD_d hd
    rw [if_pos rfl, if_pos rfl, gB3_l, k_f6 h, c1, gB1_s, i.2.2.2, gB1_s, k_ck h, gB1_s, a1, gB2_s, k_ck h, gB1_s, k_splits h hB hF hV a2 key, gB2_s, eD]
    -- behind the question of too many leaves
    have s41 : ¬ (spl A (dirL A d.2.2) key = true ∧ (dirL A d.2.2).length = 6) → ∃ σ', f_X3_bedsFor_41 κ F (some g) key (some a) (if spl A (dirL A d.2.2) key then 1 else 0) σ = some (.inl (bedsFor A (dirL A d.2.2) key), σ') ∧ ext nT 2 6 σ ω σ' ω := by
      intro hno
      obtain ⟨σ1, n1, n2⟩ := k_isNew (F := F) hB hF c2 c3 hV.1.1 (k_base h)
      have h' := GR_n h n2
      have hB' := BD_n hB n2
      have a2' := PG_n a2 n2
      obtain ⟨la', d1', d2', d3', d4'⟩ := PG_dir a2' (by omega)
      have c2' := oc_mv c2 n2 (fun h => h)
      have c3' := GSet_mv c3 n2 (fun h => h) (fun h => h) (fun h => h)
      rw [f_X3_bedsFor_41, k_f6 h, c1, gB1_s, gB1_s, i.2.2.2, gB1_s, i.1, gB1_s, n1, gB2_s, WF_dirnew hw hd]
      have s63 : ∀ t0 : Int32, t0 = (if anyNew A then 0 else 1) → ∃ σ', f_X3_bedsFor_63 κ F (some g) key (some a) (if spl A (dirL A d.2.2) key then 1 else 0) t0 σ1 = some (.inl (bedsFor A (dirL A d.2.2) key), σ') ∧ ext nT 2 6 σ ω σ' ω := by
        intro t0 ht0
        rw [f_X3_bedsFor_63, d1', gB1_s, d2', gB1_s]
        cases hx : dirL A d.2.2 with
        | nil =>
          rw [if_pos (by decide), ht0]
          exact ⟨σ1, rfl, nT_le n2 (by omega) (by omega)⟩
        | cons x D' =>
          have hlen : 0 < (dirL A d.2.2).length := by rw [hx]; simp
          have hne : (dirL A d.2.2).isEmpty = false := by rw [hx]; rfl
          have hpl := plc_lt (A := A) (D := dirL A d.2.2) (key := key) _ hlen
          have hm : (dirL A d.2.2).getD (plc A (dirL A d.2.2) key (dirL A d.2.2).length) 0 ∈ dirL A d.2.2 := getD_mem hpl
          obtain ⟨b1, b2, b3, b4⟩ := okL_len hV.1 hm
          obtain ⟨σ2, m1, m2⟩ := k_isNew (F := F) hB' hF c2' c3' b1 (k_base h')
          have hbf : bedsFor A (dirL A d.2.2) key = ((if anyNew A then 0 else 1) + (if isNew A ((dirL A d.2.2).getD (plc A (dirL A d.2.2) key (dirL A d.2.2).length) 0) then 0 else 1)) + (if spl A (dirL A d.2.2) key then 1 else 0) := by
            have hno' : ¬ (((lkp (leafL A ((dirL A d.2.2).getD (plc A (dirL A d.2.2) key (dirL A d.2.2).length) 0)) key).isNone && decide ((leafL A ((dirL A d.2.2).getD (plc A (dirL A d.2.2) key (dirL A d.2.2).length) 0)).length = 4)) && decide ((dirL A d.2.2).length = 6)) = true := fun e => by
              obtain ⟨e1, e2⟩ := Bool.and_eq_true_iff.mp e
              exact hno ⟨by unfold spl; rw [hne, e1]; rfl, of_decide_eq_true e2⟩
            unfold spl
            rw [hne]
            unfold bedsFor
            rw [hx] at hno' ⊢
            simp only
            rw [if_neg hno']
            rfl
          rw [← hx]
          rw [if_neg (show ¬ Int32.ofNat (dirL A d.2.2).length = (0 : Int32) from fun e => by have := (i3_inj (b := 0) (by omega) (by omega)).mp e; omega), k_f6 h', c1, gB1_s, gB1_s, k_ck h', gB1_s, k_placeOf h' hB' hF hV.1 h6 (fun b hb => by have := (hV.2.2 b hb).2.1; omega) a2' key, gB2_s, d3' _ hpl, gB1_s, (k_drI c2').1, gB1_s, m1, gB2_s, hbf, ht0, isNew_d hd]
          refine ⟨σ2, ?_, nT_le (ext_trans n2 m2) (by omega) (by omega)⟩
          cases d.1 ((dirL A d.2.2).getD (plc A (dirL A d.2.2) key (dirL A d.2.2).length) 0) with
          | true =>
            rw [if_pos rfl, if_neg (by decide), f_X3_bedsFor_104, if_pos rfl, f_X3_bedsFor_118]
            cases spl A (dirL A d.2.2) key with
            | true => rfl
            | false => rfl
          | false =>
            show f_X3_bedsFor_104 κ F _ _ (1 : Int32) σ2 = _
            rw [f_X3_bedsFor_104, if_neg (by decide), f_X3_bedsFor_118]
            cases spl A (dirL A d.2.2) key with
            | true => rfl
            | false => rfl
      cases ha : anyNew A with
      | true => rw [if_pos rfl, if_neg (by decide)]; exact s63 0 (by rw [ha]; rfl)
      | false => exact s63 1 (by rw [ha]; rfl)
    cases hs : spl A (dirL A d.2.2) key with
    | false =>
      rw [hs] at s41
      exact s41 (fun e => by cases e.1)
    | true =>
      rw [hs] at s41
      rw [if_pos rfl, if_neg (by decide), d1, gB1_s, d2, gB1_s]
      by_cases e6 : (dirL A d.2.2).length = 6
      · rw [if_pos (show Int32.ofNat (dirL A d.2.2).length = (6 : Int32) from by rw [e6]; rfl)]
        refine ⟨σ, ?_, nT_le (nT_refl σ ω) (by omega) (by omega)⟩
        have hbf : bedsFor A (dirL A d.2.2) key = -1000 := by
          unfold spl at hs
          unfold bedsFor
          cases hx : dirL A d.2.2 with
          | nil => rw [hx] at e6; cases e6
          | cons x D' =>
            rw [hx] at hs e6
            simp only
            rw [if_pos]
            have h2 := (Bool.and_eq_true_iff.mp hs).2
            rw [h2, e6]
            rfl
        rw [hbf]
        rfl
      · rw [if_neg (show ¬ Int32.ofNat (dirL A d.2.2).length = (6 : Int32) from fun e => e6 ((i3_inj (b := 6) (by omega) (by omega)).mp e))]
        exact s41 (fun e => e6 e.2)
end C
