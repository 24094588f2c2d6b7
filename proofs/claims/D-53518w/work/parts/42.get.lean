theorem hashk (k : Nat) (hk : k < 32) : (Int32.ofNat k) ^^^ (((Int32.ofNat k).toUInt32 >>> ((16 : Int32).toUInt32 &&& Int32.toUInt32 31)).toInt32) = Int32.ofNat k := by
  have h : ∀ k : Fin 32, (Int32.ofNat k.val) ^^^ (((Int32.ofNat k.val).toUInt32 >>> ((16 : Int32).toUInt32 &&& Int32.toUInt32 31)).toInt32) = Int32.ofNat k.val := by decide +kernel
  exact h ⟨k, hk⟩
theorem maskk (n k : Nat) (hk : k < 32) (hn : n = 16 ∨ n = 32 ∨ n = 64) : (Int32.ofNat n - (1 : Int32)) &&& Int32.ofNat k = Int32.ofNat (k % n) := by
  rcases hn with rfl | rfl | rfl
  · have h : ∀ k : Fin 32, (Int32.ofNat 16 - (1 : Int32)) &&& Int32.ofNat k.val = Int32.ofNat (k.val % 16) := by decide +kernel
    exact h ⟨k, hk⟩
  · have h : ∀ k : Fin 32, (Int32.ofNat 32 - (1 : Int32)) &&& Int32.ofNat k.val = Int32.ofNat (k.val % 32) := by decide +kernel
    exact h ⟨k, hk⟩
  · have h : ∀ k : Fin 32, (Int32.ofNat 64 - (1 : Int32)) &&& Int32.ofNat k.val = Int32.ofNat (k.val % 64) := by decide +kernel
    exact h ⟨k, hk⟩
theorem p_hash {κ : gK} {F : Nat} {σ : gS} {q k : Nat} (hq : σ.1 q = some (.inr (1, [.int (Int32.ofNat k)]))) (hk : k < 32) : f_J1_hash κ F (some q) σ = some (Int32.ofNat k, σ) := by
  simp only [f_J1_hash, f_J1_hash_0, f_J1_hash_19, f_X2_hashCode, f_X2_hashCode_0, gck_u, hq, gcc9_s, gB1_s, gB2_s, gfI_u, gcf_s, List.getElem?_cons_zero, gvI_int, hashk k hk, reduceCtorEq, if_false]
theorem p_equals {κ : gK} {F : Nat} {σ : gS} {a b x y : Nat} (ha : σ.1 a = some (.inr (1, [.int (Int32.ofNat x)]))) (hb : σ.1 b = some (.inr (1, [.int (Int32.ofNat y)]))) (hx : x < 32) (hy : y < 32) : f_X2_equals κ F (some a) (some b) σ = some (if x = y then 1 else 0, σ) := by
  simp only [f_X2_equals, f_X2_equals_0, f_X2_equals_27, f_X2_equals_28, gio_u, gio9_s, hb, ha, gcc_u, gcc9_s, gB1_s, gB2_s, gfI_u, gcf_s, List.getElem?_cons_zero, gvI_int, List.mem_cons, List.not_mem_nil, or_false, if_true, i3_inj (show y < 2147483648 by omega) (show x < 2147483648 by omega), gok_z0, gok_z1]
  rw [if_neg (by decide)]
  by_cases h : x = y
  · rw [if_pos h.symm, if_pos h]
  · rw [if_neg (fun e => h e.symm), if_neg h]
/-- a field of an entry -/
theorem en_h {B : Nat → Nat} {nx pre : Option Nat} {x : mE} {L : List mE} {σ : gS} (h : σ.1 x.1 = some (enX B nx pre x L)) : gfI σ (some x.1) 11 0 = some (Int32.ofNat x.2.1) := by
  simp only [gfI_u, h, enX, gcf_s, List.getElem?_cons_zero, gvI_int]
theorem en_k {B : Nat → Nat} {nx pre : Option Nat} {x : mE} {L : List mE} {σ : gS} (h : σ.1 x.1 = some (enX B nx pre x L)) : gfR σ (some x.1) 11 1 = some (some (B x.2.1)) := by
  simp only [gfR_u, h, enX, gcf_s, List.getElem?_cons_zero, List.getElem?_cons_succ, gvR_rf]
theorem en_v {B : Nat → Nat} {nx pre : Option Nat} {x : mE} {L : List mE} {σ : gS} (h : σ.1 x.1 = some (enX B nx pre x L)) : gfR σ (some x.1) 11 2 = some x.2.2 := by
  simp only [gfR_u, h, enX, gcf_s, List.getElem?_cons_zero, List.getElem?_cons_succ, gvR_rf]
theorem en_n {B : Nat → Nat} {nx pre : Option Nat} {x : mE} {L : List mE} {σ : gS} (h : σ.1 x.1 = some (enX B nx pre x L)) : gfR σ (some x.1) 11 3 = some nx := by
  simp only [gfR_u, h, enX, gcf_s, List.getElem?_cons_zero, List.getElem?_cons_succ, gvR_rf]
theorem en_b {B : Nat → Nat} {nx pre : Option Nat} {x : mE} {L : List mE} {σ : gS} (h : σ.1 x.1 = some (enX B nx pre x L)) : gfR σ (some x.1) 11 4 = some pre := by
  simp only [gfR_u, h, enX, gcf_s, List.getElem?_cons_zero, List.getElem?_cons_succ, gvR_rf]
theorem en_a {B : Nat → Nat} {nx pre : Option Nat} {x : mE} {L : List mE} {σ : gS} (h : σ.1 x.1 = some (enX B nx pre x L)) : gfR σ (some x.1) 11 5 = some (hd L) := by
  simp only [gfR_u, h, enX, gcf_s, List.getElem?_cons_zero, List.getElem?_cons_succ, gvR_rf]
theorem en_io {B : Nat → Nat} {nx pre : Option Nat} {x : mE} {L : List mE} {σ : gS} (h : σ.1 x.1 = some (enX B nx pre x L)) : gio σ (some x.1) [] [11] = some 0 := by
  simp only [gio_u, h, enX, gio9_s, List.mem_cons, List.not_mem_nil, or_false, if_false, if_true]
/-- the walk along a bucket -/
theorem p_get99 {κ : gK} {B : Nat → Nat} {F : Nat} {σ : gS} {ω : Nat → Nat} {t n q k : Nat} (hB : bdK κ B σ ω) (hq : σ.1 q = some (.inr (1, [.int (Int32.ofNat k)]))) (hk : k < 32) :
    ∀ (L : List mE) (pre : Option Nat) (fuel e : Nat), Ents κ B σ ω t n pre L → L.length ≤ fuel → hb n (k % n) L = some e → f_J1_getNode_99 κ F fuel (some q) (some e) (Int32.ofNat k) σ = some ((fnd k L).map (fun x => x.1), σ)
  | [], _, _, _, _, _, h => by cases h
  | x :: L, pre, fuel, e, hE, hf, h => by
    obtain ⟨h1, h2, h3⟩ := hE
    rw [hb_cons] at h
    rw [List.length_cons] at hf
    by_cases hx : x.2.1 % n = k % n
    · rw [if_pos hx] at h
      cases h
      obtain ⟨fuel, rfl⟩ : ∃ f, fuel = f + 1 := ⟨fuel - 1, by omega⟩
      have hc := h1.1
      rw [f_J1_getNode_99, f_J1_getNode_99b, en_h hc, gB1_s, fnd_cons]
      by_cases hxk : x.2.1 = k
      · rw [if_pos (congrArg Int32.ofNat hxk), if_pos hxk, en_k hc, gB1_s]
        by_cases hbq : some (B x.2.1) = some q
        · rw [if_pos hbq]; rfl
        · rw [if_neg hbq, if_neg (by simp), gck_u, hq, gcc9_s, gB1_s, p_equals hq (hB _ h2).1 hk h2, gB2_s, if_pos hxk.symm, if_neg (by decide)]; rfl
      · rw [if_neg (fun e => hxk ((i3_inj (by omega) (by omega)).mp e)), if_neg hxk, f_J1_getNode_137, en_n hc, gB1_s, show nxn n x L = hb n (x.2.1 % n) L from rfl, hx]
        cases hn : hb n (k % n) L with
        | none => rw [if_pos rfl, fnd_none_of_hb rfl hn]; rfl
        | some e' =>
          rw [if_neg (by simp)]
          exact p_get99 hB hq hk L _ fuel e' h3 (by omega) hn
    · rw [if_neg hx] at h
      rw [fnd_cons, if_neg (fun e => hx (by rw [e]))]
      exact p_get99 hB hq hk L _ fuel e h3 (by omega) h
/-- an element that is found has its cell -/
theorem fnd_cell {κ : gK} {B : Nat → Nat} {σ : gS} {ω : Nat → Nat} {t n k : Nat} {x : mE} : ∀ (L : List mE) (pre : Option Nat), Ents κ B σ ω t n pre L → fnd k L = some x → ∃ pre' L', σ.1 x.1 = some (enC B n pre' x L')
  | [], _, _, h => by cases h
  | y :: L, pre, hE, h => by
    rw [fnd_cons] at h
    split at h
    · cases h; exact ⟨pre, L, hE.1.1⟩
    · exact fnd_cell L _ hE.2.2 h
/-- the first entry of a bucket and what lies behind it -/
theorem hb_split {κ : gK} {B : Nat → Nat} {σ : gS} {ω : Nat → Nat} {t n j : Nat} : ∀ (L : List mE) (pre : Option Nat) (e : Nat), Ents κ B σ ω t n pre L → hb n j L = some e →
    ∃ (x : mE) (pre' : Option Nat) (L' : List mE), x.1 = e ∧ x.2.1 % n = j ∧ x.2.1 < 32 ∧ oc κ σ ω t x.1 (enC B n pre' x L') ∧ Ents κ B σ ω t n (some x.1) L' ∧ L'.length < L.length ∧ (∀ k, k % n = j → fnd k L = if x.2.1 = k then some x else fnd k L')
  | [], _, _, _, h => by cases h
  | x :: L, pre, e, hE, h => by
    obtain ⟨h1, h2, h3⟩ := hE
    rw [hb_cons] at h
    by_cases hx : x.2.1 % n = j
    · rw [if_pos hx] at h
      cases h
      exact ⟨x, pre, L, rfl, hx, h2, h1, h3, Nat.lt_succ_self _, fun k _ => fnd_cons k x L⟩
    · rw [if_neg hx] at h
      obtain ⟨y, p', L', a1, a2, a3, a4, a5, a6, a7⟩ := hb_split L _ e h3 h
      exact ⟨y, p', L', a1, a2, a3, a4, a5, Nat.lt_succ_of_lt a6, fun k hk => by rw [fnd_cons, if_neg (fun e => hx (by rw [e]; exact hk))]; exact a7 k hk⟩
theorem mp_len {z : Nat} (n : Nat) (hn : n = 16 ∨ n = 32 ∨ n = 64) : ¬ (Int32.ofNat n ≤ 0) := by rcases hn with rfl | rfl | rfl <;> decide
theorem p_getNode {κ : gK} {B : Nat → Nat} {F : Nat} {σ : gS} {ω : Nat → Nat} {t m q k : Nat} {L : List mE} (hF : 64 ≤ F) (hB : bdK κ B σ ω) (hL : LM κ B σ ω t m L) (hq : σ.1 q = some (.inr (1, [.int (Int32.ofNat k)]))) (hk : k < 32) :
    f_J1_getNode κ F (some m) (some q) σ = some ((fnd k L).map (fun x => x.1), σ) := by
  obtain ⟨tb, ks, md, th, n, hm, hT, -, hE, -, hn, hth, -⟩ := hL
  have hm1 := hm.1
  rw [f_J1_getNode, f_J1_getNode_0]
  simp only [gfR_u, hm1, mpC, gcf_s, List.getElem?_cons_zero, gvR_rf, gB1_s]
  cases tb with
  | none =>
    have hT : L = [] := hT
    subst hT
    rw [if_pos rfl]; rfl
  | some a =>
    have hT : oc κ σ ω t a (.inl (7, n, .inr (.inr (.inr (.inr (fun j => hb n j L)))))) := hT
    have hlen : L.length ≤ F := by have := (hth (by simp)).2; omega
    have hn2 : k % n < n := Nat.mod_lt _ (by omega)
    rw [if_neg (by simp), gal_u, hT.1, gal9_s _ _ _ (by decide), gB1_s, if_neg (mp_len (z := 0) n hn), p_hash hq hk, gB2_s, maskk n k hk hn, gaR_u, hT.1, gar9_s (by decide) hn2 (by omega), gB1_s]
    cases hh : hb n (k % n) L with
    | none => rw [if_pos rfl, fnd_none_of_hb rfl hh]; rfl
    | some e =>
      obtain ⟨x, pre', L', rfl, a2, a3, a4, a5, a6, a7⟩ := hb_split L none e hE hh
      have hc := a4.1
      rw [if_neg (by simp), en_h hc, gB1_s, a7 k rfl]
      by_cases hxk : x.2.1 = k
      · rw [if_pos (congrArg Int32.ofNat hxk), if_pos hxk, en_k hc, gB1_s]
        by_cases hbq : some (B x.2.1) = some q
        · rw [if_pos hbq]; rfl
        · rw [if_neg hbq, if_neg (by simp), gck_u, hq, gcc9_s, gB1_s, p_equals hq (hB _ a3).1 hk a3, gB2_s, if_pos hxk.symm, if_neg (by decide)]; rfl
      · rw [if_neg (fun e => hxk ((i3_inj (by omega) (by omega)).mp e)), if_neg hxk, f_J1_getNode_71, en_n hc, gB1_s, a2]
        cases hnn : hb n (k % n) L' with
        | none => rw [if_pos rfl, fnd_none_of_hb rfl hnn]; rfl
        | some e' =>
          rw [if_neg (by simp), en_io hc, gB1_s, if_pos rfl]
          exact p_get99 hB hq hk L' _ F e' a5 (by omega) hnn
/-- LinkedHashMap.get -/
theorem p_get {κ : gK} {B : Nat → Nat} {F : Nat} {σ : gS} {ω : Nat → Nat} {t m q k : Nat} {L : List mE} (hF : 64 ≤ F) (hB : bdK κ B σ ω) (hL : LM κ B σ ω t m L) (hq : σ.1 q = some (.inr (1, [.int (Int32.ofNat k)]))) (hk : k < 32) :
    f_J2_get κ F (some m) (some q) σ = some ((fnd k L).elim none (fun x => x.2.2), σ) := by
  have h1 := p_getNode hF hB hL hq hk
  obtain ⟨tb, ks, md, th, n, hm, hT, -, hE, -, hn, hth, -⟩ := hL
  have hm1 := hm.1
  simp only [f_J2_get, f_J2_get_0, gck_u, hm1, mpC, gcc9_s, gB1_s, h1, gB2_s]
  cases hf : fnd k L with
  | none => rw [Option.map_none, if_pos rfl]; rfl
  | some x =>
    obtain ⟨pre', L', hc⟩ := fnd_cell L none hE hf
    simp only [Option.map_some, reduceCtorEq, if_false, gfI_u, hm1, mpC, gcf_s, List.getElem?_cons_zero, List.getElem?_cons_succ, gvI_int, gB1_s, if_true, f_J2_get_24, en_v hc]
    rfl
/-- HashMap.containsKey -/
theorem p_containsKey {κ : gK} {B : Nat → Nat} {F : Nat} {σ : gS} {ω : Nat → Nat} {t m q k : Nat} {L : List mE} (hF : 64 ≤ F) (hB : bdK κ B σ ω) (hL : LM κ B σ ω t m L) (hq : σ.1 q = some (.inr (1, [.int (Int32.ofNat k)]))) (hk : k < 32) :
    f_J1_containsKey κ F (some m) (some q) σ = some (if (fnd k L).isSome then 1 else 0, σ) := by
  have h1 := p_getNode hF hB hL hq hk
  obtain ⟨tb, ks, md, th, n, hm, -⟩ := hL
  have hm1 := hm.1
  simp only [f_J1_containsKey, f_J1_containsKey_0, f_J1_containsKey_13, gck_u, hm1, mpC, gcc9_s, gB1_s, h1, gB2_s]
  cases hf : fnd k L with
  | none => simp [gok_z0, gB1_s]
  | some x => simp [gok_z1, gB1_s]
