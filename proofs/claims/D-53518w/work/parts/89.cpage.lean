/-! the component: new pages -/
section C
variable {κ : gK} {F : Nat} {σ : gS} {ω : Nat → Nat}
theorem fresh_gup {T : Nat → Prop} {c n : Nat} {S : gS} {ω' : Nat → Nat} {a : Nat} {d : gC} (e : ext T c n σ ω S ω') (ha : σ.2.1 ≤ a) : ext T c n σ ω (gup S a d) ω' := ext_gup (fun h => absurd h (by omega)) e
theorem ext_1 {T : Nat → Prop} {c n : Nat} {S : gS} {ω' : Nat → Nat} (e : ext T c n σ ω S ω') : σ.2.1 ≤ S.2.1 := e.1
theorem push_oc {t : Nat} (hω : ∀ b, σ.2.1 ≤ b → ω b = t) (hb : κ.1 ≤ σ.2.1) (cell : gC) (k : Nat) : oc κ (gpush σ cell k) ω t σ.2.1 cell ∧ ext nT 1 k σ ω (gpush σ cell k) ω := ⟨oc_push hb (hω _ (Nat.le_refl _)) _ _, ext_push nT σ ω _ _⟩
theorem om_mono {T : Nat → Prop} {c n : Nat} {S : gS} {t : Nat} (hω : ∀ b, σ.2.1 ≤ b → ω b = t) (e : ext T c n σ ω S ω) : ∀ b, S.2.1 ≤ b → ω b = t := fun b hb => hω b (Nat.le_trans e.1 hb)
theorem row_set {S : gS} {a n k : Nat} {f : Nat → Int32} {x : Int32} {t c m : Nat} (h : oc κ S ω t a (.inl (0, n, .inl f))) (hk : k < n) (hn : n < 2147483648) (e : ext nT c m σ ω S ω) (ha : σ.2.1 ≤ a) : gsI κ S (some a) (Int32.ofNat k) x = some (gup S a (.inl (0, n, .inl (va_up f k x)))) ∧ oc κ (gup S a (.inl (0, n, .inl (va_up f k x)))) ω t a (.inl (0, n, .inl (va_up f k x))) ∧ ext nT c m σ ω (gup S a (.inl (0, n, .inl (va_up f k x)))) ω :=
  ⟨oc_sI h hk hn, oc_up h _, fresh_gup e ha⟩
theorem row_get {a n k : Nat} {f : Nat → Int32} {t : Nat} (h : oc κ σ ω t a (.inl (0, n, .inl f))) (hk : k < n) (hn : n < 2147483648) : gaI σ (some a) 0 (Int32.ofNat k) = some (f k) := by
  rw [gaI_u, h.1]
  exact gai9_s hk hn
theorem row_len {a n : Nat} {f : Nat → Int32} {t : Nat} (h : oc κ σ ω t a (.inl (0, n, .inl f))) : gal σ (some a) = some (Int32.ofNat n) := by
  rw [gal_u, h.1]
  exact gal9_s _ _ _ (by omega)
theorem gna_0 {k : Nat} (hk : k < 1000) : gna σ 0 (Int32.ofNat k) = some (some σ.2.1, gpush σ (.inl (0, k, .inl (fun _ => 0))) k) := by
  have h1 := i3_ok (k := k) (by omega)
  unfold gna
  rw [h1.2, if_pos ⟨h1.1, by omega⟩]
  rfl
theorem k_more10 {S0 : gS} {row n place a : Nat} {f : Nat → Int32} {x : Int32} (hn : n < 900) (hp : place ≤ n) (hrow : oc κ S0 ω 0 row (.inl (0, n, .inl f))) (ha : S0.2.1 ≤ a) : ∀ (d fuel k : Nat) (S : gS) (fk : Nat → Int32), k + d = n + 1 → d < fuel → oc κ S ω 0 a (.inl (0, n + 1, .inl fk)) → ext nT 1 (n + 1) S0 ω S ω → (∀ i, i < k → fk i = if i < place then f i else if i = place then x else f (i - 1)) →
    ∃ σ' f', f_X9_more_10 κ F fuel (some row) (Int32.ofNat place) x (some a) (Int32.ofNat k) S = some (some a, σ') ∧ ext nT 1 (n + 1) S0 ω σ' ω ∧ oc κ σ' ω 0 a (.inl (0, n + 1, .inl f')) ∧ ∀ i, i < n + 1 → f' i = if i < place then f i else if i = place then x else f (i - 1)
  | 0, fuel, k, S, fk, hk, hf, hS, he, hfk => by
    obtain ⟨fu, rfl⟩ : ∃ fu, fuel = fu + 1 := ⟨fuel - 1, by omega⟩
    have hk : k = n + 1 := by omega
    subst hk
    exact ⟨S, fk, by rw [f_X9_more_10, f_X9_more_10b, row_len hS, gB1_s, if_pos (Int32.le_refl _)], he, hS, hfk⟩
  | d + 1, fuel, k, S, fk, hk, hf, hS, he, hfk => by
    obtain ⟨fu, rfl⟩ : ∃ fu, fuel = fu + 1 := ⟨fuel - 1, by omega⟩
    have hr := oc_mv hrow he (fun h => h)
    have step : ∀ y, (y = if k < place then f k else if k = place then x else f (k - 1)) → ∃ σ' f', f_X9_more_49 κ F (f_X9_more_10 κ F fu) (some row) (Int32.ofNat place) x (some a) (Int32.ofNat k) (some a) (Int32.ofNat k) y S = some (some a, σ') ∧ ext nT 1 (n + 1) S0 ω σ' ω ∧ oc κ σ' ω 0 a (.inl (0, n + 1, .inl f')) ∧ ∀ i, i < n + 1 → f' i = if i < place then f i else if i = place then x else f (i - 1) := by
      intro y hy
      obtain ⟨s1, s2, s3⟩ := row_set (x := y) hS (show k < n + 1 by omega) (by omega) he ha
      rw [f_X9_more_49, s1, gB1_s, i3_s]
      refine k_more10 hn hp hrow ha d fu (k + 1) _ _ (by omega) (by omega) s2 s3 (fun i hi => ?_)
      by_cases e : i = k
      · rw [e, vup_at]; exact hy
      · rw [vup_ne e]; exact hfk i (by omega)
    rw [f_X9_more_10, f_X9_more_10b, row_len hS, gB1_s, if_neg (by rw [i3_le (by omega) (by omega)]; omega)]
    by_cases c1 : place ≤ k
    · rw [if_pos ((i3_le (by omega) (by omega)).mpr c1)]
      by_cases c2 : k = place
      · rw [if_pos (by rw [c2])]
        exact step x (by rw [if_neg (by omega), if_pos c2])
      · rw [if_neg (fun e => c2 ((i3_inj (by omega) (by omega)).mp e)), show Int32.ofNat k - (1 : Int32) = Int32.ofNat (k - 1) from i3_sub (a := k) (b := 1) (by omega), row_get hr (by omega) (by omega), gB1_s]
        exact step _ (by rw [if_neg (by omega), if_neg c2])
    · rw [if_neg (fun e => c1 ((i3_le (by omega) (by omega)).mp e)), row_get hr (by omega) (by omega), gB1_s]
      exact step _ (by rw [if_pos (by omega)])
/-- a row with a number more -/
theorem k_more {row n place : Nat} {f : Nat → Int32} {x : Int32} (hω : ∀ b, σ.2.1 ≤ b → ω b = 0) (hb : κ.1 ≤ σ.2.1) (hn : n < 50) (hF : 64 ≤ F) (hp : place ≤ n) (hrow : oc κ σ ω 0 row (.inl (0, n, .inl f))) :
    ∃ σ' f', f_X9_more κ F (some row) (Int32.ofNat place) x σ = some (some σ.2.1, σ') ∧ ext nT 1 (n + 1) σ ω σ' ω ∧ oc κ σ' ω 0 σ.2.1 (.inl (0, n + 1, .inl f')) ∧ ∀ i, i < n + 1 → f' i = if i < place then f i else if i = place then x else f (i - 1) := by
  obtain ⟨p1, p2⟩ := push_oc (κ := κ) hω hb (.inl (0, n + 1, .inl (fun _ => 0))) (n + 1)
  rw [f_X9_more, f_X9_more_0, row_len hrow, gB1_s, i3_s, gna_0 (by omega), gB2_s]
  exact k_more10 (by omega) hp hrow (Nat.le_refl _) (n + 1) F 0 _ _ (by omega) (by omega) p1 p2 (fun i hi => absurd hi (Nat.not_lt_zero _))
/-- an object of two rows, of one -/
theorem init_2 {S : gS} {o k v : Nat} {c m : Nat} (ho : oc κ S ω 0 o (.inr (2, g0_X9))) (e : ext nT c m σ ω S ω) (ha : σ.2.1 ≤ o) : ∃ S', f_X9_init κ F (some o) (some k) (some v) S = some ((), S') ∧ ext nT c m σ ω S' ω ∧ oc κ S' ω 0 o (.inr (2, [.ref k, .ref v])) ∧ ∀ a q, oc κ S ω 0 a (.inl q) → oc κ S' ω 0 a (.inl q) := by
  have s1 := oc_pf (v := va_rf (some k)) ho (show 0 < g0_X9.length by decide)
  have o1 := oc_up ho (.inr (2, g0_X9.set 0 (va_rf (some k))))
  have s2 := oc_pf (v := va_rf (some v)) o1 (show 1 < (g0_X9.set 0 (va_rf (some k))).length by rw [List.length_set]; decide)
  have o2 := oc_up o1 (.inr (2, (g0_X9.set 0 (va_rf (some k))).set 1 (va_rf (some v))))
  refine ⟨_, by rw [f_X9_init, f_X9_init_0, gsm_s, gB1_s, s1, gB1_s, s2, gB1_s], fresh_gup (fresh_gup e ha) ha, o2, fun a q hq => ?_⟩
  have hne : a ≠ o := oc_ne hq ho (by simp)
  exact oc_up_ne (oc_up_ne hq hne _) hne _
theorem init_3 {S : gS} {o k : Nat} {c m : Nat} (ho : oc κ S ω 0 o (.inr (3, g0_X5))) (e : ext nT c m σ ω S ω) (ha : σ.2.1 ≤ o) : ∃ S', f_X5_init κ F (some o) (some k) S = some ((), S') ∧ ext nT c m σ ω S' ω ∧ oc κ S' ω 0 o (.inr (3, [.ref k])) ∧ ∀ a q, oc κ S ω 0 a (.inl q) → oc κ S' ω 0 a (.inl q) := by
  have s1 := oc_pf (v := va_rf (some k)) ho (show 0 < g0_X5.length by decide)
  have o1 := oc_up ho (.inr (3, g0_X5.set 0 (va_rf (some k))))
  refine ⟨_, by rw [f_X5_init, f_X5_init_0, gsm_s, gB1_s, s1, gB1_s], fresh_gup e ha, o1, fun a q hq => ?_⟩
  have hne : a ≠ o := oc_ne hq ho (by simp)
  exact oc_up_ne hq hne _
theorem fits_int (f : Nat → Int32) (n : Nat) : ∀ i, i < n → fits (gTyL.getD 0 .int) (.int (f i)) = true := fun i _ => rfl
theorem gct_0 {a n : Nat} {f : Nat → Int32} {t : Nat} (h : oc κ σ ω t a (.inl (0, n, .inl f))) : gct σ (some a) 0 = some () := by
  simp only [gct, h.1]
  rfl
/-- directories -/
theorem k_dwith {a j x : Nat} {D : List Nat} (hω : ∀ b, σ.2.1 ≤ b → ω b = 0) (hb : κ.1 ≤ σ.2.1) (hF : 64 ≤ F) (hp : PG κ σ ω a (.inr D)) (hl : D.length ≤ 6) (hj : j ≤ D.length) : ∃ o σ', f_X5_with κ F (some a) (Int32.ofNat j) (Int32.ofNat x) σ = some (some o, σ') ∧ ext nT 2 8 σ ω σ' ω ∧ PG κ σ' ω o (.inr (ins D j x)) := by
  obtain ⟨la, f, h1, h2, h3⟩ := hp
  obtain ⟨p1, p2⟩ := push_oc (κ := κ) hω hb (.inr (3, g0_X5)) 1
  have h1' := oc_mv h1 p2 (fun h => h)
  have h2' := oc_mv h2 p2 (fun h => h)
  have hf0 : gfR (gpush σ (.inr (3, g0_X5)) 1) (some a) 3 0 = some (some la) := by rw [gfR_u, h1'.1]; rfl
  obtain ⟨S1, f', m1, m2, m3, m4⟩ := k_more (κ := κ) (F := F) (x := Int32.ofNat x) (om_mono hω p2) (Nat.le_trans hb p2.1) (by omega) hF hj h2'
  obtain ⟨S2, i1, i2, i3, i4⟩ := init_3 (κ := κ) (F := F) (σ := σ) (k := (gpush σ (.inr (3, g0_X5)) 1).2.1) (oc_mv p1 m2 (fun h => h)) (ext_trans p2 m2) (Nat.le_refl _)
  refine ⟨σ.2.1, S2, ?_, ext_mono i2 (fun _ h => h) (by omega) (by omega), ?_⟩
  · rw [f_X5_with, f_X5_with_0, gnw, gB2_s, hf0, gB1_s, m1, gB2_s, gsm_s, gB1_s, i1, gB2_s]
  · refine ⟨_, f', i3, by rw [ins_len hj]; exact i4 _ _ m3, fun i hi => ?_⟩
    rw [ins_len hj] at hi
    rw [m4 i hi, ins_getD hj]
    by_cases c1 : i < j
    · rw [if_pos c1, if_pos c1, h3 i (by omega)]
    · rw [if_neg c1, if_neg c1]
      by_cases c2 : i = j
      · rw [if_pos c2, if_pos c2]
      · rw [if_neg c2, if_neg c2, h3 (i - 1) (by omega)]
theorem k_instead {a j x : Nat} {D : List Nat} (hω : ∀ b, σ.2.1 ≤ b → ω b = 0) (hb : κ.1 ≤ σ.2.1) (hp : PG κ σ ω a (.inr D)) (hl : D.length ≤ 6) (hj : j < D.length) : ∃ o σ', f_X5_instead κ F (some a) (Int32.ofNat j) (Int32.ofNat x) σ = some (some o, σ') ∧ ext nT 2 7 σ ω σ' ω ∧ PG κ σ' ω o (.inr (D.set j x)) := by
  obtain ⟨la, f, h1, h2, h3⟩ := hp
  have hf0 : gfR σ (some a) 3 0 = some (some la) := by rw [gfR_u, h1.1]; rfl
  have hcl := gcln_eq (κ := κ) (t := 0) h2.1 h2.2.2.2 (fits_int f _)
  obtain ⟨p1, p2⟩ := push_oc (κ := κ) hω hb (.inl (0, D.length, .inl f)) D.length
  obtain ⟨s1, s2, s3⟩ := row_set (x := Int32.ofNat x) p1 hj (by omega) p2 (Nat.le_refl _)
  generalize hS1 : gup (gpush σ (.inl (0, D.length, .inl f)) D.length) σ.2.1 (.inl (0, D.length, .inl (va_up f j (Int32.ofNat x)))) = S1 at s1 s2 s3
  obtain ⟨q1, q2⟩ := push_oc (κ := κ) (om_mono hω s3) (Nat.le_trans hb s3.1) (.inr (3, g0_X5)) 1
  obtain ⟨S2, i1, i2, i3, i4⟩ := init_3 (κ := κ) (F := F) (σ := σ) (k := σ.2.1) q1 (ext_trans s3 q2) s3.1
  refine ⟨S1.2.1, S2, ?_, ext_mono i2 (fun _ h => h) (by omega) (by omega), ?_⟩
  · rw [f_X5_instead, f_X5_instead_0, hf0, gB1_s, hcl, gB2_s, gct_0 p1, gB1_s, s1, gB1_s, gnw, gB2_s, gsm_s, gB1_s, i1, gB2_s]
  · refine ⟨_, _, i3, by rw [List.length_set]; exact i4 _ _ (oc_mv s2 q2 (fun h => h)), fun i hi => ?_⟩
    rw [List.length_set] at hi
    by_cases e : i = j
    · subst e
      rw [vup_at, getD_get (by rw [List.length_set]; exact hi), List.getElem_set_self]
    · rw [vup_ne e, getD_get (by rw [List.length_set]; exact hi), List.getElem_set_ne (fun e2 => e e2.symm), ← getD_get (x := 0) hi]
      exact h3 i hi
theorem k_dwo12 {S0 : gS} {a la n j b : Nat} {f : Nat → Int32} (hn : n < 50) (hobj : oc κ S0 ω 0 a (.inr (3, [.ref la]))) (hrow : oc κ S0 ω 0 la (.inl (0, n + 1, .inl f))) (hj : j ≤ n) (hb : S0.2.1 ≤ b) (hω : ∀ b, S0.2.1 ≤ b → ω b = 0) (hbase : κ.1 ≤ S0.2.1) : ∀ (d fuel k : Nat) (S : gS) (fk : Nat → Int32), k + d = n → d < fuel → oc κ S ω 0 b (.inl (0, n, .inl fk)) → ext nT 1 n S0 ω S ω → (∀ i, i < k → fk i = if i < j then f i else f (i + 1)) →
    ∃ o σ' f', f_X5_without_12 κ F fuel (some a) (Int32.ofNat j) (some b) (Int32.ofNat k) S = some (some o, σ') ∧ ext nT 2 (n + 1) S0 ω σ' ω ∧ oc κ σ' ω 0 o (.inr (3, [.ref b])) ∧ oc κ σ' ω 0 b (.inl (0, n, .inl f')) ∧ ∀ i, i < n → f' i = if i < j then f i else f (i + 1)
  | 0, fuel, k, S, fk, hk, hf, hS, he, hfk => by
    obtain ⟨fu, rfl⟩ : ∃ fu, fuel = fu + 1 := ⟨fuel - 1, by omega⟩
    have hk : k = n := by omega
    subst hk
    obtain ⟨q1, q2⟩ := push_oc (κ := κ) (om_mono hω he) (Nat.le_trans hbase he.1) (.inr (3, g0_X5)) 1
    obtain ⟨S2, i1, i2, i3, i4⟩ := init_3 (κ := κ) (F := F) (σ := S0) (k := b) q1 (ext_trans he q2) he.1
    refine ⟨S.2.1, S2, fk, ?_, ext_mono i2 (fun _ h => h) (by omega) (by omega), i3, i4 _ _ (oc_mv hS q2 (fun h => h)), hfk⟩
    rw [f_X5_without_12, f_X5_without_12b, row_len hS, gB1_s, if_pos (Int32.le_refl _), gnw, gB2_s, gsm_s, gB1_s, i1, gB2_s]
  | d + 1, fuel, k, S, fk, hk, hf, hS, he, hfk => by
    obtain ⟨fu, rfl⟩ : ∃ fu, fuel = fu + 1 := ⟨fuel - 1, by omega⟩
    have hr := oc_mv hrow he (fun h => h)
    have ho := oc_mv hobj he (fun h => h)
    have hf0 : gfR S (some a) 3 0 = some (some la) := by rw [gfR_u, ho.1]; rfl
    have step : ∀ z : Nat, z < n + 1 → (f z = if k < j then f k else f (k + 1)) → ∃ o σ' f', f_X5_without_36 κ F (f_X5_without_12 κ F fu) (some a) (Int32.ofNat j) (some b) (Int32.ofNat k) (some b) (Int32.ofNat k) (some la) (Int32.ofNat z) S = some (some o, σ') ∧ ext nT 2 (n + 1) S0 ω σ' ω ∧ oc κ σ' ω 0 o (.inr (3, [.ref b])) ∧ oc κ σ' ω 0 b (.inl (0, n, .inl f')) ∧ ∀ i, i < n → f' i = if i < j then f i else f (i + 1) := by
      intro z hz hy
      obtain ⟨s1, s2, s3⟩ := row_set (x := f z) hS (show k < n by omega) (by omega) he hb
      rw [f_X5_without_36, row_get hr hz (by omega), gB1_s, s1, gB1_s, i3_s]
      refine k_dwo12 hn hobj hrow hj hb hω hbase d fu (k + 1) _ _ (by omega) (by omega) s2 s3 (fun i hi => ?_)
      by_cases e : i = k
      · rw [e, vup_at]; exact hy
      · rw [vup_ne e]; exact hfk i (by omega)
    rw [f_X5_without_12, f_X5_without_12b, row_len hS, gB1_s, if_neg (by rw [i3_le (by omega) (by omega)]; omega), hf0, gB1_s]
    by_cases c1 : j ≤ k
    · rw [if_pos ((i3_le (by omega) (by omega)).mpr c1), i3_s]
      exact step (k + 1) (by omega) (by rw [if_neg (by omega)])
    · rw [if_neg (fun e => c1 ((i3_le (by omega) (by omega)).mp e))]
      exact step k (by omega) (by rw [if_pos (by omega)])
theorem k_dwithout {a j : Nat} {D : List Nat} (hω : ∀ b, σ.2.1 ≤ b → ω b = 0) (hb : κ.1 ≤ σ.2.1) (hF : 64 ≤ F) (hp : PG κ σ ω a (.inr D)) (hl : D.length ≤ 6) (hj : j < D.length) : ∃ o σ', f_X5_without κ F (some a) (Int32.ofNat j) σ = some (some o, σ') ∧ ext nT 2 7 σ ω σ' ω ∧ PG κ σ' ω o (.inr (D.eraseIdx j)) := by
  obtain ⟨la, f, h1, h2, h3⟩ := hp
  obtain ⟨n, hn⟩ : ∃ n, D.length = n + 1 := ⟨D.length - 1, by omega⟩
  have hf0 : gfR σ (some a) 3 0 = some (some la) := by rw [gfR_u, h1.1]; rfl
  have hel : (D.eraseIdx j).length = n := by rw [era_len hj, hn]; rfl
  rw [hn] at h2
  obtain ⟨p1, p2⟩ := push_oc (κ := κ) hω hb (.inl (0, n, .inl (fun _ => 0))) n
  obtain ⟨o, σ', f', q1, q2, q3, q4, q5⟩ := k_dwo12 (κ := κ) (F := F) (S0 := σ) (by omega) h1 h2 (show j ≤ n by omega) (Nat.le_refl _) hω hb n F 0 _ _ (by omega) (by omega) p1 p2 (fun i hi => absurd hi (Nat.not_lt_zero _))
  refine ⟨o, σ', ?_, ext_mono q2 (fun _ h => h) (by omega) (by omega), ⟨_, f', q3, by rw [hel]; exact q4, fun i hi => ?_⟩⟩
  · rw [f_X5_without, f_X5_without_0, hf0, gB1_s, row_len h2, gB1_s, i3_p, gna_0 (by omega), gB2_s]
    exact q1
  · rw [hel] at hi
    rw [q5 i hi, era_getD]
    by_cases c1 : i < j
    · rw [if_pos c1, if_pos c1, h3 i (by omega)]
    · rw [if_neg c1, if_neg c1, h3 (i + 1) (by omega)]
/-- leaves -/
theorem k_lwith {a : Nat} {l : List (Int32 × Int32)} {key v : Int32} (hω : ∀ b, σ.2.1 ≤ b → ω b = 0) (hb : κ.1 ≤ σ.2.1) (hF : 64 ≤ F) (hp : PG κ σ ω a (.inl l)) (hok : okL l) : ∃ o σ', f_X9_with κ F (some a) key v σ = some (some o, σ') ∧ ext nT 3 12 σ ω σ' ω ∧ PG κ σ' ω o (.inl (withL l key v)) := by
  have h4 := hok.2.1
  have hple := pof_le l key
  have e2 := hp
  obtain ⟨ka, va, fk, fv, h1, h2, h3, h5⟩ := hp
  have hck : gck σ (some a) 2 = some () := by rw [gck_u, h1.1]; rfl
  rw [f_X9_with, f_X9_with_0, hck, gB1_s, k_lplace e2 (by omega) hF, gB2_s, hck, gB1_s, k_has e2 (by omega) hok.2.2 hF, gB2_s]
  unfold withL
  cases hk : lkp l key with
  | some i =>
    have hi := lkp_some hk
    have hf0 : gfR σ (some a) 2 0 = some (some ka) := by rw [gfR_u, h1.1]; rfl
    have hf1 : gfR σ (some a) 2 1 = some (some va) := by rw [gfR_u, h1.1]; rfl
    have hcl := gcln_eq (κ := κ) (t := 0) h3.1 h3.2.2.2 (fits_int fv _)
    obtain ⟨p1, p2⟩ := push_oc (κ := κ) hω hb (.inl (0, l.length, .inl fv)) l.length
    obtain ⟨s1, s2, s3⟩ := row_set (x := v) p1 hi.1 (by omega) p2 (Nat.le_refl _)
    generalize hS1 : gup (gpush σ (.inl (0, l.length, .inl fv)) l.length) σ.2.1 (.inl (0, l.length, .inl (va_up fv i v))) = S1 at s1 s2 s3
    obtain ⟨q1, q2⟩ := push_oc (κ := κ) (om_mono hω s3) (Nat.le_trans hb s3.1) (.inr (2, g0_X9)) 2
    have h1' := oc_mv (oc_mv h1 s3 (fun h => h)) q2 (fun h => h)
    have hf0' : gfR (gpush S1 (.inr (2, g0_X9)) 2) (some a) 2 0 = some (some ka) := by rw [gfR_u, h1'.1]; rfl
    obtain ⟨S2, i1, i2, i3, i4⟩ := init_2 (κ := κ) (F := F) (σ := σ) (k := ka) (v := σ.2.1) q1 (ext_trans s3 q2) s3.1
    refine ⟨S1.2.1, S2, ?_, ext_mono i2 (fun _ h => h) (by omega) (by omega), ?_⟩
    · rw [if_pos (show ((some i : Option Nat).isSome = true) from rfl), if_neg (by decide), hf1, gB1_s, hcl, gB2_s, gct_0 p1, gB1_s, pof_found hok.2.2 hk, s1, gB1_s, gnw, gB2_s, hf0', gB1_s, gsm_s, gB1_s, i1, gB2_s]
    · refine ⟨ka, σ.2.1, fk, va_up fv i v, i3, by rw [List.length_set]; exact i4 _ _ (oc_mv (oc_mv h2 s3 (fun h => h)) q2 (fun h => h)), by rw [List.length_set]; exact i4 _ _ (oc_mv s2 q2 (fun h => h)), fun e he => ?_⟩
      rw [List.length_set] at he
      by_cases c1 : e = i
      · subst c1
        rw [vup_at, getD_get (by rw [List.length_set]; exact he), List.getElem_set_self]
        exact ⟨by rw [(h5 e he).1, hi.2], rfl⟩
      · rw [vup_ne c1, getD_get (by rw [List.length_set]; exact he), List.getElem_set_ne (fun e2 => c1 e2.symm), ← getD_get (x := (0, 0)) he]
        exact h5 e he
  | none =>
    obtain ⟨p1, p2⟩ := push_oc (κ := κ) hω hb (.inr (2, g0_X9)) 2
    have h1' := oc_mv h1 p2 (fun h => h)
    have h2' := oc_mv h2 p2 (fun h => h)
    have h3' := oc_mv h3 p2 (fun h => h)
    have hf0 : gfR (gpush σ (.inr (2, g0_X9)) 2) (some a) 2 0 = some (some ka) := by rw [gfR_u, h1'.1]; rfl
    obtain ⟨S1, f1, m1, m2, m3, m4⟩ := k_more (κ := κ) (F := F) (x := key) (om_mono hω p2) (Nat.le_trans hb p2.1) (by omega) hF hple h2'
    have h1'' := oc_mv h1' m2 (fun h => h)
    have hf1 : gfR S1 (some a) 2 1 = some (some va) := by rw [gfR_u, h1''.1]; rfl
    have e12 := ext_trans p2 m2
    obtain ⟨S2, f2, n1, n2, n3, n4⟩ := k_more (κ := κ) (F := F) (x := v) (om_mono hω e12) (Nat.le_trans hb e12.1) (by omega) hF hple (oc_mv h3' m2 (fun h => h))
    obtain ⟨S3, i1, i2, i3, i4⟩ := init_2 (κ := κ) (F := F) (σ := σ) (k := (gpush σ (.inr (2, g0_X9)) 2).2.1) (v := S1.2.1) (oc_mv (oc_mv p1 m2 (fun h => h)) n2 (fun h => h)) (ext_trans e12 n2) (Nat.le_refl _)
    refine ⟨σ.2.1, S3, ?_, ext_mono i2 (fun _ h => h) (by omega) (by omega), ?_⟩
    · rw [if_neg (show ¬ ((none : Option Nat).isSome = true) by decide), if_pos rfl, gnw, gB2_s, hf0, gB1_s, m1, gB2_s, hf1, gB1_s, n1, gB2_s, gsm_s, gB1_s, i1, gB2_s]
    · refine ⟨_, _, f1, f2, i3, by rw [ins_len hple]; exact i4 _ _ (oc_mv m3 n2 (fun h => h)), by rw [ins_len hple]; exact i4 _ _ n3, fun i hi => ?_⟩
      rw [ins_len hple] at hi
      rw [m4 i hi, n4 i hi, ins_getD hple]
      by_cases c1 : i < pof l key
      · rw [if_pos c1, if_pos c1, if_pos c1]; exact h5 i (by omega)
      · rw [if_neg c1, if_neg c1, if_neg c1]
        by_cases c2 : i = pof l key
        · rw [if_pos c2, if_pos c2, if_pos c2]; exact ⟨rfl, rfl⟩
        · rw [if_neg c2, if_neg c2, if_neg c2]; exact h5 (i - 1) (by omega)
theorem k_cut {row n from' to : Nat} {f : Nat → Int32} (hω : ∀ b, σ.2.1 ≤ b → ω b = 0) (hb : κ.1 ≤ σ.2.1) (hn : n < 50) (hft : from' ≤ to) (hto : to ≤ n) (hrow : oc κ σ ω 0 row (.inl (0, n, .inl f))) : ∃ σ' f', f_X9_cut κ F (some row) (Int32.ofNat from') (Int32.ofNat to) σ = some (some σ.2.1, σ') ∧ ext nT 1 (to - from') σ ω σ' ω ∧ oc κ σ' ω 0 σ.2.1 (.inl (0, to - from', .inl f')) ∧ ∀ i, i < to - from' → f' i = f (from' + i) := by
  obtain ⟨p1, p2⟩ := push_oc (κ := κ) hω hb (.inl (0, to - from', .inl (fun _ => 0))) (to - from')
  have hr := oc_mv hrow p2 (fun h => h)
  have z0 : (0 : Int32).toNatClampNeg = 0 := by decide
  have h1 := i3_ok (k := from') (by omega)
  have h2 := i3_ok (k := to - from') (by omega)
  have hcp := gcpI_eq (κ := κ) (t := 0) (sp := Int32.ofNat from') (dp := 0) (n := Int32.ofNat (to - from')) hr.1 p1.1 hr.2.2.2 p1.2.2.2 h1.1 (by decide) h2.1 (by rw [h1.2, h2.2]; omega) (by rw [z0, h2.2]; omega) (fun i _ => rfl)
  rw [h1.2, h2.2, z0] at hcp
  refine ⟨gup (gpush σ (.inl (0, to - from', .inl (fun _ => 0))) (to - from')) σ.2.1 (.inl (0, to - from', .inl (va_cpy f (fun _ => 0) from' 0 (to - from')))), va_cpy f (fun _ => 0) from' 0 (to - from'), ?_, fresh_gup p2 (Nat.le_refl _), oc_up p1 _, fun i hi => ?_⟩
  · rw [f_X9_cut, f_X9_cut_0, i3_sub hft, gna_0 (by omega), gB2_s, hcp, gB1_s]
  · show va_cpy f (fun _ => 0) from' 0 (to - from') i = _
    unfold va_cpy
    rw [if_pos (by omega), Nat.sub_zero]
theorem k_part {a from' to : Nat} {l : List (Int32 × Int32)} (hω : ∀ b, σ.2.1 ≤ b → ω b = 0) (hb : κ.1 ≤ σ.2.1) (hp : PG κ σ ω a (.inl l)) (hl : l.length ≤ 5) (hft : from' ≤ to) (hto : to ≤ l.length) : ∃ o σ', f_X9_part κ F (some a) (Int32.ofNat from') (Int32.ofNat to) σ = some (some o, σ') ∧ ext nT 3 12 σ ω σ' ω ∧ PG κ σ' ω o (.inl ((l.drop from').take (to - from'))) := by
  obtain ⟨ka, va, fk, fv, h1, h2, h3, h5⟩ := hp
  obtain ⟨p1, p2⟩ := push_oc (κ := κ) hω hb (.inr (2, g0_X9)) 2
  have h1' := oc_mv h1 p2 (fun h => h)
  have hf0 : gfR (gpush σ (.inr (2, g0_X9)) 2) (some a) 2 0 = some (some ka) := by rw [gfR_u, h1'.1]; rfl
  obtain ⟨S1, f1, m1, m2, m3, m4⟩ := k_cut (κ := κ) (F := F) (om_mono hω p2) (Nat.le_trans hb p2.1) (by omega) hft hto (oc_mv h2 p2 (fun h => h))
  have h1'' := oc_mv h1' m2 (fun h => h)
  have hf1 : gfR S1 (some a) 2 1 = some (some va) := by rw [gfR_u, h1''.1]; rfl
  have e12 := ext_trans p2 m2
  obtain ⟨S2, f2, n1, n2, n3, n4⟩ := k_cut (κ := κ) (F := F) (om_mono hω e12) (Nat.le_trans hb e12.1) (by omega) hft hto (oc_mv (oc_mv h3 p2 (fun h => h)) m2 (fun h => h))
  obtain ⟨S3, i1, i2, i3, i4⟩ := init_2 (κ := κ) (F := F) (σ := σ) (k := (gpush σ (.inr (2, g0_X9)) 2).2.1) (v := S1.2.1) (oc_mv (oc_mv p1 m2 (fun h => h)) n2 (fun h => h)) (ext_trans e12 n2) (Nat.le_refl _)
  have hlen : ((l.drop from').take (to - from')).length = to - from' := by rw [List.length_take, List.length_drop]; omega
  refine ⟨σ.2.1, S3, ?_, ext_mono i2 (fun _ h => h) (by omega) (by omega), ?_⟩
  · rw [f_X9_part, f_X9_part_0, gnw, gB2_s, hf0, gB1_s, m1, gB2_s, hf1, gB1_s, n1, gB2_s, gsm_s, gB1_s, i1, gB2_s]
  · refine ⟨_, _, f1, f2, i3, by rw [hlen]; exact i4 _ _ (oc_mv m3 n2 (fun h => h)), by rw [hlen]; exact i4 _ _ n3, fun i hi => ?_⟩
    rw [hlen] at hi
    have hg : ((l.drop from').take (to - from')).getD i (0, 0) = l.getD (from' + i) (0, 0) := by
      rw [List.getD_eq_getElem?_getD, List.getElem?_take, if_pos hi, List.getElem?_drop, List.getD_eq_getElem?_getD]
    rw [m4 i hi, n4 i hi, hg]
    exact h5 (from' + i) (by omega)
theorem k_lwo30 {S0 : gS} {a ka va n j b1 b2 : Nat} {fk fv : Nat → Int32} (hn : n < 50) (hobj : oc κ S0 ω 0 a (.inr (2, [.ref ka, .ref va]))) (hk0 : oc κ S0 ω 0 ka (.inl (0, n + 1, .inl fk))) (hv0 : oc κ S0 ω 0 va (.inl (0, n + 1, .inl fv))) (hj : j ≤ n) (hb1 : S0.2.1 ≤ b1) (hb2 : S0.2.1 ≤ b2) (hb12 : b1 ≠ b2) (hω : ∀ b, S0.2.1 ≤ b → ω b = 0) (hbase : κ.1 ≤ S0.2.1) : ∀ (d fuel k : Nat) (S : gS) (gk gv : Nat → Int32), k + d = n → d < fuel → oc κ S ω 0 b1 (.inl (0, n, .inl gk)) → oc κ S ω 0 b2 (.inl (0, n, .inl gv)) → ext nT 2 (2 * n) S0 ω S ω → (∀ i, i < k → gk i = (if i < j then fk i else fk (i + 1)) ∧ gv i = (if i < j then fv i else fv (i + 1))) →
    ∃ o σ' g1 g2, f_X9_without_30 κ F fuel (some a) (Int32.ofNat j) (some b1) (some b2) (Int32.ofNat k) S = some (some o, σ') ∧ ext nT 3 (2 * n + 2) S0 ω σ' ω ∧ oc κ σ' ω 0 o (.inr (2, [.ref b1, .ref b2])) ∧ oc κ σ' ω 0 b1 (.inl (0, n, .inl g1)) ∧ oc κ σ' ω 0 b2 (.inl (0, n, .inl g2)) ∧ ∀ i, i < n → g1 i = (if i < j then fk i else fk (i + 1)) ∧ g2 i = (if i < j then fv i else fv (i + 1))
  | 0, fuel, k, S, gk, gv, hk, hf, hS1, hS2, he, hfk => by
    obtain ⟨fu, rfl⟩ : ∃ fu, fuel = fu + 1 := ⟨fuel - 1, by omega⟩
    have hk : k = n := by omega
    subst hk
    obtain ⟨q1, q2⟩ := push_oc (κ := κ) (om_mono hω he) (Nat.le_trans hbase he.1) (.inr (2, g0_X9)) 2
    obtain ⟨S2, i1, i2, i3, i4⟩ := init_2 (κ := κ) (F := F) (σ := S0) (k := b1) (v := b2) q1 (ext_trans he q2) he.1
    refine ⟨S.2.1, S2, gk, gv, ?_, ext_mono i2 (fun _ h => h) (by omega) (by omega), i3, i4 _ _ (oc_mv hS1 q2 (fun h => h)), i4 _ _ (oc_mv hS2 q2 (fun h => h)), hfk⟩
    rw [f_X9_without_30, f_X9_without_30b, row_len hS1, gB1_s, if_pos (Int32.le_refl _), gnw, gB2_s, gsm_s, gB1_s, i1, gB2_s]
  | d + 1, fuel, k, S, gk, gv, hk, hf, hS1, hS2, he, hfk => by
    obtain ⟨fu, rfl⟩ : ∃ fu, fuel = fu + 1 := ⟨fuel - 1, by omega⟩
    have ho := oc_mv hobj he (fun h => h)
    have hf0 : gfR S (some a) 2 0 = some (some ka) := by rw [gfR_u, ho.1]; rfl
    have step : ∀ z : Nat, z < n + 1 → (fk z = (if k < j then fk k else fk (k + 1))) → (fv z = (if k < j then fv k else fv (k + 1))) → (Int32.ofNat z = if Int32.ofNat j ≤ Int32.ofNat k then Int32.ofNat k + 1 else Int32.ofNat k) → ∃ o σ' g1 g2, f_X9_without_59 κ F (f_X9_without_30 κ F fu) (some a) (Int32.ofNat j) (some b1) (some b2) (Int32.ofNat k) (some b1) (Int32.ofNat k) (some ka) (Int32.ofNat z) S = some (some o, σ') ∧ ext nT 3 (2 * n + 2) S0 ω σ' ω ∧ oc κ σ' ω 0 o (.inr (2, [.ref b1, .ref b2])) ∧ oc κ σ' ω 0 b1 (.inl (0, n, .inl g1)) ∧ oc κ σ' ω 0 b2 (.inl (0, n, .inl g2)) ∧ ∀ i, i < n → g1 i = (if i < j then fk i else fk (i + 1)) ∧ g2 i = (if i < j then fv i else fv (i + 1)) := by
      intro z hz hy1 hy2 hzz
      obtain ⟨s1, s2, s3⟩ := row_set (x := fk z) hS1 (show k < n by omega) (by omega) he hb1
      have hS2' := oc_up_ne hS2 (fun e => hb12 e.symm) (.inl (0, n, .inl (va_up gk k (fk z))))
      have ho' := oc_mv hobj s3 (fun h => h)
      have hv' := oc_mv hv0 s3 (fun h => h)
      have hf1 : gfR (gup S b1 (.inl (0, n, .inl (va_up gk k (fk z))))) (some a) 2 1 = some (some va) := by rw [gfR_u, ho'.1]; rfl
      obtain ⟨t1, t2, t3⟩ := row_set (x := fv z) hS2' (show k < n by omega) (by omega) s3 hb2
      have s2' := oc_up_ne s2 hb12 (.inl (0, n, .inl (va_up gv k (fv z))))
      have h84 : ∀ w : Int32, w = Int32.ofNat z → ∃ o σ' g1 g2, f_X9_without_84 κ F (f_X9_without_30 κ F fu) (some a) (Int32.ofNat j) (some b1) (some b2) (Int32.ofNat k) (some b2) (Int32.ofNat k) (some va) w (gup S b1 (.inl (0, n, .inl (va_up gk k (fk z))))) = some (some o, σ') ∧ ext nT 3 (2 * n + 2) S0 ω σ' ω ∧ oc κ σ' ω 0 o (.inr (2, [.ref b1, .ref b2])) ∧ oc κ σ' ω 0 b1 (.inl (0, n, .inl g1)) ∧ oc κ σ' ω 0 b2 (.inl (0, n, .inl g2)) ∧ ∀ i, i < n → g1 i = (if i < j then fk i else fk (i + 1)) ∧ g2 i = (if i < j then fv i else fv (i + 1)) := by
        intro w hw
        subst hw
        rw [f_X9_without_84, row_get hv' hz (by omega), gB1_s, t1, gB1_s, i3_s]
        refine k_lwo30 hn hobj hk0 hv0 hj hb1 hb2 hb12 hω hbase d fu (k + 1) _ _ _ (by omega) (by omega) s2' t2 t3 (fun i hi => ?_)
        by_cases e : i = k
        · rw [e, vup_at, vup_at]; exact ⟨hy1, hy2⟩
        · rw [vup_ne e, vup_ne e]; exact hfk i (by omega)
      rw [f_X9_without_59, row_get (oc_mv hk0 he (fun h => h)) hz (by omega), gB1_s, s1, gB1_s, hf1, gB1_s]
      by_cases c : Int32.ofNat j ≤ Int32.ofNat k
      · rw [if_pos c] at hzz ⊢
        exact h84 _ hzz.symm
      · rw [if_neg c] at hzz ⊢
        exact h84 _ hzz.symm
    rw [f_X9_without_30, f_X9_without_30b, row_len hS1, gB1_s, if_neg (by rw [i3_le (by omega) (by omega)]; omega), hf0, gB1_s]
    by_cases c1 : j ≤ k
    · have hc := (i3_le (a := j) (b := k) (by omega) (by omega)).mpr c1
      rw [if_pos hc, i3_s]
      exact step (k + 1) (by omega) (by rw [if_neg (by omega)]) (by rw [if_neg (by omega)]) (by rw [if_pos hc, i3_s])
    · have hc : ¬ Int32.ofNat j ≤ Int32.ofNat k := fun e => c1 ((i3_le (by omega) (by omega)).mp e)
      rw [if_neg hc]
      exact step k (by omega) (by rw [if_pos (by omega)]) (by rw [if_pos (by omega)]) (by rw [if_neg hc])
theorem k_lwithout {a : Nat} {l : List (Int32 × Int32)} {key : Int32} (hω : ∀ b, σ.2.1 ≤ b → ω b = 0) (hb : κ.1 ≤ σ.2.1) (hF : 64 ≤ F) (hp : PG κ σ ω a (.inl l)) (hok : okL l) (hj : pof l key < l.length) : ∃ o σ', f_X9_without κ F (some a) key σ = some (some o, σ') ∧ ext nT 3 12 σ ω σ' ω ∧ PG κ σ' ω o (.inl (l.eraseIdx (pof l key))) := by
  have h4 := hok.2.1
  have e2 := hp
  obtain ⟨ka, va, fk, fv, h1, h2, h3, h5⟩ := hp
  obtain ⟨n, hn⟩ : ∃ n, l.length = n + 1 := ⟨l.length - 1, by omega⟩
  have hel : (l.eraseIdx (pof l key)).length = n := by rw [era_len hj, hn]; rfl
  have hck : gck σ (some a) 2 = some () := by rw [gck_u, h1.1]; rfl
  have hf0 : gfR σ (some a) 2 0 = some (some ka) := by rw [gfR_u, h1.1]; rfl
  rw [hn] at h2 h3
  obtain ⟨p1, p2⟩ := push_oc (κ := κ) hω hb (.inl (0, n, .inl (fun _ => 0))) n
  have h1' := oc_mv h1 p2 (fun h => h)
  have h2' := oc_mv h2 p2 (fun h => h)
  have hf0' : gfR (gpush σ (.inl (0, n, .inl (fun _ => 0))) n) (some a) 2 0 = some (some ka) := by rw [gfR_u, h1'.1]; rfl
  obtain ⟨q1, q2⟩ := push_oc (κ := κ) (om_mono hω p2) (Nat.le_trans hb p2.1) (.inl (0, n, .inl (fun _ => 0))) n
  have e12 := ext_trans p2 q2
  obtain ⟨o, σ', g1, g2, r1, r2, r3, r4, r5, r6⟩ := k_lwo30 (κ := κ) (F := F) (S0 := σ) (j := pof l key) (by omega) h1 h2 h3 (by omega) (Nat.le_refl _) p2.1 (by show σ.2.1 ≠ σ.2.1 + 1; omega) hω hb n F 0 _ _ _ (by omega) (by omega) (oc_mv p1 q2 (fun h => h)) q1 (ext_mono e12 (fun _ h => h) (by omega) (by omega)) (fun i hi => absurd hi (Nat.not_lt_zero _))
  refine ⟨o, σ', ?_, ext_mono r2 (fun _ h => h) (by omega) (by omega), ⟨_, _, g1, g2, r3, by rw [hel]; exact r4, by rw [hel]; exact r5, fun i hi => ?_⟩⟩
  · rw [f_X9_without, f_X9_without_0, hck, gB1_s, k_lplace e2 (by omega) hF, gB2_s, hf0, gB1_s, row_len h2, gB1_s, i3_p, gna_0 (by omega), gB2_s, hf0', gB1_s, row_len h2', gB1_s, i3_p, gna_0 (by omega), gB2_s]
    exact r1
  · rw [hel] at hi
    rw [(r6 i hi).1, (r6 i hi).2, era_getD]
    by_cases c1 : i < pof l key
    · rw [if_pos c1, if_pos c1, if_pos c1]; exact h5 i (by omega)
    · rw [if_neg c1, if_neg c1, if_neg c1]; exact h5 (i + 1) (by omega)
end C
