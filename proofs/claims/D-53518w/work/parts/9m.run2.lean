set_option maxRecDepth 100000
/-! the component runs the typed commands -/
section C
variable {κ : gK} {B : Nat → Nat} {bd : Nat} {F : Nat} {σ : gS} {ω : Nat → Nat} {o x nb i : Nat} {ft : Int32} {w : Value} {N : Nat → Int32} {tx : List Int32}
/-- the fault is written -/
theorem tt_fault (h : TT κ σ ω o x nb i ft w N) (f : Int32) : ∃ σ', gpf κ σ (some x) 8 1 (.int f) = some σ' ∧ ext (fun y => y = 7) 0 0 σ ω σ' ω ∧ TT κ σ' ω o x nb i f w N := by
  have s1 := oc_pf (v := .int f) h.1 (k := 1) (show 1 < 5 by decide)
  have e1 := oc_ext_up h.1 (.inr (8, [.int (Int32.ofNat i), .int f, w, .ref nb, .ref o])) (fun x => x = 7) rfl
  exact ⟨_, s1, e1, oc_up h.1 _, oc_mv h.2 e1 (by decide)⟩
/-- no command is left, or a fault was noted -/
theorem t_next0 (hF : 400 ≤ F) (h : TT κ σ ω o x nb i ft w N) (hc : CM κ σ ω o tx) (hi : i ≤ tx.length) (hs : tx.length ≤ skT tx 32 32 i ∨ ft ≠ -1000) : ∃ σ', f_X11_next κ F (some x) σ = some (0, σ') ∧ ext (fun y => y = 7) 0 0 σ ω σ' ω ∧ TT κ σ' ω o x nb (skT tx 32 32 i) ft w N := by
  have h150 := hc.1
  have l3 := skT_ge (tx := tx) (a := 32) (b := 32) hi
  obtain ⟨S1, s1, e1, h1⟩ := t_spaces (F := F) (by omega) h hc hi
  have hc1 := CM_mv hc e1 (by decide) (by decide)
  refine ⟨S1, ?_, e1, h1⟩
  rw [f_X11_next, f_X11_next_0, tt_ck h, gB1_s, s1, gB2_s, tt_at h1, gB1_s, tt_o h1, gB1_s, cm_len hc1, gB1_s]
  by_cases e : skT tx 32 32 i = tx.length
  · rw [if_pos (by rw [e]), f_X11_next_29, gok_z0, gB1_s]
  · rw [if_neg (by rw [i3_inj (by omega) (by omega)]; exact e), tt_ft h1, gB1_s, if_neg (hs.elim (fun h => absurd h (by omega)) id), f_X11_next_29, gok_z0, gB1_s]
/-- the next command -/
theorem t_next1 (hF : 400 ≤ F) (h : TT κ σ ω o x nb i (-1000) w N) (hc : CM κ σ ω o tx) (hq : KQ κ σ ω) (hi : i ≤ tx.length) (hs : skT tx 32 32 i < tx.length) : ∃ σ' ω' a N', f_X11_next κ F (some x) σ = some (1, σ') ∧ ext tX (if (rCmd tx (skT tx 32 32 i)).1 then 4 else 160) (if (rCmd tx (skT tx 32 32 i)).1 then 40 else 800) σ ω σ' ω' ∧ TT κ σ' ω' o x nb (rCmd tx (skT tx 32 32 i)).2.1 (if (rCmd tx (skT tx 32 32 i)).1 then -1000 else Int32.ofNat (rCmd tx (skT tx 32 32 i)).2.1) (.ref a) N' ∧ ((rCmd tx (skT tx 32 32 i)).1 = true → (∃ wl, SQ κ σ' ω' a wl ∧ cmdW wl = (rCmd tx (skT tx 32 32 i)).2.2.1) ∧ 1 ≤ (rCmd tx (skT tx 32 32 i)).2.2.1 ∧ (rCmd tx (skT tx 32 32 i)).2.2.1 ≤ 7 ∧ (1 ≤ nNum (rCmd tx (skT tx 32 32 i)).2.2.1 → N' 0 = Int32.ofNat (rCmd tx (skT tx 32 32 i)).2.2.2.1) ∧ (nNum (rCmd tx (skT tx 32 32 i)).2.2.1 = 2 → N' 1 = Int32.ofNat (rCmd tx (skT tx 32 32 i)).2.2.2.2)) := by
  have h150 := hc.1
  have l3 := skT_ge (tx := tx) (a := 32) (b := 32) hi
  obtain ⟨S1, s1, e1, h1⟩ := t_spaces (F := F) (by omega) h hc hi
  have hc1 := CM_mv hc e1 (by decide) (by decide)
  have hq1 := KQ_mv hq e1 (by decide)
  generalize skT tx 32 32 i = j at *
  obtain ⟨S2, w2, a, N2, r1, r2, r3, r4⟩ := t_readCommand (F := F) hF h1 hc1 hq1 l3.2
  have run : f_X11_next κ F (some x) σ = gB2 (f_X11_readCommand κ F (some x) S1) (fun v9 s8 => if v9 = 0 then gB1 (gfI s8 (some x) 8 0) (fun v11 => gB1 (gpf κ s8 (some x) 8 1 (.int v11)) fun s12 => f_X11_next_46 κ F s12) else f_X11_next_46 κ F s8) := by
    rw [f_X11_next, f_X11_next_0, tt_ck h, gB1_s, s1, gB2_s, tt_at h1, gB1_s, tt_o h1, gB1_s, cm_len hc1, gB1_s, if_neg (by rw [i3_inj (by omega) (by omega)]; omega), tt_ft h1, gB1_s, if_pos rfl, tt_ck h1, gB1_s]
  rw [run, r1, gB2_s]
  have e1' : ext tX 0 0 σ ω S1 ω := ext_mono e1 e7_X (Nat.le_refl _) (Nat.le_refl _)
  cases hr : (rCmd tx j).1 with
  | true =>
    rw [hr] at r2
    rw [if_pos rfl, if_neg (by decide), f_X11_next_46, gok_z1, gB1_s]
    exact ⟨S2, w2, a, N2, rfl, ext_mono (ext_trans e1' r2) (fun _ h => h) (by rw [if_pos rfl]; omega) (by rw [if_pos rfl]; omega), r3, fun _ => r4 hr⟩
  | false =>
    rw [hr] at r2
    obtain ⟨S3, s3, e3, h3⟩ := tt_fault r3 (Int32.ofNat (rCmd tx j).2.1)
    rw [if_neg (show ¬ (false = true) by decide), if_pos rfl, tt_at r3, gB1_s, s3, gB1_s, f_X11_next_46, gok_z1, gB1_s]
    exact ⟨S3, w2, a, N2, rfl, ext_mono (ext_trans e1' (ext_trans r2 (ext_mono e3 e7_X (Nat.le_refl _) (Nat.le_refl _)))) (fun _ h => h) (by rw [if_neg (by decide)]; omega) (by rw [if_neg (by decide)]; omega), h3, fun h => by cases h⟩
/-- a first reading of all -/
theorem t_run11 (hF : 400 ≤ F) : ∀ (f fuel i : Nat) (σ : gS) (ω : Nat → Nat) (w : Value) (N : Nat → Int32), i ≤ tx.length → tx.length - skT tx 32 32 i < f → f + 1 < fuel → TT κ σ ω o x nb i (-1000) w N → CM κ σ ω o tx → KQ κ σ ω →
    ∃ σ' ω' f' i' ft' w' N', f_X1_runCommands_11 κ F fuel (some o) (some x) (1 : Int32) σ = f_X1_runCommands_11b κ F f' (some o) (some x) (0 : Int32) σ' ∧ ext tX (4 * (tx.length - i) + 160) (40 * (tx.length - i) + 800) σ ω σ' ω' ∧ TT κ σ' ω' o x nb i' ft' w' N' ∧ ft' = (match prs tx f (skT tx 32 32 i) with | .inl p => Int32.ofNat p | .inr _ => -1000) ∧ (∀ p, prs tx f (skT tx 32 32 i) = .inl p → p ≤ tx.length) := by
  intro f
  induction f with
  | zero => intro fuel i σ ω w N hi hf hfu h hc hq; omega
  | succ f ih =>
    intro fuel i σ ω w N hi hf hfu h hc hq
    have h150 := hc.1
    obtain ⟨fu, rfl⟩ : ∃ k, fuel = k + 2 := ⟨fuel - 2, by omega⟩
    have l3 := skT_ge (tx := tx) (a := 32) (b := 32) hi
    have u1 : ∀ (k : Nat) (S : gS), f_X1_runCommands_11 κ F (k + 1) (some o) (some x) (1 : Int32) S = gB1 (gck S (some x) 8) (fun _ => gB2 (f_X11_next κ F (some x) S) fun v19 s18 => f_X1_runCommands_11 κ F k (some o) (some x) v19 s18) := fun k S => by rw [f_X1_runCommands_11, f_X1_runCommands_11b, if_neg (by decide)]
    rw [prs, u1, tt_ck h, gB1_s]
    by_cases he : tx.length ≤ skT tx 32 32 i
    · obtain ⟨S1, s1, e1, h1⟩ := t_next0 (F := F) hF h hc hi (Or.inl he)
      rw [if_pos he, s1, gB2_s]
      exact ⟨S1, ω, _, _, _, _, _, by rw [f_X1_runCommands_11], ext_mono e1 e7_X (by omega) (by omega), h1, rfl, fun p hp => by cases hp⟩
    · obtain ⟨S1, w1, a, N1, s1, e1, h1, h2⟩ := t_next1 (F := F) hF h hc hq hi (by omega)
      have hc1 := CM_mv hc e1 (tX_no (by omega)) (tX_no (by omega))
      have hq1 := KQ_mv hq e1 (tX_no (by omega))
      have hle := (rCmd_le (tx := tx) l3.2).1
      rw [if_neg he, s1, gB2_s]
      cases hr : (rCmd tx (skT tx 32 32 i)).1 with
      | true =>
        have h5 := rCmd_5 l3.2 hr
        rw [hr] at e1 h1
        have l4 := skT_ge (tx := tx) (a := 32) (b := 32) hle
        obtain ⟨S2, w2, f', i', ft', w', N', r1, r2, r3, r4, r5⟩ := ih (fu + 1) (rCmd tx (skT tx 32 32 i)).2.1 S1 w1 _ _ hle (by omega) (by omega) h1 hc1 hq1
        refine ⟨S2, w2, f', i', ft', w', N', r1, ext_mono (ext_trans e1 r2) (fun _ h => h) (by rw [if_pos rfl]; omega) (by rw [if_pos rfl]; omega), r3, ?_, ?_⟩
        · rw [r4, if_pos rfl]
          cases prs tx f (skT tx 32 32 (rCmd tx (skT tx 32 32 i)).2.1) with
          | inl p => rfl
          | inr cs => rfl
        · intro p hp
          rw [if_pos rfl] at hp
          cases hx : prs tx f (skT tx 32 32 (rCmd tx (skT tx 32 32 i)).2.1) with
          | inl p' => rw [hx] at hp; cases hp; exact r5 p hx
          | inr cs => rw [hx] at hp; cases hp
      | false =>
        rw [hr] at e1 h1
        rw [if_neg (show ¬ (false = true) by decide)] at e1 h1
        rw [if_neg (show ¬ (false = true) by decide)] at e1
        have hnf : Int32.ofNat (rCmd tx (skT tx 32 32 i)).2.1 ≠ -1000 := fun e => by
          have := congrArg Int32.toInt e
          rw [Int32.toInt_ofNat_small (by omega)] at this
          have h9 : (-1000 : Int32).toInt = -1000 := by decide
          omega
        obtain ⟨S2, s2, e2, h3⟩ := t_next0 (F := F) hF h1 hc1 hle (Or.inr hnf)
        rw [if_neg (show ¬ (false = true) by decide), u1, tt_ck h1, gB1_s, s2, gB2_s]
        obtain ⟨fv, rfl⟩ : ∃ k, fu = k + 1 := ⟨fu - 1, by omega⟩
        exact ⟨S2, w1, _, _, _, _, _, by rw [f_X1_runCommands_11], ext_mono (ext_trans e1 (ext_mono e2 e7_X (Nat.le_refl _) (Nat.le_refl _))) (fun _ h => h) (by omega) (by omega), h3, rfl, fun p hp => by cases hp; exact hle⟩
/-- a new text -/
theorem t_new {nx : Value} (hb : κ.1 ≤ σ.2.1) (hT : KT κ) (ho : nx = .ref o) : ∃ x nb σ' ω' w, gnw σ 8 g0_X11 5 = some (some x, gpush σ (.inr (8, g0_X11)) 5) ∧ f_X11_init κ F (some x) (some o) (gpush σ (.inr (8, g0_X11)) 5) = some ((), σ') ∧ ext nT 2 7 σ ω σ' ω' ∧ TT κ σ' ω' o x nb 0 (-1000) w (fun _ => 0) := by
  obtain ⟨p1, e1⟩ := push_new (κ := κ) (ω := ω) 7 hb (.inr (8, g0_X11)) 5
  generalize hS1 : gpush σ (.inr (8, g0_X11)) 5 = S1 at p1 e1
  have st : ∀ {S : gS} {fs : List Value} {n m : Nat} {w : Nat → Nat} (k : Nat) (v : Value), oc κ S w 7 σ.2.1 (.inr (8, fs)) → ext nT n m σ ω S w → k < fs.length → ∃ S', gpf κ S (some σ.2.1) 8 k v = some S' ∧ oc κ S' w 7 σ.2.1 (.inr (8, fs.set k v)) ∧ ext nT n m σ ω S' w := fun k v h e hk => ⟨_, oc_pf h hk v, oc_up h _, fresh_gup e (Nat.le_refl _)⟩
  obtain ⟨S2, s2, p2, e2⟩ := st 4 (.ref o) p1 e1 (by decide)
  obtain ⟨S3, s3, p3, e3⟩ := st 1 (.int (-1000)) p2 e2 (by rw [List.length_set]; decide)
  obtain ⟨S4, s4, p4, e4⟩ := st 2 (va_rf (κ.2 37)) p3 e3 (by rw [List.length_set, List.length_set]; decide)
  have hb4 := ext_21 (κ := κ) e4 hb
  obtain ⟨q5, e5⟩ := push_new (κ := κ) (ω := own ω σ.2.1 7) 8 hb4 (.inl (0, gz 0 2)) 2
  have q5 : oc κ _ _ 8 S4.2.1 (.inl (0, 2, .inl (fun _ => (0 : Int32)))) := q5
  have n5 : gna S4 0 (2 : Int32) = some (some S4.2.1, gpush S4 (.inl (0, gz 0 2)) 2) := gna_s S4 (t := 0) (k := 2) (by decide)
  have p5 := oc_mv p4 e5 (fun h => h)
  have E5 : ext nT 2 7 σ ω (gpush S4 (.inl (0, gz 0 2)) 2) _ := ext_mono (ext_trans e4 e5) (fun _ h => h) (by omega) (by omega)
  generalize gpush S4 (.inl (0, gz 0 2)) 2 = S5 at q5 n5 p5 E5
  have s6 := oc_pf (v := .ref S4.2.1) p5 (k := 3) (by simp only [List.length_set]; decide)
  have e6 := oc_ext_up p5 (.inr (8, (((g0_X11.set 4 (.ref o)).set 1 (.int (-1000))).set 2 (va_rf (κ.2 37))).set 3 (.ref S4.2.1))) (fun y => y = 7) rfl
  have p6 := oc_up p5 (.inr (8, (((g0_X11.set 4 (.ref o)).set 1 (.int (-1000))).set 2 (va_rf (κ.2 37))).set 3 (.ref S4.2.1)))
  refine ⟨σ.2.1, S4.2.1, _, _, va_rf (κ.2 37), by show some (some σ.2.1, gpush σ (.inr (8, g0_X11)) 5) = _; rw [hS1], ?_, fresh_gup E5 (Nat.le_refl _), p6, oc_mv q5 e6 (by decide)⟩
  rw [f_X11_init, f_X11_init_0, show va_rf (some o) = .ref o from rfl, s2, gB1_s, gsm_s, gB1_s, s3, gB1_s, s4, gB1_s, n5, gB2_s, show va_rf (some S4.2.1) = .ref S4.2.1 from rfl, s6, gB1_s]
end C
