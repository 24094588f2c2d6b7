set_option maxRecDepth 100000
/-! changedSince: two function objects, and what they answer for each key -/
section C
variable {κ : gK} {B : Nat → Nat} {bd : Nat} {F : Nat} {σ : gS} {ω : Nat → Nat} {t g : Nat} {c : gA} {A : aG} {o : Nat} {S : aS}
theorem f_of0 {f g : Nat} {d key : Int32} (h : σ.1 f = some (.inr (100, [.ref g, .int d]))) : f_of κ F (some f) key σ = gB1 (gck σ (some g) 7) fun _ => f_X3_lambda_changedSince_0 κ F (some g) d key σ := by
  unfold f_of
  simp only [h]
theorem f_of1 {f g : Nat} {key : Int32} (h : σ.1 f = some (.inr (101, [.ref g]))) : f_of κ F (some f) key σ = gB1 (gck σ (some g) 7) fun _ => f_X3_lambda_changedSince_1 κ F (some g) key σ := by
  unfold f_of
  simp only [h]
theorem k_of0 (h : GR κ B bd σ ω t g c A) (hB : BD κ B bd σ ω) (hF : 64 ≤ F) {d : Nat} (hV : okV A d) {f : Nat} (hf : σ.1 f = some (.inr (100, [.ref g, .int (Int32.ofNat d)]))) (key : Int32) : f_of κ F (some f) key σ = some (valBy A d key, σ) := by
  rw [f_of0 hf, k_ck h, gB1_s, f_X3_lambda_changedSince_0, f_X3_lambda_changedSince_0_0, k_ck h, gB1_s, k_valueBy h hB hF hV, gB2_s]
theorem k_of1 {n : Nat} (h : GR κ B bd σ ω t g c A) (hB : BD κ B bd σ ω) (hF : 64 ≤ F) (hw : WF n A) {f : Nat} (hf : σ.1 f = some (.inr (101, [.ref g]))) (key : Int32) : f_of κ F (some f) key σ = some (valBy A (nowD A) key, σ) := by
  rw [f_of1 hf, k_ck h, gB1_s, f_X3_lambda_changedSince_1, f_X3_lambda_changedSince_1_0, k_ck h, gB1_s, k_get h hB hF hw, gB2_s]
theorem k_unlike4 {n : Nat} (h : GR κ B bd σ ω t g c A) (hB : BD κ B bd σ ω) (hF : 64 ≤ F) (hw : WF n A) {d : Nat} (hV : okV A d) {f0 f1 : Nat} (h0 : σ.1 f0 = some (.inr (100, [.ref g, .int (Int32.ofNat d)]))) (h1 : σ.1 f1 = some (.inr (101, [.ref g]))) : ∀ (e fuel i : Nat), i + e = 100 → e < fuel → f_X8_unlike_4 κ F fuel (some f0) (some f1) (Int32.ofNat (unl A d i)) (Int32.ofNat i) σ = some (Int32.ofNat (unl A d 100), σ) := by
  intro e
  induction e with
  | zero =>
    intro fuel i hi hf
    obtain ⟨fuel, rfl⟩ : ∃ k, fuel = k + 1 := ⟨fuel - 1, by omega⟩
    obtain rfl : i = 100 := by omega
    rw [f_X8_unlike_4, f_X8_unlike_4b, if_pos (by decide)]
  | succ e ih =>
    intro fuel i hi hf
    obtain ⟨fuel, rfl⟩ : ∃ k, fuel = k + 1 := ⟨fuel - 1, by omega⟩
    have hu : unl A d (i + 1) = unl A d i + (if !(valBy A (nowD A) (Int32.ofNat i) == valBy A d (Int32.ofNat i)) then 1 else 0) := cnt_s _ _
    have hi2 := ih fuel (i + 1) (by omega) (by omega)
    rw [f_X8_unlike_4, f_X8_unlike_4b, show (100 : Int32) = Int32.ofNat 100 from rfl, if_neg (by rw [i3_le (by omega) (by omega)]; omega), k_of0 h hB hF hV h0, gB2_s, k_of1 h hB hF hw h1, gB2_s]
    by_cases c1 : valBy A d (Int32.ofNat i) = valBy A (nowD A) (Int32.ofNat i)
    · rw [if_pos c1, f_X8_unlike_33]
      rw [hu, c1] at hi2
      rw [show Int32.ofNat (unl A d i) + 0 = Int32.ofNat (unl A d i) from Int32.add_zero _, i3_s]
      simpa using hi2
    · rw [if_neg c1, f_X8_unlike_33]
      have c2 : (valBy A (nowD A) (Int32.ofNat i) == valBy A d (Int32.ofNat i)) = false := beq_eq_false_iff_ne.mpr (Ne.symm c1)
      rw [hu, c2] at hi2
      rw [i3_s, i3_s]
      simpa using hi2
theorem x_changedSince {n : Nat} (hT : KT κ) (hF : 200 ≤ F) (h : KM κ B bd σ ω o S) (hw : WS n S) (r : Int32) (e3 : String) : CO κ B bd o σ ω (f_X1_changedSince κ F (some o) r σ) ((spChanged S.1 r).1, (spChanged S.1 r).2, S) eIX eIS e3 := by
  obtain ⟨t, g, c, r0, _, hg, hB, ht⟩ := km_cur h
  rw [f_X1_changedSince, f_X1_changedSince_0, k_reqReader hT]
  unfold spChanged
  cases c1 : inR r 0 3 with
  | false => exact co_thr (r := (1, 0)) h rfl
  | true =>
    obtain ⟨k, hk, rfl⟩ := inR_nat (b := 3) (by omega) c1
    rw [if_pos rfl, if_pos rfl, gB3_l, r0, gB1_s, k_ck hg, gB1_s, k_reqOpen hg hT (show k < 4 by omega), (i3_ok (show k < 2147483648 by omega)).2]
    obtain ⟨r1, r2⟩ := k_rd hg (k := k) (by omega)
    cases hq : aRd S.1 k with
    | none => exact co_thr (r := (2, 0)) h rfl
    | some q =>
      obtain ⟨a, a1, a2⟩ := r2 q hq
      have a3 : gfI σ (some a) 5 1 = some (Int32.ofNat q.2) := by rw [gfI_u, a2.1]; rfl
      have hb : κ.1 ≤ σ.2.1 := by have h1 := hg.1.2.1; have h2 := hg.1.2.2.2; omega
      obtain ⟨p1, p2⟩ := push_new (κ := κ) (ω := ω) 15 hb (.inr (100, [.ref g, .int (Int32.ofNat q.2)])) 2
      have y0 : gly0 σ (some g) (Int32.ofNat q.2) = some (some σ.2.1, gpush σ (.inr (100, [.ref g, .int (Int32.ofNat q.2)])) 2) := rfl
      rw [show (some q).isSome = true from rfl, if_pos rfl, if_pos rfl, gB3_l, r0, gB1_s, k_ck hg, gB1_s, f_X3_changedSince, f_X3_changedSince_0, k_f5 hg, gB1_s, a1, gB1_s, a3, gB1_s, y0, gB2_s]
      generalize gpush σ (.inr (100, [.ref g, .int (Int32.ofNat q.2)])) 2 = S1 at p1 p2
      generalize own ω σ.2.1 15 = w1 at p1 p2
      have hb1 := ext_21 (κ := κ) p2 hb
      obtain ⟨p3, p4⟩ := push_new (κ := κ) (ω := w1) 15 hb1 (.inr (101, [.ref g])) 1
      have y1 : gly1 S1 (some g) = some (some S1.2.1, gpush S1 (.inr (101, [.ref g])) 1) := rfl
      rw [y1, gB2_s]
      have p5 := oc_mv p1 p4 (fun h => h)
      generalize gpush S1 (.inr (101, [.ref g])) 1 = S2 at p3 p4 p5
      generalize own w1 S1.2.1 15 = w2 at p3 p4 p5
      have E : ext nT 2 3 σ ω S2 w2 := ext_mono (ext_trans p2 p4) (fun _ h => h) (by omega) (by omega)
      have hg2 := GR_mv hg E (fun _ _ h => h) (fun h => h)
      have hB2 := BD_mv hB E (fun h => h)
      have run := k_unlike4 (F := F) hg2 hB2 (by omega) hw.1 (WF_vrd hw.1 (by omega) hq) p5.1 p3.1 100 F 0 rfl (by omega)
      have run : f_X8_unlike_4 κ F F (some σ.2.1) (some S1.2.1) (0 : Int32) (0 : Int32) S2 = some (Int32.ofNat (unl S.1 q.2 100), S2) := run
      refine ⟨S2, w2, ?_, nT_le E (by omega) (by omega), KM_mv h E (fun _ h => h.elim)⟩
      rw [f_X8_unlike, f_X8_unlike_0, run, gB2_s, gB2_s]
      rfl
end C
