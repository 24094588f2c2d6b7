set_option maxRecDepth 100000
/-! THE LAW'S STEP: the component's call and the reference's, side by side -/
def MC (m : Nat) (V : mV) (H : gS) (ω : Nat → Nat) : Prop := (∀ a, m ≤ a → a ≤ m + 6 → H.1 a = some (mCell m V (a - m)) ∧ ω a = 5) ∧ m + 6 < H.2.1
def KL (κ : gK) (B : Nat → Nat) (bd : Nat) (H : gS) (ω : Nat → Nat) (b n : Nat) (fs : Nat → Int32) (x m out N : Nat) (S : aS) : Prop :=
  cS H ω b (.inl (9, n, .inl fs)) ∧ KM κ B bd H ω x S ∧ (∃ V, MM V S ∧ MC m V H ω) ∧ (∃ v, oc κ H ω 6 out (.inl (1, 1, .inr (.inl v)))) ∧ WS N S ∧ κ.1 ≤ m
/-- what a step may write -/
def lT (y : Nat) : Prop := y ≠ 0
section C
variable {κ : gK} {B : Nat → Nat} {bd : Nat} {F : Nat} {H : gS} {ω : Nat → Nat} {b n : Nat} {fs : Nat → Int32} {x m out N : Nat} {S : aS}
theorem MC_eq {V : mV} (h : MC m V H ω) : MH m V H = H := by
  unfold MH
  refine Prod.ext (funext fun a => ?_) rfl
  dsimp only
  by_cases c : m ≤ a ∧ a ≤ m + 6
  · rw [if_pos c, (h.1 a c.1 c.2).1]
  · rw [if_neg c]
theorem MC_mv {V : mV} {T : Nat → Prop} {c k : Nat} {H1 : gS} {ω1 : Nat → Nat} (h : MC m V H ω) (e : ext T c k H ω H1 ω1) (hT : ¬ T 5) : MC m V H1 ω1 := by
  obtain ⟨a1, a2, a3, a4, a5, a6⟩ := e
  refine ⟨fun a h1 h2 => ?_, Nat.lt_of_lt_of_le h.2 a1⟩
  have hb := h.1 a h1 h2
  have hl : a < H.2.1 := Nat.lt_of_le_of_lt h2 h.2
  exact ⟨by rw [a6 a hl (by rw [hb.2]; exact hT)]; exact hb.1, by rw [a5 a hl]; exact hb.2⟩
theorem MC_set {V V' : mV} (h : MC m V H ω) : MC m V' (MH m V' H) ω ∧ ext (fun y => y = 5) 0 0 H ω (MH m V' H) ω := by
  refine ⟨⟨fun a h1 h2 => ⟨?_, (h.1 a h1 h2).2⟩, h.2⟩, Nat.le_refl _, Nat.le_refl _, Nat.le_refl _, Nat.le_refl _, fun _ _ => rfl, fun a ha hT => ?_⟩
  · unfold MH
    dsimp only
    rw [if_pos ⟨h1, h2⟩]
  · unfold MH
    dsimp only
    rw [if_neg (fun c => hT (h.1 a c.1 c.2).2)]
theorem oc_sJ {o a : Nat} {f : Nat → Int64} {v : Int64} (h : oc κ H ω o a (.inl (1, 1, .inr (.inl f)))) : gsJ κ H (some a) (0 : Int32) v = some (gup H a (.inl (1, 1, .inr (.inl (va_up f 0 v))))) := by
  unfold gsJ
  simp only
  rw [h.1]
  simp only
  rw [if_pos ⟨trivial, by decide, h.2.2.2⟩]
  rfl
theorem oc_aJ {o a : Nat} {f : Nat → Int64} (h : oc κ H ω o a (.inl (1, 1, .inr (.inl f)))) : gaJ H (some a) 1 (0 : Int32) = some (f 0) := by
  unfold gaJ
  simp only
  rw [h.1]
  simp only
  rw [if_pos ⟨trivial, by decide⟩]
  rfl
/-- what a wrapper does with a call's outcome -/
def wOut (κ : gK) (out : Nat) (r : Int32 × Int32) (σ : gS) : Option (Int32 × gS) := if r.1 = 0 then gB1 (gsJ κ σ (some out) (0 : Int32) (r.2.toInt64)) fun s4 => some ((0 : Int32), s4) else some (r.1, σ)
theorem w_op1 {f1 : Option ((Int32 ⊕ String) × gS)} {r : Int32 × Int32} {e1 e2 e3 : String} {σ' : gS} (hk : gck H (some x) 0 = some ()) (hf : f1 = some (oR r.1 r.2 e1 e2 e3, σ')) (hc : r.1 = 0 ∨ r.1 = 1) :
    (gB1 (gck H (some x) 0) fun _ => gBy f1 (fun C s1 => if C = e1 then some ((1 : Int32), s1) else none) fun v2 s1 => gB1 (gsJ κ s1 (some out) (0 : Int32) (v2.toInt64)) fun s4 => some ((0 : Int32), s4)) = wOut κ out r σ' := by
  obtain ⟨c, v⟩ := r
  simp only at hc hf
  rw [hk, gB1_s, hf]
  rcases hc with rfl | rfl
  · rfl
  · show (if e1 = e1 then _ else _) = _
    rw [if_pos rfl]
    rfl
theorem w_op2 {f1 : Option ((Int32 ⊕ String) × gS)} {r : Int32 × Int32} {e1 e2 e3 : String} {σ' : gS} (hk : gck H (some x) 0 = some ()) (hf : f1 = some (oR r.1 r.2 e1 e2 e3, σ')) (hc : r.1 = 0 ∨ r.1 = 1 ∨ r.1 = 2) (h12 : e2 ≠ e1) :
    (gB1 (gck H (some x) 0) fun _ => gBy f1 (fun C s1 => if C = e1 then some ((1 : Int32), s1) else if C = e2 then some ((2 : Int32), s1) else none) fun v2 s1 => gB1 (gsJ κ s1 (some out) (0 : Int32) (v2.toInt64)) fun s4 => some ((0 : Int32), s4)) = wOut κ out r σ' := by
  obtain ⟨c, v⟩ := r
  simp only at hc hf
  rw [hk, gB1_s, hf]
  rcases hc with rfl | rfl | rfl
  · rfl
  · show (if e1 = e1 then _ else _) = _
    rw [if_pos rfl]
    rfl
  · show (if e2 = e1 then _ else if e2 = e2 then _ else _) = _
    rw [if_neg h12, if_pos rfl]
    rfl
theorem w_op3 {f1 : Option ((Int32 ⊕ String) × gS)} {r : Int32 × Int32} {e1 e2 e3 : String} {σ' : gS} (hk : gck H (some x) 0 = some ()) (hf : f1 = some (oR r.1 r.2 e1 e2 e3, σ')) (hc : r.1 = 0 ∨ r.1 = 1 ∨ r.1 = 2 ∨ r.1 = 3) (h12 : e2 ≠ e1) (h13 : e3 ≠ e1) (h23 : e3 ≠ e2) :
    (gB1 (gck H (some x) 0) fun _ => gBy f1 (fun C s1 => if C = e1 then some ((1 : Int32), s1) else if C = e2 then some ((2 : Int32), s1) else if C = e3 then some ((3 : Int32), s1) else none) fun v2 s1 => gB1 (gsJ κ s1 (some out) (0 : Int32) (v2.toInt64)) fun s4 => some ((0 : Int32), s4)) = wOut κ out r σ' := by
  obtain ⟨c, v⟩ := r
  simp only at hc hf
  rw [hk, gB1_s, hf]
  rcases hc with rfl | rfl | rfl | rfl
  · rfl
  · show (if e1 = e1 then _ else _) = _
    rw [if_pos rfl]
    rfl
  · show (if e2 = e1 then _ else if e2 = e2 then _ else _) = _
    rw [if_neg h12, if_pos rfl]
    rfl
  · show (if e3 = e1 then _ else if e3 = e2 then _ else if e3 = e3 then _ else _) = _
    rw [if_neg h13, if_neg h23, if_pos rfl]
    rfl
/-- the law, behind the component's call -/
noncomputable def lwT (κ : gK) (F : Nat) (l2 l3 : Option Nat) (q : gS → Option (Int32 × gS)) (K : gS → Option (Int32 × gS)) (v4 : Int32) (s3 : gS) : Option (Int32 × gS) :=
  gB1 (gck s3 l2 9) fun _ => gB2 (q s3) fun v6 s5 => gB1 (gck s5 l2 9) fun _ => gB2 (f_X6_thrown κ F l2 s5) fun v9 s8 =>
    if v9 = v4 then
      if v4 = 0 then gB1 (gaJ s8 l3 1 (0 : Int32)) fun v11 => if (lg_cmp v11 (v6.toInt64)) = 0 then K s8 else gB1 (gok .boolean (0 : Int32)) fun _ => gB1 (glb κ s8) fun _ => some ((0 : Int32), s8)
      else K s8
    else gB1 (gok .boolean (0 : Int32)) fun _ => gB1 (glb κ s8) fun _ => some ((0 : Int32), s8)
/-- one step -/
theorem l_step {N' : Nat} {f1 : Option ((Int32 ⊕ String) × gS)} {r : Int32 × Int32 × aS} {e1 e2 e3 : String} {q : gS → Option (Int32 × gS)} (h : KL κ B bd H ω b n fs x m out N S) (hx : CO κ B bd x H ω f1 r e1 e2 e3) (hq : ∀ V σ, MM V S → ∃ V', q (MH m V σ) = some (r.2.1, MH m V' σ) ∧ vth V' = r.1 ∧ MM V' r.2.2 ∧ WS N' r.2.2) :
    ∃ σ' H1 H2 ω2, f1 = some (oR r.1 r.2.1 e1 e2 e3, σ') ∧ wOut κ out (r.1, r.2.1) σ' = some (r.1, H1) ∧ cS H1 ω2 b (.inl (9, n, .inl fs)) ∧ (∀ K, lwT κ F (some m) (some out) q K r.1 H1 = K H2) ∧ ext lT 400 12000 H ω H2 ω2 ∧ KL κ B bd H2 ω2 b n fs x m out N' r.2.2 := by
  obtain ⟨h1, h2, ⟨V, h3, h4⟩, ⟨v, h5⟩, h6, h7⟩ := h
  obtain ⟨σ', ω', q1, q2, q3⟩ := hx
  have a1 := cS_mv h1 q2 (fun e => e.1 rfl)
  have a4 := MC_mv h4 q2 (fun e => e.2.1 rfl)
  have a5 := oc_mv h5 q2 (fun e => e.2.2 rfl)
  -- what the wrapper leaves
  obtain ⟨H1, w1, w2, w3, w4⟩ : ∃ H1, wOut κ out (r.1, r.2.1) σ' = some (r.1, H1) ∧ ext (fun y => y = 6) 0 0 σ' ω' H1 ω' ∧ (∃ v', oc κ H1 ω' 6 out (.inl (1, 1, .inr (.inl v')))) ∧ (r.1 = 0 → gaJ H1 (some out) 1 (0 : Int32) = some (r.2.1.toInt64)) := by
    unfold wOut
    by_cases c : r.1 = 0
    · rw [if_pos c]
      have z1 := oc_ext_up a5 (.inl (1, 1, .inr (.inl (va_up v 0 (r.2.1.toInt64))))) (fun y => y = 6) rfl
      have z2 := oc_up a5 (.inl (1, 1, .inr (.inl (va_up v 0 (r.2.1.toInt64)))))
      refine ⟨_, ?_, z1, ⟨_, z2⟩, fun _ => ?_⟩
      · show gB1 (gsJ κ σ' (some out) (0 : Int32) (r.2.1.toInt64)) _ = _
        rw [oc_sJ a5, gB1_s, c]
      · rw [oc_aJ z2, vup_at]
    · rw [if_neg c]
      exact ⟨σ', rfl, ext_refl _ _ _, ⟨v, a5⟩, fun e => absurd e c⟩
  obtain ⟨v', w3⟩ := w3
  have b1 := cS_mv a1 w2 (by decide)
  have b3 := KM_mv q3 w2 (fun y hy => Or.inr (Or.inl hy))
  have b4 := MC_mv a4 w2 (by decide)
  obtain ⟨V', r1, r2, r3, r4⟩ := hq V H1 h3
  rw [MC_eq b4] at r1
  obtain ⟨c1, c2⟩ := MC_set (V' := V') b4
  have d1 := cS_mv b1 c2 (by decide)
  have d3 := KM_mv b3 c2 (fun y hy => Or.inl hy)
  have d5 := oc_mv w3 c2 (by decide)
  refine ⟨σ', H1, MH m V' H1, ω', q1, w1, b1, fun K => ?_, ?_, d1, d3, ⟨V', r3, c1⟩, ⟨v', d5⟩, r4, h7⟩
  · have k1 : gck H1 (some m) 9 = some () := by have := MH_ck (m := m) (V := V) (σ := H1); rw [MC_eq b4] at this; exact this
    have k2 : f_X6_thrown κ F (some m) (MH m V' H1) = some (r.1, MH m V' H1) := by rw [f_X6_thrown, f_X6_thrown_0, MH_vth, gB1_s, r2]
    unfold lwT
    rw [k1, gB1_s, r1, gB2_s, MH_ck, gB1_s, k2, gB2_s, if_pos rfl]
    by_cases c : r.1 = 0
    · have g1 : gaJ (MH m V' H1) (some out) 1 (0 : Int32) = some (r.2.1.toInt64) := by
        have g2 := w4 c
        rw [oc_aJ w3] at g2
        rw [oc_aJ d5, g2]
      rw [if_pos c, g1, gB1_s, if_pos ((lg_cmp_eq _ _).mpr rfl)]
    · rw [if_neg c]
  · exact ext_mono (ext_trans (ext_mono q2 (T' := lT) (fun y hy => hy.1) (Nat.le_refl _) (Nat.le_refl _)) (ext_trans (ext_mono w2 (fun y hy => by rw [hy]; exact (by decide : (6 : Nat) ≠ 0)) (Nat.le_refl _) (Nat.le_refl _)) (ext_mono c2 (fun y hy => by rw [hy]; exact (by decide : (5 : Nat) ≠ 0)) (Nat.le_refl _) (Nat.le_refl _)))) (fun y hy => hy) (by omega) (by omega)
end C
