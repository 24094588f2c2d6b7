set_option maxRecDepth 100000
/-! THE COMPONENT'S SESSION. Owners: 0 shared or constant, 1 the object, 2 the list, 3 its row, 4 the text's row, 5 the reference's, 6 the law's, 7..15 a text that is read; gardens from 16 on. -/
def cS (σ : gS) (ω : Nat → Nat) (a : Nat) (c : gC) : Prop := σ.1 a = some c ∧ a < σ.2.1 ∧ ω a = 0
theorem cS_mv {T : Nat → Prop} {c n : Nat} {σ σ1 : gS} {ω ω1 : Nat → Nat} {a : Nat} {d : gC} (h : cS σ ω a d) (e : ext T c n σ ω σ1 ω1) (ht : ¬ T 0) : cS σ1 ω1 a d := by
  obtain ⟨a1, a2, a3, a4, a5, a6⟩ := e
  exact ⟨by rw [a6 a h.2.1 (by rw [h.2.2]; exact ht)]; exact h.1, Nat.lt_of_lt_of_le h.2.1 a1, by rw [a5 a h.2.1]; exact h.2.2⟩
/-- the commands' words -/
def wdL : List (Nat × List Nat) := [(10, [112, 117, 116]), (11, [100, 114, 111, 112]), (12, [99, 111, 109, 109, 105, 116]), (13, [99, 108, 111, 115, 101]), (14, [98, 101, 103, 105, 110]), (15, [97, 98, 111, 114, 116]), (16, [111, 112, 101, 110])]
def KW (κ : gK) (σ : gS) (ω : Nat → Nat) (i : Nat) (w : List Nat) : Prop := ∃ (a v : Nat) (h z : Int32) (f : Nat → Int32), κ.2 i = some a ∧ cS σ ω a (.inr (16, [.ref v, .int 0, .int h, .int z])) ∧ cS σ ω v (.inl (2, w.length, .inl f)) ∧ ∀ k, k < w.length → f k = Int32.ofNat (w.getD k 0)
/-- the constants in the heap -/
def KQ (κ : gK) (σ : gS) (ω : Nat → Nat) : Prop := (∃ a f, κ.2 4 = some a ∧ cS σ ω a (.inl (8, 0, rA f))) ∧ ∀ p ∈ wdL, KW κ σ ω p.1 p.2
theorem KQ_mv {κ : gK} {T : Nat → Prop} {c n : Nat} {σ σ1 : gS} {ω ω1 : Nat → Nat} (h : KQ κ σ ω) (e : ext T c n σ ω σ1 ω1) (ht : ¬ T 0) : KQ κ σ1 ω1 := by
  obtain ⟨⟨a, f, a1, a2⟩, h2⟩ := h
  refine ⟨⟨a, f, a1, cS_mv a2 e ht⟩, fun p hp => ?_⟩
  obtain ⟨a, v, h, z, f, b1, b2, b3, b4⟩ := h2 p hp
  exact ⟨a, v, h, z, f, b1, cS_mv b2 e ht, cS_mv b3 e ht, b4⟩
abbrev sE : Type := Nat × Nat × gA
def SL (κ : gK) (B : Nat → Nat) (bd : Nat) (σ : gS) (ω : Nat → Nat) : List sE → List aG → Prop
  | [], [] => True
  | x :: L, A :: LA => GR κ B bd σ ω x.1 x.2.1 x.2.2 A ∧ SL κ B bd σ ω L LA
  | [], _ :: _ => False
  | _ :: _, [] => False
/-- the list of saved gardens -/
def AL (κ : gK) (σ : gS) (ω : Nat → Nat) (sv : Nat) (L : List Nat) : Prop := ∃ (md : Int32) (ar : Nat) (f : Nat → Option Nat), oc κ σ ω 2 sv (.inr (13, [.int md, .ref ar, .int (Int32.ofNat L.length)])) ∧ ((κ.2 4 = some ar ∧ L = [] ∧ cS σ ω ar (.inl (8, 0, rA f))) ∨ (oc κ σ ω 3 ar (.inl (8, 10, rA f)) ∧ ∀ i, i < L.length → f i = some (L.getD i 0)))
def TS (t : Nat) (L : List sE) : Prop := (∀ x ∈ L, 16 ≤ x.1 ∧ x.1 + 16 ≤ t) ∧ L.Pairwise (fun x y => x.1 + 16 ≤ y.1)
def KM (κ : gK) (B : Nat → Nat) (bd : Nat) (σ : gS) (ω : Nat → Nat) (o : Nat) (S : aS) : Prop := ∃ (t g : Nat) (c : gA) (sv cm : Nat) (fc : Nat → Int32) (L : List sE),
  oc κ σ ω 1 o (.inr (0, [.ref g, .ref sv, .ref cm, .int (Int32.ofNat S.2.2.length)])) ∧ 16 ≤ t ∧ GR κ B bd σ ω t g c S.1 ∧ AL κ σ ω sv (L.map (fun x => x.2.1)) ∧ SL κ B bd σ ω L S.2.1 ∧ TS t L ∧ oc κ σ ω 4 cm (.inl (2, 150, .inl fc)) ∧ (∀ i, i < S.2.2.length → fc i = S.2.2.getD i 0) ∧ BD κ B bd σ ω ∧ KQ κ σ ω
/-- what a call may write -/
def cT (x : Nat) : Prop := x ≠ 0 ∧ x ≠ 5 ∧ x ≠ 6
section C
variable {κ : gK} {B : Nat → Nat} {bd : Nat} {F : Nat} {σ : gS} {ω : Nat → Nat} {t g : Nat} {c : gA} {A : aG}
theorem SL_len : ∀ {L : List sE} {LA : List aG}, SL κ B bd σ ω L LA → L.length = LA.length
  | [], [], _ => rfl
  | _ :: L, _ :: LA, h => congrArg (· + 1) (SL_len (L := L) (LA := LA) h.2)
theorem SL_mv {T : Nat → Prop} {n m : Nat} {σ1 : gS} {ω1 : Nat → Nat} (e : ext T n m σ ω σ1 ω1) (h0 : ¬ T 0) : ∀ {L : List sE} {LA : List aG}, SL κ B bd σ ω L LA → (∀ x ∈ L, ∀ y, gU x.1 y → ¬ T y) → SL κ B bd σ1 ω1 L LA
  | [], [], _, _ => trivial
  | x :: L, A :: LA, h, hT => ⟨GR_mv h.1 e (hT x List.mem_cons_self) h0, SL_mv e h0 h.2 (fun y hy => hT y (List.mem_cons_of_mem _ hy))⟩
theorem SL_tail : ∀ {L : List sE} {LA : List aG}, SL κ B bd σ ω L LA → SL κ B bd σ ω L.tail LA.tail
  | [], [], _ => trivial
  | _ :: _, _ :: _, h => h.2
theorem SL_snoc {x : sE} (hx : GR κ B bd σ ω x.1 x.2.1 x.2.2 A) : ∀ {L : List sE} {LA : List aG}, SL κ B bd σ ω L LA → SL κ B bd σ ω (L ++ [x]) (LA ++ [A])
  | [], [], _ => ⟨hx, trivial⟩
  | _ :: L, _ :: LA, h => ⟨h.1, SL_snoc hx (L := L) (LA := LA) h.2⟩
theorem SL_uns : ∀ {L : List sE} {LA : List aG} {x : sE}, SL κ B bd σ ω (L ++ [x]) LA → ∃ LA' A, LA = LA' ++ [A] ∧ SL κ B bd σ ω L LA' ∧ GR κ B bd σ ω x.1 x.2.1 x.2.2 A
  | [], [A], x, h => ⟨[], A, rfl, trivial, h.1⟩
  | y :: L, A :: LA, x, h => by
    obtain ⟨LA', A', h1, h2, h3⟩ := SL_uns (L := L) (LA := LA) (x := x) h.2
    exact ⟨A :: LA', A', by rw [h1]; rfl, ⟨h.1, h2⟩, h3⟩
theorem AL_mv {T : Nat → Prop} {n m : Nat} {σ1 : gS} {ω1 : Nat → Nat} {sv : Nat} {L : List Nat} (h : AL κ σ ω sv L) (e : ext T n m σ ω σ1 ω1) (h0 : ¬ T 0) (h2 : ¬ T 2) (h3 : ¬ T 3) : AL κ σ1 ω1 sv L := by
  obtain ⟨md, ar, f, a1, a2⟩ := h
  refine ⟨md, ar, f, oc_mv a1 e h2, ?_⟩
  rcases a2 with ⟨b1, b2, b3⟩ | ⟨b1, b2⟩
  · exact Or.inl ⟨b1, b2, cS_mv b3 e h0⟩
  · exact Or.inr ⟨oc_mv b1 e h3, b2⟩
/-- the list: what is read -/
theorem al_size {sv : Nat} {L : List Nat} (h : AL κ σ ω sv L) : f_J25_size κ F (some sv) σ = some (Int32.ofNat L.length, σ) ∧ gck σ (some sv) 13 = some () := by
  obtain ⟨md, ar, f, a1, a2⟩ := h
  constructor
  · rw [f_J25_size, f_J25_size_0, gfI_u, a1.1]; rfl
  · rw [gck_u, a1.1]; rfl
/-- the list: one is added -/
theorem al_add {sv : Nat} {L : List Nat} (h : AL κ σ ω sv L) (hl : L.length < 10) {g : Nat} {fs : List Value} (hg : σ.1 g = some (.inr (7, fs))) (hgb : g < σ.2.1) (hg3 : ω g ≠ 2 ∧ ω g ≠ 3) :
    ∃ σ' ω', f_J25_add κ F (some sv) (some g) σ = some (1, σ') ∧ ext (fun x => x = 2 ∨ x = 3) 1 10 σ ω σ' ω' ∧ AL κ σ' ω' sv (L ++ [g]) := by
  obtain ⟨md, ar, f, a1, a2⟩ := h
  have hb : κ.1 ≤ σ.2.1 := by have h1 := a1.2.1; have h2 := a1.2.2.2; omega
  have hll : (L ++ [g]).length = L.length + 1 := by rw [List.length_append]; rfl
  have r0 : gfI σ (some sv) 13 0 = some md := by rw [gfI_u, a1.1]; rfl
  have s1 := oc_pf (v := .int (md + 1)) a1 (k := 0) (show 0 < 3 by decide)
  have e1 := oc_ext_up a1 (.inr (13, [.int (md + 1), .ref ar, .int (Int32.ofNat L.length)])) (fun x => x = 2) rfl
  have b1 := oc_up a1 (.inr (13, [.int (md + 1), .ref ar, .int (Int32.ofNat L.length)]))
  have s1' : gpf κ σ (some sv) 13 0 (.int (md + 1)) = some (gup σ sv (.inr (13, [.int (md + 1), .ref ar, .int (Int32.ofNat L.length)]))) := s1
  generalize gup σ sv (.inr (13, [.int (md + 1), .ref ar, .int (Int32.ofNat L.length)])) = S1 at s1' e1 b1
  have r1 : gfR S1 (some sv) 13 1 = some (some ar) := by rw [gfR_u, b1.1]; rfl
  have r2 : gfI S1 (some sv) 13 2 = some (Int32.ofNat L.length) := by rw [gfI_u, b1.1]; rfl
  have r3 : gck S1 (some sv) 13 = some () := by rw [gck_u, b1.1]; rfl
  have hg1 : S1.1 g = some (.inr (7, fs)) := by rw [e1.2.2.2.2.2 g hgb hg3.1]; exact hg
  have fin : ∀ {S : gS} {w : Nat → Nat} {ar' : Nat} {f' : Nat → Option Nat}, oc κ S w 2 sv (.inr (13, [.int (md + 1), .ref ar', .int (Int32.ofNat L.length)])) → oc κ S w 3 ar' (.inl (8, 10, rA f')) → (∀ i, i < L.length → f' i = some (L.getD i 0)) → S.1 g = some (.inr (7, fs)) → ∃ S', f_J25_add_2_11 κ F (some sv) (some g) (some ar') (Int32.ofNat L.length) S = some ((), S') ∧ ext (fun x => x = 2 ∨ x = 3) 0 0 S w S' w ∧ AL κ S' w sv (L ++ [g]) := by
    intro S w ar' f' x1 x2 x3 x4
    have hok : gokR κ S 8 (some g) := by
      unfold gokR
      left
      rw [x4]
      show (8, 7) ∈ gOkA
      decide
    have t1 := oc_sR (v := some g) x2 (by omega) hl (by omega) hok
    have z1 := oc_ext_up x2 (.inl (8, 10, rA (va_up f' L.length (some g)))) (fun x => x = 3) rfl
    have y2 := oc_up x2 (.inl (8, 10, rA (va_up f' L.length (some g))))
    have y1 := oc_mv x1 z1 (by decide)
    have t1' : gsR κ S (some ar') (Int32.ofNat L.length) (some g) = some (gup S ar' (.inl (8, 10, rA (va_up f' L.length (some g))))) := t1
    generalize gup S ar' (.inl (8, 10, rA (va_up f' L.length (some g)))) = S2 at t1' z1 y2 y1
    have t2 := oc_pf (v := .int (Int32.ofNat L.length + 1)) y1 (k := 2) (show 2 < 3 by decide)
    have z2 := oc_ext_up y1 (.inr (13, [.int (md + 1), .ref ar', .int (Int32.ofNat (L.length + 1))])) (fun x => x = 2) rfl
    have y3 := oc_up y1 (.inr (13, [.int (md + 1), .ref ar', .int (Int32.ofNat (L.length + 1))]))
    have t2' : gpf κ S2 (some sv) 13 2 (.int (Int32.ofNat L.length + 1)) = some (gup S2 sv (.inr (13, [.int (md + 1), .ref ar', .int (Int32.ofNat (L.length + 1))]))) := by rw [t2, i3_s]; rfl
    refine ⟨_, ?_, ext_mono (ext_trans (ext_mono z1 (fun _ h => Or.inr h) (Nat.le_refl _) (Nat.le_refl _)) (ext_mono z2 (fun _ h => Or.inl h) (Nat.le_refl _) (Nat.le_refl _))) (fun _ h => h) (by omega) (by omega), ⟨md + 1, ar', va_up f' L.length (some g), by rw [hll]; exact y3, Or.inr ⟨oc_mv y2 z2 (by decide), fun i hi => ?_⟩⟩⟩
    · rw [f_J25_add_2_11, t1', gB1_s, t2', gB1_s]
    · rw [hll] at hi
      by_cases e : i = L.length
      · rw [e, vup_at]; simp
      · rw [vup_ne e, x3 i (by omega)]
        simp [List.getD_eq_getElem?_getD, List.getElem?_append_left (show i < L.length by omega)]
  have e1' : ext (fun x => x = 2 ∨ x = 3) 0 0 σ ω S1 ω := ext_mono e1 (fun _ h => Or.inl h) (Nat.le_refl _) (Nat.le_refl _)
  rcases a2 with ⟨c1, c2, c3⟩ | ⟨c1, c2⟩
  · subst c2
    have c3' := cS_mv c3 e1 (by decide)
    have hb1 := ext_21 (κ := κ) e1 hb
    obtain ⟨p1, p2⟩ := push_new (κ := κ) (ω := ω) 3 hb1 (.inl (8, gz 8 10)) 10
    have p1 : oc κ _ _ 3 S1.2.1 (.inl (8, 10, rA (fun _ => none))) := p1
    have b2 := oc_mv b1 p2 (fun h => h)
    have n1 : gna S1 8 (10 : Int32) = some (some S1.2.1, gpush S1 (.inl (8, gz 8 10)) 10) := gna_s S1 (t := 8) (k := 10) (by decide)
    have hg2 : (gpush S1 (.inl (8, gz 8 10)) 10).1 g = some (.inr (7, fs)) := by rw [p2.2.2.2.2.2 g (Nat.lt_of_lt_of_le hgb e1.1) (fun h => h)]; exact hg1
    have E2 : ext (fun x => x = 2 ∨ x = 3) 1 10 σ ω (gpush S1 (.inl (8, gz 8 10)) 10) (own ω S1.2.1 3) := ext_mono (ext_trans e1' (nT_le p2 (Nat.le_refl _) (Nat.le_refl _))) (fun _ h => h) (by omega) (by omega)
    generalize gpush S1 (.inl (8, gz 8 10)) 10 = S2 at n1 p1 p2 b2 hg2 E2
    have t2 := oc_pf (v := .ref S1.2.1) b2 (k := 1) (show 1 < 3 by decide)
    have z2 := oc_ext_up b2 (.inr (13, [.int (md + 1), .ref S1.2.1, .int (Int32.ofNat 0)])) (fun x => x = 2) rfl
    have y3 := oc_up b2 (.inr (13, [.int (md + 1), .ref S1.2.1, .int (Int32.ofNat 0)]))
    have t2' : gpf κ S2 (some sv) 13 1 (.ref S1.2.1) = some (gup S2 sv (.inr (13, [.int (md + 1), .ref S1.2.1, .int (Int32.ofNat 0)]))) := t2
    have p3 := oc_mv p1 z2 (by decide)
    have hg3' : (gup S2 sv (.inr (13, [.int (md + 1), .ref S1.2.1, .int (Int32.ofNat 0)]))).1 g = some (.inr (7, fs)) := by
      rw [z2.2.2.2.2.2 g (Nat.lt_of_lt_of_le hgb E2.1) (by rw [E2.2.2.2.2.1 g hgb]; exact hg3.1)]; exact hg2
    generalize gup S2 sv (.inr (13, [.int (md + 1), .ref S1.2.1, .int (Int32.ofNat 0)])) = S3 at t2' z2 y3 p3 hg3'
    obtain ⟨S4, q1, q2, q3⟩ := fin y3 p3 (fun i hi => absurd hi (Nat.not_lt_zero _)) hg3'
    refine ⟨S4, _, ?_, ext_mono (ext_trans E2 (ext_trans (ext_mono z2 (fun _ h => Or.inl h) (Nat.le_refl _) (Nat.le_refl _)) q2)) (fun _ h => h) (by omega) (by omega), q3⟩
    have gl : gal S1 (some ar) = some (Int32.ofNat 0) := by rw [gal_u, c3'.1, gal9_s _ _ _ (by decide)]
    rw [f_J25_add, f_J25_add_0, r0, gB1_s, s1', gB1_s, r1, gB1_s, r2, gB1_s, r3, gB1_s, f_J25_add_2, f_J25_add_2_0, gl, gB1_s, if_pos (show Int32.ofNat ([] : List Nat).length = Int32.ofNat 0 from rfl), r3, gB1_s, f_J25_grow, f_J25_grow_0, r2, gB1_s, r3, gB1_s, f_J25_grow_2, f_J25_grow_2_0, r1, gB1_s, gl, gB1_s, if_neg (by decide), gB1_s, if_pos c1.symm]
    rw [show (if (10 : Int32) < Int32.ofNat ([] : List Nat).length + 1 then Int32.ofNat ([] : List Nat).length + 1 else (10 : Int32)) = 10 from by decide, n1, gB2_s]
    show gB2 (gB2 (gB2 (gB1 (gpf κ S2 (some sv) 13 1 (.ref S1.2.1)) _) _) _) _ = _
    rw [t2', gB1_s, gB2_s, gB2_s, q1, gB2_s]
    rfl
  · have c1' := oc_mv c1 e1 (by decide)
    obtain ⟨S4, q1, q2, q3⟩ := fin b1 c1' c2 hg1
    refine ⟨S4, _, ?_, ext_mono (ext_trans e1' q2) (fun _ h => h) (by omega) (by omega), q3⟩
    have gl : gal S1 (some ar) = some (Int32.ofNat 10) := by rw [gal_u, c1'.1, gal9_s _ _ _ (by decide)]
    rw [f_J25_add, f_J25_add_0, r0, gB1_s, s1', gB1_s, r1, gB1_s, r2, gB1_s, r3, gB1_s, f_J25_add_2, f_J25_add_2_0, gl, gB1_s, if_neg (by rw [i3_inj (by omega) (by omega)]; omega), q1, gB2_s]
    rfl
theorem i3_p1 (n : Nat) : Int32.ofNat (n + 1) - (1 : Int32) = Int32.ofNat n := by
  rw [show (1 : Int32) = Int32.ofNat 1 from rfl, i3_sub (by omega)]; rfl
/-- the list: one is removed -/
theorem al_rem {sv : Nat} {L : List Nat} (h : AL κ σ ω sv L) (hl : L.length < 10) {k : Nat} (hk : k < L.length) (hL : ∀ i, i < L.length → ∃ fs, σ.1 (L.getD i 0) = some (.inr (7, fs))) :
    ∃ σ', f_J25_remove κ F (some sv) (Int32.ofNat k) σ = some (some (L.getD k 0), σ') ∧ ext (fun x => x = 2 ∨ x = 3) 0 0 σ ω σ' ω ∧ (k = 0 → AL κ σ' ω sv L.tail) ∧ (k + 1 = L.length → AL κ σ' ω sv L.dropLast) := by
  obtain ⟨md, ar, f, a1, a2⟩ := h
  rcases a2 with ⟨c1, c2, c3⟩ | ⟨c1, c2⟩
  · subst c2; exact absurd hk (Nat.not_lt_zero _)
  · obtain ⟨n, hn⟩ : ∃ n, L.length = n + 1 := ⟨L.length - 1, by omega⟩
    rw [hn] at a1
    have r2 : gfI σ (some sv) 13 2 = some (Int32.ofNat (n + 1)) := by rw [gfI_u, a1.1]; rfl
    have r1 : gfR σ (some sv) 13 1 = some (some ar) := by rw [gfR_u, a1.1]; rfl
    have r3 : gck σ (some sv) 13 = some () := by rw [gck_u, a1.1]; rfl
    have r0 : gfI σ (some sv) 13 0 = some md := by rw [gfI_u, a1.1]; rfl
    have r4 : gaR σ (some ar) (Int32.ofNat k) = some (some (L.getD k 0)) := by rw [gaR_u, c1.1, ← c2 k hk]; exact gar9_s (by omega) (by omega) (by omega)
    have s1 := oc_pf (v := .int (md + 1)) a1 (k := 0) (show 0 < 3 by decide)
    have e1 := oc_ext_up a1 (.inr (13, [.int (md + 1), .ref ar, .int (Int32.ofNat (n + 1))])) (fun x => x = 2) rfl
    have b1 := oc_up a1 (.inr (13, [.int (md + 1), .ref ar, .int (Int32.ofNat (n + 1))]))
    have s1' : gpf κ σ (some sv) 13 0 (.int (md + 1)) = some (gup σ sv (.inr (13, [.int (md + 1), .ref ar, .int (Int32.ofNat (n + 1))]))) := s1
    have n1 : ar ≠ sv := oc_ne c1 a1 (by intro e; cases e)
    have hL1 : ∀ i, i < L.length → gokR κ (gup σ sv (.inr (13, [.int (md + 1), .ref ar, .int (Int32.ofNat (n + 1))]))) 8 (some (L.getD i 0)) := fun i hi => by
      obtain ⟨fs, h1⟩ := hL i hi
      unfold gokR
      left
      rw [gup_ne (fun e => by rw [e, a1.1] at h1; cases h1), h1]
      show (8, 7) ∈ gOkA
      decide
    generalize gup σ sv (.inr (13, [.int (md + 1), .ref ar, .int (Int32.ofNat (n + 1))])) = S1 at s1' e1 b1 hL1
    have c1' := oc_mv c1 e1 (by decide)
    have r21 : gfI S1 (some sv) 13 2 = some (Int32.ofNat (n + 1)) := by rw [gfI_u, b1.1]; rfl
    have fin : ∀ {f' : Nat → Option Nat} {S : gS}, oc κ S ω 3 ar (.inl (8, 10, rA f')) → oc κ S ω 2 sv (.inr (13, [.int (md + 1), .ref ar, .int (Int32.ofNat (n + 1))])) → ∃ S', f_J25_fastRemove_34 κ F (some sv) (some ar) (Int32.ofNat n) S = some ((), S') ∧ ext (fun x => x = 2 ∨ x = 3) 0 0 S ω S' ω ∧ ∀ L' : List Nat, L'.length = n → (∀ i, i < n → f' i = some (L'.getD i 0)) → AL κ S' ω sv L' := by
      intro f' S x1 x2
      have t1 := oc_pf (v := .int (Int32.ofNat n)) x2 (k := 2) (show 2 < 3 by decide)
      have z1 := oc_ext_up x2 (.inr (13, [.int (md + 1), .ref ar, .int (Int32.ofNat n)])) (fun x => x = 2) rfl
      have y1 := oc_up x2 (.inr (13, [.int (md + 1), .ref ar, .int (Int32.ofNat n)]))
      have t1' : gpf κ S (some sv) 13 2 (.int (Int32.ofNat n)) = some (gup S sv (.inr (13, [.int (md + 1), .ref ar, .int (Int32.ofNat n)]))) := t1
      have y2 := oc_mv x1 z1 (by decide)
      generalize gup S sv (.inr (13, [.int (md + 1), .ref ar, .int (Int32.ofNat n)])) = S2 at t1' z1 y1 y2
      have t2 := oc_sR (v := none) y2 (by omega) (show n < 10 by omega) (by omega) trivial
      have z2 := oc_ext_up y2 (.inl (8, 10, rA (va_up f' n none))) (fun x => x = 3) rfl
      have y3 := oc_up y2 (.inl (8, 10, rA (va_up f' n none)))
      refine ⟨_, ?_, ext_mono (ext_trans (ext_mono z1 (fun _ h => Or.inl h) (Nat.le_refl _) (Nat.le_refl _)) (ext_mono z2 (fun _ h => Or.inr h) (Nat.le_refl _) (Nat.le_refl _))) (fun _ h => h) (by omega) (by omega), fun L' hl' hf' => ⟨md + 1, ar, va_up f' n none, by rw [hl']; exact oc_mv y1 z2 (by decide), Or.inr ⟨y3, fun i hi => ?_⟩⟩⟩
      · rw [f_J25_fastRemove_34, t1', gB1_s, t2, gB1_s]
        rfl
      · rw [vup_ne (by omega)]; exact hf' i (by omega)
    have e1' : ext (fun x => x = 2 ∨ x = 3) 0 0 σ ω S1 ω := ext_mono e1 (fun _ h => Or.inl h) (Nat.le_refl _) (Nat.le_refl _)
    have run : ∀ {S' : gS}, f_J25_fastRemove κ F (some sv) (some ar) (Int32.ofNat k) σ = some ((), S') → f_J25_remove κ F (some sv) (Int32.ofNat k) σ = some (some (L.getD k 0), S') := fun {S'} hr => by
      rw [f_J25_remove, f_J25_remove_0, r2, gB1_s, f_J39_checkIndex, f_J39_checkIndex_0, f_J16_checkIndex, f_J16_checkIndex_0, if_neg (i3_ok (by omega)).1, if_pos (by rw [i3_lt (by omega) (by omega)]; omega), gB2_s, gB2_s, r1, gB1_s, r4, gB1_s, r3, gB1_s, hr, gB2_s]
    by_cases e : k = n
    · obtain ⟨S2, q1, q2, q3⟩ := fin c1' b1
      refine ⟨S2, run ?_, ext_mono (ext_trans e1' q2) (fun _ h => h) (by omega) (by omega), fun h0 => q3 _ (by rw [List.length_tail]; omega) (fun i hi => by omega), fun _ => q3 _ (by rw [List.length_dropLast]; omega) (fun i hi => ?_)⟩
      · rw [f_J25_fastRemove, f_J25_fastRemove_0, r0, gB1_s, s1', gB1_s, r21, gB1_s, i3_p1, if_pos (by rw [i3_le (by omega) (by omega)]; omega), q1]
      · rw [c2 i (by omega)]
        simp [List.getD_eq_getElem?_getD, List.getElem?_dropLast, show i < L.length - 1 by omega, show i < L.length by omega]
    · have hok : ∀ i, i < (Int32.ofNat (n - k)).toNatClampNeg → gokR κ S1 8 (f ((Int32.ofNat (k + 1)).toNatClampNeg + i)) := fun i hi => by
        rw [(i3_ok (by omega)).2] at hi
        rw [(i3_ok (by omega)).2, c2 _ (by omega)]
        exact hL1 _ (by omega)
      have n3 := gcpR_eq (κ := κ) (sp := Int32.ofNat (k + 1)) (dp := Int32.ofNat k) (n := Int32.ofNat (n - k)) c1'.1 c1'.1 (by omega) (by omega) c1'.2.2.2 c1'.2.2.2 (i3_ok (by omega)).1 (i3_ok (by omega)).1 (i3_ok (by omega)).1 (by rw [(i3_ok (by omega)).2, (i3_ok (by omega)).2]; omega) (by rw [(i3_ok (by omega)).2, (i3_ok (by omega)).2]; omega) hok
      rw [(i3_ok (show k + 1 < 2147483648 by omega)).2, (i3_ok (show k < 2147483648 by omega)).2, (i3_ok (show n - k < 2147483648 by omega)).2] at n3
      have z3 := oc_ext_up c1' (.inl (8, 10, rA (va_cpy f f (k + 1) k (n - k)))) (fun x => x = 3) rfl
      have y3 := oc_up c1' (.inl (8, 10, rA (va_cpy f f (k + 1) k (n - k))))
      have b3 := oc_mv b1 z3 (by decide)
      have n3 : gcpR κ S1 (some ar) (Int32.ofNat (k + 1)) (some ar) (Int32.ofNat k) (Int32.ofNat (n - k)) = some (gup S1 ar (.inl (8, 10, rA (va_cpy f f (k + 1) k (n - k))))) := n3
      generalize gup S1 ar (.inl (8, 10, rA (va_cpy f f (k + 1) k (n - k)))) = S3 at n3 z3 y3 b3
      obtain ⟨S2, q1, q2, q3⟩ := fin y3 b3
      refine ⟨S2, run ?_, ext_mono (ext_trans e1' (ext_trans (ext_mono z3 (fun _ h => Or.inr h) (Nat.le_refl _) (Nat.le_refl _)) q2)) (fun _ h => h) (by omega) (by omega), fun h0 => q3 _ (by rw [List.length_tail]; omega) (fun i hi => ?_), fun h0 => absurd h0 (by omega)⟩
      · rw [f_J25_fastRemove, f_J25_fastRemove_0, r0, gB1_s, s1', gB1_s, r21, gB1_s, i3_p1, if_neg (by rw [i3_le (by omega) (by omega)]; omega), i3_s, i3_sub (show k ≤ n by omega), n3, gB1_s, q1]
      · subst h0
        unfold va_cpy
        rw [if_pos (by omega), show 0 + 1 + (i - 0) = i + 1 by omega, c2 (i + 1) (by omega)]
        cases L with
        | nil => rfl
        | cons y L => rfl
end C
