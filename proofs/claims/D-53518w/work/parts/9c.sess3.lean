set_option maxRecDepth 100000
/-! the component's session: the calls -/
def oR (c v : Int32) (e1 e2 e3 : String) : Int32 ⊕ String := if c = 0 then .inl v else if c = 1 then .inr e1 else if c = 2 then .inr e2 else .inr e3
def CO (κ : gK) (B : Nat → Nat) (bd : Nat) (o : Nat) (σ : gS) (ω : Nat → Nat) (f : Option ((Int32 ⊕ String) × gS)) (r : Int32 × Int32 × aS) (e1 e2 e3 : String) : Prop := ∃ σ' ω', f = some (oR r.1 r.2.1 e1 e2 e3, σ') ∧ ext cT 400 12000 σ ω σ' ω' ∧ KM κ B bd σ' ω' o r.2.2
section C
variable {κ : gK} {B : Nat → Nat} {bd : Nat} {F : Nat} {σ : gS} {ω : Nat → Nat} {o : Nat} {S : aS}
theorem km_cur (h : KM κ B bd σ ω o S) : ∃ t g c, gfR σ (some o) 0 0 = some (some g) ∧ gck σ (some o) 0 = some () ∧ GR κ B bd σ ω t g c S.1 ∧ BD κ B bd σ ω ∧ 16 ≤ t := by
  obtain ⟨t, g, c, sv, cm, fc, L, h1, h2, h3, h4, h5, h6, h7, h8, h9, h10⟩ := h
  exact ⟨t, g, c, by rw [gfR_u, h1.1]; rfl, by rw [gck_u, h1.1]; rfl, h3, h9, h2⟩
theorem outE_oR {sp : (aG × Int32) ⊕ Int32} (e1 e2 e3 : String) (h : ∀ c, sp = .inr c → c = 1 ∨ c = 2) : outE sp e1 e2 = oR (resOf S sp).1 (resOf S sp).2.1 e1 e2 e3 := by
  cases sp with
  | inl q => rfl
  | inr c =>
    rcases h c rfl with rfl | rfl
    · rfl
    · rfl
theorem k_mutCO {n : Nat} (hK : KS κ) (hF : 64 ≤ F) (h : KM κ B bd σ ω o S) (hw : WS n S) {sp : (aG × Int32) ⊕ Int32} {e1 e2 : String} (e3 : String) (hc : ∀ c, sp = .inr c → c = 1 ∨ c = 2) {f : Option Nat → gS → Option ((Int32 ⊕ String) × gS)} (hf : ∀ (t g : Nat) (c : gA) (σ : gS) (ω : Nat → Nat), 0 < t → GR κ B bd σ ω t g c S.1 → BD κ B bd σ ω → ∃ σ' ω' c', f (some g) σ = some (outE sp e1 e2, σ') ∧ ext (gT t) 64 1020 σ ω σ' ω' ∧ GR κ B bd σ' ω' t g c' (gOf S.1 sp)) :
    CO κ B bd o σ ω (gB1 (gfR σ (some o) 0 0) (fun v1 => gB1 (gck σ v1 7) fun _ => gB2 (f_X3_copy κ F v1 σ) fun v3 s2 => gB1 (gck s2 v3 7) fun _ => gB3 (f v3 s2) fun v6 s5 => gB1 (gck s5 (some o) 0) fun _ => gB2 (f_X1_become κ F (some o) v3 v6 s5) fun v9 s8 => some (((.inl v9 : Int32 ⊕ String), s8) : (Int32 ⊕ String) × gS))) (resOf S sp) e1 e2 e3 := by
  obtain ⟨σ', ω', q1, q2, q3⟩ := k_mut hK hF h hw hf
  exact ⟨σ', ω', by rw [q1, outE_oR e1 e2 e3 hc], q2, q3⟩
theorem x_le {T : Nat → Prop} {n m : Nat} {σ' : gS} {ω' : Nat → Nat} (e : ext T n m σ ω σ' ω') (hn : n ≤ 64) (hm : m ≤ 1020) : ext T 64 1020 σ ω σ' ω' := ext_mono e (fun _ h => h) hn hm
theorem x_put {n : Nat} (hK : KS κ) (hT : KT κ) (hF : 64 ≤ F) (h : KM κ B bd σ ω o S) (hw : WS n S) (key v : Int32) : CO κ B bd o σ ω (f_X1_put κ F (some o) key v σ) (resOf S (spPut S.1 key v)) eIA eIS eIS := by
  rw [f_X1_put, f_X1_put_0]
  refine k_mutCO (f := fun a s => f_X3_put κ F a key v s) hK hF h hw eIS (fun c e => ?_) (fun t g c σ ω ht hg hB => ?_)
  · unfold spPut at e
    try simp only at e
    split at e
    · split at e
      · split at e
        · cases e; exact Or.inr rfl
        · cases e
      · cases e; exact Or.inr rfl
    · cases e; exact Or.inl rfl
  · obtain ⟨σ', ω', q1, q2, q3⟩ := k_put (F := F) hg hB hK hT hF ht hw.1 key v
    exact ⟨σ', ω', c, q1, q2, q3⟩
theorem x_remove {n : Nat} (hK : KS κ) (hT : KT κ) (hF : 64 ≤ F) (h : KM κ B bd σ ω o S) (hw : WS n S) (key : Int32) : CO κ B bd o σ ω (f_X1_remove κ F (some o) key σ) (resOf S (spRem S.1 key)) eIA eIS eIS := by
  rw [f_X1_remove, f_X1_remove_0]
  refine k_mutCO (f := fun a s => f_X3_remove κ F a key s) hK hF h hw eIS (fun c e => ?_) (fun t g c σ ω ht hg hB => ?_)
  · unfold spRem at e
    try simp only at e
    repeat' split at e
    all_goals first | (cases e; exact Or.inl rfl) | (cases e; exact Or.inr rfl) | cases e
  · obtain ⟨σ', ω', q1, q2, q3⟩ := k_remove (F := F) hg hB hK hT hF ht hw.1 key
    exact ⟨σ', ω', c, q1, q2, q3⟩
theorem x_commit {n : Nat} (hK : KS κ) (hT : KT κ) (hF : 64 ≤ F) (h : KM κ B bd σ ω o S) (hw : WS n S) (x : Int32) : CO κ B bd o σ ω (f_X1_commit κ F (some o) x σ) (resOf S (spCommit S.1 x)) eIA eIS eIS := by
  rw [f_X1_commit, f_X1_commit_0]
  refine k_mutCO (f := fun a s => f_X3_commit κ F a x s) hK hF h hw eIS (fun c e => ?_) (fun t g c σ ω ht hg hB => ?_)
  · unfold spCommit at e
    try simp only at e
    repeat' split at e
    all_goals first | (cases e; exact Or.inl rfl) | (cases e; exact Or.inr rfl) | cases e
  · obtain ⟨σ', ω', c', q1, q2, q3⟩ := k_commit (F := F) hg hB hT hF ht hw.1 x
    exact ⟨σ', ω', c', q1, x_le q2 (by omega) (by omega), q3⟩
theorem x_close {n : Nat} (hK : KS κ) (hT : KT κ) (hF : 64 ≤ F) (h : KM κ B bd σ ω o S) (hw : WS n S) (x : Int32) : CO κ B bd o σ ω (f_X1_close κ F (some o) x σ) (resOf S (spClose S.1 x)) eIX eIS eIS := by
  rw [f_X1_close, f_X1_close_0]
  refine k_mutCO (f := fun a s => f_X3_close κ F a x s) hK hF h hw eIS (fun c e => ?_) (fun t g c σ ω ht hg hB => ?_)
  · unfold spClose at e
    try simp only at e
    repeat' split at e
    all_goals first | (cases e; exact Or.inl rfl) | (cases e; exact Or.inr rfl) | cases e
  · obtain ⟨σ', ω', c', q1, q2, q3⟩ := k_close (F := F) hg hK hT hF ht hw.1 x
    exact ⟨σ', ω', c', q1, x_le q2 (by omega) (by omega), q3⟩
theorem x_begin {n : Nat} (hK : KS κ) (hT : KT κ) (hF : 64 ≤ F) (h : KM κ B bd σ ω o S) (hw : WS n S) : CO κ B bd o σ ω (f_X1_begin κ F (some o) σ) (resOf S (spBegin S.1)) eIS eIS eIS := by
  rw [f_X1_begin, f_X1_begin_0]
  refine k_mutCO (f := fun a s => f_X3_begin κ F a s) hK hF h hw eIS (fun c e => ?_) (fun t g c σ ω ht hg hB => ?_)
  · unfold spBegin at e
    repeat' split at e
    all_goals first | (cases e; exact Or.inl rfl) | (cases e; exact Or.inr rfl) | cases e
  · obtain ⟨σ', ω', c', q1, q2, q3⟩ := k_begin (F := F) hg hT ht hw.1
    exact ⟨σ', ω', c', q1, x_le q2 (by omega) (by omega), q3⟩
theorem x_abort {n : Nat} (hK : KS κ) (hT : KT κ) (hF : 64 ≤ F) (h : KM κ B bd σ ω o S) (hw : WS n S) : CO κ B bd o σ ω (f_X1_abort κ F (some o) σ) (resOf S (spAbort S.1)) eIS eIS eIS := by
  rw [f_X1_abort, f_X1_abort_0]
  refine k_mutCO (f := fun a s => f_X3_abort κ F a s) hK hF h hw eIS (fun c e => ?_) (fun t g c σ ω ht hg hB => ?_)
  · unfold spAbort at e
    repeat' split at e
    all_goals first | (cases e; exact Or.inl rfl) | (cases e; exact Or.inr rfl) | cases e
  · obtain ⟨σ', ω', c', q1, q2, q3⟩ := k_abort (F := F) hg hB hT hF ht hw.1
    exact ⟨σ', ω', c', q1, x_le q2 (by omega) (by omega), q3⟩
theorem x_open {n : Nat} (hK : KS κ) (hT : KT κ) (hF : 64 ≤ F) (h : KM κ B bd σ ω o S) (hw : WS n S) : CO κ B bd o σ ω (f_X1_open κ F (some o) σ) (resOf S (spOpen S.1)) eIS eIS eIS := by
  rw [f_X1_open, f_X1_open_0]
  refine k_mutCO (f := fun a s => f_X3_open κ F a s) hK hF h hw eIS (fun c e => ?_) (fun t g c σ ω ht hg hB => ?_)
  · unfold spOpen at e
    repeat' split at e
    all_goals first | (cases e; exact Or.inl rfl) | (cases e; exact Or.inr rfl) | cases e
  · obtain ⟨σ', ω', c', q1, q2, q3⟩ := k_open (F := F) hg hT hF ht hw.1
    exact ⟨σ', ω', c', q1, x_le q2 (by omega) (by omega), q3⟩
/-! calls that read -/
theorem co_n {n m : Nat} {σ' : gS} {f : Option ((Int32 ⊕ String) × gS)} {r : Int32 × Int32} {e1 e2 e3 : String} (h : KM κ B bd σ ω o S) (e : ext nT n m σ ω σ' ω) (hn : n ≤ 400) (hm : m ≤ 12000) (hf : f = some (oR r.1 r.2 e1 e2 e3, σ')) : CO κ B bd o σ ω f (r.1, r.2, S) e1 e2 e3 := ⟨σ', ω, hf, nT_le e hn hm, KM_mv h e (fun _ h => h.elim)⟩
theorem co_thr {f : Option ((Int32 ⊕ String) × gS)} {r : Int32 × Int32} {e1 e2 e3 : String} (h : KM κ B bd σ ω o S) (hf : f = some (oR r.1 r.2 e1 e2 e3, gthr σ)) : CO κ B bd o σ ω f (r.1, r.2, S) e1 e2 e3 := co_n h (thr_ext σ ω) (by omega) (by omega) hf
theorem co_id {f : Option ((Int32 ⊕ String) × gS)} {r : Int32 × Int32} {e1 e2 e3 : String} (h : KM κ B bd σ ω o S) (hf : f = some (oR r.1 r.2 e1 e2 e3, σ)) : CO κ B bd o σ ω f (r.1, r.2, S) e1 e2 e3 := co_n h (ext_refl nT σ ω) (by omega) (by omega) hf
theorem x_get {n : Nat} (hT : KT κ) (hF : 64 ≤ F) (h : KM κ B bd σ ω o S) (hw : WS n S) (key : Int32) (e2 e3 : String) : CO κ B bd o σ ω (f_X1_get κ F (some o) key σ) ((spGet S.1 key).1, (spGet S.1 key).2, S) eIA e2 e3 := by
  obtain ⟨t, g, c, r0, _, hg, hB, _⟩ := km_cur h
  rw [f_X1_get, f_X1_get_0, k_reqKey hT]
  unfold spGet
  cases inR key 0 99 with
  | false => exact co_thr (r := (1, 0)) h rfl
  | true =>
    rw [if_pos rfl, if_pos rfl, gB3_l, r0, gB1_s, k_ck hg, gB1_s, k_get hg hB hF hw.1, gB2_s]
    exact co_id (r := (0, _)) h rfl
theorem x_drafted {n : Nat} (hT : KT κ) (hF : 64 ≤ F) (h : KM κ B bd σ ω o S) (hw : WS n S) (key : Int32) (e3 : String) : CO κ B bd o σ ω (f_X1_drafted κ F (some o) key σ) ((spDrafted S.1 key).1, (spDrafted S.1 key).2, S) eIA eIS e3 := by
  obtain ⟨t, g, c, r0, _, hg, hB, _⟩ := km_cur h
  rw [f_X1_drafted, f_X1_drafted_0, k_reqKey hT]
  unfold spDrafted
  cases inR key 0 99 with
  | false => exact co_thr (r := (1, 0)) h rfl
  | true =>
    rw [if_pos rfl, if_pos rfl, gB3_l, r0, gB1_s, k_ck hg, gB1_s, k_drafted hg hB hT hF hw.1]
    cases isDr S.1 with
    | false => exact co_thr (r := (2, 0)) h rfl
    | true => exact co_id (r := (0, _)) h rfl
theorem x_read {n : Nat} (hT : KT κ) (hF : 64 ≤ F) (h : KM κ B bd σ ω o S) (hw : WS n S) (r key : Int32) : CO κ B bd o σ ω (f_X1_read κ F (some o) r key σ) ((spRead S.1 r key).1, (spRead S.1 r key).2, S) eIX eIA eIS := by
  obtain ⟨t, g, c, r0, _, hg, hB, _⟩ := km_cur h
  rw [f_X1_read, f_X1_read_0, k_reqReader hT]
  unfold spRead
  cases c1 : inR r 0 3 with
  | false => exact co_thr (r := (1, 0)) h rfl
  | true =>
    obtain ⟨k, hk, rfl⟩ := inR_nat (b := 3) (by omega) c1
    rw [if_pos rfl, if_pos rfl, gB3_l, k_reqKey hT, (i3_ok (show k < 2147483648 by omega)).2]
    cases inR key 0 99 with
    | false => exact co_thr (r := (2, 0)) h rfl
    | true =>
      rw [if_pos rfl, if_pos rfl, gB3_l, r0, gB1_s, k_ck hg, gB1_s, k_reqOpen hg hT (show k < 4 by omega)]
      obtain ⟨r1, r2⟩ := k_rd hg (k := k) (by omega)
      cases hq : aRd S.1 k with
      | none => exact co_thr (r := (3, 0)) h rfl
      | some q =>
        obtain ⟨a, a1, a2⟩ := r2 q hq
        have a3 : gfI σ (some a) 5 1 = some (Int32.ofNat q.2) := by rw [gfI_u, a2.1]; rfl
        rw [show (some q).isSome = true from rfl, if_pos rfl, if_pos rfl, gB3_l, r0, gB1_s, gB1_s, k_f5 hg, gB1_s, a1, gB1_s, a3, gB1_s, k_ck hg, gB1_s, k_valueBy hg hB hF (WF_vrd hw.1 (by omega) hq), gB2_s, if_pos rfl]
        exact co_id (r := (0, _)) h rfl
theorem k_reqWhat (hT : KT κ) (v : Int32) {w : Nat} (hw : 0 < w ∧ w < 100) : f_X1_requireWhat κ F v (Int32.ofNat w) σ = some (if inR v 0 (Int32.ofNat (w - 1)) then (.inl ()) else .inr eIA, if inR v 0 (Int32.ofNat (w - 1)) then σ else gthr σ) := by
  rw [f_X1_requireWhat, f_X1_requireWhat_0, lg_in (a := 0) (b := Int32.ofNat (w - 1)) (by decide) (by rw [show (1 : Int32) = Int32.ofNat 1 from rfl, i3_sub (by omega)]), gB2_s, k_reqArg hT (b := inR v 0 (Int32.ofNat (w - 1))) (i := 17) (by decide) (by decide) rfl]
  cases inR v 0 (Int32.ofNat (w - 1)) with
  | false => rfl
  | true => rfl
theorem x_root {n : Nat} (hT : KT κ) (hF : 64 ≤ F) (h : KM κ B bd σ ω o S) (hw : WS n S) (r w : Int32) (e3 : String) : CO κ B bd o σ ω (f_X1_root κ F (some o) r w σ) ((spRoot S.1 r w).1, (spRoot S.1 r w).2, S) eIX eIA e3 := by
  obtain ⟨t, g, c, r0, _, hg, hB, _⟩ := km_cur h
  rw [f_X1_root, f_X1_root_0, lg_in (a := 0) (b := 1) (by decide) (by decide), gB2_s, k_reqIdx hT (b := inR r 0 1) (i := 19) (by decide) (by decide) rfl]
  unfold spRoot
  cases c1 : inR r 0 1 with
  | false => exact co_thr (r := (1, 0)) h rfl
  | true =>
    obtain ⟨k, hk, rfl⟩ := inR_nat (b := 1) (by omega) c1
    rw [if_pos rfl, if_pos rfl, gB3_l, L4, k_reqWhat hT w (by omega), (i3_ok (show k < 2147483648 by omega)).2]
    show CO κ B bd o σ ω _ ((if inR w 0 3 then (0, _) else (2, 0) : Int32 × Int32).1, _, S) _ _ _
    rw [show Int32.ofNat (4 - 1) = 3 from rfl]
    cases c2 : inR w 0 3 with
    | false => exact co_thr (r := (2, 0)) h rfl
    | true =>
      obtain ⟨j, hj, rfl⟩ := inR_nat (b := 3) (by omega) c2
      rw [if_pos rfl, if_pos rfl, gB3_l, r0, gB1_s, k_ck hg, gB1_s, k_rootValue hg (by omega) (by omega), gB2_s, (i3_ok (show j < 2147483648 by omega)).2, if_pos rfl]
      exact co_id (r := (0, _)) h rfl
theorem x_reader {n : Nat} (hT : KT κ) (hF : 64 ≤ F) (h : KM κ B bd σ ω o S) (hw : WS n S) (r w : Int32) (e3 : String) : CO κ B bd o σ ω (f_X1_reader κ F (some o) r w σ) ((spReader S.1 r w).1, (spReader S.1 r w).2, S) eIX eIA e3 := by
  obtain ⟨t, g, c, r0, _, hg, hB, _⟩ := km_cur h
  rw [f_X1_reader, f_X1_reader_0, k_reqReader hT]
  unfold spReader
  cases c1 : inR r 0 3 with
  | false => exact co_thr (r := (1, 0)) h rfl
  | true =>
    obtain ⟨k, hk, rfl⟩ := inR_nat (b := 3) (by omega) c1
    rw [if_pos rfl, if_pos rfl, gB3_l, L3, k_reqWhat hT w (by omega), (i3_ok (show k < 2147483648 by omega)).2]
    rw [show Int32.ofNat (3 - 1) = 2 from rfl]
    cases c2 : inR w 0 2 with
    | false => exact co_thr (r := (2, 0)) h rfl
    | true =>
      obtain ⟨j, hj, rfl⟩ := inR_nat (b := 2) (by omega) c2
      obtain ⟨σ', q1, q2⟩ := k_readerValue (F := F) hg hB hF hw.1 (k := k) (w := j) (by omega) (by omega)
      rw [if_pos rfl, if_pos rfl, gB3_l, r0, gB1_s, k_ck hg, gB1_s, q1, gB2_s, (i3_ok (show j < 2147483648 by omega)).2, if_pos rfl]
      exact co_n (r := (0, _)) h q2 (by omega) (by omega) rfl
theorem x_bed {n : Nat} (hK : KS κ) (hT : KT κ) (hF : 64 ≤ F) (h : KM κ B bd σ ω o S) (hw : WS n S) (r w : Int32) (e3 : String) : CO κ B bd o σ ω (f_X1_bed κ F (some o) r w σ) ((spBed S.1 r w).1, (spBed S.1 r w).2, S) eIX eIA e3 := by
  obtain ⟨t, g, c, r0, _, hg, hB, _⟩ := km_cur h
  rw [f_X1_bed, f_X1_bed_0, lg_in (a := 0) (b := 31) (by decide) (by decide), gB2_s, k_reqIdx hT (b := inR r 0 31) (i := 20) (by decide) (by decide) rfl]
  unfold spBed
  cases c1 : inR r 0 31 with
  | false => exact co_thr (r := (1, 0)) h rfl
  | true =>
    obtain ⟨k, hk, rfl⟩ := inR_nat (b := 31) (by omega) c1
    rw [if_pos rfl, if_pos rfl, gB3_l, show (6 : Int32) = Int32.ofNat 6 from rfl, k_reqWhat hT w (by omega), (i3_ok (show k < 2147483648 by omega)).2]
    rw [show Int32.ofNat (6 - 1) = 5 from rfl]
    cases c2 : inR w 0 5 with
    | false => exact co_thr (r := (2, 0)) h rfl
    | true =>
      obtain ⟨j, hj, rfl⟩ := inR_nat (b := 5) (by omega) c2
      obtain ⟨σ', q1, q2⟩ := k_bedValue (F := F) hg hB hK hF (b := k) (w := j) (by omega) (by omega)
      rw [if_pos rfl, if_pos rfl, gB3_l, r0, gB1_s, k_ck hg, gB1_s, q1, gB2_s, (i3_ok (show j < 2147483648 by omega)).2, if_pos rfl]
      exact co_n (r := (0, _)) h q2 (by omega) (by omega) rfl
theorem ents_24 {n : Nat} {A : aG} (hw : WF n A) : entsBy A (dirL A (nowD A)) ≤ 24 := by
  obtain ⟨h1, D, h2, h3, h4, h5⟩ := hw.1.2.2.2.2.2.1
  rw [dirL_of h2]
  have : ∀ D' : List Nat, (∀ b ∈ D', b < 32 ∧ ∃ l, aPg A b = .inl l ∧ okL l) → entsBy A D' ≤ 4 * D'.length := fun D' => by
    induction D' with
    | nil => intro _; exact Nat.le_refl _
    | cons b D' ih =>
      intro hD
      have i := ih (fun c hc => hD c (List.mem_cons_of_mem _ hc))
      obtain ⟨b1, l, b2, b3⟩ := hD b List.mem_cons_self
      have h4 := b3.2.1
      unfold entsBy at i ⊢
      rw [List.map_cons, List.sum_cons, leafL_of b2, List.length_cons]
      omega
  have := this D h5
  omega
theorem x_entry {n : Nat} (hK : KS κ) (hT : KT κ) (hF : 64 ≤ F) (h : KM κ B bd σ ω o S) (hw : WS n S) (r w : Int32) (e3 : String) : CO κ B bd o σ ω (f_X1_entry κ F (some o) r w σ) ((spEntry S.1 r w).1, (spEntry S.1 r w).2, S) eIX eIA e3 := by
  obtain ⟨t, g, c, r0, _, hg, hB, _⟩ := km_cur h
  have hv : f_X3_value κ F (some g) (5 : Int32) σ = some (Int32.ofNat (entsBy S.1 (dirL S.1 (nowD S.1))), σ) := k_value hg hB hK hF hw.1 (w := 5) (by omega)
  rw [f_X1_entry, f_X1_entry_0, r0, gB1_s, k_ck hg, gB1_s, hv, gB2_s, lg_in (a := 0) (b := Int32.ofNat (entsBy S.1 (dirL S.1 (nowD S.1))) - 1) (by decide) rfl, gB2_s, k_reqIdx hT (b := inR r 0 (Int32.ofNat (entsBy S.1 (dirL S.1 (nowD S.1))) - 1)) (i := 18) (by decide) (by decide) rfl]
  unfold spEntry
  cases c1 : inR r 0 (Int32.ofNat (entsBy S.1 (dirL S.1 (nowD S.1))) - 1) with
  | false => exact co_thr (r := (1, 0)) h rfl
  | true =>
    have hle := ents_24 hw.1
    obtain ⟨k, hk', rfl⟩ := ents_pos (by omega) c1
    have hk : k < 1000 := by omega
    rw [if_pos rfl, if_pos rfl, gB3_l, L4, k_reqWhat hT w (by omega), (i3_ok (show k < 2147483648 by omega)).2]
    rw [show Int32.ofNat (4 - 1) = 3 from rfl]
    cases c2 : inR w 0 3 with
    | false => exact co_thr (r := (2, 0)) h rfl
    | true =>
      obtain ⟨j, hj, rfl⟩ := inR_nat (b := 3) (by omega) c2
      rw [if_pos rfl, if_pos rfl, gB3_l, r0, gB1_s, k_ck hg, gB1_s, k_entryValue hg hB hF hw.1 (by omega) hk, gB2_s, (i3_ok (show j < 2147483648 by omega)).2, if_pos rfl]
      exact co_id (r := (0, _)) h rfl
theorem x_bedsFor {n : Nat} (hT : KT κ) (hF : 64 ≤ F) (h : KM κ B bd σ ω o S) (hw : WS n S) (key : Int32) (e3 : String) : CO κ B bd o σ ω (f_X1_bedsFor κ F (some o) key σ) ((spBedsFor S.1 key).1, (spBedsFor S.1 key).2, S) eIA eIS e3 := by
  obtain ⟨t, g, c, r0, _, hg, hB, _⟩ := km_cur h
  rw [f_X1_bedsFor, f_X1_bedsFor_0, k_reqKey hT]
  unfold spBedsFor
  cases inR key 0 99 with
  | false => exact co_thr (r := (1, 0)) h rfl
  | true =>
    obtain ⟨σ', q1, q2⟩ := k_bedsFor (F := F) hg hB hT hF hw.1 key
    rw [if_pos rfl, if_pos rfl, gB3_l, r0, gB1_s, k_ck hg, gB1_s, q1]
    cases isDr S.1 with
    | false => exact co_n (r := (2, 0)) h q2 (by omega) (by omega) rfl
    | true => exact co_n (r := (0, _)) h q2 (by omega) (by omega) rfl
theorem x_reason {n : Nat} (hK : KS κ) (hT : KT κ) (hF : 64 ≤ F) (h : KM κ B bd σ ω o S) (hw : WS n S) (key : Int32) (e3 : String) : CO κ B bd o σ ω (f_X1_reason κ F (some o) key σ) ((spReason S.1 key).1, (spReason S.1 key).2, S) eIA eIS e3 := by
  obtain ⟨t, g, c, r0, _, hg, hB, _⟩ := km_cur h
  rw [f_X1_reason, f_X1_reason_0, k_reqKey hT]
  unfold spReason
  cases inR key 0 99 with
  | false => exact co_thr (r := (1, 0)) h rfl
  | true =>
    obtain ⟨σ', q1, q2⟩ := k_reason (F := F) hg hB hK hT hF hw.1 key
    rw [if_pos rfl, if_pos rfl, gB3_l, r0, gB1_s, k_ck hg, gB1_s, q1]
    cases isDr S.1 with
    | false => exact co_n (r := (2, 0)) h q2 (by omega) (by omega) rfl
    | true => exact co_n (r := (0, _)) h q2 (by omega) (by omega) rfl
theorem x_neededWithout {n : Nat} (hT : KT κ) (hF : 64 ≤ F) (h : KM κ B bd σ ω o S) (hw : WS n S) (r : Int32) (e3 : String) : CO κ B bd o σ ω (f_X1_neededWithout κ F (some o) r σ) ((spNeeded S.1 r).1, (spNeeded S.1 r).2, S) eIX eIS e3 := by
  obtain ⟨t, g, c, r0, _, hg, hB, _⟩ := km_cur h
  rw [f_X1_neededWithout, f_X1_neededWithout_0, k_reqReader hT]
  unfold spNeeded
  cases c1 : inR r 0 3 with
  | false => exact co_thr (r := (1, 0)) h rfl
  | true =>
    obtain ⟨k, hk, rfl⟩ := inR_nat (b := 3) (by omega) c1
    rw [if_pos rfl, if_pos rfl, gB3_l, r0, gB1_s, k_ck hg, gB1_s, k_reqOpen hg hT (show k < 4 by omega), (i3_ok (show k < 2147483648 by omega)).2]
    cases (aRd S.1 k).isSome with
    | false => exact co_thr (r := (2, 0)) h rfl
    | true =>
      rw [if_pos rfl, if_pos rfl, gB3_l, r0, gB1_s, k_ck hg, gB1_s, k_neededWithout hg (by omega), gB2_s, if_pos rfl]
      exact co_id (r := (0, _)) h rfl
end C
