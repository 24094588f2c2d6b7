set_option maxRecDepth 100000
/-! FUNCTION OBJECTS: the two call sites of Garden.changedSince, and the call of what they make -/
/-- what the tables say of a class that was made for a site -/
theorem lb_made {e : Setting} {vm : Vm} {d c : ClassId} {dk : Class} {sh : Lambda.Shape} {D : ClassFile} {fw : Method} {lay : Array Field × Array FieldType × Array FieldType} {code : ByteArray}
    (hfile : sh.file "PageGarden$Garden" = some D) (hsec : ∀ ms, layoutMethods D = some ms → ms[1]? = some fw) (hlay0 : layoutFields D 0 = some lay)
    (hcode : (fw.code.map fun c => (c.code.data, c.maxLocals)) = some (code.data, 2)) (hfl0 : (fw.accessFlags, fw.sig.returnType) = (0x0001, (some .int : Option FieldType)))
    (hd : vm.classes[d]? = some dk) (hname : dk.name = "PageGarden$Garden") (h : Lambda.isMade e vm d sh c = true)
    (hO : ∀ o ok, vm.findClass "java/lang/Object" = some o → vm.classes[o]? = some ok → ok.instanceTypes.size = 0) :
    ∃ (k tk : Class) (file : ClassFile) (methk : Method) (ck : Code) (toy : ClassId) (t found : MethodId) (ifc : ClassId),
      vm.classes[c]? = some k ∧ k.name = "PageGarden$Garden$$Lambda" ∧ k.cf = some file ∧ file.constantPool = D.constantPool ∧
      vm.method? ⟨c, 1⟩ = some methk ∧ methk.code = some ck ∧ ck.code = code ∧ ck.maxLocals = 2 ∧ methk.locks = false ∧ methk.accessFlags = 0x0001 ∧ methk.sig.returnType = some .int ∧
      vm.findClass sh.implClass = some toy ∧ vm.classes[toy]? = some tk ∧ tk.isInterface = sh.implItf ∧ ((methodIn toy sh.implName sh.implDesc.toString tk.isInterface none).ask e vm).1 = .ok t ∧
      (∀ (i : Nat) x, (Lambda.resolvedOf e vm D lay.1 c)[i]? = some (some x) → k.resolved[i]? = some (some x)) ∧ (∀ (i : Nat) a, lay.1[i]? = some a → k.fields[i]? = some a) ∧
      k.instanceTypes = lay.2.1 ∧ k.kind = .ordinary ∧ vm.findClass sh.iface = some ifc ∧ ((methodIn ifc sh.name sh.sam.toString true none).ask e vm).1 = .ok found ∧ selectMethod {} vm c found = .method ⟨c, 1⟩ := by
  obtain ⟨dk', k, ok, tk, file, cf, object, iface, toy, lay', methods, target, found, hd', hk, hcf0, hcf, hobj, hifc, hok, hlay, hms, ht, htk, hg, hfound, hrec, -, -, -, hitf, hpool, hmeth, hfields, hty, hres, hsel⟩ := Lambda.isMade_spec h
  cases hd.symm.trans hd'
  rw [hname, hfile] at hcf
  cases hcf
  have hok0 : ok.instanceTypes = #[] := Array.eq_empty_of_size_eq_zero (hO object ok hobj hok)
  rw [hO object ok hobj hok, hlay0] at hlay
  cases hlay
  obtain ⟨b, hb, hsame⟩ := hmeth 1 fw (hsec methods hms)
  simp only [Lambda.sameMethod, Bool.and_eq_true, decide_eq_true_eq] at hsame
  obtain ⟨⟨hn, -, hsig, hfl⟩, hcd⟩ := hsame
  simp only [Prod.mk.injEq] at hfl0
  cases hfc : fw.code with
  | none => rw [hfc] at hcode; cases hcode
  | some x =>
    cases hbc : b.code with
    | none => simp [hfc, hbc] at hcd
    | some y =>
      simp only [hfc, hbc, Bool.and_eq_true, decide_eq_true_eq] at hcd
      simp only [hfc, Option.map_some, Option.some.injEq, Prod.mk.injEq] at hcode
      refine ⟨k, tk, file, b, y, toy, target, found, iface, hk, by rw [hrec.1, hname]; rfl, hcf0, hpool.2.1, by simp [Vm.method?, hk, hb], hbc, ?_, by rw [← hcd.1.1.1.1.2.1]; exact hcode.2, ?_, by rw [← hfl]; exact hfl0.1, by rw [← hsig]; exact hfl0.2, ht, htk, hitf, hg, hres, hfields, by rw [hty.1, hok0]; simp, hrec.2.1, hifc, hfound, hsel⟩
      · rw [← hcd.1.1.1.1.2.2]
        exact ByteArray.ext hcode.1
      · simp [Method.locks, Method.isSynchronized, ← hfl, hfl0.1, hasFlag, Acc.synchronized]
/-! the two classes -/
def lb_none : ClassFile := { minorVersion := 0, majorVersion := 0, constantPool := #[], accessFlags := 0, thisClass := 0, superClass := 0, interfaces := #[], fields := #[], methods := #[], attributes := #[] }
def lb_D (sh : Lambda.Shape) : ClassFile := (sh.file "PageGarden$Garden").getD lb_none
def lb_fw (sh : Lambda.Shape) : Method := ((layoutMethods (lb_D sh)).bind (·[1]?)).getD default
def lb_lay (sh : Lambda.Shape) : Array Field × Array FieldType × Array FieldType := (layoutFields (lb_D sh) 0).getD (#[], #[], #[])
theorem lb_file {sh : Lambda.Shape} (h : (sh.file "PageGarden$Garden").isSome = true) : sh.file "PageGarden$Garden" = some (lb_D sh) := by
  obtain ⟨x, hx⟩ := Option.isSome_iff_exists.mp h
  simp [lb_D, hx]
theorem lb_sec {sh : Lambda.Shape} (h : ((layoutMethods (lb_D sh)).bind (·[1]?)).isSome = true) : ∀ ms, layoutMethods (lb_D sh) = some ms → ms[1]? = some (lb_fw sh) := by
  intro ms hms
  obtain ⟨x, hx⟩ := Option.isSome_iff_exists.mp h
  have hf : lb_fw sh = x := by simp [lb_fw, hx]
  rw [hms] at hx
  rw [hf]
  exact hx
theorem lb_laid {sh : Lambda.Shape} (h : (layoutFields (lb_D sh) 0).isSome = true) : layoutFields (lb_D sh) 0 = some (lb_lay sh) := by
  obtain ⟨x, hx⟩ := Option.isSome_iff_exists.mp h
  simp [lb_lay, hx]
def lb_c0 : ByteArray := ⟨#[0x2a, 0xb4, 0x00, 0x11, 0x2a, 0xb4, 0x00, 0x13, 0x1b, 0xb6, 0x00, 0x1b, 0xac]⟩
def lb_c1 : ByteArray := ⟨#[0x2a, 0xb4, 0x00, 0x0f, 0x1b, 0xb6, 0x00, 0x16, 0xac]⟩
theorem lb_a0 : decode lb_c0 0 = .ok (.aload_n 0, 1) := by decide +kernel
theorem lb_a1 : decode lb_c0 1 = .ok (.getfield 17, 3) := by decide +kernel
theorem lb_a4 : decode lb_c0 4 = .ok (.aload_n 0, 1) := by decide +kernel
theorem lb_a5 : decode lb_c0 5 = .ok (.getfield 19, 3) := by decide +kernel
theorem lb_a8 : decode lb_c0 8 = .ok (.iload_n 1, 1) := by decide +kernel
theorem lb_a9 : decode lb_c0 9 = .ok (.invokevirtual 27, 3) := by decide +kernel
theorem lb_a12 : decode lb_c0 12 = .ok (.ireturn, 1) := by decide +kernel
theorem lb_b0 : decode lb_c1 0 = .ok (.aload_n 0, 1) := by decide +kernel
theorem lb_b1 : decode lb_c1 1 = .ok (.getfield 15, 3) := by decide +kernel
theorem lb_b4 : decode lb_c1 4 = .ok (.iload_n 1, 1) := by decide +kernel
theorem lb_b5 : decode lb_c1 5 = .ok (.invokevirtual 22, 3) := by decide +kernel
theorem lb_b8 : decode lb_c1 8 = .ok (.ireturn, 1) := by decide +kernel
theorem lb_h0 : (lsh0.file "PageGarden$Garden").isSome = true ∧ ((layoutMethods (lb_D lsh0)).bind (·[1]?)).isSome = true ∧ (layoutFields (lb_D lsh0) 0).isSome = true ∧ ((lb_fw lsh0).code.map fun c => (c.code.data, c.maxLocals)) = some (lb_c0.data, 2) ∧ ((lb_fw lsh0).accessFlags, (lb_fw lsh0).sig.returnType) = (0x0001, (some .int : Option FieldType)) := by decide +kernel
theorem lb_h1 : (lsh1.file "PageGarden$Garden").isSome = true ∧ ((layoutMethods (lb_D lsh1)).bind (·[1]?)).isSome = true ∧ (layoutFields (lb_D lsh1) 0).isSome = true ∧ ((lb_fw lsh1).code.map fun c => (c.code.data, c.maxLocals)) = some (lb_c1.data, 2) ∧ ((lb_fw lsh1).accessFlags, (lb_fw lsh1).sig.returnType) = (0x0001, (some .int : Option FieldType)) := by decide +kernel
theorem lb_m0 : (lb_D lsh0).constantPool[27]? = some (.methodref 23 26) ∧ (lb_D lsh0).constantPool.className? 23 = some "PageGarden$Garden" ∧ (lb_D lsh0).constantPool.nameAndType? 26 = some ("lambda$changedSince$0", "(II)I") := by decide +kernel
theorem lb_m1 : (lb_D lsh1).constantPool[22]? = some (.methodref 19 21) ∧ (lb_D lsh1).constantPool.className? 19 = some "PageGarden$Garden" ∧ (lb_D lsh1).constantPool.nameAndType? 21 = some ("lambda$changedSince$1", "(I)I") := by decide +kernel
theorem lb_k0 : (lb_D lsh0).constantPool[23]? = some (.class_ 22) ∧ (lb_D lsh0).constantPool.string? 22 = some "PageGarden$Garden" ∧ 23 ≠ (lb_D lsh0).thisClass := by decide +kernel
theorem lb_k1 : (lb_D lsh1).constantPool[19]? = some (.class_ 18) ∧ (lb_D lsh1).constantPool.string? 18 = some "PageGarden$Garden" ∧ 19 ≠ (lb_D lsh1).thisClass := by decide +kernel
theorem lb_f00 : (lb_D lsh0).constantPool[17]? = some (.fieldref 2 16) ∧ (lb_D lsh0).constantPool.nameAndType? 16 = some ("arg$1", "LPageGarden$Garden;") ∧ (lb_lay lsh0).1.findIdx? (·.name == "arg$1") = some 0 ∧ ((lb_lay lsh0).1[0]?).map (fun f => (f.isStatic, f.slot)) = some (false, 0) := by decide +kernel
theorem lb_f01 : (lb_D lsh0).constantPool[19]? = some (.fieldref 2 18) ∧ (lb_D lsh0).constantPool.nameAndType? 18 = some ("arg$2", "I") ∧ (lb_lay lsh0).1.findIdx? (·.name == "arg$2") = some 1 ∧ ((lb_lay lsh0).1[1]?).map (fun f => (f.isStatic, f.slot)) = some (false, 1) := by decide +kernel
theorem lb_f10 : (lb_D lsh1).constantPool[15]? = some (.fieldref 2 14) ∧ (lb_D lsh1).constantPool.nameAndType? 14 = some ("arg$1", "LPageGarden$Garden;") ∧ (lb_lay lsh1).1.findIdx? (·.name == "arg$1") = some 0 ∧ ((lb_lay lsh1).1[0]?).map (fun f => (f.isStatic, f.slot)) = some (false, 0) := by decide +kernel
theorem lb_t0 : (lb_lay lsh0).2.1 = #[.object "PageGarden$Garden", .int] := by decide +kernel
theorem lb_t1 : (lb_lay lsh1).2.1 = #[.object "PageGarden$Garden"] := by decide +kernel
/-! the run of a made class's method -/
section LB
variable {p : Program} {l : Launch} {e : Env} {R : Room} {s : State} {m : MethodId} {args : Array Value} {below : List Frame} {meth : Method} {c : Code} {T : State} {locs : List Loc} {cells slots : Nat}
theorem lb_get (Y : Stand p l e R s m args below meth c T locs cells slots) (hexec : p.tables.exec = Jvm.exec) {g : JFrame} (hg : g.method = m) {index cF a : Nat} {field : Field} {cell : Cell} {v : Value} {rest : List Value}
    (hr : T.vm.fieldReady m.cls index cF field) (hst : field.isStatic = false) (hstack : g.stack = .ref a :: rest) (hcell : T.heap[a]? = some cell) (hknown : cell.vm ≠ .unknown) (hv : cell.slots[field.slot]? = some v)
    (hdg : decode c.code g.pc = .ok (.getfield index, 3)) {s₀ : State} (come : Steps p.tables e below s₀ (T.setTop g)) : Steps p.tables e below s₀ (T.setTop { g with pc := g.pc + 3, stack := v :: rest }) := by
  subst hg
  refine come.trans ?_
  jvm_step Y.here [hexec, hdg, getfield.wp_ready (e := e) (s := T) (c := cF) (field := field) (a := a) (rest := rest) (cell := cell) (v := v) (f := g) Y.here.top hr hst hstack hcell hknown hv]
  exact Steps.refl _
/-- the private method of another class, from a made class -/
theorem lb_virt (Y : Stand p l e R s m args below meth c T locs cells slots) (hexec : p.tables.exec = Jvm.exec) {g : JFrame} (hg : g.method = m) (hsize : g.locals.size = c.maxLocals) {index a : Nat} {y : MethodName} {t : MethodId} {kt : Class} {metht : Method}
    {cell : Cell} {argsL rest : List Value} (hnc : namesAClass T m.cls index) (hr : T.vm.methodReady m.cls index t) (hpoly : signaturePolymorphic kt metht = false)
    (hstatic : metht.isStatic = false) (hlen : argsL.length = metht.sig.parameters.length) (hstack : g.stack = argsL.reverse ++ .ref a :: rest) (hcell : T.heap[a]? = some cell) (hobj : ∀ q, cell.vm ≠ .statics q)
    (hsel : selectMethod e.platform T.vm cell.cls t = .method t) (hmt : T.vm.method? t = some metht) (habs : metht.isAbstract = false) (hkt : T.vm.classes[t.cls]? = some kt) (hitf : kt.isInterface = false) (hnamed : T.methodNamed? y = some t)
    {W9 : Nat} {Pre : Pt → Array Value → Prop} {Post : Pt → Array Value → Option Value → Pt → Prop} {PostX : Pt → Array Value → Addr → Pt → Prop} (hK : vx_Back l R p e below s args y 3 W9 Pre Post PostX) (hW : 2 * g.monitorRoom + (rest.map fun v => v.category).sum ≤ W9)
    (hnoX : ∀ A a q B, ¬ PostX A a q B)
    (hpre : Pre ⟨T, locs, cells, slots⟩ (.ref a :: argsL).toArray) (hdg : decode c.code g.pc = .ok (.invokevirtual index, 3)) {s₀ : State} (come : Steps p.tables e below s₀ (T.setTop g)) :
    ∃ (v : Option Value) (B : Pt), Stand p l e R s m args below meth c B.U B.locs B.cells B.slots ∧ Post ⟨T, locs, cells, slots⟩ (.ref a :: argsL).toArray v B ∧ Steps p.tables e below s₀ (B.U.setTop { g with pc := g.pc + 3, stack := v.toList ++ rest }) := by
  subst hg
  rcases hK g.method meth c ⟨T, locs, cells, slots⟩ { g with stack := rest } (.invokevirtual index) t (.ref a :: argsL).toArray Y rfl hsize hdg hW hnamed hpre with ⟨v, B, Y', hpost, hsteps⟩ | ⟨q, B, -, hx, -⟩
  · refine ⟨v, B, Y', hpost, (come.trans ?_).trans hsteps⟩
    jvm_step Y.here [hexec, hdg, invokevirtual.wp_ready (e := e) (s := T) (r := t) (m := t) (k := kt) (mk := kt) (rmeth := metht) (meth := metht) (a := a) (args := argsL) (rest := rest) (cell := cell) (f := g) Y.here.top hnc hr hkt hmt hpoly hstatic hlen hstack hcell hobj hsel hmt habs hkt hitf]
    intro acts
    rw [doInvoke_state]
    exact Steps.refl _
  · exact (hnoX _ _ _ _ hx).elim
/-- into a made class's method and out again: a contract by the method's number -/
theorem lb_through {U : State} {L : List Loc} {cc nn : Nat} (X : Stand p l e R s m args below meth c U L cc nn) {g : JFrame} (hg : g.method = m) (hsize : g.locals.size = c.maxLocals) {ig : Instr} {len : Nat} (hdg : decode c.code g.pc = .ok (ig, len))
    {mk : MethodId} {methk : Method} {ck : Code} (a : Array Value) {R' : Room} (hmk : U.vm.method? mk = some methk) (hck : methk.code = some ck) (hlk : methk.locks = false) (hpk : U.plainMethod mk)
    (hframes : R'.frames + 1 ≤ R.frames) (hlocals : 2 * g.monitorRoom + (g.stack.map fun v => v.category).sum + (ck.maxLocals + 11) + R'.locals ≤ R.locals) (hcells : cc + R'.cells ≤ R.cells) (hslots : nn + R'.slots ≤ R.slots)
    {Φ : Option Value → State → List Loc → Nat → Nat → Prop}
    (body : ∀ U₀, U₀ = (U.setTop g).pushFrame (.java (entryFrame mk a ck.maxLocals)) → Stand p l e R' (U.calling g mk a) mk a (.java g :: below) methk ck U₀ [] 0 0 →
      ∃ v U₁ L₁ c₁ n₁, Stand p l e R' (U.calling g mk a) mk a (.java g :: below) methk ck U₁ L₁ c₁ n₁ ∧ (methk.sig.returnType = none → v = none) ∧ Φ v U₁ L₁ c₁ n₁ ∧
        ∀ fs, (∀ (f : JFrame) (acts : List Action), f.method = mk → f.locked = none → f.entered = [] → (doReturn e (U₁.setTop f) acts v).1 = U₁.setFrames fs) → Steps p.tables e (.java g :: below) (U₀.setTop (entryFrame mk a ck.maxLocals)) (U₁.setFrames fs)) :
    ∃ v T' U₁ L₁ c₁ n₁, Stand p l e R s m args below meth c T' (L ++ L₁) (cc + c₁) (nn + n₁) ∧ Φ v U₁ L₁ c₁ n₁ ∧ T'.heap = U₁.heap ∧ T'.vm = U₁.vm ∧
      Steps p.tables e below (doInvoke e (U.setTop g) [] mk a).1 (T'.setTop { g with pc := g.pc + len, stack := v.toList ++ g.stack }) := by
  obtain ⟨Y₀, hin⟩ := X.into hg hsize hdg a (R' := R') hmk hck hlk hpk hframes hlocals hcells hslots
  obtain ⟨v, U₁, L₁, c₁, n₁, Y₁, hv, hΦ, hsteps⟩ := body _ rfl Y₀
  obtain ⟨fs, hleave, -, hended, hWe, hsame⟩ := Y₁.leave (v := v) hv hlk
  obtain ⟨T', X', hW', -, ht⟩ := X.outOf hg hdg hended hWe hsame
  refine ⟨v, T', U₁, L₁, c₁, n₁, X', hΦ, (congrArg State.heap ht).symm, (congrArg State.vm ht).symm, ?_⟩
  rw [hin [], ← ht]
  exact Steps.weaken (mid := [.java g]) (hsteps fs hleave)
theorem lb_iret (Y : Stand p l e R s m args below meth c T locs cells slots) (hexec : p.tables.exec = Jvm.exec) {pc : Nat} {Ls : Array Slot} {w : Int32} (hret : meth.sig.returnType = some .int)
    (hdg : decode c.code pc = .ok (.ireturn, 1)) {fs : List Frame} (hleave : ∀ (f : JFrame) (acts : List Action), f.method = m → f.locked = none → f.entered = [] → (doReturn e (T.setTop f) acts (some (.int w))).1 = T.setFrames fs) :
    Steps p.tables e below (T.setTop { method := m, pc := pc, locals := Ls, stack := [.int w], locked := none }) (T.setFrames fs) := by
  have hm' : T.vm.method? m = some meth := Y.method'
  have hn : narrow .int (.int w) = .int w := rfl
  jvm_step Y.here [Y.here.top, hexec, hdg, hm', hret, hn]
  first | (intro acts; rw [hleave _ acts rfl rfl rfl]) | rw [hleave _ _ rfl rfl rfl]
  exact Steps.refl _
end LB
set_option maxRecDepth 100000
theorem lb_shape {cf : ClassFile} {index : Nat} {sh : Lambda.Shape} (h : Lambda.shapeOf? cf index = some sh) : ∃ b nt name desc sig, cf.constantPool[index]? = some (.invokeDynamic b nt) ∧ cf.constantPool.nameAndType? nt = some (name, desc) ∧ parseLongMethodDescriptor desc = some sig ∧ sig.parameters = sh.captured := by
  delta Lambda.shapeOf? at h
  cases hc : cf.constantPool[index]? with
  | none => rw [hc] at h; cases h
  | some x =>
    rw [hc] at h
    cases x with
    | invokeDynamic b nt =>
      obtain ⟨entries, -, h⟩ := Option.bind_eq_some_iff.mp h
      obtain ⟨bm, -, h⟩ := Option.bind_eq_some_iff.mp h
      cases h1 : cf.constantPool[bm.bootstrapMethodRef]? with
      | none => rw [h1] at h; cases h
      | some y =>
        rw [h1] at h
        cases y with
        | methodHandle kd r =>
          by_cases h6 : kd = 6
          · subst h6
            obtain ⟨-, -, h⟩ := Option.bind_eq_some_iff.mp h
            generalize bm.bootstrapArguments = arr at h
            obtain ⟨al⟩ := arr
            rcases al with _ | ⟨a0, _ | ⟨a1, _ | ⟨a2, _ | ⟨a3, ar⟩⟩⟩⟩
            · cases h
            · cases h
            · cases h
            · replace h : (match cf.constantPool[a0]? with
                | some (CpInfo.methodType d0) => (match cf.constantPool[a1]? with
                  | some (CpInfo.methodHandle kind r1) => (match cf.constantPool[a2]? with
                    | some (CpInfo.methodType d2) => ((cf.constantPool.nameAndType? nt).bind fun x => (parseMethodDescriptor x.2).bind fun site => (match site.returnType with
                      | some (FieldType.object iface) => ((Lambda.memberOf? cf.constantPool r1).bind fun z => (cf.constantPool.string? d0).bind fun q1 => (parseMethodDescriptor q1).bind fun q2 => (parseMethodDescriptor z.2.2.1).bind fun q3 => (cf.constantPool.string? d2).bind fun q4 => (parseMethodDescriptor q4).bind fun q5 => some ({ iface := iface, name := x.1, sam := q2, captured := site.parameters, kind := kind, implClass := z.1, implName := z.2.1, implDesc := q3, implItf := z.2.2.2, inst := q5 } : Lambda.Shape))
                      | _ => none))
                    | _ => none)
                  | _ => none)
                | _ => none) = some sh := h
              split at h
              · split at h
                · split at h
                  · obtain ⟨⟨name, desc⟩, hnt, h⟩ := Option.bind_eq_some_iff.mp h
                    obtain ⟨site, hsite, h⟩ := Option.bind_eq_some_iff.mp h
                    split at h
                    · obtain ⟨z, -, h⟩ := Option.bind_eq_some_iff.mp h
                      obtain ⟨q1, -, h⟩ := Option.bind_eq_some_iff.mp h
                      obtain ⟨q2, -, h⟩ := Option.bind_eq_some_iff.mp h
                      obtain ⟨q3, -, h⟩ := Option.bind_eq_some_iff.mp h
                      obtain ⟨q4, -, h⟩ := Option.bind_eq_some_iff.mp h
                      obtain ⟨q5, -, h⟩ := Option.bind_eq_some_iff.mp h
                      cases h
                      exact ⟨b, nt, name, desc, site, rfl, hnt, parseLong_of_parse hsite, rfl⟩
                    · cases h
                  · cases h
                · cases h
              · cases h
            · cases h
          · split at h
            · rename_i heq
              cases heq
              exact absurd rfl h6
            · cases h
        | _ => cases h
    | _ => cases h
/-! the rows -/
theorem lb_at {E : gE} {s : State} (hW : (ge_s E).WarmedH s.vm) {pc idx : Nat} {sh : Lambda.Shape} {cK : ClassId} (h : (ge_s E).lambdaAt? lcs pc idx sh = some (cK, none)) :
    ∃ (m : MethodId) (k : Class) (cf : ClassFile) (i0 p0 : Nat), s.methodNamed? lcs = some m ∧ s.vm.classes[m.cls]? = some k ∧ k.cf = some cf ∧ Lambda.shapeOf? cf idx = some sh ∧
      (k.callSites.find? fun y => y.1 == m.idx && y.2.1 == pc) = some (i0, p0, .makes cK) ∧ Lambda.isMade { classPath := fun _ => none } s.vm m.cls sh cK = true ∧ s.lambdaCallable sh cK = true ∧ k.name = "PageGarden$Garden" := by
  obtain ⟨m, kc, cf, i0, p0, lk, hm, hk, hcf, hsh, hin, hfind, hmade, hcall, hl⟩ := State.lambdaAt?_spec h
  have hl' : lk = .makes cK := by
    rcases hl with ⟨a, cell, -, e2, -⟩ | ⟨h1, -⟩
    · cases e2
    · exact h1
  subst hl'
  have hcall' : s.lambdaCallable sh cK = true := by
    have hA := hW.alike
    simp only [State.lambdaCallable, hA.findClass, hA.assignable, hA.superclasses, hA.declaredIn] at hcall ⊢
    exact hcall
  obtain ⟨kc', hk', he⟩ := hW.alike.2.2 _ _ hk
  have hm' : s.methodNamed? lcs = some m := by
    have := State.methodNamed?_setVm (s := (ge_s E)) hW.alike lcs
    rw [hm] at this
    exact this
  obtain ⟨k9, hk9, hn9⟩ := className_of_methodNamed hm'
  cases hk9.symm.trans hk'
  exact ⟨m, kc', cf, i0, p0, hm', hk', by rw [he]; exact hcf, hsh, by rw [he]; exact hfind, Lambda.isMade_warmer hW hmade, hcall', hn9⟩
theorem lb_O {E : gE} {s : State} (hE : gEnv E) (hW : (ge_s E).WarmedH s.vm) (hq : Cond.instantiable "java/lang/Object" 0 ∈ lw_tbl) : ∀ o ok, s.vm.findClass "java/lang/Object" = some o → s.vm.classes[o]? = some ok → ok.instanceTypes.size = 0 := by
  intro o ok ho hok
  obtain ⟨c, k, h1, h2, -, -, -, h3⟩ := Cond.instantiable_spec (hE.1 _ hq)
  rw [hW.alike.findClass] at ho
  cases h1.symm.trans ho
  obtain ⟨k', hk', he⟩ := hW.alike.2.2 _ _ h2
  cases hok.symm.trans hk'
  rw [he]
  exact h3
section IN
variable {E : gE} {M : gM} {Q : gQ} {pc : Nat} {L : List (Nat × gV)} {rest : List gV} {σ : gS}
theorem gw_indy0 {g : Nat} {d : Int32} (hini : gm_ini M = "changedSince") (hown : gm_own M = "PageGarden$Garden") (hpc : pc = 12) (hlv : 32 ≤ gm_d M) (hrest : gSum rest ≤ 8) (hq : Cond.instantiable "java/lang/Object" 0 ∈ lw_tbl) (hd : decode (gm_cc M) pc = .ok (.invokedynamic 393, 5))
    (kk : gW E M Q (pc + 5) L (vR (some σ.2.1) :: rest) (gpush σ (.inr (100, [.ref g, .int d])) 2)) : gW E M Q pc L (vI d :: vR (some g) :: rest) σ := by
  have hk1 : σ.2.1 + 1 ≤ gm_zf M := kk.1
  have hk2 : σ.2.2 + 2 ≤ gm_nf M := kk.2.1
  refine ⟨by omega, by omega, fun hE p e s m args below meth c R hc H locs k9 n9 ls hr e1 e2 hf hl => ?_⟩
  have hz := gCtx_cells hc
  have hn := gCtx_slots hc
  have hlo := gCtx_locals hc
  have hW := gCtx_warm hc
  have hnm : s.methodNamed? lcs = some m := hc.2.2.2.2.2.2.2.2.2.2.2.2.2.2.2 hini hown
  obtain ⟨m', k, cf, i0, p0, h1, h2, h3, h4, h5, h6, h7, h8⟩ := lb_at hW hE.2.2.2.2.2.2.2.2.2.2.2.2.2.1
  cases hnm.symm.trans h1
  obtain ⟨bsm, nt, name, desc, sig, s1, s2, s3, s4⟩ := lb_shape h4
  obtain ⟨kK, tk, file, methk, ck, toy, t, found, ifc, hkK, -, -, -, -, -, -, -, -, -, -, -, -, -, -, -, -, hty, hkind, -⟩ := lb_made (lb_file lb_h0.1) (lb_sec lb_h0.2.1) (lb_laid lb_h0.2.2.1) lb_h0.2.2.2.1 lb_h0.2.2.2.2 h2 h8 h6 (lb_O hE hW hq)
  rw [lb_t0] at hty
  intro T hT X
  have hsl : ((kK.instanceTypes.toList.zip [Value.ref g, Value.int d]).map fun (t, v) => narrow t v) = [Value.ref g, Value.int d] := by rw [hty]; rfl
  obtain ⟨X₁, st1⟩ := X.lambdaMakes hc.1 (g := F0 m pc ls ((vI d :: vR (some g) :: rest).map gv)) rfl (by show ls.size = _; rw [hl.1, hc.2.2.1]) (by rw [hc.2.1]; exact hd) (vals := [Value.ref g, Value.int d]) (rest := rest.map gv)
    h2 (by show List.find? (fun y => y.1 == m.idx && y.2.1 == pc) k.callSites = _; rw [hpc]; exact h5) h3 s1 s2 s3 (by rw [s4]; rfl) rfl hkK
    (by rw [X.admits.platform]; show 2 * 0 + _ + 3072 ≤ _
        have h9 := gSum_eq rest
        show 2 * 0 + (1 + (1 + ((rest.map gv).map fun v => v.category).sum)) + 3072 ≤ _
        rw [h9]; omega)
    (by omega) (by rw [hsl]; show n9 + 2 ≤ _; omega)
    (fun i v hv => by
      rw [hsl] at hv
      rcases i with _ | _ | j
      · have hv : Value.ref g = v := by simpa using hv
        rw [← hv]; simp [State.fitsSlot, State.slotType?, hkK, hkind, hty, fits]
      · have hv : Value.int d = v := by simpa using hv
        rw [← hv]; simp [State.fitsSlot, State.slotType?, hkK, hkind, hty, fits]
      · simp at hv)
  rw [hsl] at X₁ st1
  have hr1 : gRel E (gpush σ (.inr (100, [.ref g, .int d])) 2) (T.pushCell { cls := ge_A E 100, slots := [Value.ref g, Value.int d].toArray, vm := .none }).heap := by
    have hh : (T.pushCell { cls := ge_A E 100, slots := [Value.ref g, Value.int d].toArray, vm := .none }).heap = H.push { cls := ge_A E 100, slots := [Value.ref g, Value.int d].toArray, vm := .none } := by rw [← hT]; rfl
    rw [hh]
    refine hr.push (by simp) (fun q hq => by rw [Array.getElem?_push, if_neg (Nat.ne_of_lt hq)]) ⟨_, by rw [Array.getElem?_push, if_pos rfl], ⟨by simp, by simp, fun _ => rfl⟩, Or.inr ⟨rfl, rfl⟩⟩
  obtain ⟨t2, a1, b1⟩ := kk.2.2 hE p e s m args below meth c R hc _ locs (k9 + 1) (n9 + 2) ls hr1 (by show σ.2.1 + 1 = _; omega) (by show σ.2.2 + 2 = _; omega) hf hl _ rfl X₁
  refine ⟨t2, st1 t2 ?_, b1⟩
  have hsz : T.heap.size = σ.2.1 := by rw [hT]; exact hr.1
  rw [hsz]
  exact a1
theorem gw_indy1 {g : Nat} (hini : gm_ini M = "changedSince") (hown : gm_own M = "PageGarden$Garden") (hpc : pc = 18) (hlv : 32 ≤ gm_d M) (hrest : gSum rest ≤ 8) (hq : Cond.instantiable "java/lang/Object" 0 ∈ lw_tbl) (hd : decode (gm_cc M) pc = .ok (.invokedynamic 397, 5))
    (kk : gW E M Q (pc + 5) L (vR (some σ.2.1) :: rest) (gpush σ (.inr (101, [.ref g])) 1)) : gW E M Q pc L (vR (some g) :: rest) σ := by
  have hk1 : σ.2.1 + 1 ≤ gm_zf M := kk.1
  have hk2 : σ.2.2 + 1 ≤ gm_nf M := kk.2.1
  refine ⟨by omega, by omega, fun hE p e s m args below meth c R hc H locs k9 n9 ls hr e1 e2 hf hl => ?_⟩
  have hz := gCtx_cells hc
  have hn := gCtx_slots hc
  have hlo := gCtx_locals hc
  have hW := gCtx_warm hc
  have hnm : s.methodNamed? lcs = some m := hc.2.2.2.2.2.2.2.2.2.2.2.2.2.2.2 hini hown
  obtain ⟨m', k, cf, i0, p0, h1, h2, h3, h4, h5, h6, h7, h8⟩ := lb_at hW hE.2.2.2.2.2.2.2.2.2.2.2.2.2.2
  cases hnm.symm.trans h1
  obtain ⟨bsm, nt, name, desc, sig, s1, s2, s3, s4⟩ := lb_shape h4
  obtain ⟨kK, tk, file, methk, ck, toy, t, found, ifc, hkK, -, -, -, -, -, -, -, -, -, -, -, -, -, -, -, -, hty, hkind, -⟩ := lb_made (lb_file lb_h1.1) (lb_sec lb_h1.2.1) (lb_laid lb_h1.2.2.1) lb_h1.2.2.2.1 lb_h1.2.2.2.2 h2 h8 h6 (lb_O hE hW hq)
  rw [lb_t1] at hty
  intro T hT X
  have hsl : ((kK.instanceTypes.toList.zip [Value.ref g]).map fun (t, v) => narrow t v) = [Value.ref g] := by rw [hty]; rfl
  obtain ⟨X₁, st1⟩ := X.lambdaMakes hc.1 (g := F0 m pc ls ((vR (some g) :: rest).map gv)) rfl (by show ls.size = _; rw [hl.1, hc.2.2.1]) (by rw [hc.2.1]; exact hd) (vals := [Value.ref g]) (rest := rest.map gv)
    h2 (by show List.find? (fun y => y.1 == m.idx && y.2.1 == pc) k.callSites = _; rw [hpc]; exact h5) h3 s1 s2 s3 (by rw [s4]; rfl) rfl hkK
    (by rw [X.admits.platform]; show 2 * 0 + _ + 3072 ≤ _
        have h9 := gSum_eq rest
        show 2 * 0 + (1 + ((rest.map gv).map fun v => v.category).sum) + 3072 ≤ _
        rw [h9]; omega)
    (by omega) (by rw [hsl]; show n9 + 1 ≤ _; omega)
    (fun i v hv => by
      rw [hsl] at hv
      rcases i with _ | j
      · have hv : Value.ref g = v := by simpa using hv
        rw [← hv]; simp [State.fitsSlot, State.slotType?, hkK, hkind, hty, fits]
      · simp at hv)
  rw [hsl] at X₁ st1
  have hr1 : gRel E (gpush σ (.inr (101, [.ref g])) 1) (T.pushCell { cls := ge_A E 101, slots := [Value.ref g].toArray, vm := .none }).heap := by
    have hh : (T.pushCell { cls := ge_A E 101, slots := [Value.ref g].toArray, vm := .none }).heap = H.push { cls := ge_A E 101, slots := [Value.ref g].toArray, vm := .none } := by rw [← hT]; rfl
    rw [hh]
    refine hr.push (by simp) (fun q hq => by rw [Array.getElem?_push, if_neg (Nat.ne_of_lt hq)]) ⟨_, by rw [Array.getElem?_push, if_pos rfl], ⟨by simp, by simp, fun _ => rfl⟩, Or.inr ⟨rfl, rfl⟩⟩
  obtain ⟨t2, a1, b1⟩ := kk.2.2 hE p e s m args below meth c R hc _ locs (k9 + 1) (n9 + 1) ls hr1 (by show σ.2.1 + 1 = _; omega) (by show σ.2.2 + 1 = _; omega) hf hl _ rfl X₁
  refine ⟨t2, st1 t2 ?_, b1⟩
  have hsz : T.heap.size = σ.2.1 := by rw [hT]; exact hr.1
  rw [hsz]
  exact a1
end IN
section OF
theorem lb_look {U : State} {y : MethodName} {t : MethodId} (hn : U.methodNamed? y = some t) (hy : y.cls ≠ "java/lang/invoke/MethodHandle" ∧ y.cls ≠ "java/lang/invoke/VarHandle") :
    ∀ cI kI, U.vm.findClass y.cls = some cI → U.vm.classes[cI]? = some kI → ((methodIn cI y.name y.desc kI.isInterface none).ask { classPath := fun _ => none } U.vm).1 = .ok t := by
  intro cI kI hf hk
  have h1 : U.methodFound? y.cls y.name y.desc = some t := State.methodFound?_of_named hn hy
  simp only [State.methodFound?, hf, hk, Option.bind_eq_bind, Option.bind_some] at h1
  cases hq : ((methodIn cI y.name y.desc kI.isInterface none).ask { classPath := fun _ => none } U.vm).1 with
  | ok v => rw [hq] at h1; exact congrArg Except.ok (Option.some.inj h1)
  | error x => rw [hq] at h1; cases h1
def lkx : MethodName := ⟨"PageGarden$Lookup", "of", "(I)I"⟩
variable {E : gE} {M : gM} {Q : gQ} {pc : Nat} {L : List (Nat × gV)} {rest : List gV} {σ σ1 : gS}
theorem lb_core {li qpc mi ci nt sn nL' d' f g cnt : Nat} {sh : Lambda.Shape} {code bytes : ByteArray} {y : MethodName} {key v : Int32} {caps : List gV}
    (hown : gm_own M = "PageGarden$Keys") (hla : gEnv E → ∃ pcs idx, (ge_s E).lambdaAt? lcs pcs idx sh = some (ge_A E li, none))
    (hF : (sh.file "PageGarden$Garden").isSome = true ∧ ((layoutMethods (lb_D sh)).bind (·[1]?)).isSome = true ∧ (layoutFields (lb_D sh) 0).isSome = true ∧ ((lb_fw sh).code.map fun c => (c.code.data, c.maxLocals)) = some (code.data, 2) ∧ ((lb_fw sh).accessFlags, (lb_fw sh).sig.returnType) = (0x0001, (some .int : Option FieldType)))
    (hif : sh.iface = "PageGarden$Lookup" ∧ sh.name = "of" ∧ sh.sam.toString = "(I)I" ∧ sh.implClass = "PageGarden$Garden" ∧ sh.implItf = false ∧ sh.implName = y.name ∧ sh.implDesc.toString = y.desc ∧ y.cls = "PageGarden$Garden")
    (hcell : σ.1 f = some (.inr (li, (vR (some g) :: caps).map gv))) (hli : gCl[li]? = none)
    (w1 : Cond.methodLink "PageGarden$Keys" 9 lkx ∈ lw_all) (w2 : Cond.declares lkx ∈ lw_tbl) (w3 : Cond.interfaceMethod "PageGarden$Lookup" "PageGarden$Lookup" "of" "(I)I" ∈ lw_tbl) (w4 : Cond.instantiable "java/lang/Object" 0 ∈ lw_tbl)
    (w5 : Cond.instanceMethod y ∈ lw_all) (w6 : Cond.selects y.cls y y ∈ lw_all) (w7 : Cond.initialized y.cls ∈ lw_all) (hG : GoodIn lw_all (ws_ y bytes nL' (some .int)))
    (hyl : (parseMethodDescriptor y.desc).map (fun d => d.parameters.length) = some (caps.length + 1))
    (hm : (lb_D sh).constantPool[mi]? = some (.methodref ci nt) ∧ (lb_D sh).constantPool.className? ci = some "PageGarden$Garden" ∧ (lb_D sh).constantPool.nameAndType? nt = some (y.name, y.desc))
    (hk : (lb_D sh).constantPool[ci]? = some (.class_ sn) ∧ (lb_D sh).constantPool.string? sn = some "PageGarden$Garden" ∧ ci ≠ (lb_D sh).thisClass)
    (hgc : gck σ (some g) 7 = some ()) (hcl : ∃ T N, gCl[7]? = some ("PageGarden$Garden", T, N))
    (hM : gCT E d' y (ws_ y bytes nL' (some .int)) (vR (some g) :: (caps ++ [vI key])) σ (.inl (some (vI v))) σ1) (hdp : d' + 2 ≤ gm_d M) (hnL : nL' ≤ 81) (hrest : gSum rest ≤ 8)
    (hd : decode (gm_cc M) pc = .ok (.invokeinterface 9 cnt, 5)) (hdq : decode code qpc = .ok (.invokevirtual mi, 3)) (hdr : decode code (qpc + 3) = .ok (.ireturn, 1))
    (hwalk : ∀ {p : Program} {l : Launch} {e : Env} {R : Room} {s : State} {cK : ClassId} {a : Array Value} {below : List Frame} {methk : Method} {ck : Code} {T : State} (Y : Stand p l e R s ⟨cK, 1⟩ a below methk ck T [] 0 0) (hexec : p.tables.exec = Jvm.exec) (hb : ck.code = code)
      (k : Class) (hk : T.vm.classes[cK]? = some k) (hres : ∀ (i : Nat) x, (Lambda.resolvedOf { classPath := fun _ => none } T.vm (lb_D sh) (lb_lay sh).1 cK)[i]? = some (some x) → k.resolved[i]? = some (some x)) (hfl : ∀ (i : Nat) b, (lb_lay sh).1[i]? = some b → k.fields[i]? = some b)
      (hc : T.heap[f]? = some { cls := cK, slots := ((vR (some g) :: caps).map gv).toArray, vm := .none }),
      Steps p.tables e below (T.setTop { method := ⟨cK, 1⟩, pc := 0, locals := #[.val (.ref f), .val (.int key)], stack := [], locked := none }) (T.setTop { method := ⟨cK, 1⟩, pc := qpc, locals := #[.val (.ref f), .val (.int key)], stack := ((vR (some g) :: (caps ++ [vI key])).map gv).reverse, locked := none }))
    (kk : gW E M Q (pc + 5) L (vI v :: rest) σ1) : gW E M Q pc L (vI key :: vR (some f) :: rest) σ := by
  have b1 : σ1.2.1 ≤ gm_zf M := kk.1
  have b2 : σ1.2.2 ≤ gm_nf M := kk.2.1
  have q1 := hM.1
  have q2 := hM.2.1
  refine ⟨by omega, by omega, fun hE p e s m args below meth c R hc H locs k9 n9 ls hr e1 e2 hf hl => ?_⟩
  have hMet := hM.2.2 hE
  have hz := gCtx_cells hc
  have hn := gCtx_slots hc
  have hfr := gCtx_frames hc
  have hlo := gCtx_locals hc
  have hts := hc.2.2.2.2.1
  have hW := gCtx_warm hc
  refine gw_run5 (mc := σ1.2.1 - σ.2.1) (ms := σ1.2.2 - σ.2.2) (a := #[]) hE hc (by omega) (by omega) hf hl ?_ (gCont_i kk)
  intro T hT X
  left
  -- the interface's method at s
  obtain ⟨r0, r, hn0, hrm0, hstR, hsigR⟩ := Cond.declares_spec (hE.1 _ w2)
  obtain ⟨cL, kL, r1, hcL0, hkL0, hiL0, hfound0, hn10⟩ := Cond.interfaceMethod_spec (hE.1 _ w3)
  cases hn0.symm.trans hn10
  have hr0cls : r0.cls = cL := Option.some.inj ((findClass_of_methodNamed hn0).symm.trans hcL0)
  obtain ⟨hnameR, hdescR⟩ := name_of_methodNamed hn0 hrm0
  have hnS : s.methodNamed? lkx = some r0 := by
    have := State.methodNamed?_setVm (s := (ge_s E)) hW.alike lkx
    rw [hn0] at this
    exact this
  have hrmS : s.vm.method? r0 = some r := by rw [hW.alike.method?]; exact hrm0
  have hcLS : s.vm.findClass "PageGarden$Lookup" = some cL := by rw [hW.alike.findClass]; exact hcL0
  obtain ⟨kL', hkLS, heL⟩ := hW.alike.2.2 _ _ hkL0
  have hiLS : kL'.isInterface = true := by rw [heL]; exact hiL0
  -- the class at s
  obtain ⟨pcs, idx, hla⟩ := hla hE
  obtain ⟨mm, k, cf, i0, p0, h1, h2, h3, h4, h5, h6, h7, h8⟩ := lb_at hW hla
  obtain ⟨kK, tk, file, methk, ck, toy, t, found, ifc, hkK, -, -, -, hmk, hck, hbk, hml, hlk, hfl, hrt, -, -, -, -, -, -, -, -, hifc, hfound, hsel⟩ := lb_made (lb_file hF.1) (lb_sec hF.2.1) (lb_laid hF.2.2.1) hF.2.2.2.1 hF.2.2.2.2 h2 h8 h6 (lb_O hE hW w4)
  obtain ⟨i2, hi2, hasg, hway⟩ := State.lambdaCallable_spec h7
  rw [hif.1] at hifc hi2
  cases hcLS.symm.trans hifc
  cases hcLS.symm.trans hi2
  have hfr0 : found = r0 := by
    have h9 := lb_look hnS (by decide) cL kL' hcLS hkLS
    rw [hiLS] at h9
    rw [hif.2.1, hif.2.2.1] at hfound
    exact Except.ok.inj (hfound.symm.trans h9)
  subst hfr0
  -- the cell
  have hcellH : H[f]? = some { cls := ge_A E li, slots := ((vR (some g) :: caps).map gv).toArray, vm := .none } := by
    obtain ⟨cell, c1, c2, c3⟩ := hr.2.2.2 f _ hcell
    rcases c3 with ⟨r9, c3, -⟩ | ⟨-, c3⟩
    · rw [hli] at c3; cases c3
    · rw [c1, c3]
  have hsize : (F0 m pc ls ((vI key :: vR (some f) :: rest).map gv)).locals.size = c.maxLocals := by show ls.size = _; rw [hl.1, hc.2.2.1]
  obtain ⟨vm₁, X₁, hstep₁⟩ := X.invokeinterface hc.1 (own := gm_own M) (index := 9) (count := cnt) (x := lkx) hc.2.2.2.1 (by rw [hown]; exact hts _ w1) hnS hrmS hstR (by rw [hr0cls]; exact hkLS) hiLS (by decide) (a := f) (cell := { cls := ge_A E li, slots := ((vR (some g) :: caps).map gv).toArray, vm := .none }) (kcell := kK) (by rw [hT]; exact hcellH)
    (fun z h => by cases h) hkK (by rw [hr0cls]; exact hasg) (m' := ⟨ge_A E li, 1⟩) (meth' := methk) (by rw [Launch.admits_selectMethod X.admits]; exact hsel) hmk (by rw [hnameR, hdescR]; rw [hif.2.1, hif.2.2.1] at hway; exact hway) (by rw [hfl]; decide) (by simp [Method.isAbstract, hfl, hasFlag, Acc.abstract])
    (g := F0 m pc ls ((vI key :: vR (some f) :: rest).map gv)) rfl (argsL := [.int key]) (rest := rest.map gv) (by
      have h9 := hsigR
      rw [show parseMethodDescriptor lkx.desc = some ⟨[.int], some .int⟩ by decide +kernel] at h9
      rw [← Option.some.inj h9]; rfl) rfl (by rw [hc.2.1]; exact hd)
  have hU : (T.setVm vm₁).heap = H := hT
  have hWU : (ge_s E).WarmedH (T.setVm vm₁).vm := State.WarmedH.trans hW X₁.warmed
  generalize T.setVm vm₁ = U at X₁ hstep₁ hU hWU
  -- the class at U
  obtain ⟨mm', k', cf', i0', p0', u1, u2, u3, u4, u5, u6, u7, u8⟩ := lb_at hWU hla
  obtain ⟨kK', tk', file', methk', ck', toy', t', found', ifc', vkK, vkn, vcf, vpool, vmk, vck, vbk, vml, vlk, vfl, vrt, vtoy, vtk, vitf, vt, vres, vfields, -, vkind, -⟩ := lb_made (lb_file hF.1) (lb_sec hF.2.1) (lb_laid hF.2.2.1) hF.2.2.2.1 hF.2.2.2.2 u2 u8 u6 (lb_O hE hWU w4)
  rw [hif.2.2.2.1] at vtoy
  rw [hif.2.2.2.2.2.1, hif.2.2.2.2.2.2.1] at vt
  rw [hif.2.2.2.2.1] at vitf
  have hws : ∀ w ∈ ws_ y bytes nL' (some .int), ∀ (a' : Array Value) (V : State), s.WarmedH V.vm → w.before a' V = true := fun w hw a' V h => word_at h (hG w hw).2 (hts _ (hG w hw).1)
  have hall : ∀ w ∈ lw_all, w ∈ ws_ y bytes nL' (some .int) := fun w h => List.mem_cons_of_mem _ h
  -- the callee
  have c5 := hws _ (hall _ w5) #[] U X₁.warmed
  have c6 := hws _ (hall _ w6) #[] U X₁.warmed
  have c8 := hws _ (List.mem_cons_self) #[] U X₁.warmed
  obtain ⟨mk, methM, hnamed, hmethM, hstM, habM⟩ := Cond.instanceMethod_spec c5
  obtain ⟨methY, cY, hmY, -, -, -, -, -, -, hsigY⟩ := Cond.code_spec hnamed c8
  cases hmY.symm.trans hmethM
  have hycls : y.cls = "PageGarden$Garden" := hif.2.2.2.2.2.2.2
  have hyMH : y.cls ≠ "java/lang/invoke/MethodHandle" ∧ y.cls ≠ "java/lang/invoke/VarHandle" := by rw [hycls]; exact ⟨by decide, by decide⟩
  have htt : t' = mk := by
    have h9 := lb_look hnamed hyMH toy' tk' (by rw [hycls]; exact vtoy) vtk
    exact Except.ok.inj (vt.symm.trans h9)
  subst htt
  obtain ⟨cS, rS, mS, z1, z2, z3, z4, kP, hkP, hkPi⟩ := Cond.selects_spec c6
  rw [hycls] at z1
  cases vtoy.symm.trans z1
  cases (State.methodFound?_of_named hnamed hyMH).symm.trans z2
  cases hnamed.symm.trans z3
  obtain ⟨kT', hkT', hnameT⟩ := className_of_methodNamed hnamed
  have hpoly : signaturePolymorphic kT' methM = false := by simp [signaturePolymorphic, hnameT, hycls]
  cases hkP.symm.trans hkT'
  -- the receiver
  obtain ⟨gg, gfs, hgg, hgc2⟩ := gck_spec hgc
  cases hgg
  obtain ⟨T7, N7, hcl7⟩ := hcl
  obtain ⟨cellG, g1, g2, g3⟩ := g_recv (gK_at hE hc) hr hcl7 hgc2
  have hgcls : cellG.cls = toy' := by
    rw [← X₁.warmed.alike.findClass, vtoy] at g3
    exact (Option.some.inj g3).symm
  have hsizeU : ∀ st : List Value, ({ method := m, pc := pc, locals := ls, stack := st, locked := none } : JFrame).locals.size = c.maxLocals := fun st => by show ls.size = _; rw [hl.1, hc.2.2.1]
  obtain ⟨v', T', U₁, L₁, c₁, n₁, X', ⟨st₀, t9, y1, y2, y3, y4, y5, y6, y7, y8⟩, hh, hv, steps⟩ := lb_through X₁ (g := { F0 m pc ls ((vI key :: vR (some f) :: rest).map gv) with stack := rest.map gv }) rfl (hsizeU _) (by rw [hc.2.1]; exact hd) #[.ref f, .int key] (R' := { frames := d' + 1, cells := σ1.2.1 - σ.2.1, slots := σ1.2.2 - σ.2.2, locals := 100 * d' + nL' + 20 }) vmk vck vlk (State.plainMethod.of_name (fun k' hk' => by cases vkK.symm.trans hk'; rw [vkn]; decide)) (by show d' + 1 + 1 ≤ _; omega)
    (by
      rw [vml]
      have h9 := gSum_eq rest
      show 2 * 0 + ((rest.map gv).map fun v => v.category).sum + (2 + 11) + (100 * d' + nL' + 20) ≤ _
      rw [h9]; omega) (by show k9 + (σ1.2.1 - σ.2.1) ≤ _; omega) (by show n9 + (σ1.2.2 - σ.2.2) ≤ _; omega)
    (Φ := fun v' U₁ L₁ c₁ n₁ => ∃ (st₀ t : State), st₀.heap = H ∧ U₁.heap = t.heap ∧ U₁.vm = t.vm ∧ v' = some (.int v) ∧ gRel E σ1 t.heap ∧ (∀ z ∈ L₁, gFree E z.base) ∧ c₁ = σ1.2.1 - σ.2.1 ∧ n₁ = σ1.2.2 - σ.2.2)
    (fun U₀ hU₀ Y₀ => by
      have hvm : U₀.vm = U.vm := by rw [hU₀]; rfl
      have hheap : U₀.heap = H := by rw [hU₀, ← hU]; rfl
      rw [vml]
      have hK : vx_Back (ge_l E) { frames := d' + 1, cells := σ1.2.1 - σ.2.1, slots := σ1.2.2 - σ.2.2, locals := 100 * d' + nL' + 20 } p e (.java { F0 m pc ls ((vI key :: vR (some f) :: rest).map gv) with stack := rest.map gv } :: below) (U.calling { F0 m pc ls ((vI key :: vR (some f) :: rest).map gv) with stack := rest.map gv } ⟨ge_A E li, 1⟩ #[.ref f, .int key]) #[.ref f, .int key] y 3 8 _ _ _ :=
        vx_back (bytes := bytes) (maxL := nL') (ret := some .int) hMet gPc.blind rfl rfl (by show d' + 1 ≤ d' + 1; omega) (by show 8 + (nL' + 11) + 100 * d' ≤ 100 * d' + nL' + 20; omega) (fun w hw a' V h => hws w hw a' V (State.WarmedH.trans X₁.warmed h)) List.mem_cons_self (fun a' V h => hws _ (hall _ w7) a' V (State.WarmedH.trans X₁.warmed h))
      have come := hwalk Y₀ hc.1 vbk kK' (by rw [hvm]; exact vkK) (by rw [hvm]; exact vres) vfields (by rw [hheap]; exact hcellH)
      have hl9 : ((caps ++ [vI key]).map gv).length = methM.sig.parameters.length := by
        rw [hsigY] at hyl
        have h9 : methM.sig.parameters.length = caps.length + 1 := Option.some.inj hyl
        rw [h9]; simp
      obtain ⟨v2, ⟨V, L₂, c₂, n₂⟩, Y₁, ⟨g', mk', t2, L3, x1, x2, ⟨v3, x3, x4, x5⟩, x6, x7, x8, x9⟩, kE⟩ := lb_virt Y₀ hc.1 (g := { method := ⟨ge_A E li, 1⟩, pc := qpc, locals := #[.val (.ref f), .val (.int key)], stack := ((vR (some g) :: (caps ++ [vI key])).map gv).reverse, locked := none }) rfl (by rw [vml]; rfl) (index := mi) (a := g) (y := y) (t := t') (kt := kP) (metht := methM) (cell := cellG) (argsL := (caps ++ [vI key]).map gv) (rest := [])
        ⟨kK', file', ci, nt, toy', tk', by rw [hvm]; exact vkK, vcf, by rw [vpool]; exact hm.1, ⟨kK', by rw [hvm]; exact vkK, vres ci _ (Lambda.resolvedOf_class hk.1 hk.2.2 hk.2.1 vtoy)⟩, by rw [hvm]; exact vtk, vitf⟩
        ⟨kK', by rw [hvm]; exact vkK, vres mi _ (Lambda.resolvedOf_method hm.1 hm.2.1 vtoy vtk hm.2.2 vt)⟩ hpoly hstM hl9 (by show ((vR (some g) :: (caps ++ [vI key])).map gv).reverse = _; rw [List.map_cons, List.reverse_cons]; rfl) (by rw [hheap]; exact g1) (fun q hq => by rw [hq] at g2; cases g2)
        (by rw [hvm, hgcls, Launch.admits_selectMethod X.admits]; exact z4) (by rw [hvm]; exact hmethM) habM (by rw [hvm]; exact hkP) hkPi (by
          have := State.methodNamed?_setVm (s := U) (vm' := U₀.vm) (by rw [hvm]; exact Vm.Alike.refl _) y
          rw [hnamed] at this
          exact this) hK (by show 2 * 0 + 0 ≤ 8; omega) (fun A a q B hx => by obtain ⟨_, _, _, _, C, _, _, _, hx, _⟩ := hx; cases hx.1)
        ⟨by show 0 + (σ1.2.1 - σ.2.1) ≤ σ1.2.1 - σ.2.1; omega, by show 0 + (σ1.2.2 - σ.2.2) ≤ σ1.2.2 - σ.2.2; omega, by
          have := g_pre (args := vR (some g) :: (caps ++ [vI key])) hW hr U₀ hheap (by rw [hvm]; exact X₁.warmed)
          exact this⟩ (by rw [vbk]; exact hdq) come
      dsimp only [Pt.U, Pt.locs, Pt.cells, Pt.slots] at Y₁ kE x1 x2 x6 x8 x9
      cases x3
      cases x4
      refine ⟨some (.int v), V, L₂, c₂, n₂, Y₁, (fun h => by rw [vrt] at h; cases h), ⟨U₀, t2, hheap, x1, x2, rfl, x5, by rw [x6]; simpa using x7, by rw [x8]; simp, by rw [x9]; simp⟩, fun fs hleave => ?_⟩
      exact kE.trans (lb_iret Y₁ hc.1 vrt (by rw [vbk]; exact hdr) hleave))
  subst y4
  subst y7
  subst y8
  exact ⟨some (.int v), st₀, t9, T', L₁, y1, X', y6, hh.trans y2, hv.trans y3, ⟨some (vI v), rfl, rfl, y5⟩, fun target htar => hstep₁ target fun acts => by rw [doInvoke_state]; exact steps.trans htar⟩
/-- the two function objects -/
theorem lb_w0 {f g : Nat} {key d : Int32} : ∀ {p : Program} {l : Launch} {e : Env} {R : Room} {s : State} {cK : ClassId} {a : Array Value} {below : List Frame} {methk : Method} {ck : Code} {T : State} (Y : Stand p l e R s ⟨cK, 1⟩ a below methk ck T [] 0 0) (hexec : p.tables.exec = Jvm.exec) (hb : ck.code = lb_c0)
      (k : Class) (hk : T.vm.classes[cK]? = some k) (hres : ∀ (i : Nat) x, (Lambda.resolvedOf { classPath := fun _ => none } T.vm (lb_D lsh0) (lb_lay lsh0).1 cK)[i]? = some (some x) → k.resolved[i]? = some (some x)) (hfl : ∀ (i : Nat) b, (lb_lay lsh0).1[i]? = some b → k.fields[i]? = some b)
      (hc : T.heap[f]? = some { cls := cK, slots := ((vR (some g) :: [vI d]).map gv).toArray, vm := .none }),
      Steps p.tables e below (T.setTop { method := ⟨cK, 1⟩, pc := 0, locals := #[.val (.ref f), .val (.int key)], stack := [], locked := none }) (T.setTop { method := ⟨cK, 1⟩, pc := 9, locals := #[.val (.ref f), .val (.int key)], stack := ((vR (some g) :: ([vI d] ++ [vI key])).map gv).reverse, locked := none }) := by
  intro p l e R s cK a below methk ck T Y hexec hb k hk hres hfl hc
  obtain ⟨g0, hg0, hp0⟩ := Option.map_eq_some_iff.mp lb_f00.2.2.2
  obtain ⟨g1, hg1, hp1⟩ := Option.map_eq_some_iff.mp lb_f01.2.2.2
  simp only [Prod.mk.injEq] at hp0 hp1
  have k0 : Steps p.tables e below (T.setTop { method := ⟨cK, 1⟩, pc := 0, locals := #[.val (.ref f), .val (.int key)], stack := [], locked := none }) (T.setTop { method := ⟨cK, 1⟩, pc := 1, locals := #[.val (.ref f), .val (.int key)], stack := [.ref f], locked := none }) := by
    jvm_step Y.here [hexec, hb, lb_a0, Value.isRef]
    exact Steps.refl _
  have k1 := lb_get Y hexec (g := { method := ⟨cK, 1⟩, pc := 1, locals := #[.val (.ref f), .val (.int key)], stack := [.ref f], locked := none }) rfl (index := 17) (cF := cK) (a := f) (field := g0) (v := .ref g) (rest := []) ⟨k, 0, k, hk, hres 17 _ (Lambda.resolvedOf_field lb_f00.1 lb_f00.2.1 lb_f00.2.2.1), hk, hfl 0 _ hg0⟩ hp0.1 rfl hc (by simp) (by rw [hp0.2]; rfl) (by rw [hb]; exact lb_a1) k0
  have k2 : Steps p.tables e below (T.setTop { method := ⟨cK, 1⟩, pc := 0, locals := #[.val (.ref f), .val (.int key)], stack := [], locked := none }) (T.setTop { method := ⟨cK, 1⟩, pc := 5, locals := #[.val (.ref f), .val (.int key)], stack := [.ref f, .ref g], locked := none }) := by
    refine k1.trans ?_
    jvm_step Y.here [hexec, hb, lb_a4, Value.isRef]
    exact Steps.refl _
  have k3 := lb_get Y hexec (g := { method := ⟨cK, 1⟩, pc := 5, locals := #[.val (.ref f), .val (.int key)], stack := [.ref f, .ref g], locked := none }) rfl (index := 19) (cF := cK) (a := f) (field := g1) (v := .int d) (rest := [.ref g]) ⟨k, 1, k, hk, hres 19 _ (Lambda.resolvedOf_field lb_f01.1 lb_f01.2.1 lb_f01.2.2.1), hk, hfl 1 _ hg1⟩ hp1.1 rfl hc (by simp) (by rw [hp1.2]; rfl) (by rw [hb]; exact lb_a5) k2
  refine k3.trans ?_
  jvm_step Y.here [hexec, hb, lb_a8]
  exact Steps.refl _
theorem lb_w1 {f g : Nat} {key : Int32} : ∀ {p : Program} {l : Launch} {e : Env} {R : Room} {s : State} {cK : ClassId} {a : Array Value} {below : List Frame} {methk : Method} {ck : Code} {T : State} (Y : Stand p l e R s ⟨cK, 1⟩ a below methk ck T [] 0 0) (hexec : p.tables.exec = Jvm.exec) (hb : ck.code = lb_c1)
      (k : Class) (hk : T.vm.classes[cK]? = some k) (hres : ∀ (i : Nat) x, (Lambda.resolvedOf { classPath := fun _ => none } T.vm (lb_D lsh1) (lb_lay lsh1).1 cK)[i]? = some (some x) → k.resolved[i]? = some (some x)) (hfl : ∀ (i : Nat) b, (lb_lay lsh1).1[i]? = some b → k.fields[i]? = some b)
      (hc : T.heap[f]? = some { cls := cK, slots := ((vR (some g) :: []).map gv).toArray, vm := .none }),
      Steps p.tables e below (T.setTop { method := ⟨cK, 1⟩, pc := 0, locals := #[.val (.ref f), .val (.int key)], stack := [], locked := none }) (T.setTop { method := ⟨cK, 1⟩, pc := 5, locals := #[.val (.ref f), .val (.int key)], stack := ((vR (some g) :: ([] ++ [vI key])).map gv).reverse, locked := none }) := by
  intro p l e R s cK a below methk ck T Y hexec hb k hk hres hfl hc
  obtain ⟨g0, hg0, hp0⟩ := Option.map_eq_some_iff.mp lb_f10.2.2.2
  simp only [Prod.mk.injEq] at hp0
  have k0 : Steps p.tables e below (T.setTop { method := ⟨cK, 1⟩, pc := 0, locals := #[.val (.ref f), .val (.int key)], stack := [], locked := none }) (T.setTop { method := ⟨cK, 1⟩, pc := 1, locals := #[.val (.ref f), .val (.int key)], stack := [.ref f], locked := none }) := by
    jvm_step Y.here [hexec, hb, lb_b0, Value.isRef]
    exact Steps.refl _
  have k1 := lb_get Y hexec (g := { method := ⟨cK, 1⟩, pc := 1, locals := #[.val (.ref f), .val (.int key)], stack := [.ref f], locked := none }) rfl (index := 15) (cF := cK) (a := f) (field := g0) (v := .ref g) (rest := []) ⟨k, 0, k, hk, hres 15 _ (Lambda.resolvedOf_field lb_f10.1 lb_f10.2.1 lb_f10.2.2.1), hk, hfl 0 _ hg0⟩ hp0.1 rfl hc (by simp) (by rw [hp0.2]; rfl) (by rw [hb]; exact lb_b1) k0
  refine k1.trans ?_
  jvm_step Y.here [hexec, hb, lb_b4]
  exact Steps.refl _
end OF
/-! the pure steps that make them -/
def gly0 (σ : gS) (r : Option Nat) (d : Int32) : Option (Option Nat × gS) := match r with
  | none => none
  | some g => some (some σ.2.1, gpush σ (.inr (100, [.ref g, .int d])) 2)
def gly1 (σ : gS) (r : Option Nat) : Option (Option Nat × gS) := match r with
  | none => none
  | some g => some (some σ.2.1, gpush σ (.inr (101, [.ref g])) 1)
section LY
variable {E : gE} {M : gM} {Q : gQ} {pc : Nat} {L : List (Nat × gV)} {rest : List gV} {σ σ1 : gS}
theorem gw_ly0 {r v : Option Nat} {d : Int32} (h : gly0 σ r d = some (v, σ1)) (hini : gm_ini M = "changedSince") (hown : gm_own M = "PageGarden$Garden") (hpc : pc = 12) (hlv : 32 ≤ gm_d M) (hrest : gSum rest ≤ 8) (hq : Cond.instantiable "java/lang/Object" 0 ∈ lw_tbl) (hd : decode (gm_cc M) pc = .ok (.invokedynamic 393, 5))
    (kk : gW E M Q (pc + 5) L (vR v :: rest) σ1) : gW E M Q pc L (vI d :: vR r :: rest) σ := by
  cases r with
  | none => cases h
  | some g =>
    obtain ⟨rfl, rfl⟩ := Prod.mk.inj (Option.some.inj h)
    exact gw_indy0 hini hown hpc hlv hrest hq hd kk
theorem gw_ly1 {r v : Option Nat} (h : gly1 σ r = some (v, σ1)) (hini : gm_ini M = "changedSince") (hown : gm_own M = "PageGarden$Garden") (hpc : pc = 18) (hlv : 32 ≤ gm_d M) (hrest : gSum rest ≤ 8) (hq : Cond.instantiable "java/lang/Object" 0 ∈ lw_tbl) (hd : decode (gm_cc M) pc = .ok (.invokedynamic 397, 5))
    (kk : gW E M Q (pc + 5) L (vR v :: rest) σ1) : gW E M Q pc L (vR r :: rest) σ := by
  cases r with
  | none => cases h
  | some g =>
    obtain ⟨rfl, rfl⟩ := Prod.mk.inj (Option.some.inj h)
    exact gw_indy1 hini hown hpc hlv hrest hq hd kk
end LY
