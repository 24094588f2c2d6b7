set_option maxRecDepth 100000
/-! THE START: classes, arrays, constants; the first pure heap (written by mkstart.py) -/
section ST
variable {b : Nat} {s : State}
theorem n_split {a : Array Value} (h : (Jvm.Cond.and given_1 narrow_1).before a s = true) : narrow_1_1.before a s = true ∧ narrow_1_4.before a s = true ∧ (narrow_1_5.before a s = true ∧ narrow_1_6.before a s = true) ∧ narrow_1_7.before a s = true ∧ narrow_1_8.before a s = true := by
  rw [Cond.before_and, Bool.and_eq_true] at h
  have h := h.2
  unfold narrow_1 at h
  simp only [Cond.before_and, Bool.and_eq_true] at h
  exact ⟨h.1.1.1, h.1.2.2, ⟨h.2.1.1, h.2.1.2⟩, h.2.2.1, h.2.2.2⟩
abbrev nAr (b : Nat) : Array Value := #[Value.ref b]
theorem np_ex0 (h : (Jvm.Cond.and given_1 narrow_1).before (nAr b) s = true) : (Jvm.Cond.exactly (Jvm.Term.static "PageGarden$State" "WILD" "LPageGarden$State;") "PageGarden$State$1").before (nAr b) s = true := flat_of_before _ (n_split h).1 _ (by decide +kernel)
theorem np_or0 (h : (Jvm.Cond.and given_1 narrow_1).before (nAr b) s = true) : (Jvm.Cond.eq (Jvm.Term.field (Jvm.Term.static "PageGarden$State" "WILD" "LPageGarden$State;") "java/lang/Enum" "ordinal" "I") (Jvm.Term.int (0 : Int32))).before (nAr b) s = true := flat_of_before _ (n_split h).1 _ (by decide +kernel)
theorem np_ex1 (h : (Jvm.Cond.and given_1 narrow_1).before (nAr b) s = true) : (Jvm.Cond.exactly (Jvm.Term.static "PageGarden$State" "USED" "LPageGarden$State;") "PageGarden$State$2").before (nAr b) s = true := flat_of_before _ (n_split h).1 _ (by decide +kernel)
theorem np_or1 (h : (Jvm.Cond.and given_1 narrow_1).before (nAr b) s = true) : (Jvm.Cond.eq (Jvm.Term.field (Jvm.Term.static "PageGarden$State" "USED" "LPageGarden$State;") "java/lang/Enum" "ordinal" "I") (Jvm.Term.int (1 : Int32))).before (nAr b) s = true := flat_of_before _ (n_split h).1 _ (by decide +kernel)
theorem np_ex2 (h : (Jvm.Cond.and given_1 narrow_1).before (nAr b) s = true) : (Jvm.Cond.exactly (Jvm.Term.static "PageGarden$State" "FREED" "LPageGarden$State;") "PageGarden$State$3").before (nAr b) s = true := flat_of_before _ (n_split h).1 _ (by decide +kernel)
theorem np_or2 (h : (Jvm.Cond.and given_1 narrow_1).before (nAr b) s = true) : (Jvm.Cond.eq (Jvm.Term.field (Jvm.Term.static "PageGarden$State" "FREED" "LPageGarden$State;") "java/lang/Enum" "ordinal" "I") (Jvm.Term.int (2 : Int32))).before (nAr b) s = true := flat_of_before _ (n_split h).1 _ (by decide +kernel)
theorem np_ne01 (h : (Jvm.Cond.and given_1 narrow_1).before (nAr b) s = true) : (Jvm.Cond.not (Jvm.Cond.eq (Jvm.Term.static "PageGarden$State" "WILD" "LPageGarden$State;") (Jvm.Term.static "PageGarden$State" "USED" "LPageGarden$State;"))).before (nAr b) s = true := flat_of_before _ (n_split h).1 _ (by decide +kernel)
theorem np_ne02 (h : (Jvm.Cond.and given_1 narrow_1).before (nAr b) s = true) : (Jvm.Cond.not (Jvm.Cond.eq (Jvm.Term.static "PageGarden$State" "WILD" "LPageGarden$State;") (Jvm.Term.static "PageGarden$State" "FREED" "LPageGarden$State;"))).before (nAr b) s = true := flat_of_before _ (n_split h).1 _ (by decide +kernel)
theorem np_ne12 (h : (Jvm.Cond.and given_1 narrow_1).before (nAr b) s = true) : (Jvm.Cond.not (Jvm.Cond.eq (Jvm.Term.static "PageGarden$State" "USED" "LPageGarden$State;") (Jvm.Term.static "PageGarden$State" "FREED" "LPageGarden$State;"))).before (nAr b) s = true := flat_of_before _ (n_split h).1 _ (by decide +kernel)
theorem np_cs (h : (Jvm.Cond.and given_1 narrow_1).before (nAr b) s = true) : (Jvm.Cond.eq (Jvm.Term.static "java/lang/String" "COMPACT_STRINGS" "Z") (Jvm.Term.int (1 : Int32))).before (nAr b) s = true := flat_of_before _ (n_split h).1 _ (by decide +kernel)
theorem np_us (h : (Jvm.Cond.and given_1 narrow_1).before (nAr b) s = true) : (Jvm.Cond.isRef (Jvm.Term.static "java/lang/Throwable" "UNASSIGNED_STACK" "[Ljava/lang/StackTraceElement;")).before (nAr b) s = true := flat_of_before _ (n_split h).1 _ (by decide +kernel)
theorem np_ss (h : (Jvm.Cond.and given_1 narrow_1).before (nAr b) s = true) : (Jvm.Cond.isRef (Jvm.Term.static "java/lang/Throwable" "SUPPRESSED_SENTINEL" "Ljava/util/List;")).before (nAr b) s = true := flat_of_before _ (n_split h).1 _ (by decide +kernel)
theorem np_ea (h : (Jvm.Cond.and given_1 narrow_1).before (nAr b) s = true) : (Jvm.Cond.arrayOf (Jvm.Term.static "java/util/ArrayList" "DEFAULTCAPACITY_EMPTY_ELEMENTDATA" "[Ljava/lang/Object;") (Jvm.ClassFile.FieldType.object "java/lang/Object")).before (nAr b) s = true := flat_of_before _ (n_split h).1 _ (by decide +kernel)
theorem np_ee (h : (Jvm.Cond.and given_1 narrow_1).before (nAr b) s = true) : (Jvm.Cond.exactly (Jvm.Term.static "java/util/ArrayList" "DEFAULTCAPACITY_EMPTY_ELEMENTDATA" "[Ljava/lang/Object;") "[Ljava/lang/Object;").before (nAr b) s = true := flat_of_before _ (n_split h).1 _ (by decide +kernel)
theorem np_el (h : (Jvm.Cond.and given_1 narrow_1).before (nAr b) s = true) : (Jvm.Cond.eq (Jvm.Term.length (Jvm.Term.static "java/util/ArrayList" "DEFAULTCAPACITY_EMPTY_ELEMENTDATA" "[Ljava/lang/Object;")) (Jvm.Term.int (0 : Int32))).before (nAr b) s = true := flat_of_before _ (n_split h).1 _ (by decide +kernel)
theorem np_pr (h : (Jvm.Cond.and given_1 narrow_1).before (nAr b) s = true) : (Jvm.Cond.exactly (Jvm.Term.static "java/util/HashSet" "PRESENT" "Ljava/lang/Object;") "java/lang/Object").before (nAr b) s = true := flat_of_before _ (n_split h).2.1 _ (by decide +kernel)
theorem np_nc0 (h : (Jvm.Cond.and given_1 narrow_1).before (nAr b) s = true) : (Jvm.Cond.not (Jvm.Cond.castable "java/lang/IllegalStateException" "java/lang/IllegalArgumentException")).before (nAr b) s = true := flat_of_before _ (n_split h).2.2.1.1 _ (by decide +kernel)
theorem np_nc1 (h : (Jvm.Cond.and given_1 narrow_1).before (nAr b) s = true) : (Jvm.Cond.not (Jvm.Cond.castable "java/lang/IllegalStateException" "java/lang/IndexOutOfBoundsException")).before (nAr b) s = true := flat_of_before _ (n_split h).2.2.1.1 _ (by decide +kernel)
theorem np_nc2 (h : (Jvm.Cond.and given_1 narrow_1).before (nAr b) s = true) : (Jvm.Cond.not (Jvm.Cond.castable "java/lang/IllegalArgumentException" "java/lang/IndexOutOfBoundsException")).before (nAr b) s = true := flat_of_before _ (n_split h).2.2.1.1 _ (by decide +kernel)
theorem np_nc3 (h : (Jvm.Cond.and given_1 narrow_1).before (nAr b) s = true) : (Jvm.Cond.not (Jvm.Cond.castable "java/util/LinkedHashMap$Entry" "java/util/HashMap$TreeNode")).before (nAr b) s = true := flat_of_before _ (n_split h).2.1 _ (by decide +kernel)
theorem np_nc4 (h : (Jvm.Cond.and given_1 narrow_1).before (nAr b) s = true) : (Jvm.Cond.not (Jvm.Cond.castable "PageGarden$Leaf" "PageGarden$Directory")).before (nAr b) s = true := flat_of_before _ (n_split h).2.2.1.1 _ (by decide +kernel)
theorem np_nc5 (h : (Jvm.Cond.and given_1 narrow_1).before (nAr b) s = true) : (Jvm.Cond.not (Jvm.Cond.castable "PageGarden$Directory" "PageGarden$Leaf")).before (nAr b) s = true := flat_of_before _ (n_split h).2.2.1.1 _ (by decide +kernel)
theorem np_st10 (h : (Jvm.Cond.and given_1 narrow_1).before (nAr b) s = true) : (Jvm.Cond.exactly (Jvm.Term.string "PageGarden" (19 : Nat)) "java/lang/String").before (nAr b) s = true := flat_of_before _ (n_split h).2.2.1.2 _ (by decide +kernel)
theorem np_st11 (h : (Jvm.Cond.and given_1 narrow_1).before (nAr b) s = true) : (Jvm.Cond.exactly (Jvm.Term.string "PageGarden" (25 : Nat)) "java/lang/String").before (nAr b) s = true := flat_of_before _ (n_split h).2.2.1.2 _ (by decide +kernel)
theorem np_st12 (h : (Jvm.Cond.and given_1 narrow_1).before (nAr b) s = true) : (Jvm.Cond.exactly (Jvm.Term.string "PageGarden" (27 : Nat)) "java/lang/String").before (nAr b) s = true := flat_of_before _ (n_split h).2.2.1.2 _ (by decide +kernel)
theorem np_st13 (h : (Jvm.Cond.and given_1 narrow_1).before (nAr b) s = true) : (Jvm.Cond.exactly (Jvm.Term.string "PageGarden" (29 : Nat)) "java/lang/String").before (nAr b) s = true := flat_of_before _ (n_split h).2.2.1.2 _ (by decide +kernel)
theorem np_st14 (h : (Jvm.Cond.and given_1 narrow_1).before (nAr b) s = true) : (Jvm.Cond.exactly (Jvm.Term.string "PageGarden" (31 : Nat)) "java/lang/String").before (nAr b) s = true := flat_of_before _ (n_split h).2.2.1.2 _ (by decide +kernel)
theorem np_st15 (h : (Jvm.Cond.and given_1 narrow_1).before (nAr b) s = true) : (Jvm.Cond.exactly (Jvm.Term.string "PageGarden" (33 : Nat)) "java/lang/String").before (nAr b) s = true := flat_of_before _ (n_split h).2.2.2.1 _ (by decide +kernel)
theorem np_st16 (h : (Jvm.Cond.and given_1 narrow_1).before (nAr b) s = true) : (Jvm.Cond.exactly (Jvm.Term.string "PageGarden" (35 : Nat)) "java/lang/String").before (nAr b) s = true := flat_of_before _ (n_split h).2.2.2.1 _ (by decide +kernel)
theorem np_st17 (h : (Jvm.Cond.and given_1 narrow_1).before (nAr b) s = true) : (Jvm.Cond.exactly (Jvm.Term.string "PageGarden" (134 : Nat)) "java/lang/String").before (nAr b) s = true := flat_of_before _ (n_split h).2.2.2.1 _ (by decide +kernel)
theorem np_st18 (h : (Jvm.Cond.and given_1 narrow_1).before (nAr b) s = true) : (Jvm.Cond.exactly (Jvm.Term.string "PageGarden" (171 : Nat)) "java/lang/String").before (nAr b) s = true := flat_of_before _ (n_split h).2.2.2.1 _ (by decide +kernel)
theorem np_st19 (h : (Jvm.Cond.and given_1 narrow_1).before (nAr b) s = true) : (Jvm.Cond.exactly (Jvm.Term.string "PageGarden" (183 : Nat)) "java/lang/String").before (nAr b) s = true := flat_of_before _ (n_split h).2.2.2.1 _ (by decide +kernel)
theorem np_st20 (h : (Jvm.Cond.and given_1 narrow_1).before (nAr b) s = true) : (Jvm.Cond.exactly (Jvm.Term.string "PageGarden" (193 : Nat)) "java/lang/String").before (nAr b) s = true := flat_of_before _ (n_split h).2.2.2.1 _ (by decide +kernel)
theorem np_st21 (h : (Jvm.Cond.and given_1 narrow_1).before (nAr b) s = true) : (Jvm.Cond.exactly (Jvm.Term.string "PageGarden" (221 : Nat)) "java/lang/String").before (nAr b) s = true := flat_of_before _ (n_split h).2.2.2.1 _ (by decide +kernel)
theorem np_st22 (h : (Jvm.Cond.and given_1 narrow_1).before (nAr b) s = true) : (Jvm.Cond.exactly (Jvm.Term.string "PageGarden" (223 : Nat)) "java/lang/String").before (nAr b) s = true := flat_of_before _ (n_split h).2.2.2.2 _ (by decide +kernel)
theorem np_st23 (h : (Jvm.Cond.and given_1 narrow_1).before (nAr b) s = true) : (Jvm.Cond.exactly (Jvm.Term.string "PageGarden" (244 : Nat)) "java/lang/String").before (nAr b) s = true := flat_of_before _ (n_split h).2.2.2.2 _ (by decide +kernel)
theorem np_st24 (h : (Jvm.Cond.and given_1 narrow_1).before (nAr b) s = true) : (Jvm.Cond.exactly (Jvm.Term.string "PageGarden$Garden" (104 : Nat)) "java/lang/String").before (nAr b) s = true := flat_of_before _ (n_split h).2.2.2.1 _ (by decide +kernel)
theorem np_st25 (h : (Jvm.Cond.and given_1 narrow_1).before (nAr b) s = true) : (Jvm.Cond.exactly (Jvm.Term.string "PageGarden$Garden" (111 : Nat)) "java/lang/String").before (nAr b) s = true := flat_of_before _ (n_split h).2.2.2.1 _ (by decide +kernel)
theorem np_st26 (h : (Jvm.Cond.and given_1 narrow_1).before (nAr b) s = true) : (Jvm.Cond.exactly (Jvm.Term.string "PageGarden$Garden" (181 : Nat)) "java/lang/String").before (nAr b) s = true := flat_of_before _ (n_split h).2.2.2.1 _ (by decide +kernel)
theorem np_st27 (h : (Jvm.Cond.and given_1 narrow_1).before (nAr b) s = true) : (Jvm.Cond.exactly (Jvm.Term.string "PageGarden$Garden" (219 : Nat)) "java/lang/String").before (nAr b) s = true := flat_of_before _ (n_split h).2.2.2.1 _ (by decide +kernel)
theorem np_st28 (h : (Jvm.Cond.and given_1 narrow_1).before (nAr b) s = true) : (Jvm.Cond.exactly (Jvm.Term.string "PageGarden$Garden" (221 : Nat)) "java/lang/String").before (nAr b) s = true := flat_of_before _ (n_split h).2.2.2.1 _ (by decide +kernel)
theorem np_st29 (h : (Jvm.Cond.and given_1 narrow_1).before (nAr b) s = true) : (Jvm.Cond.exactly (Jvm.Term.string "PageGarden$Garden" (269 : Nat)) "java/lang/String").before (nAr b) s = true := flat_of_before _ (n_split h).2.2.2.1 _ (by decide +kernel)
theorem np_st30 (h : (Jvm.Cond.and given_1 narrow_1).before (nAr b) s = true) : (Jvm.Cond.exactly (Jvm.Term.string "PageGarden$Garden" (285 : Nat)) "java/lang/String").before (nAr b) s = true := flat_of_before _ (n_split h).2.2.2.1 _ (by decide +kernel)
theorem np_st31 (h : (Jvm.Cond.and given_1 narrow_1).before (nAr b) s = true) : (Jvm.Cond.exactly (Jvm.Term.string "PageGarden$Garden" (290 : Nat)) "java/lang/String").before (nAr b) s = true := flat_of_before _ (n_split h).2.2.2.1 _ (by decide +kernel)
theorem np_st32 (h : (Jvm.Cond.and given_1 narrow_1).before (nAr b) s = true) : (Jvm.Cond.exactly (Jvm.Term.string "PageGarden$Garden" (318 : Nat)) "java/lang/String").before (nAr b) s = true := flat_of_before _ (n_split h).2.2.2.1 _ (by decide +kernel)
theorem np_st33 (h : (Jvm.Cond.and given_1 narrow_1).before (nAr b) s = true) : (Jvm.Cond.exactly (Jvm.Term.string "PageGarden$Garden" (348 : Nat)) "java/lang/String").before (nAr b) s = true := flat_of_before _ (n_split h).2.2.2.1 _ (by decide +kernel)
theorem np_st34 (h : (Jvm.Cond.and given_1 narrow_1).before (nAr b) s = true) : (Jvm.Cond.exactly (Jvm.Term.string "PageGarden$Garden" (356 : Nat)) "java/lang/String").before (nAr b) s = true := flat_of_before _ (n_split h).2.2.2.1 _ (by decide +kernel)
theorem np_st35 (h : (Jvm.Cond.and given_1 narrow_1).before (nAr b) s = true) : (Jvm.Cond.exactly (Jvm.Term.string "PageGarden$Garden" (361 : Nat)) "java/lang/String").before (nAr b) s = true := flat_of_before _ (n_split h).2.2.2.1 _ (by decide +kernel)
theorem np_st36 (h : (Jvm.Cond.and given_1 narrow_1).before (nAr b) s = true) : (Jvm.Cond.exactly (Jvm.Term.string "PageGarden$Garden" (363 : Nat)) "java/lang/String").before (nAr b) s = true := flat_of_before _ (n_split h).2.2.2.1 _ (by decide +kernel)
theorem np_st37 (h : (Jvm.Cond.and given_1 narrow_1).before (nAr b) s = true) : (Jvm.Cond.exactly (Jvm.Term.string "PageGarden$Text" (19 : Nat)) "java/lang/String").before (nAr b) s = true := flat_of_before _ (n_split h).2.2.1.2 _ (by decide +kernel)
theorem np_co10 (h : (Jvm.Cond.and given_1 narrow_1).before (nAr b) s = true) : (Jvm.Cond.eq (Jvm.Term.field (Jvm.Term.string "PageGarden" (19 : Nat)) "java/lang/String" "coder" "B") (Jvm.Term.int (0 : Int32))).before (nAr b) s = true := flat_of_before _ (n_split h).2.2.1.2 _ (by decide +kernel)
theorem np_va10 (h : (Jvm.Cond.and given_1 narrow_1).before (nAr b) s = true) : (Jvm.Cond.arrayOf (Jvm.Term.field (Jvm.Term.string "PageGarden" (19 : Nat)) "java/lang/String" "value" "[B") Jvm.ClassFile.FieldType.byte).before (nAr b) s = true := flat_of_before _ (n_split h).2.2.1.2 _ (by decide +kernel)
theorem np_ve10 (h : (Jvm.Cond.and given_1 narrow_1).before (nAr b) s = true) : (Jvm.Cond.exactly (Jvm.Term.field (Jvm.Term.string "PageGarden" (19 : Nat)) "java/lang/String" "value" "[B") "[B").before (nAr b) s = true := flat_of_before _ (n_split h).2.2.2.2 _ (by decide +kernel)
theorem np_vl10 (h : (Jvm.Cond.and given_1 narrow_1).before (nAr b) s = true) : (Jvm.Cond.eq (Jvm.Term.length (Jvm.Term.field (Jvm.Term.string "PageGarden" (19 : Nat)) "java/lang/String" "value" "[B")) (Jvm.Term.int (3 : Int32))).before (nAr b) s = true := flat_of_before _ (n_split h).2.2.1.2 _ (by decide +kernel)
theorem np_vb10_0 (h : (Jvm.Cond.and given_1 narrow_1).before (nAr b) s = true) : (Jvm.Cond.eq (Jvm.Term.elem (Jvm.Term.field (Jvm.Term.string "PageGarden" (19 : Nat)) "java/lang/String" "value" "[B") (Jvm.Term.int (0 : Int32))) (Jvm.Term.int (112 : Int32))).before (nAr b) s = true := flat_of_before _ (n_split h).2.2.1.2 _ (by decide +kernel)
theorem np_vb10_1 (h : (Jvm.Cond.and given_1 narrow_1).before (nAr b) s = true) : (Jvm.Cond.eq (Jvm.Term.elem (Jvm.Term.field (Jvm.Term.string "PageGarden" (19 : Nat)) "java/lang/String" "value" "[B") (Jvm.Term.int (1 : Int32))) (Jvm.Term.int (117 : Int32))).before (nAr b) s = true := flat_of_before _ (n_split h).2.2.1.2 _ (by decide +kernel)
theorem np_vb10_2 (h : (Jvm.Cond.and given_1 narrow_1).before (nAr b) s = true) : (Jvm.Cond.eq (Jvm.Term.elem (Jvm.Term.field (Jvm.Term.string "PageGarden" (19 : Nat)) "java/lang/String" "value" "[B") (Jvm.Term.int (2 : Int32))) (Jvm.Term.int (116 : Int32))).before (nAr b) s = true := flat_of_before _ (n_split h).2.2.1.2 _ (by decide +kernel)
theorem np_h10 (h : (Jvm.Cond.and given_1 narrow_1).before (nAr b) s = true) : (Jvm.Cond.eq (Jvm.Term.field (Jvm.Term.string "PageGarden" (19 : Nat)) "java/lang/String" "hash" "I") (Jvm.Term.int (111375 : Int32))).before (nAr b) s = true := flat_of_before _ (n_split h).2.2.1.2 _ (by decide +kernel)
theorem np_z10 (h : (Jvm.Cond.and given_1 narrow_1).before (nAr b) s = true) : (Jvm.Cond.eq (Jvm.Term.field (Jvm.Term.string "PageGarden" (19 : Nat)) "java/lang/String" "hashIsZero" "Z") (Jvm.Term.int (0 : Int32))).before (nAr b) s = true := flat_of_before _ (n_split h).2.2.1.2 _ (by decide +kernel)
theorem np_co11 (h : (Jvm.Cond.and given_1 narrow_1).before (nAr b) s = true) : (Jvm.Cond.eq (Jvm.Term.field (Jvm.Term.string "PageGarden" (25 : Nat)) "java/lang/String" "coder" "B") (Jvm.Term.int (0 : Int32))).before (nAr b) s = true := flat_of_before _ (n_split h).2.2.1.2 _ (by decide +kernel)
theorem np_va11 (h : (Jvm.Cond.and given_1 narrow_1).before (nAr b) s = true) : (Jvm.Cond.arrayOf (Jvm.Term.field (Jvm.Term.string "PageGarden" (25 : Nat)) "java/lang/String" "value" "[B") Jvm.ClassFile.FieldType.byte).before (nAr b) s = true := flat_of_before _ (n_split h).2.2.1.2 _ (by decide +kernel)
theorem np_ve11 (h : (Jvm.Cond.and given_1 narrow_1).before (nAr b) s = true) : (Jvm.Cond.exactly (Jvm.Term.field (Jvm.Term.string "PageGarden" (25 : Nat)) "java/lang/String" "value" "[B") "[B").before (nAr b) s = true := flat_of_before _ (n_split h).2.2.2.2 _ (by decide +kernel)
theorem np_vl11 (h : (Jvm.Cond.and given_1 narrow_1).before (nAr b) s = true) : (Jvm.Cond.eq (Jvm.Term.length (Jvm.Term.field (Jvm.Term.string "PageGarden" (25 : Nat)) "java/lang/String" "value" "[B")) (Jvm.Term.int (4 : Int32))).before (nAr b) s = true := flat_of_before _ (n_split h).2.2.1.2 _ (by decide +kernel)
theorem np_vb11_0 (h : (Jvm.Cond.and given_1 narrow_1).before (nAr b) s = true) : (Jvm.Cond.eq (Jvm.Term.elem (Jvm.Term.field (Jvm.Term.string "PageGarden" (25 : Nat)) "java/lang/String" "value" "[B") (Jvm.Term.int (0 : Int32))) (Jvm.Term.int (100 : Int32))).before (nAr b) s = true := flat_of_before _ (n_split h).2.2.1.2 _ (by decide +kernel)
theorem np_vb11_1 (h : (Jvm.Cond.and given_1 narrow_1).before (nAr b) s = true) : (Jvm.Cond.eq (Jvm.Term.elem (Jvm.Term.field (Jvm.Term.string "PageGarden" (25 : Nat)) "java/lang/String" "value" "[B") (Jvm.Term.int (1 : Int32))) (Jvm.Term.int (114 : Int32))).before (nAr b) s = true := flat_of_before _ (n_split h).2.2.1.2 _ (by decide +kernel)
theorem np_vb11_2 (h : (Jvm.Cond.and given_1 narrow_1).before (nAr b) s = true) : (Jvm.Cond.eq (Jvm.Term.elem (Jvm.Term.field (Jvm.Term.string "PageGarden" (25 : Nat)) "java/lang/String" "value" "[B") (Jvm.Term.int (2 : Int32))) (Jvm.Term.int (111 : Int32))).before (nAr b) s = true := flat_of_before _ (n_split h).2.2.1.2 _ (by decide +kernel)
theorem np_vb11_3 (h : (Jvm.Cond.and given_1 narrow_1).before (nAr b) s = true) : (Jvm.Cond.eq (Jvm.Term.elem (Jvm.Term.field (Jvm.Term.string "PageGarden" (25 : Nat)) "java/lang/String" "value" "[B") (Jvm.Term.int (3 : Int32))) (Jvm.Term.int (112 : Int32))).before (nAr b) s = true := flat_of_before _ (n_split h).2.2.1.2 _ (by decide +kernel)
theorem np_h11 (h : (Jvm.Cond.and given_1 narrow_1).before (nAr b) s = true) : (Jvm.Cond.eq (Jvm.Term.field (Jvm.Term.string "PageGarden" (25 : Nat)) "java/lang/String" "hash" "I") (Jvm.Term.int (3092207 : Int32))).before (nAr b) s = true := flat_of_before _ (n_split h).2.2.1.2 _ (by decide +kernel)
theorem np_z11 (h : (Jvm.Cond.and given_1 narrow_1).before (nAr b) s = true) : (Jvm.Cond.eq (Jvm.Term.field (Jvm.Term.string "PageGarden" (25 : Nat)) "java/lang/String" "hashIsZero" "Z") (Jvm.Term.int (0 : Int32))).before (nAr b) s = true := flat_of_before _ (n_split h).2.2.1.2 _ (by decide +kernel)
theorem np_co12 (h : (Jvm.Cond.and given_1 narrow_1).before (nAr b) s = true) : (Jvm.Cond.eq (Jvm.Term.field (Jvm.Term.string "PageGarden" (27 : Nat)) "java/lang/String" "coder" "B") (Jvm.Term.int (0 : Int32))).before (nAr b) s = true := flat_of_before _ (n_split h).2.2.1.2 _ (by decide +kernel)
theorem np_va12 (h : (Jvm.Cond.and given_1 narrow_1).before (nAr b) s = true) : (Jvm.Cond.arrayOf (Jvm.Term.field (Jvm.Term.string "PageGarden" (27 : Nat)) "java/lang/String" "value" "[B") Jvm.ClassFile.FieldType.byte).before (nAr b) s = true := flat_of_before _ (n_split h).2.2.1.2 _ (by decide +kernel)
theorem np_ve12 (h : (Jvm.Cond.and given_1 narrow_1).before (nAr b) s = true) : (Jvm.Cond.exactly (Jvm.Term.field (Jvm.Term.string "PageGarden" (27 : Nat)) "java/lang/String" "value" "[B") "[B").before (nAr b) s = true := flat_of_before _ (n_split h).2.2.2.2 _ (by decide +kernel)
theorem np_vl12 (h : (Jvm.Cond.and given_1 narrow_1).before (nAr b) s = true) : (Jvm.Cond.eq (Jvm.Term.length (Jvm.Term.field (Jvm.Term.string "PageGarden" (27 : Nat)) "java/lang/String" "value" "[B")) (Jvm.Term.int (6 : Int32))).before (nAr b) s = true := flat_of_before _ (n_split h).2.2.1.2 _ (by decide +kernel)
theorem np_vb12_0 (h : (Jvm.Cond.and given_1 narrow_1).before (nAr b) s = true) : (Jvm.Cond.eq (Jvm.Term.elem (Jvm.Term.field (Jvm.Term.string "PageGarden" (27 : Nat)) "java/lang/String" "value" "[B") (Jvm.Term.int (0 : Int32))) (Jvm.Term.int (99 : Int32))).before (nAr b) s = true := flat_of_before _ (n_split h).2.2.1.2 _ (by decide +kernel)
theorem np_vb12_1 (h : (Jvm.Cond.and given_1 narrow_1).before (nAr b) s = true) : (Jvm.Cond.eq (Jvm.Term.elem (Jvm.Term.field (Jvm.Term.string "PageGarden" (27 : Nat)) "java/lang/String" "value" "[B") (Jvm.Term.int (1 : Int32))) (Jvm.Term.int (111 : Int32))).before (nAr b) s = true := flat_of_before _ (n_split h).2.2.1.2 _ (by decide +kernel)
theorem np_vb12_2 (h : (Jvm.Cond.and given_1 narrow_1).before (nAr b) s = true) : (Jvm.Cond.eq (Jvm.Term.elem (Jvm.Term.field (Jvm.Term.string "PageGarden" (27 : Nat)) "java/lang/String" "value" "[B") (Jvm.Term.int (2 : Int32))) (Jvm.Term.int (109 : Int32))).before (nAr b) s = true := flat_of_before _ (n_split h).2.2.1.2 _ (by decide +kernel)
theorem np_vb12_3 (h : (Jvm.Cond.and given_1 narrow_1).before (nAr b) s = true) : (Jvm.Cond.eq (Jvm.Term.elem (Jvm.Term.field (Jvm.Term.string "PageGarden" (27 : Nat)) "java/lang/String" "value" "[B") (Jvm.Term.int (3 : Int32))) (Jvm.Term.int (109 : Int32))).before (nAr b) s = true := flat_of_before _ (n_split h).2.2.1.2 _ (by decide +kernel)
theorem np_vb12_4 (h : (Jvm.Cond.and given_1 narrow_1).before (nAr b) s = true) : (Jvm.Cond.eq (Jvm.Term.elem (Jvm.Term.field (Jvm.Term.string "PageGarden" (27 : Nat)) "java/lang/String" "value" "[B") (Jvm.Term.int (4 : Int32))) (Jvm.Term.int (105 : Int32))).before (nAr b) s = true := flat_of_before _ (n_split h).2.2.1.2 _ (by decide +kernel)
theorem np_vb12_5 (h : (Jvm.Cond.and given_1 narrow_1).before (nAr b) s = true) : (Jvm.Cond.eq (Jvm.Term.elem (Jvm.Term.field (Jvm.Term.string "PageGarden" (27 : Nat)) "java/lang/String" "value" "[B") (Jvm.Term.int (5 : Int32))) (Jvm.Term.int (116 : Int32))).before (nAr b) s = true := flat_of_before _ (n_split h).2.2.1.2 _ (by decide +kernel)
theorem np_h12 (h : (Jvm.Cond.and given_1 narrow_1).before (nAr b) s = true) : (Jvm.Cond.eq (Jvm.Term.field (Jvm.Term.string "PageGarden" (27 : Nat)) "java/lang/String" "hash" "I") (Jvm.Term.int (-1354815177 : Int32))).before (nAr b) s = true := flat_of_before _ (n_split h).2.2.1.2 _ (by decide +kernel)
theorem np_z12 (h : (Jvm.Cond.and given_1 narrow_1).before (nAr b) s = true) : (Jvm.Cond.eq (Jvm.Term.field (Jvm.Term.string "PageGarden" (27 : Nat)) "java/lang/String" "hashIsZero" "Z") (Jvm.Term.int (0 : Int32))).before (nAr b) s = true := flat_of_before _ (n_split h).2.2.1.2 _ (by decide +kernel)
theorem np_co13 (h : (Jvm.Cond.and given_1 narrow_1).before (nAr b) s = true) : (Jvm.Cond.eq (Jvm.Term.field (Jvm.Term.string "PageGarden" (29 : Nat)) "java/lang/String" "coder" "B") (Jvm.Term.int (0 : Int32))).before (nAr b) s = true := flat_of_before _ (n_split h).2.2.1.2 _ (by decide +kernel)
theorem np_va13 (h : (Jvm.Cond.and given_1 narrow_1).before (nAr b) s = true) : (Jvm.Cond.arrayOf (Jvm.Term.field (Jvm.Term.string "PageGarden" (29 : Nat)) "java/lang/String" "value" "[B") Jvm.ClassFile.FieldType.byte).before (nAr b) s = true := flat_of_before _ (n_split h).2.2.1.2 _ (by decide +kernel)
theorem np_ve13 (h : (Jvm.Cond.and given_1 narrow_1).before (nAr b) s = true) : (Jvm.Cond.exactly (Jvm.Term.field (Jvm.Term.string "PageGarden" (29 : Nat)) "java/lang/String" "value" "[B") "[B").before (nAr b) s = true := flat_of_before _ (n_split h).2.2.2.2 _ (by decide +kernel)
theorem np_vl13 (h : (Jvm.Cond.and given_1 narrow_1).before (nAr b) s = true) : (Jvm.Cond.eq (Jvm.Term.length (Jvm.Term.field (Jvm.Term.string "PageGarden" (29 : Nat)) "java/lang/String" "value" "[B")) (Jvm.Term.int (5 : Int32))).before (nAr b) s = true := flat_of_before _ (n_split h).2.2.1.2 _ (by decide +kernel)
theorem np_vb13_0 (h : (Jvm.Cond.and given_1 narrow_1).before (nAr b) s = true) : (Jvm.Cond.eq (Jvm.Term.elem (Jvm.Term.field (Jvm.Term.string "PageGarden" (29 : Nat)) "java/lang/String" "value" "[B") (Jvm.Term.int (0 : Int32))) (Jvm.Term.int (99 : Int32))).before (nAr b) s = true := flat_of_before _ (n_split h).2.2.1.2 _ (by decide +kernel)
theorem np_vb13_1 (h : (Jvm.Cond.and given_1 narrow_1).before (nAr b) s = true) : (Jvm.Cond.eq (Jvm.Term.elem (Jvm.Term.field (Jvm.Term.string "PageGarden" (29 : Nat)) "java/lang/String" "value" "[B") (Jvm.Term.int (1 : Int32))) (Jvm.Term.int (108 : Int32))).before (nAr b) s = true := flat_of_before _ (n_split h).2.2.1.2 _ (by decide +kernel)
theorem np_vb13_2 (h : (Jvm.Cond.and given_1 narrow_1).before (nAr b) s = true) : (Jvm.Cond.eq (Jvm.Term.elem (Jvm.Term.field (Jvm.Term.string "PageGarden" (29 : Nat)) "java/lang/String" "value" "[B") (Jvm.Term.int (2 : Int32))) (Jvm.Term.int (111 : Int32))).before (nAr b) s = true := flat_of_before _ (n_split h).2.2.1.2 _ (by decide +kernel)
theorem np_vb13_3 (h : (Jvm.Cond.and given_1 narrow_1).before (nAr b) s = true) : (Jvm.Cond.eq (Jvm.Term.elem (Jvm.Term.field (Jvm.Term.string "PageGarden" (29 : Nat)) "java/lang/String" "value" "[B") (Jvm.Term.int (3 : Int32))) (Jvm.Term.int (115 : Int32))).before (nAr b) s = true := flat_of_before _ (n_split h).2.2.1.2 _ (by decide +kernel)
theorem np_vb13_4 (h : (Jvm.Cond.and given_1 narrow_1).before (nAr b) s = true) : (Jvm.Cond.eq (Jvm.Term.elem (Jvm.Term.field (Jvm.Term.string "PageGarden" (29 : Nat)) "java/lang/String" "value" "[B") (Jvm.Term.int (4 : Int32))) (Jvm.Term.int (101 : Int32))).before (nAr b) s = true := flat_of_before _ (n_split h).2.2.1.2 _ (by decide +kernel)
theorem np_h13 (h : (Jvm.Cond.and given_1 narrow_1).before (nAr b) s = true) : (Jvm.Cond.eq (Jvm.Term.field (Jvm.Term.string "PageGarden" (29 : Nat)) "java/lang/String" "hash" "I") (Jvm.Term.int (94756344 : Int32))).before (nAr b) s = true := flat_of_before _ (n_split h).2.2.1.2 _ (by decide +kernel)
theorem np_z13 (h : (Jvm.Cond.and given_1 narrow_1).before (nAr b) s = true) : (Jvm.Cond.eq (Jvm.Term.field (Jvm.Term.string "PageGarden" (29 : Nat)) "java/lang/String" "hashIsZero" "Z") (Jvm.Term.int (0 : Int32))).before (nAr b) s = true := flat_of_before _ (n_split h).2.2.1.2 _ (by decide +kernel)
theorem np_co14 (h : (Jvm.Cond.and given_1 narrow_1).before (nAr b) s = true) : (Jvm.Cond.eq (Jvm.Term.field (Jvm.Term.string "PageGarden" (31 : Nat)) "java/lang/String" "coder" "B") (Jvm.Term.int (0 : Int32))).before (nAr b) s = true := flat_of_before _ (n_split h).2.2.1.2 _ (by decide +kernel)
theorem np_va14 (h : (Jvm.Cond.and given_1 narrow_1).before (nAr b) s = true) : (Jvm.Cond.arrayOf (Jvm.Term.field (Jvm.Term.string "PageGarden" (31 : Nat)) "java/lang/String" "value" "[B") Jvm.ClassFile.FieldType.byte).before (nAr b) s = true := flat_of_before _ (n_split h).2.2.1.2 _ (by decide +kernel)
theorem np_ve14 (h : (Jvm.Cond.and given_1 narrow_1).before (nAr b) s = true) : (Jvm.Cond.exactly (Jvm.Term.field (Jvm.Term.string "PageGarden" (31 : Nat)) "java/lang/String" "value" "[B") "[B").before (nAr b) s = true := flat_of_before _ (n_split h).2.2.2.2 _ (by decide +kernel)
theorem np_vl14 (h : (Jvm.Cond.and given_1 narrow_1).before (nAr b) s = true) : (Jvm.Cond.eq (Jvm.Term.length (Jvm.Term.field (Jvm.Term.string "PageGarden" (31 : Nat)) "java/lang/String" "value" "[B")) (Jvm.Term.int (5 : Int32))).before (nAr b) s = true := flat_of_before _ (n_split h).2.2.1.2 _ (by decide +kernel)
theorem np_vb14_0 (h : (Jvm.Cond.and given_1 narrow_1).before (nAr b) s = true) : (Jvm.Cond.eq (Jvm.Term.elem (Jvm.Term.field (Jvm.Term.string "PageGarden" (31 : Nat)) "java/lang/String" "value" "[B") (Jvm.Term.int (0 : Int32))) (Jvm.Term.int (98 : Int32))).before (nAr b) s = true := flat_of_before _ (n_split h).2.2.1.2 _ (by decide +kernel)
theorem np_vb14_1 (h : (Jvm.Cond.and given_1 narrow_1).before (nAr b) s = true) : (Jvm.Cond.eq (Jvm.Term.elem (Jvm.Term.field (Jvm.Term.string "PageGarden" (31 : Nat)) "java/lang/String" "value" "[B") (Jvm.Term.int (1 : Int32))) (Jvm.Term.int (101 : Int32))).before (nAr b) s = true := flat_of_before _ (n_split h).2.2.1.2 _ (by decide +kernel)
theorem np_vb14_2 (h : (Jvm.Cond.and given_1 narrow_1).before (nAr b) s = true) : (Jvm.Cond.eq (Jvm.Term.elem (Jvm.Term.field (Jvm.Term.string "PageGarden" (31 : Nat)) "java/lang/String" "value" "[B") (Jvm.Term.int (2 : Int32))) (Jvm.Term.int (103 : Int32))).before (nAr b) s = true := flat_of_before _ (n_split h).2.2.1.2 _ (by decide +kernel)
theorem np_vb14_3 (h : (Jvm.Cond.and given_1 narrow_1).before (nAr b) s = true) : (Jvm.Cond.eq (Jvm.Term.elem (Jvm.Term.field (Jvm.Term.string "PageGarden" (31 : Nat)) "java/lang/String" "value" "[B") (Jvm.Term.int (3 : Int32))) (Jvm.Term.int (105 : Int32))).before (nAr b) s = true := flat_of_before _ (n_split h).2.2.1.2 _ (by decide +kernel)
theorem np_vb14_4 (h : (Jvm.Cond.and given_1 narrow_1).before (nAr b) s = true) : (Jvm.Cond.eq (Jvm.Term.elem (Jvm.Term.field (Jvm.Term.string "PageGarden" (31 : Nat)) "java/lang/String" "value" "[B") (Jvm.Term.int (4 : Int32))) (Jvm.Term.int (110 : Int32))).before (nAr b) s = true := flat_of_before _ (n_split h).2.2.1.2 _ (by decide +kernel)
theorem np_h14 (h : (Jvm.Cond.and given_1 narrow_1).before (nAr b) s = true) : (Jvm.Cond.eq (Jvm.Term.field (Jvm.Term.string "PageGarden" (31 : Nat)) "java/lang/String" "hash" "I") (Jvm.Term.int (93616297 : Int32))).before (nAr b) s = true := flat_of_before _ (n_split h).2.2.1.2 _ (by decide +kernel)
theorem np_z14 (h : (Jvm.Cond.and given_1 narrow_1).before (nAr b) s = true) : (Jvm.Cond.eq (Jvm.Term.field (Jvm.Term.string "PageGarden" (31 : Nat)) "java/lang/String" "hashIsZero" "Z") (Jvm.Term.int (0 : Int32))).before (nAr b) s = true := flat_of_before _ (n_split h).2.2.1.2 _ (by decide +kernel)
theorem np_co15 (h : (Jvm.Cond.and given_1 narrow_1).before (nAr b) s = true) : (Jvm.Cond.eq (Jvm.Term.field (Jvm.Term.string "PageGarden" (33 : Nat)) "java/lang/String" "coder" "B") (Jvm.Term.int (0 : Int32))).before (nAr b) s = true := flat_of_before _ (n_split h).2.2.2.1 _ (by decide +kernel)
theorem np_va15 (h : (Jvm.Cond.and given_1 narrow_1).before (nAr b) s = true) : (Jvm.Cond.arrayOf (Jvm.Term.field (Jvm.Term.string "PageGarden" (33 : Nat)) "java/lang/String" "value" "[B") Jvm.ClassFile.FieldType.byte).before (nAr b) s = true := flat_of_before _ (n_split h).2.2.2.1 _ (by decide +kernel)
theorem np_ve15 (h : (Jvm.Cond.and given_1 narrow_1).before (nAr b) s = true) : (Jvm.Cond.exactly (Jvm.Term.field (Jvm.Term.string "PageGarden" (33 : Nat)) "java/lang/String" "value" "[B") "[B").before (nAr b) s = true := flat_of_before _ (n_split h).2.2.2.2 _ (by decide +kernel)
theorem np_vl15 (h : (Jvm.Cond.and given_1 narrow_1).before (nAr b) s = true) : (Jvm.Cond.eq (Jvm.Term.length (Jvm.Term.field (Jvm.Term.string "PageGarden" (33 : Nat)) "java/lang/String" "value" "[B")) (Jvm.Term.int (5 : Int32))).before (nAr b) s = true := flat_of_before _ (n_split h).2.2.2.1 _ (by decide +kernel)
theorem np_vb15_0 (h : (Jvm.Cond.and given_1 narrow_1).before (nAr b) s = true) : (Jvm.Cond.eq (Jvm.Term.elem (Jvm.Term.field (Jvm.Term.string "PageGarden" (33 : Nat)) "java/lang/String" "value" "[B") (Jvm.Term.int (0 : Int32))) (Jvm.Term.int (97 : Int32))).before (nAr b) s = true := flat_of_before _ (n_split h).2.2.2.1 _ (by decide +kernel)
theorem np_vb15_1 (h : (Jvm.Cond.and given_1 narrow_1).before (nAr b) s = true) : (Jvm.Cond.eq (Jvm.Term.elem (Jvm.Term.field (Jvm.Term.string "PageGarden" (33 : Nat)) "java/lang/String" "value" "[B") (Jvm.Term.int (1 : Int32))) (Jvm.Term.int (98 : Int32))).before (nAr b) s = true := flat_of_before _ (n_split h).2.2.2.1 _ (by decide +kernel)
theorem np_vb15_2 (h : (Jvm.Cond.and given_1 narrow_1).before (nAr b) s = true) : (Jvm.Cond.eq (Jvm.Term.elem (Jvm.Term.field (Jvm.Term.string "PageGarden" (33 : Nat)) "java/lang/String" "value" "[B") (Jvm.Term.int (2 : Int32))) (Jvm.Term.int (111 : Int32))).before (nAr b) s = true := flat_of_before _ (n_split h).2.2.2.1 _ (by decide +kernel)
theorem np_vb15_3 (h : (Jvm.Cond.and given_1 narrow_1).before (nAr b) s = true) : (Jvm.Cond.eq (Jvm.Term.elem (Jvm.Term.field (Jvm.Term.string "PageGarden" (33 : Nat)) "java/lang/String" "value" "[B") (Jvm.Term.int (3 : Int32))) (Jvm.Term.int (114 : Int32))).before (nAr b) s = true := flat_of_before _ (n_split h).2.2.2.1 _ (by decide +kernel)
theorem np_vb15_4 (h : (Jvm.Cond.and given_1 narrow_1).before (nAr b) s = true) : (Jvm.Cond.eq (Jvm.Term.elem (Jvm.Term.field (Jvm.Term.string "PageGarden" (33 : Nat)) "java/lang/String" "value" "[B") (Jvm.Term.int (4 : Int32))) (Jvm.Term.int (116 : Int32))).before (nAr b) s = true := flat_of_before _ (n_split h).2.2.2.1 _ (by decide +kernel)
theorem np_h15 (h : (Jvm.Cond.and given_1 narrow_1).before (nAr b) s = true) : (Jvm.Cond.eq (Jvm.Term.field (Jvm.Term.string "PageGarden" (33 : Nat)) "java/lang/String" "hash" "I") (Jvm.Term.int (92611376 : Int32))).before (nAr b) s = true := flat_of_before _ (n_split h).2.2.2.1 _ (by decide +kernel)
theorem np_z15 (h : (Jvm.Cond.and given_1 narrow_1).before (nAr b) s = true) : (Jvm.Cond.eq (Jvm.Term.field (Jvm.Term.string "PageGarden" (33 : Nat)) "java/lang/String" "hashIsZero" "Z") (Jvm.Term.int (0 : Int32))).before (nAr b) s = true := flat_of_before _ (n_split h).2.2.2.1 _ (by decide +kernel)
theorem np_co16 (h : (Jvm.Cond.and given_1 narrow_1).before (nAr b) s = true) : (Jvm.Cond.eq (Jvm.Term.field (Jvm.Term.string "PageGarden" (35 : Nat)) "java/lang/String" "coder" "B") (Jvm.Term.int (0 : Int32))).before (nAr b) s = true := flat_of_before _ (n_split h).2.2.2.1 _ (by decide +kernel)
theorem np_va16 (h : (Jvm.Cond.and given_1 narrow_1).before (nAr b) s = true) : (Jvm.Cond.arrayOf (Jvm.Term.field (Jvm.Term.string "PageGarden" (35 : Nat)) "java/lang/String" "value" "[B") Jvm.ClassFile.FieldType.byte).before (nAr b) s = true := flat_of_before _ (n_split h).2.2.2.1 _ (by decide +kernel)
theorem np_ve16 (h : (Jvm.Cond.and given_1 narrow_1).before (nAr b) s = true) : (Jvm.Cond.exactly (Jvm.Term.field (Jvm.Term.string "PageGarden" (35 : Nat)) "java/lang/String" "value" "[B") "[B").before (nAr b) s = true := flat_of_before _ (n_split h).2.2.2.2 _ (by decide +kernel)
theorem np_vl16 (h : (Jvm.Cond.and given_1 narrow_1).before (nAr b) s = true) : (Jvm.Cond.eq (Jvm.Term.length (Jvm.Term.field (Jvm.Term.string "PageGarden" (35 : Nat)) "java/lang/String" "value" "[B")) (Jvm.Term.int (4 : Int32))).before (nAr b) s = true := flat_of_before _ (n_split h).2.2.2.1 _ (by decide +kernel)
theorem np_vb16_0 (h : (Jvm.Cond.and given_1 narrow_1).before (nAr b) s = true) : (Jvm.Cond.eq (Jvm.Term.elem (Jvm.Term.field (Jvm.Term.string "PageGarden" (35 : Nat)) "java/lang/String" "value" "[B") (Jvm.Term.int (0 : Int32))) (Jvm.Term.int (111 : Int32))).before (nAr b) s = true := flat_of_before _ (n_split h).2.2.2.1 _ (by decide +kernel)
theorem np_vb16_1 (h : (Jvm.Cond.and given_1 narrow_1).before (nAr b) s = true) : (Jvm.Cond.eq (Jvm.Term.elem (Jvm.Term.field (Jvm.Term.string "PageGarden" (35 : Nat)) "java/lang/String" "value" "[B") (Jvm.Term.int (1 : Int32))) (Jvm.Term.int (112 : Int32))).before (nAr b) s = true := flat_of_before _ (n_split h).2.2.2.1 _ (by decide +kernel)
theorem np_vb16_2 (h : (Jvm.Cond.and given_1 narrow_1).before (nAr b) s = true) : (Jvm.Cond.eq (Jvm.Term.elem (Jvm.Term.field (Jvm.Term.string "PageGarden" (35 : Nat)) "java/lang/String" "value" "[B") (Jvm.Term.int (2 : Int32))) (Jvm.Term.int (101 : Int32))).before (nAr b) s = true := flat_of_before _ (n_split h).2.2.2.1 _ (by decide +kernel)
theorem np_vb16_3 (h : (Jvm.Cond.and given_1 narrow_1).before (nAr b) s = true) : (Jvm.Cond.eq (Jvm.Term.elem (Jvm.Term.field (Jvm.Term.string "PageGarden" (35 : Nat)) "java/lang/String" "value" "[B") (Jvm.Term.int (3 : Int32))) (Jvm.Term.int (110 : Int32))).before (nAr b) s = true := flat_of_before _ (n_split h).2.2.2.1 _ (by decide +kernel)
theorem np_h16 (h : (Jvm.Cond.and given_1 narrow_1).before (nAr b) s = true) : (Jvm.Cond.eq (Jvm.Term.field (Jvm.Term.string "PageGarden" (35 : Nat)) "java/lang/String" "hash" "I") (Jvm.Term.int (3417674 : Int32))).before (nAr b) s = true := flat_of_before _ (n_split h).2.2.2.1 _ (by decide +kernel)
theorem np_z16 (h : (Jvm.Cond.and given_1 narrow_1).before (nAr b) s = true) : (Jvm.Cond.eq (Jvm.Term.field (Jvm.Term.string "PageGarden" (35 : Nat)) "java/lang/String" "hashIsZero" "Z") (Jvm.Term.int (0 : Int32))).before (nAr b) s = true := flat_of_before _ (n_split h).2.2.2.1 _ (by decide +kernel)
/-- the classes, known at the start -/
theorem st_classes (ht : ∀ w ∈ lw_tbl, w.before (nAr b) s = true) : ∃ (dC : Nat → ClassId) (dI : Nat → Nat → Nat), ∀ (k : Nat) (q : vw_C), gCl[k]? = some q → u_Kn s q.1 q.2.1 q.2.2 (dC k) (dI k) := by
  obtain ⟨c0, iS0, hk0⟩ := u_known (C := RX1) (T := TX1) (N := 4) (n := 4) ht (fun w h => lw_all_tbl (in_X1 w h)) (ht _ (lw_all_tbl q167))
  obtain ⟨c1, iS1, hk1⟩ := u_known (C := RX2) (T := TX2) (N := 1) (n := 1) ht (fun w h => lw_all_tbl (in_X2 w h)) (ht _ (lw_all_tbl q179))
  obtain ⟨c2, iS2, hk2⟩ := u_known (C := RX9) (T := TX9) (N := 2) (n := 2) ht (fun w h => lw_all_tbl (in_X9 w h)) (ht _ (lw_all_tbl q2165))
  obtain ⟨c3, iS3, hk3⟩ := u_known (C := RX5) (T := TX5) (N := 1) (n := 1) ht (fun w h => lw_all_tbl (in_X5 w h)) (ht _ (lw_all_tbl q315))
  obtain ⟨c4, iS4, hk4⟩ := u_known (C := RX4) (T := TX4) (N := 3) (n := 3) ht (fun w h => lw_all_tbl (in_X4 w h)) (ht _ (lw_all_tbl q193))
  obtain ⟨c5, iS5, hk5⟩ := u_known (C := RX10) (T := TX10) (N := 2) (n := 2) ht (fun w h => lw_all_tbl (in_X10 w h)) (ht _ (lw_all_tbl q2317))
  obtain ⟨c6, iS6, hk6⟩ := u_known (C := RX7) (T := TX7) (N := 3) (n := 3) ht (fun w h => lw_all_tbl (in_X7 w h)) (ht _ (lw_all_tbl q1464))
  obtain ⟨c7, iS7, hk7⟩ := u_known (C := RX3) (T := TX3) (N := 9) (n := 9) ht (fun w h => lw_all_tbl (in_X3 w h)) (ht _ (lw_all_tbl q190))
  obtain ⟨c8, iS8, hk8⟩ := u_known (C := RX11) (T := TX11) (N := 5) (n := 5) ht (fun w h => lw_all_tbl (in_X11 w h)) (ht _ (lw_all_tbl q1326))
  obtain ⟨c9, iS9, hk9⟩ := u_known (C := RX6) (T := TX6) (N := 13) (n := 13) ht (fun w h => lw_all_tbl (in_X6 w h)) (ht _ (lw_all_tbl q2689))
  obtain ⟨c10, iS10, hk10⟩ := u_known (C := RJ2) (T := TJ2) (N := 12) (n := 12) ht (fun w h => lw_all_tbl (in_J2 w h)) (ht _ (lw_all_tbl q217))
  obtain ⟨c11, iS11, hk11⟩ := u_known (C := RJ19) (T := TJ19) (N := 6) (n := 6) ht (fun w h => lw_all_tbl (in_J19 w h)) (ht _ (lw_all_tbl q786))
  obtain ⟨c12, iS12, hk12⟩ := u_known (C := RJ28) (T := TJ28) (N := 1) (n := 1) ht (fun w h => lw_all_tbl (in_J28 w h)) (ht _ (lw_all_tbl q1470))
  obtain ⟨c13, iS13, hk13⟩ := u_known (C := RJ25) (T := TJ25) (N := 3) (n := 3) ht (fun w h => lw_all_tbl (in_J25 w h)) (ht _ (lw_all_tbl q1246))
  obtain ⟨c14, iS14, hk14⟩ := u_known (C := RJ37) (T := TJ37) (N := 5) (n := 5) ht (fun w h => lw_all_tbl (in_J37 w h)) (ht _ (lw_all_tbl q1872))
  obtain ⟨c15, iS15, hk15⟩ := u_known (C := RJ33) (T := TJ33) (N := 2) (n := 2) ht (fun w h => lw_all_tbl (in_J33 w h)) (ht _ (lw_all_tbl q1816))
  obtain ⟨c16, iS16, hk16⟩ := u_known (C := RJ4) (T := TJ4) (N := 4) (n := 4) ht (fun w h => lw_all_tbl (in_J4 w h)) (ht _ (lw_all_tbl q657))
  obtain ⟨c17, iS17, hk17⟩ := u_known (C := RJ13) (T := TJ13) (N := 4) (n := 4) ht (fun w h => lw_all_tbl (in_J13 w h)) (ht _ (lw_all_tbl q485))
  refine ⟨fun k => [c0, c1, c2, c3, c4, c5, c6, c7, c8, c9, c10, c11, c12, c13, c14, c15, c16, c17].getD k 0, fun k => [iS0, iS1, iS2, iS3, iS4, iS5, iS6, iS7, iS8, iS9, iS10, iS11, iS12, iS13, iS14, iS15, iS16, iS17].getD k (fun _ => 0), fun k q hq => ?_⟩
  match k, hq with
  | 0, hq => rw [gcl0] at hq; cases hq; exact hk0
  | 1, hq => rw [gcl1] at hq; cases hq; exact hk1
  | 2, hq => rw [gcl2] at hq; cases hq; exact hk2
  | 3, hq => rw [gcl3] at hq; cases hq; exact hk3
  | 4, hq => rw [gcl4] at hq; cases hq; exact hk4
  | 5, hq => rw [gcl5] at hq; cases hq; exact hk5
  | 6, hq => rw [gcl6] at hq; cases hq; exact hk6
  | 7, hq => rw [gcl7] at hq; cases hq; exact hk7
  | 8, hq => rw [gcl8] at hq; cases hq; exact hk8
  | 9, hq => rw [gcl9] at hq; cases hq; exact hk9
  | 10, hq => rw [gcl10] at hq; cases hq; exact hk10
  | 11, hq => rw [gcl11] at hq; cases hq; exact hk11
  | 12, hq => rw [gcl12] at hq; cases hq; exact hk12
  | 13, hq => rw [gcl13] at hq; cases hq; exact hk13
  | 14, hq => rw [gcl14] at hq; cases hq; exact hk14
  | 15, hq => rw [gcl15] at hq; cases hq; exact hk15
  | 16, hq => rw [gcl16] at hq; cases hq; exact hk16
  | 17, hq => rw [gcl17] at hq; cases hq; exact hk17
  | k + 18, hq => simp [gCl] at hq
theorem st_prim {ty : FieldType} (h : (Cond.arrayClass ty).before (nAr b) s = true) : ∃ c, s.vm.findClass ("[" ++ ty.toString) = some c ∧ ArrOfT s c ty := by
  obtain ⟨c, k, comp, h1, h2, h3⟩ := Cond.arrayClass_spec (args := nAr b) (first := s) (o := none) (s := s) (idx := []) h
  exact ⟨c, h1, fun n z => ⟨fun k h => (by cases h), k, h2, comp, h3⟩⟩
theorem st_over {C : String} (h : (Cond.arrayOver (.object C)).before (nAr b) s = true) : ∃ c, s.vm.findClass ("[" ++ (FieldType.object C).toString) = some c ∧ ArrOfT s c (.object C) ∧ va_RA s c (.object C) := by
  obtain ⟨comp, c, k, h1, h2, h3, h4, h5⟩ := Cond.arrayOver_spec (args := nAr b) (first := s) (o := none) (s := s) (idx := []) h
  exact ⟨c, h5, fun n z => ⟨fun k h => (by cases h), k, h3, comp, h4⟩, k, comp, h3, h4, h1, h5⟩
theorem st_arrays (ht : ∀ w ∈ lw_tbl, w.before (nAr b) s = true) (c9 c100 c101 : ClassId) : ∃ dA : Nat → ClassId, (∀ (k : Nat) (q : ClassId × FieldType), (gTys dA)[k]? = some q → ArrOfT s q.1 q.2 ∧ va_RA s q.1 q.2) ∧ dA 9 = c9 ∧ dA 100 = c100 ∧ dA 101 = c101 ∧ s.vm.findClass "[B" = some (dA 2) ∧ s.vm.findClass "[Ljava/lang/Object;" = some (dA 8) := by
  obtain ⟨a0, f0, k0⟩ := st_prim (ht _ (lw_all_tbl q211))
  obtain ⟨a1, f1, k1⟩ := st_prim (ht _ (lw_all_tbl q3104))
  obtain ⟨a2, f2, k2⟩ := st_prim (ht _ (lw_all_tbl q515))
  obtain ⟨a3, f3, k3, r3⟩ := st_over (ht _ q178)
  obtain ⟨a4, f4, k4, r4⟩ := st_over (ht _ q276)
  obtain ⟨a5, f5, k5, r5⟩ := st_over (ht _ q192)
  obtain ⟨a6, f6, k6, r6⟩ := st_over (ht _ q278)
  obtain ⟨a7, f7, k7, r7⟩ := st_over (ht _ q768)
  obtain ⟨a8, f8, k8, r8⟩ := st_over (ht _ q2378)
  refine ⟨fun k => if k = 9 then c9 else if k = 100 then c100 else if k = 101 then c101 else [a0, a1, a2, a3, a4, a5, a6, a7, a8].getD k 0, fun k q hq => ?_, rfl, rfl, rfl, f2, f8⟩
  match k, hq with
  | 0, hq => cases hq; exact ⟨k0, f0⟩
  | 1, hq => cases hq; exact ⟨k1, f1⟩
  | 2, hq => cases hq; exact ⟨k2, f2⟩
  | 3, hq => cases hq; exact ⟨k3, r3⟩
  | 4, hq => cases hq; exact ⟨k4, r4⟩
  | 5, hq => cases hq; exact ⟨k5, r5⟩
  | 6, hq => cases hq; exact ⟨k6, r6⟩
  | 7, hq => cases hq; exact ⟨k7, r7⟩
  | 8, hq => cases hq; exact ⟨k8, r8⟩
  | k + 9, hq => simp [gTys] at hq
/-- the address that a term names -/
def adrT (b : Nat) (s : State) (t : Term) : Option Nat := match t.eval (nAr b) s none [] s with
  | some (.ref a) => some a
  | _ => none
theorem adrT_eq {t : Term} {a : Nat} (h : t.eval (nAr b) s none [] s = some (.ref a)) : adrT b s t = some a := by unfold adrT; rw [h]
theorem adrT_of {t : Term} {a : Nat} (h : adrT b s t = some a) : t.eval (nAr b) s none [] s = some (.ref a) := by
  unfold adrT at h
  split at h
  · rename_i e; cases h; exact e
  · cases h
theorem adrT_ex {t : Term} {C : String} (h : (Cond.exactly t C).before (nAr b) s = true) : ∃ a c cell, adrT b s t = some a ∧ t.eval (nAr b) s none [] s = some (.ref a) ∧ s.heap[a]? = some cell ∧ s.vm.findClass C = some c ∧ cell.vm.isStatics = false ∧ cell.cls = c := by
  obtain ⟨a, c, cell, k, h1, h2, h3, h4, h5, h6, -⟩ := Cond.exactly_spec (args := nAr b) (first := s) (o := none) (s := s) (idx := []) h
  exact ⟨a, c, cell, adrT_eq h1, h1, h3, h2, h5, h6⟩
def cK2 (b : Nat) (s : State) (i : Nat) : Option Nat := match i with
  | 0 => adrT b s (.static "PageGarden$State" "WILD" "LPageGarden$State;")
  | 1 => adrT b s (.static "PageGarden$State" "USED" "LPageGarden$State;")
  | 2 => adrT b s (.static "PageGarden$State" "FREED" "LPageGarden$State;")
  | 3 => adrT b s (.static "java/util/HashSet" "PRESENT" "Ljava/lang/Object;")
  | 4 => adrT b s (.static "java/util/ArrayList" "DEFAULTCAPACITY_EMPTY_ELEMENTDATA" "[Ljava/lang/Object;")
  | i => (gStrL.find? (fun q => q.2.2.2 == i)).bind fun q => adrT b s (.string q.1 q.2.1)
theorem st_str (h : (Jvm.Cond.and given_1 narrow_1).before (nAr b) s = true) : ∀ q ∈ gStrL, ∃ a, cK2 b s q.2.2.2 = some a ∧ (Term.string q.1 q.2.1).eval (nAr b) s none [] s = some (.ref a) := by
  intro q hq
  simp only [gStrL, List.mem_cons, List.mem_nil_iff, or_false] at hq
  rcases hq with rfl | rfl | rfl | rfl | rfl | rfl | rfl | rfl | rfl | rfl | rfl | rfl | rfl | rfl | rfl | rfl | rfl | rfl | rfl | rfl | rfl | rfl | rfl | rfl | rfl | rfl | rfl | rfl
  · obtain ⟨a, _, _, h1, h2, _⟩ := adrT_ex (np_st10 h); exact ⟨a, h1, h2⟩
  · obtain ⟨a, _, _, h1, h2, _⟩ := adrT_ex (np_st11 h); exact ⟨a, h1, h2⟩
  · obtain ⟨a, _, _, h1, h2, _⟩ := adrT_ex (np_st12 h); exact ⟨a, h1, h2⟩
  · obtain ⟨a, _, _, h1, h2, _⟩ := adrT_ex (np_st13 h); exact ⟨a, h1, h2⟩
  · obtain ⟨a, _, _, h1, h2, _⟩ := adrT_ex (np_st14 h); exact ⟨a, h1, h2⟩
  · obtain ⟨a, _, _, h1, h2, _⟩ := adrT_ex (np_st15 h); exact ⟨a, h1, h2⟩
  · obtain ⟨a, _, _, h1, h2, _⟩ := adrT_ex (np_st16 h); exact ⟨a, h1, h2⟩
  · obtain ⟨a, _, _, h1, h2, _⟩ := adrT_ex (np_st17 h); exact ⟨a, h1, h2⟩
  · obtain ⟨a, _, _, h1, h2, _⟩ := adrT_ex (np_st18 h); exact ⟨a, h1, h2⟩
  · obtain ⟨a, _, _, h1, h2, _⟩ := adrT_ex (np_st19 h); exact ⟨a, h1, h2⟩
  · obtain ⟨a, _, _, h1, h2, _⟩ := adrT_ex (np_st20 h); exact ⟨a, h1, h2⟩
  · obtain ⟨a, _, _, h1, h2, _⟩ := adrT_ex (np_st21 h); exact ⟨a, h1, h2⟩
  · obtain ⟨a, _, _, h1, h2, _⟩ := adrT_ex (np_st22 h); exact ⟨a, h1, h2⟩
  · obtain ⟨a, _, _, h1, h2, _⟩ := adrT_ex (np_st23 h); exact ⟨a, h1, h2⟩
  · obtain ⟨a, _, _, h1, h2, _⟩ := adrT_ex (np_st24 h); exact ⟨a, h1, h2⟩
  · obtain ⟨a, _, _, h1, h2, _⟩ := adrT_ex (np_st25 h); exact ⟨a, h1, h2⟩
  · obtain ⟨a, _, _, h1, h2, _⟩ := adrT_ex (np_st26 h); exact ⟨a, h1, h2⟩
  · obtain ⟨a, _, _, h1, h2, _⟩ := adrT_ex (np_st27 h); exact ⟨a, h1, h2⟩
  · obtain ⟨a, _, _, h1, h2, _⟩ := adrT_ex (np_st28 h); exact ⟨a, h1, h2⟩
  · obtain ⟨a, _, _, h1, h2, _⟩ := adrT_ex (np_st29 h); exact ⟨a, h1, h2⟩
  · obtain ⟨a, _, _, h1, h2, _⟩ := adrT_ex (np_st30 h); exact ⟨a, h1, h2⟩
  · obtain ⟨a, _, _, h1, h2, _⟩ := adrT_ex (np_st31 h); exact ⟨a, h1, h2⟩
  · obtain ⟨a, _, _, h1, h2, _⟩ := adrT_ex (np_st32 h); exact ⟨a, h1, h2⟩
  · obtain ⟨a, _, _, h1, h2, _⟩ := adrT_ex (np_st33 h); exact ⟨a, h1, h2⟩
  · obtain ⟨a, _, _, h1, h2, _⟩ := adrT_ex (np_st34 h); exact ⟨a, h1, h2⟩
  · obtain ⟨a, _, _, h1, h2, _⟩ := adrT_ex (np_st35 h); exact ⟨a, h1, h2⟩
  · obtain ⟨a, _, _, h1, h2, _⟩ := adrT_ex (np_st36 h); exact ⟨a, h1, h2⟩
  · obtain ⟨a, _, _, h1, h2, _⟩ := adrT_ex (np_st37 h); exact ⟨a, h1, h2⟩
/-- a word's cells in the machine's heap -/
def wCell (b : Nat) (s : State) (cS cB : ClassId) (iS : Nat → Nat) (t : Term) (tx : List Nat) (hh zz : Int32) : Prop := ∃ a v : Nat, ∃ cell cv : Cell, adrT b s t = some a ∧ s.heap[a]? = some cell ∧ cell.cls = cS ∧ cell.vm ≠ .unknown ∧ (∀ k, cell.vm ≠ .statics k) ∧ cell.slots[iS 0]? = some (.ref v) ∧ cell.slots[iS 1]? = some (.int 0) ∧ cell.slots[iS 2]? = some (.int hh) ∧ cell.slots[iS 3]? = some (.int zz) ∧
  s.heap[v]? = some cv ∧ cv.cls = cB ∧ cv.vm ≠ .unknown ∧ (∀ k, cv.vm ≠ .statics k) ∧ tx.length ≤ cv.slots.size ∧ cv.slots.size.toInt32 = Int32.ofNat tx.length ∧ ∀ j, j < tx.length → cv.slots[j]? = some (.int (Int32.ofNat (tx.getD j 0)))
theorem st_slot {a : Nat} {t : Term} {f d : String} {v : Value} {i : Nat} {cell : Cell} (ha : t.eval (nAr b) s none [] s = some (.ref a)) (hc : s.heap[a]? = some cell) (hv : (Term.field t "java/lang/String" f d).eval (nAr b) s none [] s = some v) (hi : SlotIs s "java/lang/String" f d i) : cell.vm ≠ .unknown ∧ cell.slots[i]? = some v := by
  obtain ⟨cf, k, fi, fd, c2, h1, h2, h3, h4, h5, -⟩ := vk_OFof (A := fun _ => False) ha hv (fun _ _ h => h)
  obtain ⟨cf', k', fi', fd', g1, g2⟩ := hi
  cases h1.symm.trans g1
  cases hc.symm.trans h3
  exact ⟨h4, by rw [← g2]; exact h5⟩
theorem st_word {cS cB : ClassId} {iS : Nat → Nat} {t : Term} {tx : List Nat} {hh zz : Int32} (hS : s.vm.findClass "java/lang/String" = some cS) (hB : s.vm.findClass "[B" = some cB) (h0 : SlotIs s "java/lang/String" "value" "[B" (iS 0)) (h1 : SlotIs s "java/lang/String" "coder" "B" (iS 1)) (h2 : SlotIs s "java/lang/String" "hash" "I" (iS 2)) (h3 : SlotIs s "java/lang/String" "hashIsZero" "Z" (iS 3)) (hn : tx.length < 100)
    (x1 : (Cond.exactly t "java/lang/String").before (nAr b) s = true) (x2 : (Cond.eq (.field t "java/lang/String" "coder" "B") (.int 0)).before (nAr b) s = true) (x3 : (Cond.arrayOf (.field t "java/lang/String" "value" "[B") .byte).before (nAr b) s = true) (x4 : (Cond.exactly (.field t "java/lang/String" "value" "[B") "[B").before (nAr b) s = true) (x5 : (Cond.eq (.length (.field t "java/lang/String" "value" "[B")) (.int (Int32.ofNat tx.length))).before (nAr b) s = true) (x6 : ∀ j, j < tx.length → (Cond.eq (.elem (.field t "java/lang/String" "value" "[B") (.int (Int32.ofNat j))) (.int (Int32.ofNat (tx.getD j 0)))).before (nAr b) s = true)
    (x7 : (Cond.eq (.field t "java/lang/String" "hash" "I") (.int hh)).before (nAr b) s = true) (x8 : (Cond.eq (.field t "java/lang/String" "hashIsZero" "Z") (.int zz)).before (nAr b) s = true) : wCell b s cS cB iS t tx hh zz := by
  obtain ⟨a, c, cell, q1, q2, q3, q4, q5, q6⟩ := adrT_ex x1
  obtain ⟨v, c', cv, r1, r2, r3, r4, r5, r6⟩ := adrT_ex x4
  obtain ⟨v', hv', cv', w1, w2, w3, w4, w5, w6, -⟩ := va_Tof (N := tx.length) (f := fun j => .int (Int32.ofNat (tx.getD j 0))) (A := fun _ => False) (by omega) x3 (va_eqt x5) (fun j hj => va_eqt (x6 j hj)) (fun _ _ h => h)
  cases r2.symm.trans hv'
  cases r3.symm.trans w1
  cases hS.symm.trans q4
  cases hB.symm.trans r4
  obtain ⟨u0, u1⟩ := st_slot q2 q3 r2 h0
  have nst : ∀ {c : Cell}, c.vm.isStatics = false → ∀ k, c.vm ≠ .statics k := fun h k e => by rw [e] at h; cases h
  exact ⟨a, v, cell, cv, q1, q3, q6, u0, nst q5, u1, (st_slot q2 q3 (va_eqt x2) h1).2, (st_slot q2 q3 (va_eqt x7) h2).2, (st_slot q2 q3 (va_eqt x8) h3).2, r3, r6, w3, nst r5, w4, w5, w6⟩
theorem st_w10 (h : (Jvm.Cond.and given_1 narrow_1).before (nAr b) s = true) {cS cB : ClassId} {iS : Nat → Nat} (hS : s.vm.findClass "java/lang/String" = some cS) (hB : s.vm.findClass "[B" = some cB) (h0 : SlotIs s "java/lang/String" "value" "[B" (iS 0)) (h1 : SlotIs s "java/lang/String" "coder" "B" (iS 1)) (h2 : SlotIs s "java/lang/String" "hash" "I" (iS 2)) (h3 : SlotIs s "java/lang/String" "hashIsZero" "Z" (iS 3)) : wCell b s cS cB iS (.string "PageGarden" 19) [112, 117, 116] (111375) (0) := by
  refine st_word hS hB h0 h1 h2 h3 (by decide) (np_st10 h) (np_co10 h) (np_va10 h) (np_ve10 h) (np_vl10 h) (fun j hj => ?_) (np_h10 h) (np_z10 h)
  match j, hj with
  | 0, _ => exact np_vb10_0 h
  | 1, _ => exact np_vb10_1 h
  | 2, _ => exact np_vb10_2 h
  | j + 3, hj => exact absurd hj (by simp)
theorem st_w11 (h : (Jvm.Cond.and given_1 narrow_1).before (nAr b) s = true) {cS cB : ClassId} {iS : Nat → Nat} (hS : s.vm.findClass "java/lang/String" = some cS) (hB : s.vm.findClass "[B" = some cB) (h0 : SlotIs s "java/lang/String" "value" "[B" (iS 0)) (h1 : SlotIs s "java/lang/String" "coder" "B" (iS 1)) (h2 : SlotIs s "java/lang/String" "hash" "I" (iS 2)) (h3 : SlotIs s "java/lang/String" "hashIsZero" "Z" (iS 3)) : wCell b s cS cB iS (.string "PageGarden" 25) [100, 114, 111, 112] (3092207) (0) := by
  refine st_word hS hB h0 h1 h2 h3 (by decide) (np_st11 h) (np_co11 h) (np_va11 h) (np_ve11 h) (np_vl11 h) (fun j hj => ?_) (np_h11 h) (np_z11 h)
  match j, hj with
  | 0, _ => exact np_vb11_0 h
  | 1, _ => exact np_vb11_1 h
  | 2, _ => exact np_vb11_2 h
  | 3, _ => exact np_vb11_3 h
  | j + 4, hj => exact absurd hj (by simp)
theorem st_w12 (h : (Jvm.Cond.and given_1 narrow_1).before (nAr b) s = true) {cS cB : ClassId} {iS : Nat → Nat} (hS : s.vm.findClass "java/lang/String" = some cS) (hB : s.vm.findClass "[B" = some cB) (h0 : SlotIs s "java/lang/String" "value" "[B" (iS 0)) (h1 : SlotIs s "java/lang/String" "coder" "B" (iS 1)) (h2 : SlotIs s "java/lang/String" "hash" "I" (iS 2)) (h3 : SlotIs s "java/lang/String" "hashIsZero" "Z" (iS 3)) : wCell b s cS cB iS (.string "PageGarden" 27) [99, 111, 109, 109, 105, 116] (-1354815177) (0) := by
  refine st_word hS hB h0 h1 h2 h3 (by decide) (np_st12 h) (np_co12 h) (np_va12 h) (np_ve12 h) (np_vl12 h) (fun j hj => ?_) (np_h12 h) (np_z12 h)
  match j, hj with
  | 0, _ => exact np_vb12_0 h
  | 1, _ => exact np_vb12_1 h
  | 2, _ => exact np_vb12_2 h
  | 3, _ => exact np_vb12_3 h
  | 4, _ => exact np_vb12_4 h
  | 5, _ => exact np_vb12_5 h
  | j + 6, hj => exact absurd hj (by simp)
theorem st_w13 (h : (Jvm.Cond.and given_1 narrow_1).before (nAr b) s = true) {cS cB : ClassId} {iS : Nat → Nat} (hS : s.vm.findClass "java/lang/String" = some cS) (hB : s.vm.findClass "[B" = some cB) (h0 : SlotIs s "java/lang/String" "value" "[B" (iS 0)) (h1 : SlotIs s "java/lang/String" "coder" "B" (iS 1)) (h2 : SlotIs s "java/lang/String" "hash" "I" (iS 2)) (h3 : SlotIs s "java/lang/String" "hashIsZero" "Z" (iS 3)) : wCell b s cS cB iS (.string "PageGarden" 29) [99, 108, 111, 115, 101] (94756344) (0) := by
  refine st_word hS hB h0 h1 h2 h3 (by decide) (np_st13 h) (np_co13 h) (np_va13 h) (np_ve13 h) (np_vl13 h) (fun j hj => ?_) (np_h13 h) (np_z13 h)
  match j, hj with
  | 0, _ => exact np_vb13_0 h
  | 1, _ => exact np_vb13_1 h
  | 2, _ => exact np_vb13_2 h
  | 3, _ => exact np_vb13_3 h
  | 4, _ => exact np_vb13_4 h
  | j + 5, hj => exact absurd hj (by simp)
theorem st_w14 (h : (Jvm.Cond.and given_1 narrow_1).before (nAr b) s = true) {cS cB : ClassId} {iS : Nat → Nat} (hS : s.vm.findClass "java/lang/String" = some cS) (hB : s.vm.findClass "[B" = some cB) (h0 : SlotIs s "java/lang/String" "value" "[B" (iS 0)) (h1 : SlotIs s "java/lang/String" "coder" "B" (iS 1)) (h2 : SlotIs s "java/lang/String" "hash" "I" (iS 2)) (h3 : SlotIs s "java/lang/String" "hashIsZero" "Z" (iS 3)) : wCell b s cS cB iS (.string "PageGarden" 31) [98, 101, 103, 105, 110] (93616297) (0) := by
  refine st_word hS hB h0 h1 h2 h3 (by decide) (np_st14 h) (np_co14 h) (np_va14 h) (np_ve14 h) (np_vl14 h) (fun j hj => ?_) (np_h14 h) (np_z14 h)
  match j, hj with
  | 0, _ => exact np_vb14_0 h
  | 1, _ => exact np_vb14_1 h
  | 2, _ => exact np_vb14_2 h
  | 3, _ => exact np_vb14_3 h
  | 4, _ => exact np_vb14_4 h
  | j + 5, hj => exact absurd hj (by simp)
theorem st_w15 (h : (Jvm.Cond.and given_1 narrow_1).before (nAr b) s = true) {cS cB : ClassId} {iS : Nat → Nat} (hS : s.vm.findClass "java/lang/String" = some cS) (hB : s.vm.findClass "[B" = some cB) (h0 : SlotIs s "java/lang/String" "value" "[B" (iS 0)) (h1 : SlotIs s "java/lang/String" "coder" "B" (iS 1)) (h2 : SlotIs s "java/lang/String" "hash" "I" (iS 2)) (h3 : SlotIs s "java/lang/String" "hashIsZero" "Z" (iS 3)) : wCell b s cS cB iS (.string "PageGarden" 33) [97, 98, 111, 114, 116] (92611376) (0) := by
  refine st_word hS hB h0 h1 h2 h3 (by decide) (np_st15 h) (np_co15 h) (np_va15 h) (np_ve15 h) (np_vl15 h) (fun j hj => ?_) (np_h15 h) (np_z15 h)
  match j, hj with
  | 0, _ => exact np_vb15_0 h
  | 1, _ => exact np_vb15_1 h
  | 2, _ => exact np_vb15_2 h
  | 3, _ => exact np_vb15_3 h
  | 4, _ => exact np_vb15_4 h
  | j + 5, hj => exact absurd hj (by simp)
theorem st_w16 (h : (Jvm.Cond.and given_1 narrow_1).before (nAr b) s = true) {cS cB : ClassId} {iS : Nat → Nat} (hS : s.vm.findClass "java/lang/String" = some cS) (hB : s.vm.findClass "[B" = some cB) (h0 : SlotIs s "java/lang/String" "value" "[B" (iS 0)) (h1 : SlotIs s "java/lang/String" "coder" "B" (iS 1)) (h2 : SlotIs s "java/lang/String" "hash" "I" (iS 2)) (h3 : SlotIs s "java/lang/String" "hashIsZero" "Z" (iS 3)) : wCell b s cS cB iS (.string "PageGarden" 35) [111, 112, 101, 110] (3417674) (0) := by
  refine st_word hS hB h0 h1 h2 h3 (by decide) (np_st16 h) (np_co16 h) (np_va16 h) (np_ve16 h) (np_vl16 h) (fun j hj => ?_) (np_h16 h) (np_z16 h)
  match j, hj with
  | 0, _ => exact np_vb16_0 h
  | 1, _ => exact np_vb16_1 h
  | 2, _ => exact np_vb16_2 h
  | 3, _ => exact np_vb16_3 h
  | j + 4, hj => exact absurd hj (by simp)
end ST
