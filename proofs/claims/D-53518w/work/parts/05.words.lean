set_option maxRecDepth 100000
theorem q107 : (Jvm.Cond.initialized "PageGardenLaw") ∈ lw_all := lw_g (lw_at lw_m1 0 rfl) rfl
theorem q166 : (Jvm.Cond.classLink "PageGardenLaw" (8 : Nat) "PageGarden") ∈ lw_all := lw_g (lw_at lw_m1 59 rfl) rfl
theorem q168 : (Jvm.Cond.methodLink "PageGardenLaw" (81 : Nat) ({ cls := "PageGarden", name := "<init>", desc := "()V" } : Jvm.MethodName)) ∈ lw_all := lw_g (lw_at lw_m1 61 rfl) rfl
theorem q1286 : (Jvm.Cond.methodLink "PageGardenLaw" (138 : Nat) ({ cls := "PageGarden", name := "nextBed", desc := "()I" } : Jvm.MethodName)) ∈ lw_all := lw_g (lw_at lw_m5 219 rfl) rfl
theorem q1317 : (Jvm.Cond.methodLink "PageGardenLaw" (157 : Nat) ({ cls := "PageGarden", name := "clearCommands", desc := "()I" } : Jvm.MethodName)) ∈ lw_all := lw_g (lw_at lw_m6 10 rfl) rfl
theorem q1321 : (Jvm.Cond.methodLink "PageGardenLaw" (161 : Nat) ({ cls := "PageGarden", name := "runCommands", desc := "()I" } : Jvm.MethodName)) ∈ lw_all := lw_g (lw_at lw_m6 14 rfl) rfl
theorem q2382 : (Jvm.Cond.methodLink "PageGardenLaw" (168 : Nat) ({ cls := "PageGarden", name := "digest", desc := "()J" } : Jvm.MethodName)) ∈ lw_all := lw_g (lw_at lw_m10 115 rfl) rfl
theorem q2494 : (Jvm.Cond.methodLink "PageGardenLaw" (85 : Nat) ({ cls := "PageGardenLaw", name := "begin", desc := "(LPageGarden;[J)I" } : Jvm.MethodName)) ∈ lw_all := lw_g (lw_at lw_m10 227 rfl) rfl
theorem q2495 : (Jvm.Cond.static ({ cls := "PageGardenLaw", name := "begin", desc := "(LPageGarden;[J)I" } : Jvm.MethodName)) ∈ lw_all := lw_g (lw_at lw_m10 228 rfl) rfl
theorem q2496 : (Jvm.Cond.codeWith ({ cls := "PageGardenLaw", name := "begin", desc := "(LPageGarden;[J)I" } : Jvm.MethodName) method_3_code (3 : Nat) (Option.some Jvm.ClassFile.FieldType.int) [((0 : Nat), (8 : Nat), (11 : Nat), (13 : Nat))]) ∈ lw_all := lw_g (lw_at lw_m10 229 rfl) rfl
theorem q2497 : (Jvm.Cond.classLink "PageGardenLaw" (13 : Nat) "java/lang/IllegalStateException") ∈ lw_all := lw_g (lw_at lw_m10 230 rfl) rfl
theorem q2498 : (Jvm.Cond.methodLink "PageGardenLaw" (7 : Nat) ({ cls := "PageGarden", name := "begin", desc := "()I" } : Jvm.MethodName)) ∈ lw_all := lw_g (lw_at lw_m10 231 rfl) rfl
theorem q2502 : (Jvm.Cond.methodLink "PageGardenLaw" (94 : Nat) ({ cls := "PageGardenLaw", name := "put", desc := "(LPageGarden;II[J)I" } : Jvm.MethodName)) ∈ lw_all := lw_g (lw_at lw_m10 235 rfl) rfl
theorem q2503 : (Jvm.Cond.static ({ cls := "PageGardenLaw", name := "put", desc := "(LPageGarden;II[J)I" } : Jvm.MethodName)) ∈ lw_all := lw_g (lw_at lw_m10 236 rfl) rfl
theorem q2504 : (Jvm.Cond.codeWith ({ cls := "PageGardenLaw", name := "put", desc := "(LPageGarden;II[J)I" } : Jvm.MethodName) method_4_code (5 : Nat) (Option.some Jvm.ClassFile.FieldType.int) [((0 : Nat), (10 : Nat), (13 : Nat), (19 : Nat)), ((0 : Nat), (10 : Nat), (17 : Nat), (13 : Nat))]) ∈ lw_all := lw_g (lw_at lw_m10 237 rfl) rfl
theorem q2505 : (Jvm.Cond.classLink "PageGardenLaw" (19 : Nat) "java/lang/IllegalArgumentException") ∈ lw_all := lw_g (lw_at lw_m10 238 rfl) rfl
theorem q2506 : (Jvm.Cond.methodLink "PageGardenLaw" (15 : Nat) ({ cls := "PageGarden", name := "put", desc := "(II)I" } : Jvm.MethodName)) ∈ lw_all := lw_g (lw_at lw_m10 239 rfl) rfl
theorem q2510 : (Jvm.Cond.methodLink "PageGardenLaw" (98 : Nat) ({ cls := "PageGardenLaw", name := "remove", desc := "(LPageGarden;I[J)I" } : Jvm.MethodName)) ∈ lw_all := lw_g (lw_at lw_m11 3 rfl) rfl
theorem q2511 : (Jvm.Cond.static ({ cls := "PageGardenLaw", name := "remove", desc := "(LPageGarden;I[J)I" } : Jvm.MethodName)) ∈ lw_all := lw_g (lw_at lw_m11 4 rfl) rfl
theorem q2512 : (Jvm.Cond.codeWith ({ cls := "PageGardenLaw", name := "remove", desc := "(LPageGarden;I[J)I" } : Jvm.MethodName) method_5_code (4 : Nat) (Option.some Jvm.ClassFile.FieldType.int) [((0 : Nat), (9 : Nat), (12 : Nat), (19 : Nat)), ((0 : Nat), (9 : Nat), (15 : Nat), (13 : Nat))]) ∈ lw_all := lw_g (lw_at lw_m11 5 rfl) rfl
theorem q2513 : (Jvm.Cond.methodLink "PageGardenLaw" (21 : Nat) ({ cls := "PageGarden", name := "remove", desc := "(I)I" } : Jvm.MethodName)) ∈ lw_all := lw_g (lw_at lw_m11 6 rfl) rfl
theorem q2517 : (Jvm.Cond.methodLink "PageGardenLaw" (102 : Nat) ({ cls := "PageGardenLaw", name := "commit", desc := "(LPageGarden;I[J)I" } : Jvm.MethodName)) ∈ lw_all := lw_g (lw_at lw_m11 10 rfl) rfl
theorem q2518 : (Jvm.Cond.static ({ cls := "PageGardenLaw", name := "commit", desc := "(LPageGarden;I[J)I" } : Jvm.MethodName)) ∈ lw_all := lw_g (lw_at lw_m11 11 rfl) rfl
theorem q2519 : (Jvm.Cond.codeWith ({ cls := "PageGardenLaw", name := "commit", desc := "(LPageGarden;I[J)I" } : Jvm.MethodName) method_6_code (4 : Nat) (Option.some Jvm.ClassFile.FieldType.int) [((0 : Nat), (9 : Nat), (12 : Nat), (19 : Nat)), ((0 : Nat), (9 : Nat), (15 : Nat), (13 : Nat))]) ∈ lw_all := lw_g (lw_at lw_m11 12 rfl) rfl
theorem q2520 : (Jvm.Cond.methodLink "PageGardenLaw" (25 : Nat) ({ cls := "PageGarden", name := "commit", desc := "(I)I" } : Jvm.MethodName)) ∈ lw_all := lw_g (lw_at lw_m11 13 rfl) rfl
theorem q2524 : (Jvm.Cond.methodLink "PageGardenLaw" (105 : Nat) ({ cls := "PageGardenLaw", name := "abort", desc := "(LPageGarden;[J)I" } : Jvm.MethodName)) ∈ lw_all := lw_g (lw_at lw_m11 17 rfl) rfl
theorem q2525 : (Jvm.Cond.static ({ cls := "PageGardenLaw", name := "abort", desc := "(LPageGarden;[J)I" } : Jvm.MethodName)) ∈ lw_all := lw_g (lw_at lw_m11 18 rfl) rfl
theorem q2526 : (Jvm.Cond.codeWith ({ cls := "PageGardenLaw", name := "abort", desc := "(LPageGarden;[J)I" } : Jvm.MethodName) method_7_code (3 : Nat) (Option.some Jvm.ClassFile.FieldType.int) [((0 : Nat), (8 : Nat), (11 : Nat), (13 : Nat))]) ∈ lw_all := lw_g (lw_at lw_m11 19 rfl) rfl
theorem q2527 : (Jvm.Cond.methodLink "PageGardenLaw" (28 : Nat) ({ cls := "PageGarden", name := "abort", desc := "()I" } : Jvm.MethodName)) ∈ lw_all := lw_g (lw_at lw_m11 20 rfl) rfl
theorem q2531 : (Jvm.Cond.methodLink "PageGardenLaw" (108 : Nat) ({ cls := "PageGardenLaw", name := "open", desc := "(LPageGarden;[J)I" } : Jvm.MethodName)) ∈ lw_all := lw_g (lw_at lw_m11 24 rfl) rfl
theorem q2532 : (Jvm.Cond.static ({ cls := "PageGardenLaw", name := "open", desc := "(LPageGarden;[J)I" } : Jvm.MethodName)) ∈ lw_all := lw_g (lw_at lw_m11 25 rfl) rfl
theorem q2533 : (Jvm.Cond.codeWith ({ cls := "PageGardenLaw", name := "open", desc := "(LPageGarden;[J)I" } : Jvm.MethodName) method_8_code (3 : Nat) (Option.some Jvm.ClassFile.FieldType.int) [((0 : Nat), (8 : Nat), (11 : Nat), (13 : Nat))]) ∈ lw_all := lw_g (lw_at lw_m11 26 rfl) rfl
theorem q2534 : (Jvm.Cond.methodLink "PageGardenLaw" (31 : Nat) ({ cls := "PageGarden", name := "open", desc := "()I" } : Jvm.MethodName)) ∈ lw_all := lw_g (lw_at lw_m11 27 rfl) rfl
theorem q2538 : (Jvm.Cond.methodLink "PageGardenLaw" (111 : Nat) ({ cls := "PageGardenLaw", name := "close", desc := "(LPageGarden;I[J)I" } : Jvm.MethodName)) ∈ lw_all := lw_g (lw_at lw_m11 31 rfl) rfl
theorem q2539 : (Jvm.Cond.static ({ cls := "PageGardenLaw", name := "close", desc := "(LPageGarden;I[J)I" } : Jvm.MethodName)) ∈ lw_all := lw_g (lw_at lw_m11 32 rfl) rfl
theorem q2540 : (Jvm.Cond.codeWith ({ cls := "PageGardenLaw", name := "close", desc := "(LPageGarden;I[J)I" } : Jvm.MethodName) method_9_code (4 : Nat) (Option.some Jvm.ClassFile.FieldType.int) [((0 : Nat), (9 : Nat), (12 : Nat), (37 : Nat)), ((0 : Nat), (9 : Nat), (15 : Nat), (13 : Nat))]) ∈ lw_all := lw_g (lw_at lw_m11 33 rfl) rfl
theorem q2541 : (Jvm.Cond.classLink "PageGardenLaw" (37 : Nat) "java/lang/IndexOutOfBoundsException") ∈ lw_all := lw_g (lw_at lw_m11 34 rfl) rfl
theorem q2542 : (Jvm.Cond.methodLink "PageGardenLaw" (34 : Nat) ({ cls := "PageGarden", name := "close", desc := "(I)I" } : Jvm.MethodName)) ∈ lw_all := lw_g (lw_at lw_m11 35 rfl) rfl
theorem q2546 : (Jvm.Cond.methodLink "PageGardenLaw" (114 : Nat) ({ cls := "PageGardenLaw", name := "get", desc := "(LPageGarden;I[J)I" } : Jvm.MethodName)) ∈ lw_all := lw_g (lw_at lw_m11 39 rfl) rfl
theorem q2547 : (Jvm.Cond.static ({ cls := "PageGardenLaw", name := "get", desc := "(LPageGarden;I[J)I" } : Jvm.MethodName)) ∈ lw_all := lw_g (lw_at lw_m11 40 rfl) rfl
theorem q2548 : (Jvm.Cond.codeWith ({ cls := "PageGardenLaw", name := "get", desc := "(LPageGarden;I[J)I" } : Jvm.MethodName) method_10_code (4 : Nat) (Option.some Jvm.ClassFile.FieldType.int) [((0 : Nat), (9 : Nat), (12 : Nat), (19 : Nat))]) ∈ lw_all := lw_g (lw_at lw_m11 41 rfl) rfl
theorem q2549 : (Jvm.Cond.methodLink "PageGardenLaw" (39 : Nat) ({ cls := "PageGarden", name := "get", desc := "(I)I" } : Jvm.MethodName)) ∈ lw_all := lw_g (lw_at lw_m11 42 rfl) rfl
theorem q2558 : (Jvm.Cond.methodLink "PageGardenLaw" (117 : Nat) ({ cls := "PageGardenLaw", name := "drafted", desc := "(LPageGarden;I[J)I" } : Jvm.MethodName)) ∈ lw_all := lw_g (lw_at lw_m11 51 rfl) rfl
theorem q2559 : (Jvm.Cond.static ({ cls := "PageGardenLaw", name := "drafted", desc := "(LPageGarden;I[J)I" } : Jvm.MethodName)) ∈ lw_all := lw_g (lw_at lw_m11 52 rfl) rfl
theorem q2560 : (Jvm.Cond.codeWith ({ cls := "PageGardenLaw", name := "drafted", desc := "(LPageGarden;I[J)I" } : Jvm.MethodName) method_11_code (4 : Nat) (Option.some Jvm.ClassFile.FieldType.int) [((0 : Nat), (9 : Nat), (12 : Nat), (19 : Nat)), ((0 : Nat), (9 : Nat), (15 : Nat), (13 : Nat))]) ∈ lw_all := lw_g (lw_at lw_m11 53 rfl) rfl
theorem q2561 : (Jvm.Cond.methodLink "PageGardenLaw" (42 : Nat) ({ cls := "PageGarden", name := "drafted", desc := "(I)I" } : Jvm.MethodName)) ∈ lw_all := lw_g (lw_at lw_m11 54 rfl) rfl
theorem q2565 : (Jvm.Cond.methodLink "PageGardenLaw" (120 : Nat) ({ cls := "PageGardenLaw", name := "read", desc := "(LPageGarden;II[J)I" } : Jvm.MethodName)) ∈ lw_all := lw_g (lw_at lw_m11 58 rfl) rfl
theorem q2566 : (Jvm.Cond.static ({ cls := "PageGardenLaw", name := "read", desc := "(LPageGarden;II[J)I" } : Jvm.MethodName)) ∈ lw_all := lw_g (lw_at lw_m11 59 rfl) rfl
theorem q2567 : (Jvm.Cond.codeWith ({ cls := "PageGardenLaw", name := "read", desc := "(LPageGarden;II[J)I" } : Jvm.MethodName) method_12_code (5 : Nat) (Option.some Jvm.ClassFile.FieldType.int) [((0 : Nat), (10 : Nat), (13 : Nat), (37 : Nat)), ((0 : Nat), (10 : Nat), (17 : Nat), (19 : Nat)), ((0 : Nat), (10 : Nat), (21 : Nat), (13 : Nat))]) ∈ lw_all := lw_g (lw_at lw_m11 60 rfl) rfl
theorem q2568 : (Jvm.Cond.methodLink "PageGardenLaw" (45 : Nat) ({ cls := "PageGarden", name := "read", desc := "(II)I" } : Jvm.MethodName)) ∈ lw_all := lw_g (lw_at lw_m11 61 rfl) rfl
theorem q2575 : (Jvm.Cond.methodLink "PageGardenLaw" (123 : Nat) ({ cls := "PageGardenLaw", name := "entry", desc := "(LPageGarden;II[J)I" } : Jvm.MethodName)) ∈ lw_all := lw_g (lw_at lw_m11 68 rfl) rfl
theorem q2576 : (Jvm.Cond.static ({ cls := "PageGardenLaw", name := "entry", desc := "(LPageGarden;II[J)I" } : Jvm.MethodName)) ∈ lw_all := lw_g (lw_at lw_m11 69 rfl) rfl
theorem q2577 : (Jvm.Cond.codeWith ({ cls := "PageGardenLaw", name := "entry", desc := "(LPageGarden;II[J)I" } : Jvm.MethodName) method_13_code (5 : Nat) (Option.some Jvm.ClassFile.FieldType.int) [((0 : Nat), (10 : Nat), (13 : Nat), (37 : Nat)), ((0 : Nat), (10 : Nat), (17 : Nat), (19 : Nat))]) ∈ lw_all := lw_g (lw_at lw_m11 70 rfl) rfl
theorem q2578 : (Jvm.Cond.methodLink "PageGardenLaw" (48 : Nat) ({ cls := "PageGarden", name := "entry", desc := "(II)I" } : Jvm.MethodName)) ∈ lw_all := lw_g (lw_at lw_m11 71 rfl) rfl
theorem q2590 : (Jvm.Cond.methodLink "PageGardenLaw" (126 : Nat) ({ cls := "PageGardenLaw", name := "root", desc := "(LPageGarden;II[J)I" } : Jvm.MethodName)) ∈ lw_all := lw_g (lw_at lw_m11 83 rfl) rfl
theorem q2591 : (Jvm.Cond.static ({ cls := "PageGardenLaw", name := "root", desc := "(LPageGarden;II[J)I" } : Jvm.MethodName)) ∈ lw_all := lw_g (lw_at lw_m11 84 rfl) rfl
theorem q2592 : (Jvm.Cond.codeWith ({ cls := "PageGardenLaw", name := "root", desc := "(LPageGarden;II[J)I" } : Jvm.MethodName) method_14_code (5 : Nat) (Option.some Jvm.ClassFile.FieldType.int) [((0 : Nat), (10 : Nat), (13 : Nat), (37 : Nat)), ((0 : Nat), (10 : Nat), (17 : Nat), (19 : Nat))]) ∈ lw_all := lw_g (lw_at lw_m11 85 rfl) rfl
theorem q2593 : (Jvm.Cond.methodLink "PageGardenLaw" (51 : Nat) ({ cls := "PageGarden", name := "root", desc := "(II)I" } : Jvm.MethodName)) ∈ lw_all := lw_g (lw_at lw_m11 86 rfl) rfl
theorem q2598 : (Jvm.Cond.methodLink "PageGardenLaw" (129 : Nat) ({ cls := "PageGardenLaw", name := "reader", desc := "(LPageGarden;II[J)I" } : Jvm.MethodName)) ∈ lw_all := lw_g (lw_at lw_m11 91 rfl) rfl
theorem q2599 : (Jvm.Cond.static ({ cls := "PageGardenLaw", name := "reader", desc := "(LPageGarden;II[J)I" } : Jvm.MethodName)) ∈ lw_all := lw_g (lw_at lw_m11 92 rfl) rfl
theorem q2600 : (Jvm.Cond.codeWith ({ cls := "PageGardenLaw", name := "reader", desc := "(LPageGarden;II[J)I" } : Jvm.MethodName) method_15_code (5 : Nat) (Option.some Jvm.ClassFile.FieldType.int) [((0 : Nat), (10 : Nat), (13 : Nat), (37 : Nat)), ((0 : Nat), (10 : Nat), (17 : Nat), (19 : Nat))]) ∈ lw_all := lw_g (lw_at lw_m11 93 rfl) rfl
theorem q2601 : (Jvm.Cond.methodLink "PageGardenLaw" (54 : Nat) ({ cls := "PageGarden", name := "reader", desc := "(II)I" } : Jvm.MethodName)) ∈ lw_all := lw_g (lw_at lw_m11 94 rfl) rfl
theorem q2605 : (Jvm.Cond.methodLink "PageGardenLaw" (132 : Nat) ({ cls := "PageGardenLaw", name := "bed", desc := "(LPageGarden;II[J)I" } : Jvm.MethodName)) ∈ lw_all := lw_g (lw_at lw_m11 98 rfl) rfl
theorem q2606 : (Jvm.Cond.static ({ cls := "PageGardenLaw", name := "bed", desc := "(LPageGarden;II[J)I" } : Jvm.MethodName)) ∈ lw_all := lw_g (lw_at lw_m11 99 rfl) rfl
theorem q2607 : (Jvm.Cond.codeWith ({ cls := "PageGardenLaw", name := "bed", desc := "(LPageGarden;II[J)I" } : Jvm.MethodName) method_16_code (5 : Nat) (Option.some Jvm.ClassFile.FieldType.int) [((0 : Nat), (10 : Nat), (13 : Nat), (37 : Nat)), ((0 : Nat), (10 : Nat), (17 : Nat), (19 : Nat))]) ∈ lw_all := lw_g (lw_at lw_m11 100 rfl) rfl
theorem q2608 : (Jvm.Cond.methodLink "PageGardenLaw" (57 : Nat) ({ cls := "PageGarden", name := "bed", desc := "(II)I" } : Jvm.MethodName)) ∈ lw_all := lw_g (lw_at lw_m11 101 rfl) rfl
theorem q2613 : (Jvm.Cond.methodLink "PageGardenLaw" (135 : Nat) ({ cls := "PageGardenLaw", name := "whole", desc := "(LPageGarden;I[J)I" } : Jvm.MethodName)) ∈ lw_all := lw_g (lw_at lw_m11 106 rfl) rfl
theorem q2614 : (Jvm.Cond.static ({ cls := "PageGardenLaw", name := "whole", desc := "(LPageGarden;I[J)I" } : Jvm.MethodName)) ∈ lw_all := lw_g (lw_at lw_m11 107 rfl) rfl
theorem q2615 : (Jvm.Cond.codeWith ({ cls := "PageGardenLaw", name := "whole", desc := "(LPageGarden;I[J)I" } : Jvm.MethodName) method_17_code (4 : Nat) (Option.some Jvm.ClassFile.FieldType.int) [((0 : Nat), (9 : Nat), (12 : Nat), (19 : Nat))]) ∈ lw_all := lw_g (lw_at lw_m11 108 rfl) rfl
theorem q2616 : (Jvm.Cond.methodLink "PageGardenLaw" (60 : Nat) ({ cls := "PageGarden", name := "whole", desc := "(I)I" } : Jvm.MethodName)) ∈ lw_all := lw_g (lw_at lw_m11 109 rfl) rfl
theorem q2620 : (Jvm.Cond.methodLink "PageGardenLaw" (142 : Nat) ({ cls := "PageGardenLaw", name := "bedsFor", desc := "(LPageGarden;I[J)I" } : Jvm.MethodName)) ∈ lw_all := lw_g (lw_at lw_m11 113 rfl) rfl
theorem q2621 : (Jvm.Cond.static ({ cls := "PageGardenLaw", name := "bedsFor", desc := "(LPageGarden;I[J)I" } : Jvm.MethodName)) ∈ lw_all := lw_g (lw_at lw_m11 114 rfl) rfl
theorem q2622 : (Jvm.Cond.codeWith ({ cls := "PageGardenLaw", name := "bedsFor", desc := "(LPageGarden;I[J)I" } : Jvm.MethodName) method_18_code (4 : Nat) (Option.some Jvm.ClassFile.FieldType.int) [((0 : Nat), (9 : Nat), (12 : Nat), (19 : Nat)), ((0 : Nat), (9 : Nat), (15 : Nat), (13 : Nat))]) ∈ lw_all := lw_g (lw_at lw_m11 115 rfl) rfl
theorem q2623 : (Jvm.Cond.methodLink "PageGardenLaw" (63 : Nat) ({ cls := "PageGarden", name := "bedsFor", desc := "(I)I" } : Jvm.MethodName)) ∈ lw_all := lw_g (lw_at lw_m11 116 rfl) rfl
theorem q2628 : (Jvm.Cond.methodLink "PageGardenLaw" (145 : Nat) ({ cls := "PageGardenLaw", name := "reason", desc := "(LPageGarden;I[J)I" } : Jvm.MethodName)) ∈ lw_all := lw_g (lw_at lw_m11 121 rfl) rfl
theorem q2629 : (Jvm.Cond.static ({ cls := "PageGardenLaw", name := "reason", desc := "(LPageGarden;I[J)I" } : Jvm.MethodName)) ∈ lw_all := lw_g (lw_at lw_m11 122 rfl) rfl
theorem q2630 : (Jvm.Cond.codeWith ({ cls := "PageGardenLaw", name := "reason", desc := "(LPageGarden;I[J)I" } : Jvm.MethodName) method_19_code (4 : Nat) (Option.some Jvm.ClassFile.FieldType.int) [((0 : Nat), (9 : Nat), (12 : Nat), (19 : Nat)), ((0 : Nat), (9 : Nat), (15 : Nat), (13 : Nat))]) ∈ lw_all := lw_g (lw_at lw_m11 123 rfl) rfl
theorem q2631 : (Jvm.Cond.methodLink "PageGardenLaw" (66 : Nat) ({ cls := "PageGarden", name := "reason", desc := "(I)I" } : Jvm.MethodName)) ∈ lw_all := lw_g (lw_at lw_m11 124 rfl) rfl
theorem q2636 : (Jvm.Cond.methodLink "PageGardenLaw" (148 : Nat) ({ cls := "PageGardenLaw", name := "neededWithout", desc := "(LPageGarden;I[J)I" } : Jvm.MethodName)) ∈ lw_all := lw_g (lw_at lw_m11 129 rfl) rfl
theorem q2637 : (Jvm.Cond.static ({ cls := "PageGardenLaw", name := "neededWithout", desc := "(LPageGarden;I[J)I" } : Jvm.MethodName)) ∈ lw_all := lw_g (lw_at lw_m11 130 rfl) rfl
theorem q2638 : (Jvm.Cond.codeWith ({ cls := "PageGardenLaw", name := "neededWithout", desc := "(LPageGarden;I[J)I" } : Jvm.MethodName) method_20_code (4 : Nat) (Option.some Jvm.ClassFile.FieldType.int) [((0 : Nat), (9 : Nat), (12 : Nat), (37 : Nat)), ((0 : Nat), (9 : Nat), (15 : Nat), (13 : Nat))]) ∈ lw_all := lw_g (lw_at lw_m11 131 rfl) rfl
theorem q2639 : (Jvm.Cond.methodLink "PageGardenLaw" (69 : Nat) ({ cls := "PageGarden", name := "neededWithout", desc := "(I)I" } : Jvm.MethodName)) ∈ lw_all := lw_g (lw_at lw_m11 132 rfl) rfl
theorem q2644 : (Jvm.Cond.methodLink "PageGardenLaw" (151 : Nat) ({ cls := "PageGardenLaw", name := "changedSince", desc := "(LPageGarden;I[J)I" } : Jvm.MethodName)) ∈ lw_all := lw_g (lw_at lw_m11 137 rfl) rfl
theorem q2645 : (Jvm.Cond.static ({ cls := "PageGardenLaw", name := "changedSince", desc := "(LPageGarden;I[J)I" } : Jvm.MethodName)) ∈ lw_all := lw_g (lw_at lw_m11 138 rfl) rfl
theorem q2646 : (Jvm.Cond.codeWith ({ cls := "PageGardenLaw", name := "changedSince", desc := "(LPageGarden;I[J)I" } : Jvm.MethodName) method_21_code (4 : Nat) (Option.some Jvm.ClassFile.FieldType.int) [((0 : Nat), (9 : Nat), (12 : Nat), (37 : Nat)), ((0 : Nat), (9 : Nat), (15 : Nat), (13 : Nat))]) ∈ lw_all := lw_g (lw_at lw_m11 139 rfl) rfl
theorem q2647 : (Jvm.Cond.methodLink "PageGardenLaw" (72 : Nat) ({ cls := "PageGarden", name := "changedSince", desc := "(I)I" } : Jvm.MethodName)) ∈ lw_all := lw_g (lw_at lw_m11 140 rfl) rfl
theorem q2669 : (Jvm.Cond.methodLink "PageGardenLaw" (154 : Nat) ({ cls := "PageGardenLaw", name := "type", desc := "(LPageGarden;I[J)I" } : Jvm.MethodName)) ∈ lw_all := lw_g (lw_at lw_m11 162 rfl) rfl
theorem q2670 : (Jvm.Cond.static ({ cls := "PageGardenLaw", name := "type", desc := "(LPageGarden;I[J)I" } : Jvm.MethodName)) ∈ lw_all := lw_g (lw_at lw_m11 163 rfl) rfl
theorem q2671 : (Jvm.Cond.codeWith ({ cls := "PageGardenLaw", name := "type", desc := "(LPageGarden;I[J)I" } : Jvm.MethodName) method_22_code (4 : Nat) (Option.some Jvm.ClassFile.FieldType.int) [((0 : Nat), (9 : Nat), (12 : Nat), (19 : Nat)), ((0 : Nat), (9 : Nat), (15 : Nat), (13 : Nat))]) ∈ lw_all := lw_g (lw_at lw_m11 164 rfl) rfl
theorem q2672 : (Jvm.Cond.methodLink "PageGardenLaw" (75 : Nat) ({ cls := "PageGarden", name := "type", desc := "(I)I" } : Jvm.MethodName)) ∈ lw_all := lw_g (lw_at lw_m11 165 rfl) rfl
theorem q2680 : (Jvm.Cond.methodLink "PageGardenLaw" (165 : Nat) ({ cls := "PageGardenLaw", name := "undo", desc := "(LPageGarden;[J)I" } : Jvm.MethodName)) ∈ lw_all := lw_g (lw_at lw_m11 173 rfl) rfl
theorem q2681 : (Jvm.Cond.static ({ cls := "PageGardenLaw", name := "undo", desc := "(LPageGarden;[J)I" } : Jvm.MethodName)) ∈ lw_all := lw_g (lw_at lw_m11 174 rfl) rfl
theorem q2682 : (Jvm.Cond.codeWith ({ cls := "PageGardenLaw", name := "undo", desc := "(LPageGarden;[J)I" } : Jvm.MethodName) method_23_code (3 : Nat) (Option.some Jvm.ClassFile.FieldType.int) [((0 : Nat), (8 : Nat), (11 : Nat), (13 : Nat))]) ∈ lw_all := lw_g (lw_at lw_m11 175 rfl) rfl
theorem q2683 : (Jvm.Cond.methodLink "PageGardenLaw" (78 : Nat) ({ cls := "PageGarden", name := "undo", desc := "()I" } : Jvm.MethodName)) ∈ lw_all := lw_g (lw_at lw_m11 176 rfl) rfl
theorem q2688 : (Jvm.Cond.classLink "PageGardenLaw" (82 : Nat) "PageGardenModel") ∈ lw_all := lw_g (lw_at lw_m11 181 rfl) rfl
theorem q2690 : (Jvm.Cond.methodLink "PageGardenLaw" (84 : Nat) ({ cls := "PageGardenModel", name := "<init>", desc := "()V" } : Jvm.MethodName)) ∈ lw_all := lw_g (lw_at lw_m11 183 rfl) rfl
theorem q2734 : (Jvm.Cond.methodLink "PageGardenLaw" (91 : Nat) ({ cls := "PageGardenModel", name := "thrown", desc := "()I" } : Jvm.MethodName)) ∈ lw_all := lw_g (lw_at lw_m11 227 rfl) rfl
theorem q2738 : (Jvm.Cond.methodLink "PageGardenLaw" (90 : Nat) ({ cls := "PageGardenModel", name := "begin", desc := "()I" } : Jvm.MethodName)) ∈ lw_all := lw_g (lw_at lw_m11 231 rfl) rfl
theorem q2769 : (Jvm.Cond.methodLink "PageGardenLaw" (97 : Nat) ({ cls := "PageGardenModel", name := "put", desc := "(II)I" } : Jvm.MethodName)) ∈ lw_all := lw_g (lw_at lw_m12 22 rfl) rfl
theorem q2880 : (Jvm.Cond.methodLink "PageGardenLaw" (101 : Nat) ({ cls := "PageGardenModel", name := "remove", desc := "(I)I" } : Jvm.MethodName)) ∈ lw_all := lw_g (lw_at lw_m12 133 rfl) rfl
theorem q2892 : (Jvm.Cond.methodLink "PageGardenLaw" (104 : Nat) ({ cls := "PageGardenModel", name := "commit", desc := "(I)I" } : Jvm.MethodName)) ∈ lw_all := lw_g (lw_at lw_m12 145 rfl) rfl
theorem q2908 : (Jvm.Cond.methodLink "PageGardenLaw" (107 : Nat) ({ cls := "PageGardenModel", name := "abort", desc := "()I" } : Jvm.MethodName)) ∈ lw_all := lw_g (lw_at lw_m12 161 rfl) rfl
theorem q2916 : (Jvm.Cond.methodLink "PageGardenLaw" (110 : Nat) ({ cls := "PageGardenModel", name := "open", desc := "()I" } : Jvm.MethodName)) ∈ lw_all := lw_g (lw_at lw_m12 169 rfl) rfl
theorem q2924 : (Jvm.Cond.methodLink "PageGardenLaw" (113 : Nat) ({ cls := "PageGardenModel", name := "close", desc := "(I)I" } : Jvm.MethodName)) ∈ lw_all := lw_g (lw_at lw_m12 177 rfl) rfl
theorem q2936 : (Jvm.Cond.methodLink "PageGardenLaw" (116 : Nat) ({ cls := "PageGardenModel", name := "get", desc := "(I)I" } : Jvm.MethodName)) ∈ lw_all := lw_g (lw_at lw_m12 189 rfl) rfl
theorem q2947 : (Jvm.Cond.methodLink "PageGardenLaw" (119 : Nat) ({ cls := "PageGardenModel", name := "drafted", desc := "(I)I" } : Jvm.MethodName)) ∈ lw_all := lw_g (lw_at lw_m12 200 rfl) rfl
theorem q2951 : (Jvm.Cond.methodLink "PageGardenLaw" (122 : Nat) ({ cls := "PageGardenModel", name := "read", desc := "(II)I" } : Jvm.MethodName)) ∈ lw_all := lw_g (lw_at lw_m12 204 rfl) rfl
theorem q2958 : (Jvm.Cond.methodLink "PageGardenLaw" (125 : Nat) ({ cls := "PageGardenModel", name := "entry", desc := "(II)I" } : Jvm.MethodName)) ∈ lw_all := lw_g (lw_at lw_m12 211 rfl) rfl
theorem q2970 : (Jvm.Cond.methodLink "PageGardenLaw" (128 : Nat) ({ cls := "PageGardenModel", name := "root", desc := "(II)I" } : Jvm.MethodName)) ∈ lw_all := lw_g (lw_at lw_m12 223 rfl) rfl
theorem q2978 : (Jvm.Cond.methodLink "PageGardenLaw" (131 : Nat) ({ cls := "PageGardenModel", name := "reader", desc := "(II)I" } : Jvm.MethodName)) ∈ lw_all := lw_g (lw_at lw_m12 231 rfl) rfl
theorem q2986 : (Jvm.Cond.methodLink "PageGardenLaw" (134 : Nat) ({ cls := "PageGardenModel", name := "bed", desc := "(II)I" } : Jvm.MethodName)) ∈ lw_all := lw_g (lw_at lw_m12 239 rfl) rfl
theorem q2994 : (Jvm.Cond.methodLink "PageGardenLaw" (137 : Nat) ({ cls := "PageGardenModel", name := "whole", desc := "(I)I" } : Jvm.MethodName)) ∈ lw_all := lw_g (lw_at lw_m13 7 rfl) rfl
theorem q3014 : (Jvm.Cond.methodLink "PageGardenLaw" (141 : Nat) ({ cls := "PageGardenModel", name := "nextBed", desc := "()I" } : Jvm.MethodName)) ∈ lw_all := lw_g (lw_at lw_m13 27 rfl) rfl
theorem q3022 : (Jvm.Cond.methodLink "PageGardenLaw" (144 : Nat) ({ cls := "PageGardenModel", name := "bedsFor", desc := "(I)I" } : Jvm.MethodName)) ∈ lw_all := lw_g (lw_at lw_m13 35 rfl) rfl
theorem q3026 : (Jvm.Cond.methodLink "PageGardenLaw" (147 : Nat) ({ cls := "PageGardenModel", name := "reason", desc := "(I)I" } : Jvm.MethodName)) ∈ lw_all := lw_g (lw_at lw_m13 39 rfl) rfl
theorem q3030 : (Jvm.Cond.methodLink "PageGardenLaw" (150 : Nat) ({ cls := "PageGardenModel", name := "neededWithout", desc := "(I)I" } : Jvm.MethodName)) ∈ lw_all := lw_g (lw_at lw_m13 43 rfl) rfl
theorem q3034 : (Jvm.Cond.methodLink "PageGardenLaw" (153 : Nat) ({ cls := "PageGardenModel", name := "changedSince", desc := "(I)I" } : Jvm.MethodName)) ∈ lw_all := lw_g (lw_at lw_m13 47 rfl) rfl
theorem q3038 : (Jvm.Cond.methodLink "PageGardenLaw" (156 : Nat) ({ cls := "PageGardenModel", name := "type", desc := "(I)I" } : Jvm.MethodName)) ∈ lw_all := lw_g (lw_at lw_m13 51 rfl) rfl
theorem q3042 : (Jvm.Cond.methodLink "PageGardenLaw" (160 : Nat) ({ cls := "PageGardenModel", name := "clearCommands", desc := "()I" } : Jvm.MethodName)) ∈ lw_all := lw_g (lw_at lw_m13 55 rfl) rfl
theorem q3046 : (Jvm.Cond.methodLink "PageGardenLaw" (164 : Nat) ({ cls := "PageGardenModel", name := "runCommands", desc := "()I" } : Jvm.MethodName)) ∈ lw_all := lw_g (lw_at lw_m13 59 rfl) rfl
theorem q3086 : (Jvm.Cond.methodLink "PageGardenLaw" (167 : Nat) ({ cls := "PageGardenModel", name := "undo", desc := "()I" } : Jvm.MethodName)) ∈ lw_all := lw_g (lw_at lw_m13 99 rfl) rfl
theorem q3090 : (Jvm.Cond.methodLink "PageGardenLaw" (172 : Nat) ({ cls := "PageGardenModel", name := "digest", desc := "()J" } : Jvm.MethodName)) ∈ lw_all := lw_g (lw_at lw_m13 103 rfl) rfl
theorem q108 : (Jvm.Cond.initialized "PageGarden") ∈ lw_all := lw_g (lw_at lw_m1 1 rfl) rfl
theorem q167 : (Jvm.Cond.instantiable "PageGarden" (4 : Nat)) ∈ lw_all := lw_g (lw_at lw_m1 60 rfl) rfl
theorem q169 : (Jvm.Cond.instanceMethod ({ cls := "PageGarden", name := "<init>", desc := "()V" } : Jvm.MethodName)) ∈ lw_all := lw_g (lw_at lw_m1 62 rfl) rfl
theorem q170 : (Jvm.Cond.code ({ cls := "PageGarden", name := "<init>", desc := "()V" } : Jvm.MethodName) prog_1_method_8_code (1 : Nat) (Option.none : Option Jvm.ClassFile.FieldType)) ∈ lw_all := lw_g (lw_at lw_m1 63 rfl) rfl
theorem q171 : (Jvm.Cond.methodLink "PageGarden" (90 : Nat) ({ cls := "java/lang/Object", name := "<init>", desc := "()V" } : Jvm.MethodName)) ∈ lw_all := lw_g (lw_at lw_m1 64 rfl) rfl
theorem q174 : (Jvm.Cond.methodLink "PageGarden" (95 : Nat) ({ cls := "PageGarden", name := "first", desc := "()LPageGarden$Garden;" } : Jvm.MethodName)) ∈ lw_all := lw_g (lw_at lw_m1 67 rfl) rfl
theorem q175 : (Jvm.Cond.static ({ cls := "PageGarden", name := "first", desc := "()LPageGarden$Garden;" } : Jvm.MethodName)) ∈ lw_all := lw_g (lw_at lw_m1 68 rfl) rfl
theorem q176 : (Jvm.Cond.code ({ cls := "PageGarden", name := "first", desc := "()LPageGarden$Garden;" } : Jvm.MethodName) prog_1_method_7_code (2 : Nat) (Option.some (Jvm.ClassFile.FieldType.object "PageGarden$Garden"))) ∈ lw_all := lw_g (lw_at lw_m1 69 rfl) rfl
theorem q177 : (Jvm.Cond.classLink "PageGarden" (58 : Nat) "PageGarden$Bed") ∈ lw_all := lw_g (lw_at lw_m1 70 rfl) rfl
theorem q180 : (Jvm.Cond.methodLink "PageGarden" (60 : Nat) ({ cls := "PageGarden$Bed", name := "<init>", desc := "(I)V" } : Jvm.MethodName)) ∈ lw_all := lw_g (lw_at lw_m1 73 rfl) rfl
theorem q189 : (Jvm.Cond.classLink "PageGarden" (40 : Nat) "PageGarden$Garden") ∈ lw_all := lw_g (lw_at lw_m1 82 rfl) rfl
theorem q191 : (Jvm.Cond.classLink "PageGarden" (63 : Nat) "PageGarden$Root") ∈ lw_all := lw_g (lw_at lw_m1 84 rfl) rfl
theorem q194 : (Jvm.Cond.methodLink "PageGarden" (65 : Nat) ({ cls := "PageGarden$Root", name := "<init>", desc := "(IIZ)V" } : Jvm.MethodName)) ∈ lw_all := lw_g (lw_at lw_m1 87 rfl) rfl
theorem q212 : (Jvm.Cond.methodLink "PageGarden" (68 : Nat) ({ cls := "PageGarden$Garden", name := "<init>", desc := "([LPageGarden$Bed;[I[LPageGarden$Root;)V" } : Jvm.MethodName)) ∈ lw_all := lw_g (lw_at lw_m1 105 rfl) rfl
theorem q283 : (Jvm.Cond.fieldLinkNest "PageGarden" (71 : Nat) "PageGarden$Garden" "states" "[LPageGarden$State;" "PageGarden") ∈ lw_tbl := lw_at lw_m1 176 rfl
theorem q288 : (Jvm.Cond.fieldLinkNest "PageGarden" (155 : Nat) "PageGarden$Garden" "readers" "[LPageGarden$Reader;" "PageGarden") ∈ lw_tbl := lw_at lw_m1 181 rfl
theorem q290 : (Jvm.Cond.fieldLinkNest "PageGarden" (246 : Nat) "PageGarden$Garden" "draft" "LPageGarden$Draft;" "PageGarden") ∈ lw_tbl := lw_at lw_m1 183 rfl
theorem q312 : (Jvm.Cond.fieldLink "PageGarden" (75 : Nat) "PageGarden$State" "USED" "LPageGarden$State;") ∈ lw_all := lw_g (lw_at lw_m1 205 rfl) rfl
theorem q314 : (Jvm.Cond.classLink "PageGarden" (81 : Nat) "PageGarden$Directory") ∈ lw_all := lw_g (lw_at lw_m1 207 rfl) rfl
theorem q316 : (Jvm.Cond.methodLink "PageGarden" (83 : Nat) ({ cls := "PageGarden$Directory", name := "<init>", desc := "([I)V" } : Jvm.MethodName)) ∈ lw_all := lw_g (lw_at lw_m1 209 rfl) rfl
theorem q325 : (Jvm.Cond.methodLinkNest "PageGarden" (86 : Nat) ({ cls := "PageGarden$Garden", name := "lay", desc := "(ILPageGarden$Page;)V" } : Jvm.MethodName) "PageGarden") ∈ lw_tbl := lw_at lw_m1 218 rfl
theorem q342 : (Jvm.Cond.selects "PageGarden" ({ cls := "java/lang/Object", name := "hashCode", desc := "()I" } : Jvm.MethodName) ({ cls := "java/lang/Object", name := "hashCode", desc := "()I" } : Jvm.MethodName)) ∈ lw_all := lw_g (lw_at lw_m1 235 rfl) rfl
theorem q852 : (Jvm.Cond.selects "PageGarden" ({ cls := "java/lang/Object", name := "getClass", desc := "()Ljava/lang/Class;" } : Jvm.MethodName) ({ cls := "java/lang/Object", name := "getClass", desc := "()Ljava/lang/Class;" } : Jvm.MethodName)) ∈ lw_all := lw_g (lw_at lw_m4 25 rfl) rfl
theorem q1130 : (Jvm.Cond.selects "PageGarden" ({ cls := "java/lang/Object", name := "equals", desc := "(Ljava/lang/Object;)Z" } : Jvm.MethodName) ({ cls := "java/lang/Object", name := "equals", desc := "(Ljava/lang/Object;)Z" } : Jvm.MethodName)) ∈ lw_all := lw_g (lw_at lw_m5 63 rfl) rfl
theorem q1245 : (Jvm.Cond.classLink "PageGarden" (103 : Nat) "java/util/ArrayList") ∈ lw_all := lw_g (lw_at lw_m5 178 rfl) rfl
theorem q1247 : (Jvm.Cond.methodLink "PageGarden" (105 : Nat) ({ cls := "java/util/ArrayList", name := "<init>", desc := "()V" } : Jvm.MethodName)) ∈ lw_all := lw_g (lw_at lw_m5 180 rfl) rfl
theorem q1271 : (Jvm.Cond.fieldLink "PageGarden" (99 : Nat) "PageGarden" "current" "LPageGarden$Garden;") ∈ lw_all := lw_g (lw_at lw_m5 204 rfl) rfl
theorem q1272 : (Jvm.Cond.fieldLink "PageGarden" (106 : Nat) "PageGarden" "saved" "Ljava/util/ArrayList;") ∈ lw_all := lw_g (lw_at lw_m5 205 rfl) rfl
theorem q1274 : (Jvm.Cond.fieldLink "PageGarden" (110 : Nat) "PageGarden" "commands" "[B") ∈ lw_all := lw_g (lw_at lw_m5 207 rfl) rfl
theorem q1276 : (Jvm.Cond.fieldLink "PageGarden" (198 : Nat) "PageGarden" "commandLength" "I") ∈ lw_all := lw_g (lw_at lw_m5 209 rfl) rfl
theorem q1277 : (Jvm.Cond.lays "PageGarden" "PageGarden" "current" "LPageGarden$Garden;") ∈ lw_all := lw_g (lw_at lw_m5 210 rfl) rfl
theorem q1278 : (Jvm.Cond.soleField "PageGarden" "current") ∈ lw_all := lw_g (lw_at lw_m5 211 rfl) rfl
theorem q1279 : (Jvm.Cond.laysFinal "PageGarden" "PageGarden" "saved" "Ljava/util/ArrayList;") ∈ lw_all := lw_g (lw_at lw_m5 212 rfl) rfl
theorem q1280 : (Jvm.Cond.soleField "PageGarden" "saved") ∈ lw_all := lw_g (lw_at lw_m5 213 rfl) rfl
theorem q1281 : (Jvm.Cond.laysFinal "PageGarden" "PageGarden" "commands" "[B") ∈ lw_all := lw_g (lw_at lw_m5 214 rfl) rfl
theorem q1282 : (Jvm.Cond.soleField "PageGarden" "commands") ∈ lw_all := lw_g (lw_at lw_m5 215 rfl) rfl
theorem q1283 : (Jvm.Cond.lays "PageGarden" "PageGarden" "commandLength" "I") ∈ lw_all := lw_g (lw_at lw_m5 216 rfl) rfl
theorem q1284 : (Jvm.Cond.soleField "PageGarden" "commandLength") ∈ lw_all := lw_g (lw_at lw_m5 217 rfl) rfl
theorem q1285 : (Jvm.Cond.superclass "PageGarden" "java/lang/Object") ∈ lw_all := lw_g (lw_at lw_m5 218 rfl) rfl
theorem q1287 : (Jvm.Cond.instanceMethod ({ cls := "PageGarden", name := "nextBed", desc := "()I" } : Jvm.MethodName)) ∈ lw_all := lw_g (lw_at lw_m5 220 rfl) rfl
theorem q1288 : (Jvm.Cond.selects "PageGarden" ({ cls := "PageGarden", name := "nextBed", desc := "()I" } : Jvm.MethodName) ({ cls := "PageGarden", name := "nextBed", desc := "()I" } : Jvm.MethodName)) ∈ lw_all := lw_g (lw_at lw_m5 221 rfl) rfl
theorem q1289 : (Jvm.Cond.code ({ cls := "PageGarden", name := "nextBed", desc := "()I" } : Jvm.MethodName) prog_1_method_27_code (1 : Nat) (Option.some Jvm.ClassFile.FieldType.int)) ∈ lw_all := lw_g (lw_at lw_m5 222 rfl) rfl
theorem q1290 : (Jvm.Cond.methodLink "PageGarden" (204 : Nat) ({ cls := "PageGarden$Garden", name := "nextBed", desc := "()I" } : Jvm.MethodName)) ∈ lw_all := lw_g (lw_at lw_m5 223 rfl) rfl
theorem q1318 : (Jvm.Cond.instanceMethod ({ cls := "PageGarden", name := "clearCommands", desc := "()I" } : Jvm.MethodName)) ∈ lw_all := lw_g (lw_at lw_m6 11 rfl) rfl
theorem q1319 : (Jvm.Cond.selects "PageGarden" ({ cls := "PageGarden", name := "clearCommands", desc := "()I" } : Jvm.MethodName) ({ cls := "PageGarden", name := "clearCommands", desc := "()I" } : Jvm.MethodName)) ∈ lw_all := lw_g (lw_at lw_m6 12 rfl) rfl
theorem q1320 : (Jvm.Cond.code ({ cls := "PageGarden", name := "clearCommands", desc := "()I" } : Jvm.MethodName) prog_1_method_33_code (2 : Nat) (Option.some Jvm.ClassFile.FieldType.int)) ∈ lw_all := lw_g (lw_at lw_m6 13 rfl) rfl
theorem q1322 : (Jvm.Cond.instanceMethod ({ cls := "PageGarden", name := "runCommands", desc := "()I" } : Jvm.MethodName)) ∈ lw_all := lw_g (lw_at lw_m6 15 rfl) rfl
theorem q1323 : (Jvm.Cond.selects "PageGarden" ({ cls := "PageGarden", name := "runCommands", desc := "()I" } : Jvm.MethodName) ({ cls := "PageGarden", name := "runCommands", desc := "()I" } : Jvm.MethodName)) ∈ lw_all := lw_g (lw_at lw_m6 16 rfl) rfl
theorem q1324 : (Jvm.Cond.code ({ cls := "PageGarden", name := "runCommands", desc := "()I" } : Jvm.MethodName) prog_1_method_34_code (4 : Nat) (Option.some Jvm.ClassFile.FieldType.int)) ∈ lw_all := lw_g (lw_at lw_m6 17 rfl) rfl
theorem q1325 : (Jvm.Cond.classLink "PageGarden" (228 : Nat) "PageGarden$Text") ∈ lw_all := lw_g (lw_at lw_m6 18 rfl) rfl
theorem q1327 : (Jvm.Cond.methodLinkNest "PageGarden" (230 : Nat) ({ cls := "PageGarden$Text", name := "<init>", desc := "(LPageGarden;)V" } : Jvm.MethodName) "PageGarden") ∈ lw_tbl := lw_at lw_m6 20 rfl
theorem q1334 : (Jvm.Cond.fieldLinkNest "PageGarden" (237 : Nat) "PageGarden$Text" "fault" "I" "PageGarden") ∈ lw_tbl := lw_at lw_m6 27 rfl
theorem q1349 : (Jvm.Cond.methodLink "PageGarden" (233 : Nat) ({ cls := "PageGarden$Text", name := "next", desc := "()Z" } : Jvm.MethodName)) ∈ lw_all := lw_g (lw_at lw_m6 42 rfl) rfl
theorem q1362 : (Jvm.Cond.static ({ cls := "PageGarden", name := "inRange", desc := "(JJJ)Z" } : Jvm.MethodName)) ∈ lw_all := lw_g (lw_at lw_m6 55 rfl) rfl
theorem q1363 : (Jvm.Cond.code ({ cls := "PageGarden", name := "inRange", desc := "(JJJ)Z" } : Jvm.MethodName) prog_1_method_1_code (6 : Nat) (Option.some Jvm.ClassFile.FieldType.boolean)) ∈ lw_all := lw_g (lw_at lw_m6 56 rfl) rfl
theorem q1394 : (Jvm.Cond.static ({ cls := "PageGarden", name := "numbersOf", desc := "(Ljava/lang/String;)I" } : Jvm.MethodName)) ∈ lw_all := lw_g (lw_at lw_m6 87 rfl) rfl
theorem q1395 : (Jvm.Cond.code ({ cls := "PageGarden", name := "numbersOf", desc := "(Ljava/lang/String;)I" } : Jvm.MethodName) prog_1_method_5_code (3 : Nat) (Option.some Jvm.ClassFile.FieldType.int)) ∈ lw_all := lw_g (lw_at lw_m6 88 rfl) rfl
theorem q1396 : (Jvm.Cond.methodLink "PageGarden" (13 : Nat) ({ cls := "java/lang/String", name := "hashCode", desc := "()I" } : Jvm.MethodName)) ∈ lw_all := lw_g (lw_at lw_m6 89 rfl) rfl
theorem q1397 : (Jvm.Cond.stringRef "PageGarden" (19 : Nat) "put") ∈ lw_tbl := lw_at lw_m6 90 rfl
theorem q1398 : (Jvm.Cond.methodLink "PageGarden" (21 : Nat) ({ cls := "java/lang/String", name := "equals", desc := "(Ljava/lang/Object;)Z" } : Jvm.MethodName)) ∈ lw_all := lw_g (lw_at lw_m6 91 rfl) rfl
theorem q1399 : (Jvm.Cond.stringRef "PageGarden" (25 : Nat) "drop") ∈ lw_tbl := lw_at lw_m6 92 rfl
theorem q1400 : (Jvm.Cond.stringRef "PageGarden" (27 : Nat) "commit") ∈ lw_tbl := lw_at lw_m6 93 rfl
theorem q1401 : (Jvm.Cond.stringRef "PageGarden" (29 : Nat) "close") ∈ lw_tbl := lw_at lw_m6 94 rfl
theorem q1402 : (Jvm.Cond.stringRef "PageGarden" (31 : Nat) "begin") ∈ lw_tbl := lw_at lw_m6 95 rfl
theorem q1403 : (Jvm.Cond.stringRef "PageGarden" (33 : Nat) "abort") ∈ lw_tbl := lw_at lw_m6 96 rfl
theorem q1404 : (Jvm.Cond.stringRef "PageGarden" (35 : Nat) "open") ∈ lw_tbl := lw_at lw_m6 97 rfl
theorem q1409 : (Jvm.Cond.methodLink "PageGarden" (123 : Nat) ({ cls := "PageGarden$Garden", name := "copy", desc := "()LPageGarden$Garden;" } : Jvm.MethodName)) ∈ lw_all := lw_g (lw_at lw_m6 102 rfl) rfl
theorem q1959 : (Jvm.Cond.methodLink "PageGarden" (240 : Nat) ({ cls := "PageGarden$Text", name := "carryOutOn", desc := "(LPageGarden$Garden;)I" } : Jvm.MethodName)) ∈ lw_all := lw_g (lw_at lw_m8 172 rfl) rfl
theorem q1986 : (Jvm.Cond.static ({ cls := "PageGarden", name := "carryOut", desc := "(LPageGarden$Garden;Ljava/lang/String;[I)I" } : Jvm.MethodName)) ∈ lw_all := lw_g (lw_at lw_m8 199 rfl) rfl
theorem q1987 : (Jvm.Cond.code ({ cls := "PageGarden", name := "carryOut", desc := "(LPageGarden$Garden;Ljava/lang/String;[I)I" } : Jvm.MethodName) prog_1_method_6_code (5 : Nat) (Option.some Jvm.ClassFile.FieldType.int)) ∈ lw_all := lw_g (lw_at lw_m8 200 rfl) rfl
theorem q1988 : (Jvm.Cond.methodLink "PageGarden" (39 : Nat) ({ cls := "PageGarden$Garden", name := "put", desc := "(II)I" } : Jvm.MethodName)) ∈ lw_all := lw_g (lw_at lw_m8 201 rfl) rfl
theorem q2002 : (Jvm.Cond.static ({ cls := "PageGarden", name := "requireArgument", desc := "(ZLjava/lang/String;)V" } : Jvm.MethodName)) ∈ lw_all := lw_g (lw_at lw_m8 215 rfl) rfl
theorem q2003 : (Jvm.Cond.code ({ cls := "PageGarden", name := "requireArgument", desc := "(ZLjava/lang/String;)V" } : Jvm.MethodName) prog_1_method_3_code (2 : Nat) (Option.none : Option Jvm.ClassFile.FieldType)) ∈ lw_all := lw_g (lw_at lw_m8 216 rfl) rfl
theorem q2004 : (Jvm.Cond.classLink "PageGarden" (7 : Nat) "java/lang/IllegalArgumentException") ∈ lw_all := lw_g (lw_at lw_m8 217 rfl) rfl
theorem q2005 : (Jvm.Cond.methodLink "PageGarden" (9 : Nat) ({ cls := "java/lang/IllegalArgumentException", name := "<init>", desc := "(Ljava/lang/String;)V" } : Jvm.MethodName)) ∈ lw_all := lw_g (lw_at lw_m8 218 rfl) rfl
theorem q2016 : (Jvm.Cond.static ({ cls := "PageGarden", name := "requireState", desc := "(ZLjava/lang/String;)V" } : Jvm.MethodName)) ∈ lw_all := lw_g (lw_at lw_m8 229 rfl) rfl
theorem q2017 : (Jvm.Cond.code ({ cls := "PageGarden", name := "requireState", desc := "(ZLjava/lang/String;)V" } : Jvm.MethodName) prog_1_method_4_code (2 : Nat) (Option.none : Option Jvm.ClassFile.FieldType)) ∈ lw_all := lw_g (lw_at lw_m8 230 rfl) rfl
theorem q2018 : (Jvm.Cond.classLink "PageGarden" (10 : Nat) "java/lang/IllegalStateException") ∈ lw_all := lw_g (lw_at lw_m8 231 rfl) rfl
theorem q2027 : (Jvm.Cond.methodLink "PageGarden" (12 : Nat) ({ cls := "java/lang/IllegalStateException", name := "<init>", desc := "(Ljava/lang/String;)V" } : Jvm.MethodName)) ∈ lw_all := lw_g (lw_at lw_m9 0 rfl) rfl
theorem q2220 : (Jvm.Cond.methodLink "PageGarden" (44 : Nat) ({ cls := "PageGarden$Garden", name := "remove", desc := "(I)I" } : Jvm.MethodName)) ∈ lw_all := lw_g (lw_at lw_m9 193 rfl) rfl
theorem q2237 : (Jvm.Cond.methodLink "PageGarden" (48 : Nat) ({ cls := "PageGarden$Garden", name := "commit", desc := "(I)I" } : Jvm.MethodName)) ∈ lw_all := lw_g (lw_at lw_m9 210 rfl) rfl
theorem q2273 : (Jvm.Cond.methodLink "PageGarden" (50 : Nat) ({ cls := "PageGarden$Garden", name := "close", desc := "(I)I" } : Jvm.MethodName)) ∈ lw_all := lw_g (lw_at lw_m10 6 rfl) rfl
theorem q2282 : (Jvm.Cond.static ({ cls := "PageGarden", name := "requireIndex", desc := "(ZLjava/lang/String;)V" } : Jvm.MethodName)) ∈ lw_all := lw_g (lw_at lw_m10 15 rfl) rfl
theorem q2283 : (Jvm.Cond.code ({ cls := "PageGarden", name := "requireIndex", desc := "(ZLjava/lang/String;)V" } : Jvm.MethodName) prog_1_method_2_code (2 : Nat) (Option.none : Option Jvm.ClassFile.FieldType)) ∈ lw_all := lw_g (lw_at lw_m10 16 rfl) rfl
theorem q2284 : (Jvm.Cond.classLink "PageGarden" (1 : Nat) "java/lang/IndexOutOfBoundsException") ∈ lw_all := lw_g (lw_at lw_m10 17 rfl) rfl
theorem q2293 : (Jvm.Cond.methodLink "PageGarden" (3 : Nat) ({ cls := "java/lang/IndexOutOfBoundsException", name := "<init>", desc := "(Ljava/lang/String;)V" } : Jvm.MethodName)) ∈ lw_all := lw_g (lw_at lw_m10 26 rfl) rfl
theorem q2301 : (Jvm.Cond.methodLink "PageGarden" (52 : Nat) ({ cls := "PageGarden$Garden", name := "begin", desc := "()I" } : Jvm.MethodName)) ∈ lw_all := lw_g (lw_at lw_m10 34 rfl) rfl
theorem q2308 : (Jvm.Cond.methodLink "PageGarden" (54 : Nat) ({ cls := "PageGarden$Garden", name := "abort", desc := "()I" } : Jvm.MethodName)) ∈ lw_all := lw_g (lw_at lw_m10 41 rfl) rfl
theorem q2312 : (Jvm.Cond.methodLink "PageGarden" (56 : Nat) ({ cls := "PageGarden$Garden", name := "open", desc := "()I" } : Jvm.MethodName)) ∈ lw_all := lw_g (lw_at lw_m10 45 rfl) rfl
theorem q2325 : (Jvm.Cond.fieldLinkNest "PageGarden" (159 : Nat) "PageGarden$Reader" "directory" "I" "PageGarden") ∈ lw_tbl := lw_at lw_m10 58 rfl
theorem q2332 : (Jvm.Cond.methodLink "PageGarden" (126 : Nat) ({ cls := "PageGarden", name := "become", desc := "(LPageGarden$Garden;I)I" } : Jvm.MethodName)) ∈ lw_all := lw_g (lw_at lw_m10 65 rfl) rfl
theorem q2333 : (Jvm.Cond.privateMethod ({ cls := "PageGarden", name := "become", desc := "(LPageGarden$Garden;I)I" } : Jvm.MethodName)) ∈ lw_tbl := lw_at lw_m10 66 rfl
theorem q2334 : (Jvm.Cond.instanceMethod ({ cls := "PageGarden", name := "become", desc := "(LPageGarden$Garden;I)I" } : Jvm.MethodName)) ∈ lw_all := lw_g (lw_at lw_m10 67 rfl) rfl
theorem q2335 : (Jvm.Cond.code ({ cls := "PageGarden", name := "become", desc := "(LPageGarden$Garden;I)I" } : Jvm.MethodName) prog_1_method_9_code (4 : Nat) (Option.some Jvm.ClassFile.FieldType.int)) ∈ lw_all := lw_g (lw_at lw_m10 68 rfl) rfl
theorem q2336 : (Jvm.Cond.methodLink "PageGarden" (114 : Nat) ({ cls := "java/util/ArrayList", name := "size", desc := "()I" } : Jvm.MethodName)) ∈ lw_all := lw_g (lw_at lw_m10 69 rfl) rfl
theorem q2340 : (Jvm.Cond.methodLink "PageGarden" (117 : Nat) ({ cls := "java/util/ArrayList", name := "remove", desc := "(I)Ljava/lang/Object;" } : Jvm.MethodName)) ∈ lw_all := lw_g (lw_at lw_m10 73 rfl) rfl
theorem q2353 : (Jvm.Cond.methodLink "PageGarden" (120 : Nat) ({ cls := "java/util/ArrayList", name := "add", desc := "(Ljava/lang/Object;)Z" } : Jvm.MethodName)) ∈ lw_all := lw_g (lw_at lw_m10 86 rfl) rfl
theorem q2383 : (Jvm.Cond.instanceMethod ({ cls := "PageGarden", name := "digest", desc := "()J" } : Jvm.MethodName)) ∈ lw_all := lw_g (lw_at lw_m10 116 rfl) rfl
theorem q2384 : (Jvm.Cond.selects "PageGarden" ({ cls := "PageGarden", name := "digest", desc := "()J" } : Jvm.MethodName) ({ cls := "PageGarden", name := "digest", desc := "()J" } : Jvm.MethodName)) ∈ lw_all := lw_g (lw_at lw_m10 117 rfl) rfl
theorem q2385 : (Jvm.Cond.code ({ cls := "PageGarden", name := "digest", desc := "()J" } : Jvm.MethodName) prog_1_method_38_code (5 : Nat) (Option.some Jvm.ClassFile.FieldType.long)) ∈ lw_all := lw_g (lw_at lw_m10 118 rfl) rfl
theorem q2386 : (Jvm.Cond.constantLong "PageGarden" (254 : Nat) (43518 : Int64)) ∈ lw_all := lw_g (lw_at lw_m10 119 rfl) rfl
theorem q2387 : (Jvm.Cond.methodLink "PageGarden" (250 : Nat) ({ cls := "PageGarden", name := "hash", desc := "(JI)J" } : Jvm.MethodName)) ∈ lw_all := lw_g (lw_at lw_m10 120 rfl) rfl
theorem q2388 : (Jvm.Cond.static ({ cls := "PageGarden", name := "hash", desc := "(JI)J" } : Jvm.MethodName)) ∈ lw_all := lw_g (lw_at lw_m10 121 rfl) rfl
theorem q2389 : (Jvm.Cond.code ({ cls := "PageGarden", name := "hash", desc := "(JI)J" } : Jvm.MethodName) prog_1_method_36_code (3 : Nat) (Option.some Jvm.ClassFile.FieldType.long)) ∈ lw_all := lw_g (lw_at lw_m10 122 rfl) rfl
theorem q2390 : (Jvm.Cond.constantLong "PageGarden" (191 : Nat) (31 : Int64)) ∈ lw_all := lw_g (lw_at lw_m10 123 rfl) rfl
theorem q2391 : (Jvm.Cond.methodLink "PageGarden" (201 : Nat) ({ cls := "PageGarden", name := "wholeOf", desc := "(I)I" } : Jvm.MethodName)) ∈ lw_all := lw_g (lw_at lw_m10 124 rfl) rfl
theorem q2392 : (Jvm.Cond.privateMethod ({ cls := "PageGarden", name := "wholeOf", desc := "(I)I" } : Jvm.MethodName)) ∈ lw_tbl := lw_at lw_m10 125 rfl
theorem q2393 : (Jvm.Cond.instanceMethod ({ cls := "PageGarden", name := "wholeOf", desc := "(I)I" } : Jvm.MethodName)) ∈ lw_all := lw_g (lw_at lw_m10 126 rfl) rfl
theorem q2394 : (Jvm.Cond.code ({ cls := "PageGarden", name := "wholeOf", desc := "(I)I" } : Jvm.MethodName) prog_1_method_25_code (2 : Nat) (Option.some Jvm.ClassFile.FieldType.int)) ∈ lw_all := lw_g (lw_at lw_m10 127 rfl) rfl
theorem q2395 : (Jvm.Cond.methodLink "PageGarden" (168 : Nat) ({ cls := "PageGarden$Garden", name := "value", desc := "(I)I" } : Jvm.MethodName)) ∈ lw_all := lw_g (lw_at lw_m10 128 rfl) rfl
theorem q2426 : (Jvm.Cond.methodLink "PageGarden" (185 : Nat) ({ cls := "PageGarden$Garden", name := "rootValue", desc := "(II)I" } : Jvm.MethodName)) ∈ lw_all := lw_g (lw_at lw_m10 159 rfl) rfl
theorem q2430 : (Jvm.Cond.methodLink "PageGarden" (188 : Nat) ({ cls := "PageGarden$Garden", name := "readerValue", desc := "(II)I" } : Jvm.MethodName)) ∈ lw_all := lw_g (lw_at lw_m10 163 rfl) rfl
theorem q2459 : (Jvm.Cond.methodLink "PageGarden" (195 : Nat) ({ cls := "PageGarden$Garden", name := "bedValue", desc := "(II)I" } : Jvm.MethodName)) ∈ lw_all := lw_g (lw_at lw_m10 192 rfl) rfl
theorem q2485 : (Jvm.Cond.methodLink "PageGarden" (180 : Nat) ({ cls := "PageGarden$Garden", name := "entryValue", desc := "(II)I" } : Jvm.MethodName)) ∈ lw_all := lw_g (lw_at lw_m10 218 rfl) rfl
theorem q2489 : (Jvm.Cond.methodLink "PageGarden" (256 : Nat) ({ cls := "PageGarden", name := "hashDraft", desc := "(J)J" } : Jvm.MethodName)) ∈ lw_all := lw_g (lw_at lw_m10 222 rfl) rfl
theorem q2490 : (Jvm.Cond.privateMethod ({ cls := "PageGarden", name := "hashDraft", desc := "(J)J" } : Jvm.MethodName)) ∈ lw_tbl := lw_at lw_m10 223 rfl
theorem q2491 : (Jvm.Cond.instanceMethod ({ cls := "PageGarden", name := "hashDraft", desc := "(J)J" } : Jvm.MethodName)) ∈ lw_all := lw_g (lw_at lw_m10 224 rfl) rfl
theorem q2492 : (Jvm.Cond.code ({ cls := "PageGarden", name := "hashDraft", desc := "(J)J" } : Jvm.MethodName) prog_1_method_37_code (6 : Nat) (Option.some Jvm.ClassFile.FieldType.long)) ∈ lw_all := lw_g (lw_at lw_m10 225 rfl) rfl
theorem q2493 : (Jvm.Cond.methodLink "PageGarden" (146 : Nat) ({ cls := "PageGarden$Garden", name := "drafted", desc := "(I)I" } : Jvm.MethodName)) ∈ lw_all := lw_g (lw_at lw_m10 226 rfl) rfl
theorem q2499 : (Jvm.Cond.instanceMethod ({ cls := "PageGarden", name := "begin", desc := "()I" } : Jvm.MethodName)) ∈ lw_all := lw_g (lw_at lw_m10 232 rfl) rfl
theorem q2500 : (Jvm.Cond.selects "PageGarden" ({ cls := "PageGarden", name := "begin", desc := "()I" } : Jvm.MethodName) ({ cls := "PageGarden", name := "begin", desc := "()I" } : Jvm.MethodName)) ∈ lw_all := lw_g (lw_at lw_m10 233 rfl) rfl
theorem q2501 : (Jvm.Cond.code ({ cls := "PageGarden", name := "begin", desc := "()I" } : Jvm.MethodName) prog_1_method_10_code (2 : Nat) (Option.some Jvm.ClassFile.FieldType.int)) ∈ lw_all := lw_g (lw_at lw_m10 234 rfl) rfl
theorem q2507 : (Jvm.Cond.instanceMethod ({ cls := "PageGarden", name := "put", desc := "(II)I" } : Jvm.MethodName)) ∈ lw_all := lw_g (lw_at lw_m11 0 rfl) rfl
theorem q2508 : (Jvm.Cond.selects "PageGarden" ({ cls := "PageGarden", name := "put", desc := "(II)I" } : Jvm.MethodName) ({ cls := "PageGarden", name := "put", desc := "(II)I" } : Jvm.MethodName)) ∈ lw_all := lw_g (lw_at lw_m11 1 rfl) rfl
theorem q2509 : (Jvm.Cond.code ({ cls := "PageGarden", name := "put", desc := "(II)I" } : Jvm.MethodName) prog_1_method_11_code (4 : Nat) (Option.some Jvm.ClassFile.FieldType.int)) ∈ lw_all := lw_g (lw_at lw_m11 2 rfl) rfl
theorem q2514 : (Jvm.Cond.instanceMethod ({ cls := "PageGarden", name := "remove", desc := "(I)I" } : Jvm.MethodName)) ∈ lw_all := lw_g (lw_at lw_m11 7 rfl) rfl
theorem q2515 : (Jvm.Cond.selects "PageGarden" ({ cls := "PageGarden", name := "remove", desc := "(I)I" } : Jvm.MethodName) ({ cls := "PageGarden", name := "remove", desc := "(I)I" } : Jvm.MethodName)) ∈ lw_all := lw_g (lw_at lw_m11 8 rfl) rfl
theorem q2516 : (Jvm.Cond.code ({ cls := "PageGarden", name := "remove", desc := "(I)I" } : Jvm.MethodName) prog_1_method_12_code (3 : Nat) (Option.some Jvm.ClassFile.FieldType.int)) ∈ lw_all := lw_g (lw_at lw_m11 9 rfl) rfl
theorem q2521 : (Jvm.Cond.instanceMethod ({ cls := "PageGarden", name := "commit", desc := "(I)I" } : Jvm.MethodName)) ∈ lw_all := lw_g (lw_at lw_m11 14 rfl) rfl
theorem q2522 : (Jvm.Cond.selects "PageGarden" ({ cls := "PageGarden", name := "commit", desc := "(I)I" } : Jvm.MethodName) ({ cls := "PageGarden", name := "commit", desc := "(I)I" } : Jvm.MethodName)) ∈ lw_all := lw_g (lw_at lw_m11 15 rfl) rfl
theorem q2523 : (Jvm.Cond.code ({ cls := "PageGarden", name := "commit", desc := "(I)I" } : Jvm.MethodName) prog_1_method_13_code (3 : Nat) (Option.some Jvm.ClassFile.FieldType.int)) ∈ lw_all := lw_g (lw_at lw_m11 16 rfl) rfl
theorem q2528 : (Jvm.Cond.instanceMethod ({ cls := "PageGarden", name := "abort", desc := "()I" } : Jvm.MethodName)) ∈ lw_all := lw_g (lw_at lw_m11 21 rfl) rfl
theorem q2529 : (Jvm.Cond.selects "PageGarden" ({ cls := "PageGarden", name := "abort", desc := "()I" } : Jvm.MethodName) ({ cls := "PageGarden", name := "abort", desc := "()I" } : Jvm.MethodName)) ∈ lw_all := lw_g (lw_at lw_m11 22 rfl) rfl
theorem q2530 : (Jvm.Cond.code ({ cls := "PageGarden", name := "abort", desc := "()I" } : Jvm.MethodName) prog_1_method_14_code (2 : Nat) (Option.some Jvm.ClassFile.FieldType.int)) ∈ lw_all := lw_g (lw_at lw_m11 23 rfl) rfl
theorem q2535 : (Jvm.Cond.instanceMethod ({ cls := "PageGarden", name := "open", desc := "()I" } : Jvm.MethodName)) ∈ lw_all := lw_g (lw_at lw_m11 28 rfl) rfl
theorem q2536 : (Jvm.Cond.selects "PageGarden" ({ cls := "PageGarden", name := "open", desc := "()I" } : Jvm.MethodName) ({ cls := "PageGarden", name := "open", desc := "()I" } : Jvm.MethodName)) ∈ lw_all := lw_g (lw_at lw_m11 29 rfl) rfl
theorem q2537 : (Jvm.Cond.code ({ cls := "PageGarden", name := "open", desc := "()I" } : Jvm.MethodName) prog_1_method_15_code (2 : Nat) (Option.some Jvm.ClassFile.FieldType.int)) ∈ lw_all := lw_g (lw_at lw_m11 30 rfl) rfl
theorem q2543 : (Jvm.Cond.instanceMethod ({ cls := "PageGarden", name := "close", desc := "(I)I" } : Jvm.MethodName)) ∈ lw_all := lw_g (lw_at lw_m11 36 rfl) rfl
theorem q2544 : (Jvm.Cond.selects "PageGarden" ({ cls := "PageGarden", name := "close", desc := "(I)I" } : Jvm.MethodName) ({ cls := "PageGarden", name := "close", desc := "(I)I" } : Jvm.MethodName)) ∈ lw_all := lw_g (lw_at lw_m11 37 rfl) rfl
theorem q2545 : (Jvm.Cond.code ({ cls := "PageGarden", name := "close", desc := "(I)I" } : Jvm.MethodName) prog_1_method_16_code (3 : Nat) (Option.some Jvm.ClassFile.FieldType.int)) ∈ lw_all := lw_g (lw_at lw_m11 38 rfl) rfl
theorem q2550 : (Jvm.Cond.instanceMethod ({ cls := "PageGarden", name := "get", desc := "(I)I" } : Jvm.MethodName)) ∈ lw_all := lw_g (lw_at lw_m11 43 rfl) rfl
theorem q2551 : (Jvm.Cond.selects "PageGarden" ({ cls := "PageGarden", name := "get", desc := "(I)I" } : Jvm.MethodName) ({ cls := "PageGarden", name := "get", desc := "(I)I" } : Jvm.MethodName)) ∈ lw_all := lw_g (lw_at lw_m11 44 rfl) rfl
theorem q2552 : (Jvm.Cond.code ({ cls := "PageGarden", name := "get", desc := "(I)I" } : Jvm.MethodName) prog_1_method_18_code (2 : Nat) (Option.some Jvm.ClassFile.FieldType.int)) ∈ lw_all := lw_g (lw_at lw_m11 45 rfl) rfl
theorem q2553 : (Jvm.Cond.methodLink "PageGarden" (140 : Nat) ({ cls := "PageGarden$Garden", name := "requireKey", desc := "(I)V" } : Jvm.MethodName)) ∈ lw_all := lw_g (lw_at lw_m11 46 rfl) rfl
theorem q2554 : (Jvm.Cond.methodLink "PageGarden" (143 : Nat) ({ cls := "PageGarden$Garden", name := "get", desc := "(I)I" } : Jvm.MethodName)) ∈ lw_all := lw_g (lw_at lw_m11 47 rfl) rfl
theorem q2562 : (Jvm.Cond.instanceMethod ({ cls := "PageGarden", name := "drafted", desc := "(I)I" } : Jvm.MethodName)) ∈ lw_all := lw_g (lw_at lw_m11 55 rfl) rfl
theorem q2563 : (Jvm.Cond.selects "PageGarden" ({ cls := "PageGarden", name := "drafted", desc := "(I)I" } : Jvm.MethodName) ({ cls := "PageGarden", name := "drafted", desc := "(I)I" } : Jvm.MethodName)) ∈ lw_all := lw_g (lw_at lw_m11 56 rfl) rfl
theorem q2564 : (Jvm.Cond.code ({ cls := "PageGarden", name := "drafted", desc := "(I)I" } : Jvm.MethodName) prog_1_method_19_code (2 : Nat) (Option.some Jvm.ClassFile.FieldType.int)) ∈ lw_all := lw_g (lw_at lw_m11 57 rfl) rfl
theorem q2569 : (Jvm.Cond.instanceMethod ({ cls := "PageGarden", name := "read", desc := "(II)I" } : Jvm.MethodName)) ∈ lw_all := lw_g (lw_at lw_m11 62 rfl) rfl
theorem q2570 : (Jvm.Cond.selects "PageGarden" ({ cls := "PageGarden", name := "read", desc := "(II)I" } : Jvm.MethodName) ({ cls := "PageGarden", name := "read", desc := "(II)I" } : Jvm.MethodName)) ∈ lw_all := lw_g (lw_at lw_m11 63 rfl) rfl
theorem q2571 : (Jvm.Cond.code ({ cls := "PageGarden", name := "read", desc := "(II)I" } : Jvm.MethodName) prog_1_method_20_code (3 : Nat) (Option.some Jvm.ClassFile.FieldType.int)) ∈ lw_all := lw_g (lw_at lw_m11 64 rfl) rfl
theorem q2572 : (Jvm.Cond.methodLink "PageGarden" (149 : Nat) ({ cls := "PageGarden$Garden", name := "requireReader", desc := "(I)V" } : Jvm.MethodName)) ∈ lw_all := lw_g (lw_at lw_m11 65 rfl) rfl
theorem q2573 : (Jvm.Cond.methodLink "PageGarden" (152 : Nat) ({ cls := "PageGarden$Garden", name := "requireOpen", desc := "(I)V" } : Jvm.MethodName)) ∈ lw_all := lw_g (lw_at lw_m11 66 rfl) rfl
theorem q2574 : (Jvm.Cond.methodLink "PageGarden" (165 : Nat) ({ cls := "PageGarden$Garden", name := "valueBy", desc := "(II)I" } : Jvm.MethodName)) ∈ lw_all := lw_g (lw_at lw_m11 67 rfl) rfl
theorem q2579 : (Jvm.Cond.instanceMethod ({ cls := "PageGarden", name := "entry", desc := "(II)I" } : Jvm.MethodName)) ∈ lw_all := lw_g (lw_at lw_m11 72 rfl) rfl
theorem q2580 : (Jvm.Cond.selects "PageGarden" ({ cls := "PageGarden", name := "entry", desc := "(II)I" } : Jvm.MethodName) ({ cls := "PageGarden", name := "entry", desc := "(II)I" } : Jvm.MethodName)) ∈ lw_all := lw_g (lw_at lw_m11 73 rfl) rfl
theorem q2581 : (Jvm.Cond.code ({ cls := "PageGarden", name := "entry", desc := "(II)I" } : Jvm.MethodName) prog_1_method_21_code (3 : Nat) (Option.some Jvm.ClassFile.FieldType.int)) ∈ lw_all := lw_g (lw_at lw_m11 74 rfl) rfl
theorem q2582 : (Jvm.Cond.methodLink "PageGarden" (130 : Nat) ({ cls := "PageGarden", name := "inRange", desc := "(JJJ)Z" } : Jvm.MethodName)) ∈ lw_all := lw_g (lw_at lw_m11 75 rfl) rfl
theorem q2583 : (Jvm.Cond.stringRef "PageGarden" (171 : Nat) "rank") ∈ lw_tbl := lw_at lw_m11 76 rfl
theorem q2584 : (Jvm.Cond.methodLink "PageGarden" (173 : Nat) ({ cls := "PageGarden", name := "requireIndex", desc := "(ZLjava/lang/String;)V" } : Jvm.MethodName)) ∈ lw_all := lw_g (lw_at lw_m11 77 rfl) rfl
theorem q2585 : (Jvm.Cond.methodLink "PageGarden" (176 : Nat) ({ cls := "PageGarden", name := "requireWhat", desc := "(II)V" } : Jvm.MethodName)) ∈ lw_all := lw_g (lw_at lw_m11 78 rfl) rfl
theorem q2586 : (Jvm.Cond.static ({ cls := "PageGarden", name := "requireWhat", desc := "(II)V" } : Jvm.MethodName)) ∈ lw_all := lw_g (lw_at lw_m11 79 rfl) rfl
theorem q2587 : (Jvm.Cond.code ({ cls := "PageGarden", name := "requireWhat", desc := "(II)V" } : Jvm.MethodName) prog_1_method_17_code (2 : Nat) (Option.none : Option Jvm.ClassFile.FieldType)) ∈ lw_all := lw_g (lw_at lw_m11 80 rfl) rfl
theorem q2588 : (Jvm.Cond.stringRef "PageGarden" (134 : Nat) "what") ∈ lw_tbl := lw_at lw_m11 81 rfl
theorem q2589 : (Jvm.Cond.methodLink "PageGarden" (136 : Nat) ({ cls := "PageGarden", name := "requireArgument", desc := "(ZLjava/lang/String;)V" } : Jvm.MethodName)) ∈ lw_all := lw_g (lw_at lw_m11 82 rfl) rfl
theorem q2594 : (Jvm.Cond.instanceMethod ({ cls := "PageGarden", name := "root", desc := "(II)I" } : Jvm.MethodName)) ∈ lw_all := lw_g (lw_at lw_m11 87 rfl) rfl
theorem q2595 : (Jvm.Cond.selects "PageGarden" ({ cls := "PageGarden", name := "root", desc := "(II)I" } : Jvm.MethodName) ({ cls := "PageGarden", name := "root", desc := "(II)I" } : Jvm.MethodName)) ∈ lw_all := lw_g (lw_at lw_m11 88 rfl) rfl
theorem q2596 : (Jvm.Cond.code ({ cls := "PageGarden", name := "root", desc := "(II)I" } : Jvm.MethodName) prog_1_method_22_code (3 : Nat) (Option.some Jvm.ClassFile.FieldType.int)) ∈ lw_all := lw_g (lw_at lw_m11 89 rfl) rfl
theorem q2597 : (Jvm.Cond.stringRef "PageGarden" (183 : Nat) "root") ∈ lw_tbl := lw_at lw_m11 90 rfl
theorem q2602 : (Jvm.Cond.instanceMethod ({ cls := "PageGarden", name := "reader", desc := "(II)I" } : Jvm.MethodName)) ∈ lw_all := lw_g (lw_at lw_m11 95 rfl) rfl
theorem q2603 : (Jvm.Cond.selects "PageGarden" ({ cls := "PageGarden", name := "reader", desc := "(II)I" } : Jvm.MethodName) ({ cls := "PageGarden", name := "reader", desc := "(II)I" } : Jvm.MethodName)) ∈ lw_all := lw_g (lw_at lw_m11 96 rfl) rfl
theorem q2604 : (Jvm.Cond.code ({ cls := "PageGarden", name := "reader", desc := "(II)I" } : Jvm.MethodName) prog_1_method_23_code (3 : Nat) (Option.some Jvm.ClassFile.FieldType.int)) ∈ lw_all := lw_g (lw_at lw_m11 97 rfl) rfl
theorem q2609 : (Jvm.Cond.instanceMethod ({ cls := "PageGarden", name := "bed", desc := "(II)I" } : Jvm.MethodName)) ∈ lw_all := lw_g (lw_at lw_m11 102 rfl) rfl
theorem q2610 : (Jvm.Cond.selects "PageGarden" ({ cls := "PageGarden", name := "bed", desc := "(II)I" } : Jvm.MethodName) ({ cls := "PageGarden", name := "bed", desc := "(II)I" } : Jvm.MethodName)) ∈ lw_all := lw_g (lw_at lw_m11 103 rfl) rfl
theorem q2611 : (Jvm.Cond.code ({ cls := "PageGarden", name := "bed", desc := "(II)I" } : Jvm.MethodName) prog_1_method_24_code (3 : Nat) (Option.some Jvm.ClassFile.FieldType.int)) ∈ lw_all := lw_g (lw_at lw_m11 104 rfl) rfl
theorem q2612 : (Jvm.Cond.stringRef "PageGarden" (193 : Nat) "bed") ∈ lw_tbl := lw_at lw_m11 105 rfl
theorem q2617 : (Jvm.Cond.instanceMethod ({ cls := "PageGarden", name := "whole", desc := "(I)I" } : Jvm.MethodName)) ∈ lw_all := lw_g (lw_at lw_m11 110 rfl) rfl
theorem q2618 : (Jvm.Cond.selects "PageGarden" ({ cls := "PageGarden", name := "whole", desc := "(I)I" } : Jvm.MethodName) ({ cls := "PageGarden", name := "whole", desc := "(I)I" } : Jvm.MethodName)) ∈ lw_all := lw_g (lw_at lw_m11 111 rfl) rfl
theorem q2619 : (Jvm.Cond.code ({ cls := "PageGarden", name := "whole", desc := "(I)I" } : Jvm.MethodName) prog_1_method_26_code (2 : Nat) (Option.some Jvm.ClassFile.FieldType.int)) ∈ lw_all := lw_g (lw_at lw_m11 112 rfl) rfl
theorem q2624 : (Jvm.Cond.instanceMethod ({ cls := "PageGarden", name := "bedsFor", desc := "(I)I" } : Jvm.MethodName)) ∈ lw_all := lw_g (lw_at lw_m11 117 rfl) rfl
theorem q2625 : (Jvm.Cond.selects "PageGarden" ({ cls := "PageGarden", name := "bedsFor", desc := "(I)I" } : Jvm.MethodName) ({ cls := "PageGarden", name := "bedsFor", desc := "(I)I" } : Jvm.MethodName)) ∈ lw_all := lw_g (lw_at lw_m11 118 rfl) rfl
theorem q2626 : (Jvm.Cond.code ({ cls := "PageGarden", name := "bedsFor", desc := "(I)I" } : Jvm.MethodName) prog_1_method_28_code (2 : Nat) (Option.some Jvm.ClassFile.FieldType.int)) ∈ lw_all := lw_g (lw_at lw_m11 119 rfl) rfl
theorem q2627 : (Jvm.Cond.methodLink "PageGarden" (207 : Nat) ({ cls := "PageGarden$Garden", name := "bedsFor", desc := "(I)I" } : Jvm.MethodName)) ∈ lw_all := lw_g (lw_at lw_m11 120 rfl) rfl
theorem q2632 : (Jvm.Cond.instanceMethod ({ cls := "PageGarden", name := "reason", desc := "(I)I" } : Jvm.MethodName)) ∈ lw_all := lw_g (lw_at lw_m11 125 rfl) rfl
theorem q2633 : (Jvm.Cond.selects "PageGarden" ({ cls := "PageGarden", name := "reason", desc := "(I)I" } : Jvm.MethodName) ({ cls := "PageGarden", name := "reason", desc := "(I)I" } : Jvm.MethodName)) ∈ lw_all := lw_g (lw_at lw_m11 126 rfl) rfl
theorem q2634 : (Jvm.Cond.code ({ cls := "PageGarden", name := "reason", desc := "(I)I" } : Jvm.MethodName) prog_1_method_29_code (2 : Nat) (Option.some Jvm.ClassFile.FieldType.int)) ∈ lw_all := lw_g (lw_at lw_m11 127 rfl) rfl
theorem q2635 : (Jvm.Cond.methodLink "PageGarden" (210 : Nat) ({ cls := "PageGarden$Garden", name := "reason", desc := "(I)I" } : Jvm.MethodName)) ∈ lw_all := lw_g (lw_at lw_m11 128 rfl) rfl
theorem q2640 : (Jvm.Cond.instanceMethod ({ cls := "PageGarden", name := "neededWithout", desc := "(I)I" } : Jvm.MethodName)) ∈ lw_all := lw_g (lw_at lw_m11 133 rfl) rfl
theorem q2641 : (Jvm.Cond.selects "PageGarden" ({ cls := "PageGarden", name := "neededWithout", desc := "(I)I" } : Jvm.MethodName) ({ cls := "PageGarden", name := "neededWithout", desc := "(I)I" } : Jvm.MethodName)) ∈ lw_all := lw_g (lw_at lw_m11 134 rfl) rfl
theorem q2642 : (Jvm.Cond.code ({ cls := "PageGarden", name := "neededWithout", desc := "(I)I" } : Jvm.MethodName) prog_1_method_30_code (2 : Nat) (Option.some Jvm.ClassFile.FieldType.int)) ∈ lw_all := lw_g (lw_at lw_m11 135 rfl) rfl
theorem q2643 : (Jvm.Cond.methodLink "PageGarden" (213 : Nat) ({ cls := "PageGarden$Garden", name := "neededWithout", desc := "(I)I" } : Jvm.MethodName)) ∈ lw_all := lw_g (lw_at lw_m11 136 rfl) rfl
theorem q2648 : (Jvm.Cond.instanceMethod ({ cls := "PageGarden", name := "changedSince", desc := "(I)I" } : Jvm.MethodName)) ∈ lw_all := lw_g (lw_at lw_m11 141 rfl) rfl
theorem q2649 : (Jvm.Cond.selects "PageGarden" ({ cls := "PageGarden", name := "changedSince", desc := "(I)I" } : Jvm.MethodName) ({ cls := "PageGarden", name := "changedSince", desc := "(I)I" } : Jvm.MethodName)) ∈ lw_all := lw_g (lw_at lw_m11 142 rfl) rfl
theorem q2650 : (Jvm.Cond.code ({ cls := "PageGarden", name := "changedSince", desc := "(I)I" } : Jvm.MethodName) prog_1_method_31_code (2 : Nat) (Option.some Jvm.ClassFile.FieldType.int)) ∈ lw_all := lw_g (lw_at lw_m11 143 rfl) rfl
theorem q2651 : (Jvm.Cond.methodLink "PageGarden" (216 : Nat) ({ cls := "PageGarden$Garden", name := "changedSince", desc := "(I)I" } : Jvm.MethodName)) ∈ lw_all := lw_g (lw_at lw_m11 144 rfl) rfl
theorem q2673 : (Jvm.Cond.instanceMethod ({ cls := "PageGarden", name := "type", desc := "(I)I" } : Jvm.MethodName)) ∈ lw_all := lw_g (lw_at lw_m11 166 rfl) rfl
theorem q2674 : (Jvm.Cond.selects "PageGarden" ({ cls := "PageGarden", name := "type", desc := "(I)I" } : Jvm.MethodName) ({ cls := "PageGarden", name := "type", desc := "(I)I" } : Jvm.MethodName)) ∈ lw_all := lw_g (lw_at lw_m11 167 rfl) rfl
theorem q2675 : (Jvm.Cond.code ({ cls := "PageGarden", name := "type", desc := "(I)I" } : Jvm.MethodName) prog_1_method_32_code (2 : Nat) (Option.some Jvm.ClassFile.FieldType.int)) ∈ lw_all := lw_g (lw_at lw_m11 168 rfl) rfl
theorem q2676 : (Jvm.Cond.constantLong "PageGarden" (219 : Nat) (127 : Int64)) ∈ lw_all := lw_g (lw_at lw_m11 169 rfl) rfl
theorem q2677 : (Jvm.Cond.stringRef "PageGarden" (221 : Nat) "byte") ∈ lw_tbl := lw_at lw_m11 170 rfl
theorem q2678 : (Jvm.Cond.stringRef "PageGarden" (223 : Nat) "command text") ∈ lw_tbl := lw_at lw_m11 171 rfl
theorem q2679 : (Jvm.Cond.methodLink "PageGarden" (225 : Nat) ({ cls := "PageGarden", name := "requireState", desc := "(ZLjava/lang/String;)V" } : Jvm.MethodName)) ∈ lw_all := lw_g (lw_at lw_m11 172 rfl) rfl
theorem q2684 : (Jvm.Cond.instanceMethod ({ cls := "PageGarden", name := "undo", desc := "()I" } : Jvm.MethodName)) ∈ lw_all := lw_g (lw_at lw_m11 177 rfl) rfl
theorem q2685 : (Jvm.Cond.selects "PageGarden" ({ cls := "PageGarden", name := "undo", desc := "()I" } : Jvm.MethodName) ({ cls := "PageGarden", name := "undo", desc := "()I" } : Jvm.MethodName)) ∈ lw_all := lw_g (lw_at lw_m11 178 rfl) rfl
theorem q2686 : (Jvm.Cond.code ({ cls := "PageGarden", name := "undo", desc := "()I" } : Jvm.MethodName) prog_1_method_35_code (1 : Nat) (Option.some Jvm.ClassFile.FieldType.int)) ∈ lw_all := lw_g (lw_at lw_m11 179 rfl) rfl
theorem q2687 : (Jvm.Cond.stringRef "PageGarden" (244 : Nat) "nothing saved") ∈ lw_tbl := lw_at lw_m11 180 rfl
theorem q3147 : (Jvm.Cond.castable "PageGarden" "java/lang/Object") ∈ lw_tbl := lw_at lw_m13 160 rfl
theorem q109 : (Jvm.Cond.initialized "PageGarden$Bed") ∈ lw_all := lw_g (lw_at lw_m1 2 rfl) rfl
theorem q179 : (Jvm.Cond.instantiable "PageGarden$Bed" (1 : Nat)) ∈ lw_all := lw_g (lw_at lw_m1 72 rfl) rfl
theorem q181 : (Jvm.Cond.instanceMethod ({ cls := "PageGarden$Bed", name := "<init>", desc := "(I)V" } : Jvm.MethodName)) ∈ lw_all := lw_g (lw_at lw_m1 74 rfl) rfl
theorem q182 : (Jvm.Cond.code ({ cls := "PageGarden$Bed", name := "<init>", desc := "(I)V" } : Jvm.MethodName) prog_2_method_1_code (2 : Nat) (Option.none : Option Jvm.ClassFile.FieldType)) ∈ lw_all := lw_g (lw_at lw_m1 75 rfl) rfl
theorem q183 : (Jvm.Cond.methodLink "PageGarden$Bed" (1 : Nat) ({ cls := "java/lang/Object", name := "<init>", desc := "()V" } : Jvm.MethodName)) ∈ lw_all := lw_g (lw_at lw_m1 76 rfl) rfl
theorem q184 : (Jvm.Cond.fieldLink "PageGarden$Bed" (7 : Nat) "PageGarden$Bed" "number" "I") ∈ lw_all := lw_g (lw_at lw_m1 77 rfl) rfl
theorem q186 : (Jvm.Cond.laysFinal "PageGarden$Bed" "PageGarden$Bed" "number" "I") ∈ lw_all := lw_g (lw_at lw_m1 79 rfl) rfl
theorem q187 : (Jvm.Cond.soleField "PageGarden$Bed" "number") ∈ lw_all := lw_g (lw_at lw_m1 80 rfl) rfl
theorem q188 : (Jvm.Cond.superclass "PageGarden$Bed" "java/lang/Object") ∈ lw_all := lw_g (lw_at lw_m1 81 rfl) rfl
theorem q343 : (Jvm.Cond.selects "PageGarden$Bed" ({ cls := "java/lang/Object", name := "hashCode", desc := "()I" } : Jvm.MethodName) ({ cls := "PageGarden$Bed", name := "hashCode", desc := "()I" } : Jvm.MethodName)) ∈ lw_all := lw_g (lw_at lw_m1 236 rfl) rfl
theorem q344 : (Jvm.Cond.instanceMethod ({ cls := "PageGarden$Bed", name := "hashCode", desc := "()I" } : Jvm.MethodName)) ∈ lw_all := lw_g (lw_at lw_m1 237 rfl) rfl
theorem q345 : (Jvm.Cond.code ({ cls := "PageGarden$Bed", name := "hashCode", desc := "()I" } : Jvm.MethodName) prog_2_method_3_code (1 : Nat) (Option.some Jvm.ClassFile.FieldType.int)) ∈ lw_all := lw_g (lw_at lw_m1 238 rfl) rfl
theorem q853 : (Jvm.Cond.selects "PageGarden$Bed" ({ cls := "java/lang/Object", name := "getClass", desc := "()Ljava/lang/Class;" } : Jvm.MethodName) ({ cls := "java/lang/Object", name := "getClass", desc := "()Ljava/lang/Class;" } : Jvm.MethodName)) ∈ lw_all := lw_g (lw_at lw_m4 26 rfl) rfl
theorem q1131 : (Jvm.Cond.selects "PageGarden$Bed" ({ cls := "java/lang/Object", name := "equals", desc := "(Ljava/lang/Object;)Z" } : Jvm.MethodName) ({ cls := "PageGarden$Bed", name := "equals", desc := "(Ljava/lang/Object;)Z" } : Jvm.MethodName)) ∈ lw_all := lw_g (lw_at lw_m5 64 rfl) rfl
theorem q1132 : (Jvm.Cond.instanceMethod ({ cls := "PageGarden$Bed", name := "equals", desc := "(Ljava/lang/Object;)Z" } : Jvm.MethodName)) ∈ lw_all := lw_g (lw_at lw_m5 65 rfl) rfl
theorem q1133 : (Jvm.Cond.code ({ cls := "PageGarden$Bed", name := "equals", desc := "(Ljava/lang/Object;)Z" } : Jvm.MethodName) prog_2_method_2_code (3 : Nat) (Option.some Jvm.ClassFile.FieldType.boolean)) ∈ lw_all := lw_g (lw_at lw_m5 66 rfl) rfl
theorem q1134 : (Jvm.Cond.classLink "PageGarden$Bed" (8 : Nat) "PageGarden$Bed") ∈ lw_all := lw_g (lw_at lw_m5 67 rfl) rfl
theorem q3142 : (Jvm.Cond.castable "PageGarden$Bed" "java/lang/Object") ∈ lw_tbl := lw_at lw_m13 155 rfl
theorem q110 : (Jvm.Cond.initialized "PageGarden$Garden") ∈ lw_all := lw_g (lw_at lw_m1 3 rfl) rfl
theorem q185 : (Jvm.Cond.fieldLinkNest "PageGarden$Garden" (340 : Nat) "PageGarden$Bed" "number" "I" "PageGarden") ∈ lw_tbl := lw_at lw_m1 78 rfl
theorem q190 : (Jvm.Cond.instantiable "PageGarden$Garden" (9 : Nat)) ∈ lw_all := lw_g (lw_at lw_m1 83 rfl) rfl
theorem q199 : (Jvm.Cond.fieldLinkNest "PageGarden$Garden" (149 : Nat) "PageGarden$Root" "count" "I" "PageGarden") ∈ lw_tbl := lw_at lw_m1 92 rfl
theorem q201 : (Jvm.Cond.fieldLinkNest "PageGarden$Garden" (223 : Nat) "PageGarden$Root" "directory" "I" "PageGarden") ∈ lw_tbl := lw_at lw_m1 94 rfl
theorem q203 : (Jvm.Cond.fieldLinkNest "PageGarden$Garden" (145 : Nat) "PageGarden$Root" "whole" "Z" "PageGarden") ∈ lw_tbl := lw_at lw_m1 96 rfl
theorem q213 : (Jvm.Cond.instanceMethod ({ cls := "PageGarden$Garden", name := "<init>", desc := "([LPageGarden$Bed;[I[LPageGarden$Root;)V" } : Jvm.MethodName)) ∈ lw_all := lw_g (lw_at lw_m1 106 rfl) rfl
theorem q214 : (Jvm.Cond.code ({ cls := "PageGarden$Garden", name := "<init>", desc := "([LPageGarden$Bed;[I[LPageGarden$Root;)V" } : Jvm.MethodName) prog_5_method_1_code (5 : Nat) (Option.none : Option Jvm.ClassFile.FieldType)) ∈ lw_all := lw_g (lw_at lw_m1 107 rfl) rfl
theorem q215 : (Jvm.Cond.methodLink "PageGarden$Garden" (3 : Nat) ({ cls := "java/lang/Object", name := "<init>", desc := "()V" } : Jvm.MethodName)) ∈ lw_all := lw_g (lw_at lw_m1 108 rfl) rfl
theorem q216 : (Jvm.Cond.classLink "PageGarden$Garden" (9 : Nat) "java/util/LinkedHashMap") ∈ lw_all := lw_g (lw_at lw_m1 109 rfl) rfl
theorem q218 : (Jvm.Cond.methodLink "PageGarden$Garden" (11 : Nat) ({ cls := "java/util/LinkedHashMap", name := "<init>", desc := "()V" } : Jvm.MethodName)) ∈ lw_all := lw_g (lw_at lw_m1 111 rfl) rfl
theorem q275 : (Jvm.Cond.classLink "PageGarden$Garden" (18 : Nat) "PageGarden$State") ∈ lw_all := lw_g (lw_at lw_m1 168 rfl) rfl
theorem q277 : (Jvm.Cond.classLink "PageGarden$Garden" (24 : Nat) "PageGarden$Reader") ∈ lw_all := lw_g (lw_at lw_m1 170 rfl) rfl
theorem q279 : (Jvm.Cond.fieldLink "PageGarden$Garden" (42 : Nat) "PageGarden$State" "WILD" "LPageGarden$State;") ∈ lw_all := lw_g (lw_at lw_m1 172 rfl) rfl
theorem q281 : (Jvm.Cond.fieldLink "PageGarden$Garden" (12 : Nat) "PageGarden$Garden" "pages" "Ljava/util/LinkedHashMap;") ∈ lw_all := lw_g (lw_at lw_m1 174 rfl) rfl
theorem q282 : (Jvm.Cond.fieldLink "PageGarden$Garden" (20 : Nat) "PageGarden$Garden" "states" "[LPageGarden$State;") ∈ lw_all := lw_g (lw_at lw_m1 175 rfl) rfl
theorem q284 : (Jvm.Cond.fieldLink "PageGarden$Garden" (30 : Nat) "PageGarden$Garden" "beds" "[LPageGarden$Bed;") ∈ lw_all := lw_g (lw_at lw_m1 177 rfl) rfl
theorem q285 : (Jvm.Cond.fieldLink "PageGarden$Garden" (34 : Nat) "PageGarden$Garden" "freedWith" "[I") ∈ lw_all := lw_g (lw_at lw_m1 178 rfl) rfl
theorem q286 : (Jvm.Cond.fieldLink "PageGarden$Garden" (38 : Nat) "PageGarden$Garden" "roots" "[LPageGarden$Root;") ∈ lw_all := lw_g (lw_at lw_m1 179 rfl) rfl
theorem q287 : (Jvm.Cond.fieldLink "PageGarden$Garden" (26 : Nat) "PageGarden$Garden" "readers" "[LPageGarden$Reader;") ∈ lw_all := lw_g (lw_at lw_m1 180 rfl) rfl
theorem q289 : (Jvm.Cond.fieldLink "PageGarden$Garden" (80 : Nat) "PageGarden$Garden" "draft" "LPageGarden$Draft;") ∈ lw_all := lw_g (lw_at lw_m1 182 rfl) rfl
theorem q291 : (Jvm.Cond.fieldLink "PageGarden$Garden" (89 : Nat) "PageGarden$Garden" "commits" "I") ∈ lw_all := lw_g (lw_at lw_m1 184 rfl) rfl
theorem q292 : (Jvm.Cond.fieldLink "PageGarden$Garden" (93 : Nat) "PageGarden$Garden" "lost" "I") ∈ lw_all := lw_g (lw_at lw_m1 185 rfl) rfl
theorem q293 : (Jvm.Cond.laysFinal "PageGarden$Garden" "PageGarden$Garden" "pages" "Ljava/util/LinkedHashMap;") ∈ lw_all := lw_g (lw_at lw_m1 186 rfl) rfl
theorem q294 : (Jvm.Cond.soleField "PageGarden$Garden" "pages") ∈ lw_all := lw_g (lw_at lw_m1 187 rfl) rfl
theorem q295 : (Jvm.Cond.laysFinal "PageGarden$Garden" "PageGarden$Garden" "states" "[LPageGarden$State;") ∈ lw_all := lw_g (lw_at lw_m1 188 rfl) rfl
theorem q296 : (Jvm.Cond.soleField "PageGarden$Garden" "states") ∈ lw_all := lw_g (lw_at lw_m1 189 rfl) rfl
theorem q297 : (Jvm.Cond.laysFinal "PageGarden$Garden" "PageGarden$Garden" "beds" "[LPageGarden$Bed;") ∈ lw_all := lw_g (lw_at lw_m1 190 rfl) rfl
theorem q298 : (Jvm.Cond.soleField "PageGarden$Garden" "beds") ∈ lw_all := lw_g (lw_at lw_m1 191 rfl) rfl
theorem q299 : (Jvm.Cond.laysFinal "PageGarden$Garden" "PageGarden$Garden" "freedWith" "[I") ∈ lw_all := lw_g (lw_at lw_m1 192 rfl) rfl
theorem q300 : (Jvm.Cond.soleField "PageGarden$Garden" "freedWith") ∈ lw_all := lw_g (lw_at lw_m1 193 rfl) rfl
theorem q301 : (Jvm.Cond.laysFinal "PageGarden$Garden" "PageGarden$Garden" "roots" "[LPageGarden$Root;") ∈ lw_all := lw_g (lw_at lw_m1 194 rfl) rfl
theorem q302 : (Jvm.Cond.soleField "PageGarden$Garden" "roots") ∈ lw_all := lw_g (lw_at lw_m1 195 rfl) rfl
theorem q303 : (Jvm.Cond.laysFinal "PageGarden$Garden" "PageGarden$Garden" "readers" "[LPageGarden$Reader;") ∈ lw_all := lw_g (lw_at lw_m1 196 rfl) rfl
theorem q304 : (Jvm.Cond.soleField "PageGarden$Garden" "readers") ∈ lw_all := lw_g (lw_at lw_m1 197 rfl) rfl
theorem q305 : (Jvm.Cond.lays "PageGarden$Garden" "PageGarden$Garden" "draft" "LPageGarden$Draft;") ∈ lw_all := lw_g (lw_at lw_m1 198 rfl) rfl
theorem q306 : (Jvm.Cond.soleField "PageGarden$Garden" "draft") ∈ lw_all := lw_g (lw_at lw_m1 199 rfl) rfl
theorem q307 : (Jvm.Cond.lays "PageGarden$Garden" "PageGarden$Garden" "commits" "I") ∈ lw_all := lw_g (lw_at lw_m1 200 rfl) rfl
theorem q308 : (Jvm.Cond.soleField "PageGarden$Garden" "commits") ∈ lw_all := lw_g (lw_at lw_m1 201 rfl) rfl
theorem q309 : (Jvm.Cond.lays "PageGarden$Garden" "PageGarden$Garden" "lost" "I") ∈ lw_all := lw_g (lw_at lw_m1 202 rfl) rfl
theorem q310 : (Jvm.Cond.soleField "PageGarden$Garden" "lost") ∈ lw_all := lw_g (lw_at lw_m1 203 rfl) rfl
theorem q311 : (Jvm.Cond.superclass "PageGarden$Garden" "java/lang/Object") ∈ lw_all := lw_g (lw_at lw_m1 204 rfl) rfl
theorem q321 : (Jvm.Cond.fieldLinkNest "PageGarden$Garden" (113 : Nat) "PageGarden$Directory" "leaves" "[I" "PageGarden") ∈ lw_tbl := lw_at lw_m1 214 rfl
theorem q326 : (Jvm.Cond.privateMethod ({ cls := "PageGarden$Garden", name := "lay", desc := "(ILPageGarden$Page;)V" } : Jvm.MethodName)) ∈ lw_tbl := lw_at lw_m1 219 rfl
theorem q327 : (Jvm.Cond.instanceMethod ({ cls := "PageGarden$Garden", name := "lay", desc := "(ILPageGarden$Page;)V" } : Jvm.MethodName)) ∈ lw_all := lw_g (lw_at lw_m1 220 rfl) rfl
theorem q328 : (Jvm.Cond.code ({ cls := "PageGarden$Garden", name := "lay", desc := "(ILPageGarden$Page;)V" } : Jvm.MethodName) prog_5_method_6_code (4 : Nat) (Option.none : Option Jvm.ClassFile.FieldType)) ∈ lw_all := lw_g (lw_at lw_m1 221 rfl) rfl
theorem q329 : (Jvm.Cond.methodLink "PageGarden$Garden" (68 : Nat) ({ cls := "java/util/LinkedHashMap", name := "put", desc := "(Ljava/lang/Object;Ljava/lang/Object;)Ljava/lang/Object;" } : Jvm.MethodName)) ∈ lw_all := lw_g (lw_at lw_m1 222 rfl) rfl
theorem q348 : (Jvm.Cond.selects "PageGarden$Garden" ({ cls := "java/lang/Object", name := "hashCode", desc := "()I" } : Jvm.MethodName) ({ cls := "java/lang/Object", name := "hashCode", desc := "()I" } : Jvm.MethodName)) ∈ lw_all := lw_g (lw_at lw_m2 1 rfl) rfl
theorem q856 : (Jvm.Cond.selects "PageGarden$Garden" ({ cls := "java/lang/Object", name := "getClass", desc := "()Ljava/lang/Class;" } : Jvm.MethodName) ({ cls := "java/lang/Object", name := "getClass", desc := "()Ljava/lang/Class;" } : Jvm.MethodName)) ∈ lw_all := lw_g (lw_at lw_m4 29 rfl) rfl
theorem q1137 : (Jvm.Cond.selects "PageGarden$Garden" ({ cls := "java/lang/Object", name := "equals", desc := "(Ljava/lang/Object;)Z" } : Jvm.MethodName) ({ cls := "java/lang/Object", name := "equals", desc := "(Ljava/lang/Object;)Z" } : Jvm.MethodName)) ∈ lw_all := lw_g (lw_at lw_m5 70 rfl) rfl
theorem q1244 : (Jvm.Cond.classLink "PageGarden$Garden" (72 : Nat) "PageGarden$Page") ∈ lw_all := lw_g (lw_at lw_m5 177 rfl) rfl
theorem q1291 : (Jvm.Cond.instanceMethod ({ cls := "PageGarden$Garden", name := "nextBed", desc := "()I" } : Jvm.MethodName)) ∈ lw_all := lw_g (lw_at lw_m5 224 rfl) rfl
theorem q1292 : (Jvm.Cond.selects "PageGarden$Garden" ({ cls := "PageGarden$Garden", name := "nextBed", desc := "()I" } : Jvm.MethodName) ({ cls := "PageGarden$Garden", name := "nextBed", desc := "()I" } : Jvm.MethodName)) ∈ lw_all := lw_g (lw_at lw_m5 225 rfl) rfl
theorem q1293 : (Jvm.Cond.code ({ cls := "PageGarden$Garden", name := "nextBed", desc := "()I" } : Jvm.MethodName) prog_5_method_17_code (6 : Nat) (Option.some Jvm.ClassFile.FieldType.int)) ∈ lw_all := lw_g (lw_at lw_m5 226 rfl) rfl
theorem q1294 : (Jvm.Cond.methodLink "PageGarden$Garden" (171 : Nat) ({ cls := "PageGarden$Garden", name := "needed", desc := "()I" } : Jvm.MethodName)) ∈ lw_all := lw_g (lw_at lw_m5 227 rfl) rfl
theorem q1295 : (Jvm.Cond.instanceMethod ({ cls := "PageGarden$Garden", name := "needed", desc := "()I" } : Jvm.MethodName)) ∈ lw_all := lw_g (lw_at lw_m5 228 rfl) rfl
theorem q1296 : (Jvm.Cond.selects "PageGarden$Garden" ({ cls := "PageGarden$Garden", name := "needed", desc := "()I" } : Jvm.MethodName) ({ cls := "PageGarden$Garden", name := "needed", desc := "()I" } : Jvm.MethodName)) ∈ lw_all := lw_g (lw_at lw_m5 229 rfl) rfl
theorem q1297 : (Jvm.Cond.code ({ cls := "PageGarden$Garden", name := "needed", desc := "()I" } : Jvm.MethodName) prog_5_method_13_code (1 : Nat) (Option.some Jvm.ClassFile.FieldType.int)) ∈ lw_all := lw_g (lw_at lw_m5 230 rfl) rfl
theorem q1298 : (Jvm.Cond.methodLink "PageGarden$Garden" (165 : Nat) ({ cls := "PageGarden$Garden", name := "neededWithout", desc := "(I)I" } : Jvm.MethodName)) ∈ lw_all := lw_g (lw_at lw_m5 231 rfl) rfl
theorem q1299 : (Jvm.Cond.instanceMethod ({ cls := "PageGarden$Garden", name := "neededWithout", desc := "(I)I" } : Jvm.MethodName)) ∈ lw_all := lw_g (lw_at lw_m5 232 rfl) rfl
theorem q1300 : (Jvm.Cond.selects "PageGarden$Garden" ({ cls := "PageGarden$Garden", name := "neededWithout", desc := "(I)I" } : Jvm.MethodName) ({ cls := "PageGarden$Garden", name := "neededWithout", desc := "(I)I" } : Jvm.MethodName)) ∈ lw_all := lw_g (lw_at lw_m5 233 rfl) rfl
theorem q1301 : (Jvm.Cond.code ({ cls := "PageGarden$Garden", name := "neededWithout", desc := "(I)I" } : Jvm.MethodName) prog_5_method_12_code (7 : Nat) (Option.some Jvm.ClassFile.FieldType.int)) ∈ lw_all := lw_g (lw_at lw_m5 234 rfl) rfl
theorem q1302 : (Jvm.Cond.methodLink "PageGarden$Garden" (155 : Nat) ({ cls := "PageGarden$Garden", name := "now", desc := "()LPageGarden$Root;" } : Jvm.MethodName)) ∈ lw_all := lw_g (lw_at lw_m5 235 rfl) rfl
theorem q1303 : (Jvm.Cond.instanceMethod ({ cls := "PageGarden$Garden", name := "now", desc := "()LPageGarden$Root;" } : Jvm.MethodName)) ∈ lw_all := lw_g (lw_at lw_m5 236 rfl) rfl
theorem q1304 : (Jvm.Cond.selects "PageGarden$Garden" ({ cls := "PageGarden$Garden", name := "now", desc := "()LPageGarden$Root;" } : Jvm.MethodName) ({ cls := "PageGarden$Garden", name := "now", desc := "()LPageGarden$Root;" } : Jvm.MethodName)) ∈ lw_all := lw_g (lw_at lw_m5 237 rfl) rfl
theorem q1305 : (Jvm.Cond.code ({ cls := "PageGarden$Garden", name := "now", desc := "()LPageGarden$Root;" } : Jvm.MethodName) prog_5_method_11_code (1 : Nat) (Option.some (Jvm.ClassFile.FieldType.object "PageGarden$Root"))) ∈ lw_all := lw_g (lw_at lw_m5 238 rfl) rfl
theorem q1306 : (Jvm.Cond.methodLink "PageGarden$Garden" (152 : Nat) ({ cls := "PageGarden$Garden", name := "current", desc := "()I" } : Jvm.MethodName)) ∈ lw_all := lw_g (lw_at lw_m5 239 rfl) rfl
theorem q1307 : (Jvm.Cond.instanceMethod ({ cls := "PageGarden$Garden", name := "current", desc := "()I" } : Jvm.MethodName)) ∈ lw_all := lw_g (lw_at lw_m6 0 rfl) rfl
theorem q1308 : (Jvm.Cond.selects "PageGarden$Garden" ({ cls := "PageGarden$Garden", name := "current", desc := "()I" } : Jvm.MethodName) ({ cls := "PageGarden$Garden", name := "current", desc := "()I" } : Jvm.MethodName)) ∈ lw_all := lw_g (lw_at lw_m6 1 rfl) rfl
theorem q1309 : (Jvm.Cond.code ({ cls := "PageGarden$Garden", name := "current", desc := "()I" } : Jvm.MethodName) prog_5_method_10_code (2 : Nat) (Option.some Jvm.ClassFile.FieldType.int)) ∈ lw_all := lw_g (lw_at lw_m6 2 rfl) rfl
theorem q1310 : (Jvm.Cond.methodLink "PageGarden$Garden" (158 : Nat) ({ cls := "java/lang/Math", name := "min", desc := "(II)I" } : Jvm.MethodName)) ∈ lw_all := lw_g (lw_at lw_m6 3 rfl) rfl
theorem q1311 : (Jvm.Cond.methodLink "PageGarden$Garden" (174 : Nat) ({ cls := "PageGarden$Garden", name := "canBeDug", desc := "(II)Z" } : Jvm.MethodName)) ∈ lw_all := lw_g (lw_at lw_m6 4 rfl) rfl
theorem q1312 : (Jvm.Cond.instanceMethod ({ cls := "PageGarden$Garden", name := "canBeDug", desc := "(II)Z" } : Jvm.MethodName)) ∈ lw_all := lw_g (lw_at lw_m6 5 rfl) rfl
theorem q1313 : (Jvm.Cond.selects "PageGarden$Garden" ({ cls := "PageGarden$Garden", name := "canBeDug", desc := "(II)Z" } : Jvm.MethodName) ({ cls := "PageGarden$Garden", name := "canBeDug", desc := "(II)Z" } : Jvm.MethodName)) ∈ lw_all := lw_g (lw_at lw_m6 6 rfl) rfl
theorem q1314 : (Jvm.Cond.code ({ cls := "PageGarden$Garden", name := "canBeDug", desc := "(II)Z" } : Jvm.MethodName) prog_5_method_14_code (3 : Nat) (Option.some Jvm.ClassFile.FieldType.boolean)) ∈ lw_all := lw_g (lw_at lw_m6 7 rfl) rfl
theorem q1315 : (Jvm.Cond.fieldLink "PageGarden$Garden" (168 : Nat) "PageGarden$State" "FREED" "LPageGarden$State;") ∈ lw_all := lw_g (lw_at lw_m6 8 rfl) rfl
theorem q1410 : (Jvm.Cond.instanceMethod ({ cls := "PageGarden$Garden", name := "copy", desc := "()LPageGarden$Garden;" } : Jvm.MethodName)) ∈ lw_all := lw_g (lw_at lw_m6 103 rfl) rfl
theorem q1411 : (Jvm.Cond.selects "PageGarden$Garden" ({ cls := "PageGarden$Garden", name := "copy", desc := "()LPageGarden$Garden;" } : Jvm.MethodName) ({ cls := "PageGarden$Garden", name := "copy", desc := "()LPageGarden$Garden;" } : Jvm.MethodName)) ∈ lw_all := lw_g (lw_at lw_m6 104 rfl) rfl
theorem q1412 : (Jvm.Cond.code ({ cls := "PageGarden$Garden", name := "copy", desc := "()LPageGarden$Garden;" } : Jvm.MethodName) prog_5_method_2_code (4 : Nat) (Option.some (Jvm.ClassFile.FieldType.object "PageGarden$Garden"))) ∈ lw_all := lw_g (lw_at lw_m6 105 rfl) rfl
theorem q1413 : (Jvm.Cond.classLink "PageGarden$Garden" (13 : Nat) "PageGarden$Garden") ∈ lw_all := lw_g (lw_at lw_m6 106 rfl) rfl
theorem q1414 : (Jvm.Cond.methodLink "PageGarden$Garden" (46 : Nat) ({ cls := "[I", name := "clone", desc := "()Ljava/lang/Object;" } : Jvm.MethodName)) ∈ lw_all := lw_g (lw_at lw_m6 107 rfl) rfl
theorem q1418 : (Jvm.Cond.classLink "PageGarden$Garden" (47 : Nat) "[I") ∈ lw_all := lw_g (lw_at lw_m6 111 rfl) rfl
theorem q1419 : (Jvm.Cond.classLink "PageGarden$Garden" (51 : Nat) "PageGarden$Root") ∈ lw_all := lw_g (lw_at lw_m6 112 rfl) rfl
theorem q1420 : (Jvm.Cond.methodLink "PageGarden$Garden" (53 : Nat) ({ cls := "PageGarden$Root", name := "copy", desc := "()LPageGarden$Root;" } : Jvm.MethodName)) ∈ lw_all := lw_g (lw_at lw_m6 113 rfl) rfl
theorem q1426 : (Jvm.Cond.methodLink "PageGarden$Garden" (57 : Nat) ({ cls := "PageGarden$Garden", name := "<init>", desc := "([LPageGarden$Bed;[I[LPageGarden$Root;)V" } : Jvm.MethodName)) ∈ lw_all := lw_g (lw_at lw_m6 119 rfl) rfl
theorem q1427 : (Jvm.Cond.methodLink "PageGarden$Garden" (60 : Nat) ({ cls := "PageGarden$State", name := "holds", desc := "()Z" } : Jvm.MethodName)) ∈ lw_all := lw_g (lw_at lw_m6 120 rfl) rfl
theorem q1439 : (Jvm.Cond.methodLink "PageGarden$Garden" (64 : Nat) ({ cls := "PageGarden$Garden", name := "page", desc := "(I)LPageGarden$Page;" } : Jvm.MethodName)) ∈ lw_all := lw_g (lw_at lw_m6 132 rfl) rfl
theorem q1440 : (Jvm.Cond.instanceMethod ({ cls := "PageGarden$Garden", name := "page", desc := "(I)LPageGarden$Page;" } : Jvm.MethodName)) ∈ lw_all := lw_g (lw_at lw_m6 133 rfl) rfl
theorem q1441 : (Jvm.Cond.selects "PageGarden$Garden" ({ cls := "PageGarden$Garden", name := "page", desc := "(I)LPageGarden$Page;" } : Jvm.MethodName) ({ cls := "PageGarden$Garden", name := "page", desc := "(I)LPageGarden$Page;" } : Jvm.MethodName)) ∈ lw_all := lw_g (lw_at lw_m6 134 rfl) rfl
theorem q1442 : (Jvm.Cond.code ({ cls := "PageGarden$Garden", name := "page", desc := "(I)LPageGarden$Page;" } : Jvm.MethodName) prog_5_method_3_code (2 : Nat) (Option.some (Jvm.ClassFile.FieldType.object "PageGarden$Page"))) ∈ lw_all := lw_g (lw_at lw_m6 135 rfl) rfl
theorem q1443 : (Jvm.Cond.methodLink "PageGarden$Garden" (96 : Nat) ({ cls := "java/util/LinkedHashMap", name := "get", desc := "(Ljava/lang/Object;)Ljava/lang/Object;" } : Jvm.MethodName)) ∈ lw_all := lw_g (lw_at lw_m6 136 rfl) rfl
theorem q1458 : (Jvm.Cond.methodLink "PageGarden$Garden" (74 : Nat) ({ cls := "java/lang/System", name := "arraycopy", desc := "(Ljava/lang/Object;ILjava/lang/Object;II)V" } : Jvm.MethodName)) ∈ lw_all := lw_g (lw_at lw_m6 151 rfl) rfl
theorem q1459 : (Jvm.Cond.methodLink "PageGarden$Garden" (84 : Nat) ({ cls := "PageGarden$Draft", name := "copy", desc := "()LPageGarden$Draft;" } : Jvm.MethodName)) ∈ lw_all := lw_g (lw_at lw_m6 152 rfl) rfl
theorem q1787 : (Jvm.Cond.fieldLinkNest "PageGarden$Garden" (194 : Nat) "PageGarden$Draft" "fresh" "Ljava/util/LinkedHashSet;" "PageGarden") ∈ lw_tbl := lw_at lw_m8 0 rfl
theorem q1789 : (Jvm.Cond.fieldLinkNest "PageGarden$Garden" (216 : Nat) "PageGarden$Draft" "left" "Ljava/util/LinkedHashSet;" "PageGarden") ∈ lw_tbl := lw_at lw_m8 2 rfl
theorem q1791 : (Jvm.Cond.fieldLinkNest "PageGarden$Garden" (230 : Nat) "PageGarden$Draft" "directory" "I" "PageGarden") ∈ lw_tbl := lw_at lw_m8 4 rfl
theorem q1989 : (Jvm.Cond.instanceMethod ({ cls := "PageGarden$Garden", name := "put", desc := "(II)I" } : Jvm.MethodName)) ∈ lw_all := lw_g (lw_at lw_m8 202 rfl) rfl
theorem q1990 : (Jvm.Cond.selects "PageGarden$Garden" ({ cls := "PageGarden$Garden", name := "put", desc := "(II)I" } : Jvm.MethodName) ({ cls := "PageGarden$Garden", name := "put", desc := "(II)I" } : Jvm.MethodName)) ∈ lw_all := lw_g (lw_at lw_m8 203 rfl) rfl
theorem q1991 : (Jvm.Cond.code ({ cls := "PageGarden$Garden", name := "put", desc := "(II)I" } : Jvm.MethodName) prog_5_method_31_code (8 : Nat) (Option.some Jvm.ClassFile.FieldType.int)) ∈ lw_all := lw_g (lw_at lw_m8 204 rfl) rfl
theorem q1992 : (Jvm.Cond.methodLink "PageGarden$Garden" (274 : Nat) ({ cls := "PageGarden$Garden", name := "requireKey", desc := "(I)V" } : Jvm.MethodName)) ∈ lw_all := lw_g (lw_at lw_m8 205 rfl) rfl
theorem q1993 : (Jvm.Cond.static ({ cls := "PageGarden$Garden", name := "requireKey", desc := "(I)V" } : Jvm.MethodName)) ∈ lw_all := lw_g (lw_at lw_m8 206 rfl) rfl
theorem q1994 : (Jvm.Cond.code ({ cls := "PageGarden$Garden", name := "requireKey", desc := "(I)V" } : Jvm.MethodName) prog_5_method_30_code (1 : Nat) (Option.none : Option Jvm.ClassFile.FieldType)) ∈ lw_all := lw_g (lw_at lw_m8 207 rfl) rfl
theorem q1995 : (Jvm.Cond.methodLink "PageGarden$Garden" (264 : Nat) ({ cls := "PageGarden$Keys", name := "isKey", desc := "(I)Z" } : Jvm.MethodName)) ∈ lw_all := lw_g (lw_at lw_m8 208 rfl) rfl
theorem q2000 : (Jvm.Cond.stringRef "PageGarden$Garden" (269 : Nat) "key") ∈ lw_tbl := lw_at lw_m8 213 rfl
theorem q2001 : (Jvm.Cond.methodLinkNest "PageGarden$Garden" (271 : Nat) ({ cls := "PageGarden", name := "requireArgument", desc := "(ZLjava/lang/String;)V" } : Jvm.MethodName) "PageGarden") ∈ lw_tbl := lw_at lw_m8 214 rfl
theorem q2006 : (Jvm.Cond.constantLong "PageGarden$Garden" (277 : Nat) (-999 : Int64)) ∈ lw_all := lw_g (lw_at lw_m8 219 rfl) rfl
theorem q2007 : (Jvm.Cond.constantLong "PageGarden$Garden" (279 : Nat) (999 : Int64)) ∈ lw_all := lw_g (lw_at lw_m8 220 rfl) rfl
theorem q2008 : (Jvm.Cond.methodLinkNest "PageGarden$Garden" (281 : Nat) ({ cls := "PageGarden", name := "inRange", desc := "(JJJ)Z" } : Jvm.MethodName) "PageGarden") ∈ lw_tbl := lw_at lw_m8 221 rfl
theorem q2009 : (Jvm.Cond.stringRef "PageGarden$Garden" (285 : Nat) "value") ∈ lw_tbl := lw_at lw_m8 222 rfl
theorem q2010 : (Jvm.Cond.methodLink "PageGarden$Garden" (227 : Nat) ({ cls := "PageGarden$Garden", name := "requireDraft", desc := "()V" } : Jvm.MethodName)) ∈ lw_all := lw_g (lw_at lw_m8 223 rfl) rfl
theorem q2011 : (Jvm.Cond.privateMethod ({ cls := "PageGarden$Garden", name := "requireDraft", desc := "()V" } : Jvm.MethodName)) ∈ lw_tbl := lw_at lw_m8 224 rfl
theorem q2012 : (Jvm.Cond.instanceMethod ({ cls := "PageGarden$Garden", name := "requireDraft", desc := "()V" } : Jvm.MethodName)) ∈ lw_all := lw_g (lw_at lw_m8 225 rfl) rfl
theorem q2013 : (Jvm.Cond.code ({ cls := "PageGarden$Garden", name := "requireDraft", desc := "()V" } : Jvm.MethodName) prog_5_method_21_code (1 : Nat) (Option.none : Option Jvm.ClassFile.FieldType)) ∈ lw_all := lw_g (lw_at lw_m8 226 rfl) rfl
theorem q2014 : (Jvm.Cond.stringRef "PageGarden$Garden" (219 : Nat) "no draft") ∈ lw_tbl := lw_at lw_m8 227 rfl
theorem q2015 : (Jvm.Cond.methodLinkNest "PageGarden$Garden" (183 : Nat) ({ cls := "PageGarden", name := "requireState", desc := "(ZLjava/lang/String;)V" } : Jvm.MethodName) "PageGarden") ∈ lw_tbl := lw_at lw_m8 228 rfl
theorem q2033 : (Jvm.Cond.methodLink "PageGarden$Garden" (287 : Nat) ({ cls := "PageGarden$Garden", name := "reason", desc := "(I)I" } : Jvm.MethodName)) ∈ lw_all := lw_g (lw_at lw_m9 6 rfl) rfl
theorem q2034 : (Jvm.Cond.instanceMethod ({ cls := "PageGarden$Garden", name := "reason", desc := "(I)I" } : Jvm.MethodName)) ∈ lw_all := lw_g (lw_at lw_m9 7 rfl) rfl
theorem q2035 : (Jvm.Cond.selects "PageGarden$Garden" ({ cls := "PageGarden$Garden", name := "reason", desc := "(I)I" } : Jvm.MethodName) ({ cls := "PageGarden$Garden", name := "reason", desc := "(I)I" } : Jvm.MethodName)) ∈ lw_all := lw_g (lw_at lw_m9 8 rfl) rfl
theorem q2036 : (Jvm.Cond.code ({ cls := "PageGarden$Garden", name := "reason", desc := "(I)I" } : Jvm.MethodName) prog_5_method_29_code (3 : Nat) (Option.some Jvm.ClassFile.FieldType.int)) ∈ lw_all := lw_g (lw_at lw_m9 9 rfl) rfl
theorem q2037 : (Jvm.Cond.methodLink "PageGarden$Garden" (254 : Nat) ({ cls := "PageGarden$Garden", name := "bedsFor", desc := "(I)I" } : Jvm.MethodName)) ∈ lw_all := lw_g (lw_at lw_m9 10 rfl) rfl
theorem q2038 : (Jvm.Cond.instanceMethod ({ cls := "PageGarden$Garden", name := "bedsFor", desc := "(I)I" } : Jvm.MethodName)) ∈ lw_all := lw_g (lw_at lw_m9 11 rfl) rfl
theorem q2039 : (Jvm.Cond.selects "PageGarden$Garden" ({ cls := "PageGarden$Garden", name := "bedsFor", desc := "(I)I" } : Jvm.MethodName) ({ cls := "PageGarden$Garden", name := "bedsFor", desc := "(I)I" } : Jvm.MethodName)) ∈ lw_all := lw_g (lw_at lw_m9 12 rfl) rfl
theorem q2040 : (Jvm.Cond.code ({ cls := "PageGarden$Garden", name := "bedsFor", desc := "(I)I" } : Jvm.MethodName) prog_5_method_28_code (6 : Nat) (Option.some Jvm.ClassFile.FieldType.int)) ∈ lw_all := lw_g (lw_at lw_m9 13 rfl) rfl
theorem q2041 : (Jvm.Cond.methodLink "PageGarden$Garden" (123 : Nat) ({ cls := "PageGarden$Garden", name := "directory", desc := "(I)LPageGarden$Directory;" } : Jvm.MethodName)) ∈ lw_all := lw_g (lw_at lw_m9 14 rfl) rfl
theorem q2042 : (Jvm.Cond.privateMethod ({ cls := "PageGarden$Garden", name := "directory", desc := "(I)LPageGarden$Directory;" } : Jvm.MethodName)) ∈ lw_tbl := lw_at lw_m9 15 rfl
theorem q2043 : (Jvm.Cond.instanceMethod ({ cls := "PageGarden$Garden", name := "directory", desc := "(I)LPageGarden$Directory;" } : Jvm.MethodName)) ∈ lw_all := lw_g (lw_at lw_m9 16 rfl) rfl
theorem q2044 : (Jvm.Cond.code ({ cls := "PageGarden$Garden", name := "directory", desc := "(I)LPageGarden$Directory;" } : Jvm.MethodName) prog_5_method_5_code (4 : Nat) (Option.some (Jvm.ClassFile.FieldType.object "PageGarden$Directory"))) ∈ lw_all := lw_g (lw_at lw_m9 17 rfl) rfl
theorem q2045 : (Jvm.Cond.classLink "PageGarden$Garden" (109 : Nat) "PageGarden$Directory") ∈ lw_all := lw_g (lw_at lw_m9 18 rfl) rfl
theorem q2046 : (Jvm.Cond.classLink "PageGarden$Garden" (102 : Nat) "java/lang/IllegalStateException") ∈ lw_all := lw_g (lw_at lw_m9 19 rfl) rfl
theorem q2047 : (Jvm.Cond.stringRef "PageGarden$Garden" (111 : Nat) "no directory") ∈ lw_tbl := lw_at lw_m9 20 rfl
theorem q2048 : (Jvm.Cond.methodLink "PageGarden$Garden" (106 : Nat) ({ cls := "java/lang/IllegalStateException", name := "<init>", desc := "(Ljava/lang/String;)V" } : Jvm.MethodName)) ∈ lw_all := lw_g (lw_at lw_m9 21 rfl) rfl
theorem q2049 : (Jvm.Cond.methodLink "PageGarden$Garden" (250 : Nat) ({ cls := "PageGarden$Garden", name := "splits", desc := "(LPageGarden$Directory;I)Z" } : Jvm.MethodName)) ∈ lw_all := lw_g (lw_at lw_m9 22 rfl) rfl
theorem q2050 : (Jvm.Cond.privateMethod ({ cls := "PageGarden$Garden", name := "splits", desc := "(LPageGarden$Directory;I)Z" } : Jvm.MethodName)) ∈ lw_tbl := lw_at lw_m9 23 rfl
theorem q2051 : (Jvm.Cond.instanceMethod ({ cls := "PageGarden$Garden", name := "splits", desc := "(LPageGarden$Directory;I)Z" } : Jvm.MethodName)) ∈ lw_all := lw_g (lw_at lw_m9 24 rfl) rfl
theorem q2052 : (Jvm.Cond.code ({ cls := "PageGarden$Garden", name := "splits", desc := "(LPageGarden$Directory;I)Z" } : Jvm.MethodName) prog_5_method_27_code (4 : Nat) (Option.some Jvm.ClassFile.FieldType.boolean)) ∈ lw_all := lw_g (lw_at lw_m9 25 rfl) rfl
theorem q2053 : (Jvm.Cond.methodLink "PageGarden$Garden" (127 : Nat) ({ cls := "PageGarden$Garden", name := "placeOf", desc := "(LPageGarden$Directory;I)I" } : Jvm.MethodName)) ∈ lw_all := lw_g (lw_at lw_m9 26 rfl) rfl
theorem q2054 : (Jvm.Cond.privateMethod ({ cls := "PageGarden$Garden", name := "placeOf", desc := "(LPageGarden$Directory;I)I" } : Jvm.MethodName)) ∈ lw_tbl := lw_at lw_m9 27 rfl
theorem q2055 : (Jvm.Cond.instanceMethod ({ cls := "PageGarden$Garden", name := "placeOf", desc := "(LPageGarden$Directory;I)I" } : Jvm.MethodName)) ∈ lw_all := lw_g (lw_at lw_m9 28 rfl) rfl
theorem q2056 : (Jvm.Cond.code ({ cls := "PageGarden$Garden", name := "placeOf", desc := "(LPageGarden$Directory;I)I" } : Jvm.MethodName) prog_5_method_7_code (5 : Nat) (Option.some Jvm.ClassFile.FieldType.int)) ∈ lw_all := lw_g (lw_at lw_m9 29 rfl) rfl
theorem q2057 : (Jvm.Cond.methodLink "PageGarden$Garden" (116 : Nat) ({ cls := "PageGarden$Garden", name := "leaf", desc := "(I)LPageGarden$Leaf;" } : Jvm.MethodName)) ∈ lw_all := lw_g (lw_at lw_m9 30 rfl) rfl
theorem q2058 : (Jvm.Cond.privateMethod ({ cls := "PageGarden$Garden", name := "leaf", desc := "(I)LPageGarden$Leaf;" } : Jvm.MethodName)) ∈ lw_tbl := lw_at lw_m9 31 rfl
theorem q2059 : (Jvm.Cond.instanceMethod ({ cls := "PageGarden$Garden", name := "leaf", desc := "(I)LPageGarden$Leaf;" } : Jvm.MethodName)) ∈ lw_all := lw_g (lw_at lw_m9 32 rfl) rfl
theorem q2060 : (Jvm.Cond.code ({ cls := "PageGarden$Garden", name := "leaf", desc := "(I)LPageGarden$Leaf;" } : Jvm.MethodName) prog_5_method_4_code (4 : Nat) (Option.some (Jvm.ClassFile.FieldType.object "PageGarden$Leaf"))) ∈ lw_all := lw_g (lw_at lw_m9 33 rfl) rfl
theorem q2061 : (Jvm.Cond.classLink "PageGarden$Garden" (100 : Nat) "PageGarden$Leaf") ∈ lw_all := lw_g (lw_at lw_m9 34 rfl) rfl
theorem q2062 : (Jvm.Cond.stringRef "PageGarden$Garden" (104 : Nat) "no leaf") ∈ lw_tbl := lw_at lw_m9 35 rfl
theorem q2063 : (Jvm.Cond.methodLink "PageGarden$Garden" (131 : Nat) ({ cls := "PageGarden$Leaf", name := "has", desc := "(I)Z" } : Jvm.MethodName)) ∈ lw_all := lw_g (lw_at lw_m9 36 rfl) rfl
theorem q2071 : (Jvm.Cond.methodLink "PageGarden$Garden" (249 : Nat) ({ cls := "PageGarden$Leaf", name := "size", desc := "()I" } : Jvm.MethodName)) ∈ lw_all := lw_g (lw_at lw_m9 44 rfl) rfl
theorem q2075 : (Jvm.Cond.methodLink "PageGarden$Garden" (207 : Nat) ({ cls := "PageGarden$Draft", name := "isNew", desc := "(I)Z" } : Jvm.MethodName)) ∈ lw_all := lw_g (lw_at lw_m9 48 rfl) rfl
theorem q2092 : (Jvm.Cond.methodLink "PageGarden$Garden" (257 : Nat) ({ cls := "PageGarden$Garden", name := "diggable", desc := "()I" } : Jvm.MethodName)) ∈ lw_all := lw_g (lw_at lw_m9 65 rfl) rfl
theorem q2093 : (Jvm.Cond.instanceMethod ({ cls := "PageGarden$Garden", name := "diggable", desc := "()I" } : Jvm.MethodName)) ∈ lw_all := lw_g (lw_at lw_m9 66 rfl) rfl
theorem q2094 : (Jvm.Cond.selects "PageGarden$Garden" ({ cls := "PageGarden$Garden", name := "diggable", desc := "()I" } : Jvm.MethodName) ({ cls := "PageGarden$Garden", name := "diggable", desc := "()I" } : Jvm.MethodName)) ∈ lw_all := lw_g (lw_at lw_m9 67 rfl) rfl
theorem q2095 : (Jvm.Cond.code ({ cls := "PageGarden$Garden", name := "diggable", desc := "()I" } : Jvm.MethodName) prog_5_method_15_code (4 : Nat) (Option.some Jvm.ClassFile.FieldType.int)) ∈ lw_all := lw_g (lw_at lw_m9 68 rfl) rfl
theorem q2096 : (Jvm.Cond.methodLink "PageGarden$Garden" (260 : Nat) ({ cls := "PageGarden$Garden", name := "inState", desc := "(LPageGarden$State;)I" } : Jvm.MethodName)) ∈ lw_all := lw_g (lw_at lw_m9 69 rfl) rfl
theorem q2097 : (Jvm.Cond.instanceMethod ({ cls := "PageGarden$Garden", name := "inState", desc := "(LPageGarden$State;)I" } : Jvm.MethodName)) ∈ lw_all := lw_g (lw_at lw_m9 70 rfl) rfl
theorem q2098 : (Jvm.Cond.selects "PageGarden$Garden" ({ cls := "PageGarden$Garden", name := "inState", desc := "(LPageGarden$State;)I" } : Jvm.MethodName) ({ cls := "PageGarden$Garden", name := "inState", desc := "(LPageGarden$State;)I" } : Jvm.MethodName)) ∈ lw_all := lw_g (lw_at lw_m9 71 rfl) rfl
theorem q2099 : (Jvm.Cond.code ({ cls := "PageGarden$Garden", name := "inState", desc := "(LPageGarden$State;)I" } : Jvm.MethodName) prog_5_method_16_code (7 : Nat) (Option.some Jvm.ClassFile.FieldType.int)) ∈ lw_all := lw_g (lw_at lw_m9 72 rfl) rfl
theorem q2100 : (Jvm.Cond.stringRef "PageGarden$Garden" (290 : Nat) "it cannot be done") ∈ lw_tbl := lw_at lw_m9 73 rfl
theorem q2101 : (Jvm.Cond.methodLink "PageGarden$Garden" (292 : Nat) ({ cls := "PageGarden$Garden", name := "drafted", desc := "(I)I" } : Jvm.MethodName)) ∈ lw_all := lw_g (lw_at lw_m9 74 rfl) rfl
theorem q2102 : (Jvm.Cond.instanceMethod ({ cls := "PageGarden$Garden", name := "drafted", desc := "(I)I" } : Jvm.MethodName)) ∈ lw_all := lw_g (lw_at lw_m9 75 rfl) rfl
theorem q2103 : (Jvm.Cond.selects "PageGarden$Garden" ({ cls := "PageGarden$Garden", name := "drafted", desc := "(I)I" } : Jvm.MethodName) ({ cls := "PageGarden$Garden", name := "drafted", desc := "(I)I" } : Jvm.MethodName)) ∈ lw_all := lw_g (lw_at lw_m9 76 rfl) rfl
theorem q2104 : (Jvm.Cond.code ({ cls := "PageGarden$Garden", name := "drafted", desc := "(I)I" } : Jvm.MethodName) prog_5_method_23_code (2 : Nat) (Option.some Jvm.ClassFile.FieldType.int)) ∈ lw_all := lw_g (lw_at lw_m9 77 rfl) rfl
theorem q2105 : (Jvm.Cond.methodLink "PageGarden$Garden" (231 : Nat) ({ cls := "PageGarden$Garden", name := "valueBy", desc := "(II)I" } : Jvm.MethodName)) ∈ lw_all := lw_g (lw_at lw_m9 78 rfl) rfl
theorem q2106 : (Jvm.Cond.instanceMethod ({ cls := "PageGarden$Garden", name := "valueBy", desc := "(II)I" } : Jvm.MethodName)) ∈ lw_all := lw_g (lw_at lw_m9 79 rfl) rfl
theorem q2107 : (Jvm.Cond.selects "PageGarden$Garden" ({ cls := "PageGarden$Garden", name := "valueBy", desc := "(II)I" } : Jvm.MethodName) ({ cls := "PageGarden$Garden", name := "valueBy", desc := "(II)I" } : Jvm.MethodName)) ∈ lw_all := lw_g (lw_at lw_m9 80 rfl) rfl
theorem q2108 : (Jvm.Cond.code ({ cls := "PageGarden$Garden", name := "valueBy", desc := "(II)I" } : Jvm.MethodName) prog_5_method_8_code (5 : Nat) (Option.some Jvm.ClassFile.FieldType.int)) ∈ lw_all := lw_g (lw_at lw_m9 81 rfl) rfl
theorem q2109 : (Jvm.Cond.methodLink "PageGarden$Garden" (138 : Nat) ({ cls := "PageGarden$Leaf", name := "placeOf", desc := "(I)I" } : Jvm.MethodName)) ∈ lw_all := lw_g (lw_at lw_m9 82 rfl) rfl
theorem q2110 : (Jvm.Cond.methodLink "PageGarden$Garden" (295 : Nat) ({ cls := "PageGarden$Garden", name := "ownDirectory", desc := "()LPageGarden$Directory;" } : Jvm.MethodName)) ∈ lw_all := lw_g (lw_at lw_m9 83 rfl) rfl
theorem q2111 : (Jvm.Cond.privateMethod ({ cls := "PageGarden$Garden", name := "ownDirectory", desc := "()LPageGarden$Directory;" } : Jvm.MethodName)) ∈ lw_tbl := lw_at lw_m9 84 rfl
theorem q2112 : (Jvm.Cond.instanceMethod ({ cls := "PageGarden$Garden", name := "ownDirectory", desc := "()LPageGarden$Directory;" } : Jvm.MethodName)) ∈ lw_all := lw_g (lw_at lw_m9 85 rfl) rfl
theorem q2113 : (Jvm.Cond.code ({ cls := "PageGarden$Garden", name := "ownDirectory", desc := "()LPageGarden$Directory;" } : Jvm.MethodName) prog_5_method_24_code (3 : Nat) (Option.some (Jvm.ClassFile.FieldType.object "PageGarden$Directory"))) ∈ lw_all := lw_g (lw_at lw_m9 86 rfl) rfl
theorem q2114 : (Jvm.Cond.methodLink "PageGarden$Garden" (234 : Nat) ({ cls := "PageGarden$Garden", name := "dig", desc := "(LPageGarden$Page;)I" } : Jvm.MethodName)) ∈ lw_all := lw_g (lw_at lw_m9 87 rfl) rfl
theorem q2115 : (Jvm.Cond.privateMethod ({ cls := "PageGarden$Garden", name := "dig", desc := "(LPageGarden$Page;)I" } : Jvm.MethodName)) ∈ lw_tbl := lw_at lw_m9 88 rfl
theorem q2116 : (Jvm.Cond.instanceMethod ({ cls := "PageGarden$Garden", name := "dig", desc := "(LPageGarden$Page;)I" } : Jvm.MethodName)) ∈ lw_all := lw_g (lw_at lw_m9 89 rfl) rfl
theorem q2117 : (Jvm.Cond.code ({ cls := "PageGarden$Garden", name := "dig", desc := "(LPageGarden$Page;)I" } : Jvm.MethodName) prog_5_method_18_code (4 : Nat) (Option.some Jvm.ClassFile.FieldType.int)) ∈ lw_all := lw_g (lw_at lw_m9 90 rfl) rfl
theorem q2118 : (Jvm.Cond.methodLink "PageGarden$Garden" (178 : Nat) ({ cls := "PageGarden$Garden", name := "nextBed", desc := "()I" } : Jvm.MethodName)) ∈ lw_all := lw_g (lw_at lw_m9 91 rfl) rfl
theorem q2119 : (Jvm.Cond.stringRef "PageGarden$Garden" (181 : Nat) "no bed") ∈ lw_tbl := lw_at lw_m9 92 rfl
theorem q2120 : (Jvm.Cond.fieldLink "PageGarden$Garden" (187 : Nat) "PageGarden$State" "USED" "LPageGarden$State;") ∈ lw_all := lw_g (lw_at lw_m9 93 rfl) rfl
theorem q2121 : (Jvm.Cond.methodLink "PageGarden$Garden" (190 : Nat) ({ cls := "PageGarden$Garden", name := "lay", desc := "(ILPageGarden$Page;)V" } : Jvm.MethodName)) ∈ lw_all := lw_g (lw_at lw_m9 94 rfl) rfl
theorem q2122 : (Jvm.Cond.methodLink "PageGarden$Garden" (198 : Nat) ({ cls := "java/util/LinkedHashSet", name := "add", desc := "(Ljava/lang/Object;)Z" } : Jvm.MethodName)) ∈ lw_all := lw_g (lw_at lw_m9 95 rfl) rfl
theorem q2123 : (Jvm.Cond.methodLink "PageGarden$Garden" (238 : Nat) ({ cls := "PageGarden$Garden", name := "leave", desc := "(I)V" } : Jvm.MethodName)) ∈ lw_all := lw_g (lw_at lw_m9 96 rfl) rfl
theorem q2124 : (Jvm.Cond.privateMethod ({ cls := "PageGarden$Garden", name := "leave", desc := "(I)V" } : Jvm.MethodName)) ∈ lw_tbl := lw_at lw_m9 97 rfl
theorem q2125 : (Jvm.Cond.instanceMethod ({ cls := "PageGarden$Garden", name := "leave", desc := "(I)V" } : Jvm.MethodName)) ∈ lw_all := lw_g (lw_at lw_m9 98 rfl) rfl
theorem q2126 : (Jvm.Cond.code ({ cls := "PageGarden$Garden", name := "leave", desc := "(I)V" } : Jvm.MethodName) prog_5_method_20_code (3 : Nat) (Option.none : Option Jvm.ClassFile.FieldType)) ∈ lw_all := lw_g (lw_at lw_m9 99 rfl) rfl
theorem q2127 : (Jvm.Cond.methodLink "PageGarden$Garden" (210 : Nat) ({ cls := "java/util/LinkedHashSet", name := "remove", desc := "(Ljava/lang/Object;)Z" } : Jvm.MethodName)) ∈ lw_all := lw_g (lw_at lw_m9 100 rfl) rfl
theorem q2157 : (Jvm.Cond.methodLink "PageGarden$Garden" (212 : Nat) ({ cls := "PageGarden$Garden", name := "makeWild", desc := "(I)V" } : Jvm.MethodName)) ∈ lw_all := lw_g (lw_at lw_m9 130 rfl) rfl
theorem q2158 : (Jvm.Cond.privateMethod ({ cls := "PageGarden$Garden", name := "makeWild", desc := "(I)V" } : Jvm.MethodName)) ∈ lw_tbl := lw_at lw_m9 131 rfl
theorem q2159 : (Jvm.Cond.instanceMethod ({ cls := "PageGarden$Garden", name := "makeWild", desc := "(I)V" } : Jvm.MethodName)) ∈ lw_all := lw_g (lw_at lw_m9 132 rfl) rfl
theorem q2160 : (Jvm.Cond.code ({ cls := "PageGarden$Garden", name := "makeWild", desc := "(I)V" } : Jvm.MethodName) prog_5_method_19_code (3 : Nat) (Option.none : Option Jvm.ClassFile.FieldType)) ∈ lw_all := lw_g (lw_at lw_m9 133 rfl) rfl
theorem q2161 : (Jvm.Cond.methodLink "PageGarden$Garden" (204 : Nat) ({ cls := "java/util/LinkedHashMap", name := "remove", desc := "(Ljava/lang/Object;)Ljava/lang/Object;" } : Jvm.MethodName)) ∈ lw_all := lw_g (lw_at lw_m9 134 rfl) rfl
theorem q2166 : (Jvm.Cond.methodLink "PageGarden$Garden" (299 : Nat) ({ cls := "PageGarden$Leaf", name := "<init>", desc := "([I[I)V" } : Jvm.MethodName)) ∈ lw_all := lw_g (lw_at lw_m9 139 rfl) rfl
theorem q2171 : (Jvm.Cond.fieldLinkNest "PageGarden$Garden" (120 : Nat) "PageGarden$Leaf" "keys" "[I" "PageGarden") ∈ lw_tbl := lw_at lw_m9 144 rfl
theorem q2173 : (Jvm.Cond.fieldLinkNest "PageGarden$Garden" (135 : Nat) "PageGarden$Leaf" "values" "[I" "PageGarden") ∈ lw_tbl := lw_at lw_m9 146 rfl
theorem q2179 : (Jvm.Cond.methodLink "PageGarden$Garden" (302 : Nat) ({ cls := "PageGarden$Directory", name := "with", desc := "(II)LPageGarden$Directory;" } : Jvm.MethodName)) ∈ lw_all := lw_g (lw_at lw_m9 152 rfl) rfl
theorem q2188 : (Jvm.Cond.methodLink "PageGarden$Garden" (245 : Nat) ({ cls := "PageGarden$Garden", name := "setDirectory", desc := "(LPageGarden$Directory;)V" } : Jvm.MethodName)) ∈ lw_all := lw_g (lw_at lw_m9 161 rfl) rfl
theorem q2189 : (Jvm.Cond.privateMethod ({ cls := "PageGarden$Garden", name := "setDirectory", desc := "(LPageGarden$Directory;)V" } : Jvm.MethodName)) ∈ lw_tbl := lw_at lw_m9 162 rfl
theorem q2190 : (Jvm.Cond.instanceMethod ({ cls := "PageGarden$Garden", name := "setDirectory", desc := "(LPageGarden$Directory;)V" } : Jvm.MethodName)) ∈ lw_all := lw_g (lw_at lw_m9 163 rfl) rfl
theorem q2191 : (Jvm.Cond.code ({ cls := "PageGarden$Garden", name := "setDirectory", desc := "(LPageGarden$Directory;)V" } : Jvm.MethodName) prog_5_method_25_code (2 : Nat) (Option.none : Option Jvm.ClassFile.FieldType)) ∈ lw_all := lw_g (lw_at lw_m9 164 rfl) rfl
theorem q2192 : (Jvm.Cond.methodLink "PageGarden$Garden" (305 : Nat) ({ cls := "PageGarden$Leaf", name := "with", desc := "(II)LPageGarden$Leaf;" } : Jvm.MethodName)) ∈ lw_all := lw_g (lw_at lw_m9 165 rfl) rfl
theorem q2202 : (Jvm.Cond.methodLink "PageGarden$Garden" (308 : Nat) ({ cls := "PageGarden$Garden", name := "change", desc := "(ILPageGarden$Leaf;)V" } : Jvm.MethodName)) ∈ lw_all := lw_g (lw_at lw_m9 175 rfl) rfl
theorem q2203 : (Jvm.Cond.privateMethod ({ cls := "PageGarden$Garden", name := "change", desc := "(ILPageGarden$Leaf;)V" } : Jvm.MethodName)) ∈ lw_tbl := lw_at lw_m9 176 rfl
theorem q2204 : (Jvm.Cond.instanceMethod ({ cls := "PageGarden$Garden", name := "change", desc := "(ILPageGarden$Leaf;)V" } : Jvm.MethodName)) ∈ lw_all := lw_g (lw_at lw_m9 177 rfl) rfl
theorem q2205 : (Jvm.Cond.code ({ cls := "PageGarden$Garden", name := "change", desc := "(ILPageGarden$Leaf;)V" } : Jvm.MethodName) prog_5_method_26_code (5 : Nat) (Option.none : Option Jvm.ClassFile.FieldType)) ∈ lw_all := lw_g (lw_at lw_m9 178 rfl) rfl
theorem q2206 : (Jvm.Cond.methodLink "PageGarden$Garden" (241 : Nat) ({ cls := "PageGarden$Directory", name := "instead", desc := "(II)LPageGarden$Directory;" } : Jvm.MethodName)) ∈ lw_all := lw_g (lw_at lw_m9 179 rfl) rfl
theorem q2212 : (Jvm.Cond.methodLink "PageGarden$Garden" (312 : Nat) ({ cls := "PageGarden$Leaf", name := "part", desc := "(II)LPageGarden$Leaf;" } : Jvm.MethodName)) ∈ lw_all := lw_g (lw_at lw_m9 185 rfl) rfl
theorem q2221 : (Jvm.Cond.instanceMethod ({ cls := "PageGarden$Garden", name := "remove", desc := "(I)I" } : Jvm.MethodName)) ∈ lw_all := lw_g (lw_at lw_m9 194 rfl) rfl
theorem q2222 : (Jvm.Cond.selects "PageGarden$Garden" ({ cls := "PageGarden$Garden", name := "remove", desc := "(I)I" } : Jvm.MethodName) ({ cls := "PageGarden$Garden", name := "remove", desc := "(I)I" } : Jvm.MethodName)) ∈ lw_all := lw_g (lw_at lw_m9 195 rfl) rfl
theorem q2223 : (Jvm.Cond.code ({ cls := "PageGarden$Garden", name := "remove", desc := "(I)I" } : Jvm.MethodName) prog_5_method_33_code (7 : Nat) (Option.some Jvm.ClassFile.FieldType.int)) ∈ lw_all := lw_g (lw_at lw_m9 196 rfl) rfl
theorem q2224 : (Jvm.Cond.methodLink "PageGarden$Garden" (315 : Nat) ({ cls := "PageGarden$Garden", name := "canRemove", desc := "(I)Z" } : Jvm.MethodName)) ∈ lw_all := lw_g (lw_at lw_m9 197 rfl) rfl
theorem q2225 : (Jvm.Cond.privateMethod ({ cls := "PageGarden$Garden", name := "canRemove", desc := "(I)Z" } : Jvm.MethodName)) ∈ lw_tbl := lw_at lw_m9 198 rfl
theorem q2226 : (Jvm.Cond.instanceMethod ({ cls := "PageGarden$Garden", name := "canRemove", desc := "(I)Z" } : Jvm.MethodName)) ∈ lw_all := lw_g (lw_at lw_m9 199 rfl) rfl
theorem q2227 : (Jvm.Cond.code ({ cls := "PageGarden$Garden", name := "canRemove", desc := "(I)Z" } : Jvm.MethodName) prog_5_method_32_code (6 : Nat) (Option.some Jvm.ClassFile.FieldType.boolean)) ∈ lw_all := lw_g (lw_at lw_m9 200 rfl) rfl
theorem q2228 : (Jvm.Cond.stringRef "PageGarden$Garden" (318 : Nat) "no such key, or no bed") ∈ lw_tbl := lw_at lw_m9 201 rfl
theorem q2229 : (Jvm.Cond.methodLink "PageGarden$Garden" (320 : Nat) ({ cls := "PageGarden$Leaf", name := "without", desc := "(I)LPageGarden$Leaf;" } : Jvm.MethodName)) ∈ lw_all := lw_g (lw_at lw_m9 202 rfl) rfl
theorem q2233 : (Jvm.Cond.methodLink "PageGarden$Garden" (323 : Nat) ({ cls := "PageGarden$Directory", name := "without", desc := "(I)LPageGarden$Directory;" } : Jvm.MethodName)) ∈ lw_all := lw_g (lw_at lw_m9 206 rfl) rfl
theorem q2238 : (Jvm.Cond.instanceMethod ({ cls := "PageGarden$Garden", name := "commit", desc := "(I)I" } : Jvm.MethodName)) ∈ lw_all := lw_g (lw_at lw_m9 211 rfl) rfl
theorem q2239 : (Jvm.Cond.selects "PageGarden$Garden" ({ cls := "PageGarden$Garden", name := "commit", desc := "(I)I" } : Jvm.MethodName) ({ cls := "PageGarden$Garden", name := "commit", desc := "(I)I" } : Jvm.MethodName)) ∈ lw_all := lw_g (lw_at lw_m9 212 rfl) rfl
theorem q2240 : (Jvm.Cond.code ({ cls := "PageGarden$Garden", name := "commit", desc := "(I)I" } : Jvm.MethodName) prog_5_method_37_code (5 : Nat) (Option.some Jvm.ClassFile.FieldType.int)) ∈ lw_all := lw_g (lw_at lw_m9 213 rfl) rfl
theorem q2241 : (Jvm.Cond.constantLong "PageGarden$Garden" (346 : Nat) (3 : Int64)) ∈ lw_all := lw_g (lw_at lw_m9 214 rfl) rfl
theorem q2242 : (Jvm.Cond.stringRef "PageGarden$Garden" (348 : Nat) "steps") ∈ lw_tbl := lw_at lw_m9 215 rfl
theorem q2243 : (Jvm.Cond.methodLink "PageGarden$Garden" (350 : Nat) ({ cls := "PageGarden$Draft", name := "isChanged", desc := "()Z" } : Jvm.MethodName)) ∈ lw_all := lw_g (lw_at lw_m9 216 rfl) rfl
theorem q2258 : (Jvm.Cond.methodLink "PageGarden$Garden" (343 : Nat) ({ cls := "PageGarden$Garden", name := "drop", desc := "()I" } : Jvm.MethodName)) ∈ lw_all := lw_g (lw_at lw_m9 231 rfl) rfl
theorem q2259 : (Jvm.Cond.privateMethod ({ cls := "PageGarden$Garden", name := "drop", desc := "()I" } : Jvm.MethodName)) ∈ lw_tbl := lw_at lw_m9 232 rfl
theorem q2260 : (Jvm.Cond.instanceMethod ({ cls := "PageGarden$Garden", name := "drop", desc := "()I" } : Jvm.MethodName)) ∈ lw_all := lw_g (lw_at lw_m9 233 rfl) rfl
theorem q2261 : (Jvm.Cond.code ({ cls := "PageGarden$Garden", name := "drop", desc := "()I" } : Jvm.MethodName) prog_5_method_34_code (4 : Nat) (Option.some Jvm.ClassFile.FieldType.int)) ∈ lw_all := lw_g (lw_at lw_m9 234 rfl) rfl
theorem q2262 : (Jvm.Cond.methodLink "PageGarden$Garden" (325 : Nat) ({ cls := "java/util/LinkedHashSet", name := "size", desc := "()I" } : Jvm.MethodName)) ∈ lw_all := lw_g (lw_at lw_m9 235 rfl) rfl
theorem q2263 : (Jvm.Cond.methodLink "PageGarden$Garden" (326 : Nat) ({ cls := "java/util/LinkedHashSet", name := "iterator", desc := "()Ljava/util/Iterator;" } : Jvm.MethodName)) ∈ lw_all := lw_g (lw_at lw_m9 236 rfl) rfl
theorem q2264 : (Jvm.Cond.interfaceEntry "PageGarden$Garden" (330 : Nat)) ∈ lw_tbl := lw_at lw_m9 237 rfl
theorem q2265 : (Jvm.Cond.methodLink "PageGarden$Garden" (330 : Nat) ({ cls := "java/util/Iterator", name := "hasNext", desc := "()Z" } : Jvm.MethodName)) ∈ lw_all := lw_g (lw_at lw_m9 238 rfl) rfl
theorem q2266 : (Jvm.Cond.interfaceEntry "PageGarden$Garden" (335 : Nat)) ∈ lw_tbl := lw_at lw_m9 239 rfl
theorem q2267 : (Jvm.Cond.methodLink "PageGarden$Garden" (335 : Nat) ({ cls := "java/util/Iterator", name := "next", desc := "()Ljava/lang/Object;" } : Jvm.MethodName)) ∈ lw_all := lw_g (lw_at lw_m10 0 rfl) rfl
theorem q2268 : (Jvm.Cond.classLink "PageGarden$Garden" (338 : Nat) "PageGarden$Bed") ∈ lw_all := lw_g (lw_at lw_m10 1 rfl) rfl
theorem q2269 : (Jvm.Cond.methodLink "PageGarden$Garden" (353 : Nat) ({ cls := "PageGarden$Garden", name := "free", desc := "(I)I" } : Jvm.MethodName)) ∈ lw_all := lw_g (lw_at lw_m10 2 rfl) rfl
theorem q2270 : (Jvm.Cond.privateMethod ({ cls := "PageGarden$Garden", name := "free", desc := "(I)I" } : Jvm.MethodName)) ∈ lw_tbl := lw_at lw_m10 3 rfl
theorem q2271 : (Jvm.Cond.instanceMethod ({ cls := "PageGarden$Garden", name := "free", desc := "(I)I" } : Jvm.MethodName)) ∈ lw_all := lw_g (lw_at lw_m10 4 rfl) rfl
theorem q2272 : (Jvm.Cond.code ({ cls := "PageGarden$Garden", name := "free", desc := "(I)I" } : Jvm.MethodName) prog_5_method_36_code (5 : Nat) (Option.some Jvm.ClassFile.FieldType.int)) ∈ lw_all := lw_g (lw_at lw_m10 5 rfl) rfl
theorem q2274 : (Jvm.Cond.instanceMethod ({ cls := "PageGarden$Garden", name := "close", desc := "(I)I" } : Jvm.MethodName)) ∈ lw_all := lw_g (lw_at lw_m10 7 rfl) rfl
theorem q2275 : (Jvm.Cond.selects "PageGarden$Garden" ({ cls := "PageGarden$Garden", name := "close", desc := "(I)I" } : Jvm.MethodName) ({ cls := "PageGarden$Garden", name := "close", desc := "(I)I" } : Jvm.MethodName)) ∈ lw_all := lw_g (lw_at lw_m10 8 rfl) rfl
theorem q2276 : (Jvm.Cond.code ({ cls := "PageGarden$Garden", name := "close", desc := "(I)I" } : Jvm.MethodName) prog_5_method_41_code (3 : Nat) (Option.some Jvm.ClassFile.FieldType.int)) ∈ lw_all := lw_g (lw_at lw_m10 9 rfl) rfl
theorem q2277 : (Jvm.Cond.methodLink "PageGarden$Garden" (368 : Nat) ({ cls := "PageGarden$Garden", name := "requireReader", desc := "(I)V" } : Jvm.MethodName)) ∈ lw_all := lw_g (lw_at lw_m10 10 rfl) rfl
theorem q2278 : (Jvm.Cond.static ({ cls := "PageGarden$Garden", name := "requireReader", desc := "(I)V" } : Jvm.MethodName)) ∈ lw_all := lw_g (lw_at lw_m10 11 rfl) rfl
theorem q2279 : (Jvm.Cond.code ({ cls := "PageGarden$Garden", name := "requireReader", desc := "(I)V" } : Jvm.MethodName) prog_5_method_38_code (1 : Nat) (Option.none : Option Jvm.ClassFile.FieldType)) ∈ lw_all := lw_g (lw_at lw_m10 12 rfl) rfl
theorem q2280 : (Jvm.Cond.stringRef "PageGarden$Garden" (356 : Nat) "reader") ∈ lw_tbl := lw_at lw_m10 13 rfl
theorem q2281 : (Jvm.Cond.methodLinkNest "PageGarden$Garden" (358 : Nat) ({ cls := "PageGarden", name := "requireIndex", desc := "(ZLjava/lang/String;)V" } : Jvm.MethodName) "PageGarden") ∈ lw_tbl := lw_at lw_m10 14 rfl
theorem q2296 : (Jvm.Cond.methodLink "PageGarden$Garden" (371 : Nat) ({ cls := "PageGarden$Garden", name := "requireOpen", desc := "(I)V" } : Jvm.MethodName)) ∈ lw_all := lw_g (lw_at lw_m10 29 rfl) rfl
theorem q2297 : (Jvm.Cond.instanceMethod ({ cls := "PageGarden$Garden", name := "requireOpen", desc := "(I)V" } : Jvm.MethodName)) ∈ lw_all := lw_g (lw_at lw_m10 30 rfl) rfl
theorem q2298 : (Jvm.Cond.selects "PageGarden$Garden" ({ cls := "PageGarden$Garden", name := "requireOpen", desc := "(I)V" } : Jvm.MethodName) ({ cls := "PageGarden$Garden", name := "requireOpen", desc := "(I)V" } : Jvm.MethodName)) ∈ lw_all := lw_g (lw_at lw_m10 31 rfl) rfl
theorem q2299 : (Jvm.Cond.code ({ cls := "PageGarden$Garden", name := "requireOpen", desc := "(I)V" } : Jvm.MethodName) prog_5_method_39_code (2 : Nat) (Option.none : Option Jvm.ClassFile.FieldType)) ∈ lw_all := lw_g (lw_at lw_m10 32 rfl) rfl
theorem q2300 : (Jvm.Cond.stringRef "PageGarden$Garden" (361 : Nat) "it is not open") ∈ lw_tbl := lw_at lw_m10 33 rfl
theorem q2302 : (Jvm.Cond.instanceMethod ({ cls := "PageGarden$Garden", name := "begin", desc := "()I" } : Jvm.MethodName)) ∈ lw_all := lw_g (lw_at lw_m10 35 rfl) rfl
theorem q2303 : (Jvm.Cond.selects "PageGarden$Garden" ({ cls := "PageGarden$Garden", name := "begin", desc := "()I" } : Jvm.MethodName) ({ cls := "PageGarden$Garden", name := "begin", desc := "()I" } : Jvm.MethodName)) ∈ lw_all := lw_g (lw_at lw_m10 36 rfl) rfl
theorem q2304 : (Jvm.Cond.code ({ cls := "PageGarden$Garden", name := "begin", desc := "()I" } : Jvm.MethodName) prog_5_method_22_code (1 : Nat) (Option.some Jvm.ClassFile.FieldType.int)) ∈ lw_all := lw_g (lw_at lw_m10 37 rfl) rfl
theorem q2305 : (Jvm.Cond.stringRef "PageGarden$Garden" (221 : Nat) "there is a draft") ∈ lw_tbl := lw_at lw_m10 38 rfl
theorem q2306 : (Jvm.Cond.classLink "PageGarden$Garden" (85 : Nat) "PageGarden$Draft") ∈ lw_all := lw_g (lw_at lw_m10 39 rfl) rfl
theorem q2307 : (Jvm.Cond.methodLink "PageGarden$Garden" (225 : Nat) ({ cls := "PageGarden$Draft", name := "<init>", desc := "(I)V" } : Jvm.MethodName)) ∈ lw_all := lw_g (lw_at lw_m10 40 rfl) rfl
theorem q2309 : (Jvm.Cond.instanceMethod ({ cls := "PageGarden$Garden", name := "abort", desc := "()I" } : Jvm.MethodName)) ∈ lw_all := lw_g (lw_at lw_m10 42 rfl) rfl
theorem q2310 : (Jvm.Cond.selects "PageGarden$Garden" ({ cls := "PageGarden$Garden", name := "abort", desc := "()I" } : Jvm.MethodName) ({ cls := "PageGarden$Garden", name := "abort", desc := "()I" } : Jvm.MethodName)) ∈ lw_all := lw_g (lw_at lw_m10 43 rfl) rfl
theorem q2311 : (Jvm.Cond.code ({ cls := "PageGarden$Garden", name := "abort", desc := "()I" } : Jvm.MethodName) prog_5_method_35_code (1 : Nat) (Option.some Jvm.ClassFile.FieldType.int)) ∈ lw_all := lw_g (lw_at lw_m10 44 rfl) rfl
theorem q2313 : (Jvm.Cond.instanceMethod ({ cls := "PageGarden$Garden", name := "open", desc := "()I" } : Jvm.MethodName)) ∈ lw_all := lw_g (lw_at lw_m10 46 rfl) rfl
theorem q2314 : (Jvm.Cond.selects "PageGarden$Garden" ({ cls := "PageGarden$Garden", name := "open", desc := "()I" } : Jvm.MethodName) ({ cls := "PageGarden$Garden", name := "open", desc := "()I" } : Jvm.MethodName)) ∈ lw_all := lw_g (lw_at lw_m10 47 rfl) rfl
theorem q2315 : (Jvm.Cond.code ({ cls := "PageGarden$Garden", name := "open", desc := "()I" } : Jvm.MethodName) prog_5_method_40_code (2 : Nat) (Option.some Jvm.ClassFile.FieldType.int)) ∈ lw_all := lw_g (lw_at lw_m10 48 rfl) rfl
theorem q2316 : (Jvm.Cond.stringRef "PageGarden$Garden" (363 : Nat) "all are open") ∈ lw_tbl := lw_at lw_m10 49 rfl
theorem q2318 : (Jvm.Cond.methodLink "PageGarden$Garden" (365 : Nat) ({ cls := "PageGarden$Reader", name := "<init>", desc := "(II)V" } : Jvm.MethodName)) ∈ lw_all := lw_g (lw_at lw_m10 51 rfl) rfl
theorem q2323 : (Jvm.Cond.fieldLinkNest "PageGarden$Garden" (164 : Nat) "PageGarden$Reader" "count" "I" "PageGarden") ∈ lw_tbl := lw_at lw_m10 56 rfl
theorem q2326 : (Jvm.Cond.fieldLinkNest "PageGarden$Garden" (374 : Nat) "PageGarden$Reader" "directory" "I" "PageGarden") ∈ lw_tbl := lw_at lw_m10 59 rfl
theorem q2396 : (Jvm.Cond.instanceMethod ({ cls := "PageGarden$Garden", name := "value", desc := "(I)I" } : Jvm.MethodName)) ∈ lw_all := lw_g (lw_at lw_m10 129 rfl) rfl
theorem q2397 : (Jvm.Cond.selects "PageGarden$Garden" ({ cls := "PageGarden$Garden", name := "value", desc := "(I)I" } : Jvm.MethodName) ({ cls := "PageGarden$Garden", name := "value", desc := "(I)I" } : Jvm.MethodName)) ∈ lw_all := lw_g (lw_at lw_m10 130 rfl) rfl
theorem q2398 : (Jvm.Cond.code ({ cls := "PageGarden$Garden", name := "value", desc := "(I)I" } : Jvm.MethodName) prog_5_method_49_code (2 : Nat) (Option.some Jvm.ClassFile.FieldType.int)) ∈ lw_all := lw_g (lw_at lw_m10 131 rfl) rfl
theorem q2399 : (Jvm.Cond.methodLink "PageGarden$Garden" (375 : Nat) ({ cls := "PageGarden$Garden", name := "entriesBy", desc := "(I)I" } : Jvm.MethodName)) ∈ lw_all := lw_g (lw_at lw_m10 132 rfl) rfl
theorem q2400 : (Jvm.Cond.instanceMethod ({ cls := "PageGarden$Garden", name := "entriesBy", desc := "(I)I" } : Jvm.MethodName)) ∈ lw_all := lw_g (lw_at lw_m10 133 rfl) rfl
theorem q2401 : (Jvm.Cond.selects "PageGarden$Garden" ({ cls := "PageGarden$Garden", name := "entriesBy", desc := "(I)I" } : Jvm.MethodName) ({ cls := "PageGarden$Garden", name := "entriesBy", desc := "(I)I" } : Jvm.MethodName)) ∈ lw_all := lw_g (lw_at lw_m10 134 rfl) rfl
theorem q2402 : (Jvm.Cond.code ({ cls := "PageGarden$Garden", name := "entriesBy", desc := "(I)I" } : Jvm.MethodName) prog_5_method_9_code (7 : Nat) (Option.some Jvm.ClassFile.FieldType.int)) ∈ lw_all := lw_g (lw_at lw_m10 135 rfl) rfl
theorem q2403 : (Jvm.Cond.interfaceEntry "PageGarden$Garden" (141 : Nat)) ∈ lw_tbl := lw_at lw_m10 136 rfl
theorem q2404 : (Jvm.Cond.methodLink "PageGarden$Garden" (141 : Nat) ({ cls := "PageGarden$Page", name := "size", desc := "()I" } : Jvm.MethodName)) ∈ lw_all := lw_g (lw_at lw_m10 137 rfl) rfl
theorem q2417 : (Jvm.Cond.methodLink "PageGarden$Garden" (386 : Nat) ({ cls := "PageGarden$Directory", name := "size", desc := "()I" } : Jvm.MethodName)) ∈ lw_all := lw_g (lw_at lw_m10 150 rfl) rfl
theorem q2418 : (Jvm.Cond.methodLink "PageGarden$Garden" (387 : Nat) ({ cls := "PageGarden$Garden", name := "openReaders", desc := "()I" } : Jvm.MethodName)) ∈ lw_all := lw_g (lw_at lw_m10 151 rfl) rfl
theorem q2419 : (Jvm.Cond.privateMethod ({ cls := "PageGarden$Garden", name := "openReaders", desc := "()I" } : Jvm.MethodName)) ∈ lw_tbl := lw_at lw_m10 152 rfl
theorem q2420 : (Jvm.Cond.instanceMethod ({ cls := "PageGarden$Garden", name := "openReaders", desc := "()I" } : Jvm.MethodName)) ∈ lw_all := lw_g (lw_at lw_m10 153 rfl) rfl
theorem q2421 : (Jvm.Cond.code ({ cls := "PageGarden$Garden", name := "openReaders", desc := "()I" } : Jvm.MethodName) prog_5_method_47_code (6 : Nat) (Option.some Jvm.ClassFile.FieldType.int)) ∈ lw_all := lw_g (lw_at lw_m10 154 rfl) rfl
theorem q2422 : (Jvm.Cond.methodLink "PageGarden$Garden" (390 : Nat) ({ cls := "PageGarden$Garden", name := "sumOfValues", desc := "()I" } : Jvm.MethodName)) ∈ lw_all := lw_g (lw_at lw_m10 155 rfl) rfl
theorem q2423 : (Jvm.Cond.privateMethod ({ cls := "PageGarden$Garden", name := "sumOfValues", desc := "()I" } : Jvm.MethodName)) ∈ lw_tbl := lw_at lw_m10 156 rfl
theorem q2424 : (Jvm.Cond.instanceMethod ({ cls := "PageGarden$Garden", name := "sumOfValues", desc := "()I" } : Jvm.MethodName)) ∈ lw_all := lw_g (lw_at lw_m10 157 rfl) rfl
theorem q2425 : (Jvm.Cond.code ({ cls := "PageGarden$Garden", name := "sumOfValues", desc := "()I" } : Jvm.MethodName) prog_5_method_48_code (10 : Nat) (Option.some Jvm.ClassFile.FieldType.int)) ∈ lw_all := lw_g (lw_at lw_m10 158 rfl) rfl
theorem q2427 : (Jvm.Cond.instanceMethod ({ cls := "PageGarden$Garden", name := "rootValue", desc := "(II)I" } : Jvm.MethodName)) ∈ lw_all := lw_g (lw_at lw_m10 160 rfl) rfl
theorem q2428 : (Jvm.Cond.selects "PageGarden$Garden" ({ cls := "PageGarden$Garden", name := "rootValue", desc := "(II)I" } : Jvm.MethodName) ({ cls := "PageGarden$Garden", name := "rootValue", desc := "(II)I" } : Jvm.MethodName)) ∈ lw_all := lw_g (lw_at lw_m10 161 rfl) rfl
theorem q2429 : (Jvm.Cond.code ({ cls := "PageGarden$Garden", name := "rootValue", desc := "(II)I" } : Jvm.MethodName) prog_5_method_44_code (4 : Nat) (Option.some Jvm.ClassFile.FieldType.int)) ∈ lw_all := lw_g (lw_at lw_m10 162 rfl) rfl
theorem q2431 : (Jvm.Cond.instanceMethod ({ cls := "PageGarden$Garden", name := "readerValue", desc := "(II)I" } : Jvm.MethodName)) ∈ lw_all := lw_g (lw_at lw_m10 164 rfl) rfl
theorem q2432 : (Jvm.Cond.selects "PageGarden$Garden" ({ cls := "PageGarden$Garden", name := "readerValue", desc := "(II)I" } : Jvm.MethodName) ({ cls := "PageGarden$Garden", name := "readerValue", desc := "(II)I" } : Jvm.MethodName)) ∈ lw_all := lw_g (lw_at lw_m10 165 rfl) rfl
theorem q2433 : (Jvm.Cond.codeWith ({ cls := "PageGarden$Garden", name := "readerValue", desc := "(II)I" } : Jvm.MethodName) prog_5_method_45_code (4 : Nat) (Option.some Jvm.ClassFile.FieldType.int) [((0 : Nat), (38 : Nat), (39 : Nat), (378 : Nat))]) ∈ lw_all := lw_g (lw_at lw_m10 166 rfl) rfl
theorem q2434 : (Jvm.Cond.classLink "PageGarden$Garden" (378 : Nat) "java/lang/NullPointerException") ∈ lw_all := lw_g (lw_at lw_m10 167 rfl) rfl
theorem q2460 : (Jvm.Cond.instanceMethod ({ cls := "PageGarden$Garden", name := "bedValue", desc := "(II)I" } : Jvm.MethodName)) ∈ lw_all := lw_g (lw_at lw_m10 193 rfl) rfl
theorem q2461 : (Jvm.Cond.selects "PageGarden$Garden" ({ cls := "PageGarden$Garden", name := "bedValue", desc := "(II)I" } : Jvm.MethodName) ({ cls := "PageGarden$Garden", name := "bedValue", desc := "(II)I" } : Jvm.MethodName)) ∈ lw_all := lw_g (lw_at lw_m10 194 rfl) rfl
theorem q2462 : (Jvm.Cond.code ({ cls := "PageGarden$Garden", name := "bedValue", desc := "(II)I" } : Jvm.MethodName) prog_5_method_46_code (4 : Nat) (Option.some Jvm.ClassFile.FieldType.int)) ∈ lw_all := lw_g (lw_at lw_m10 195 rfl) rfl
theorem q2463 : (Jvm.Cond.methodLink "PageGarden$Garden" (380 : Nat) ({ cls := "PageGarden$State", name := "ordinal", desc := "()I" } : Jvm.MethodName)) ∈ lw_all := lw_g (lw_at lw_m10 196 rfl) rfl
theorem q2471 : (Jvm.Cond.interfaceEntry "PageGarden$Garden" (383 : Nat)) ∈ lw_tbl := lw_at lw_m10 204 rfl
theorem q2472 : (Jvm.Cond.methodLink "PageGarden$Garden" (383 : Nat) ({ cls := "PageGarden$Page", name := "kind", desc := "()I" } : Jvm.MethodName)) ∈ lw_all := lw_g (lw_at lw_m10 205 rfl) rfl
theorem q2486 : (Jvm.Cond.instanceMethod ({ cls := "PageGarden$Garden", name := "entryValue", desc := "(II)I" } : Jvm.MethodName)) ∈ lw_all := lw_g (lw_at lw_m10 219 rfl) rfl
theorem q2487 : (Jvm.Cond.selects "PageGarden$Garden" ({ cls := "PageGarden$Garden", name := "entryValue", desc := "(II)I" } : Jvm.MethodName) ({ cls := "PageGarden$Garden", name := "entryValue", desc := "(II)I" } : Jvm.MethodName)) ∈ lw_all := lw_g (lw_at lw_m10 220 rfl) rfl
theorem q2488 : (Jvm.Cond.code ({ cls := "PageGarden$Garden", name := "entryValue", desc := "(II)I" } : Jvm.MethodName) prog_5_method_43_code (9 : Nat) (Option.some Jvm.ClassFile.FieldType.int)) ∈ lw_all := lw_g (lw_at lw_m10 221 rfl) rfl
theorem q2555 : (Jvm.Cond.instanceMethod ({ cls := "PageGarden$Garden", name := "get", desc := "(I)I" } : Jvm.MethodName)) ∈ lw_all := lw_g (lw_at lw_m11 48 rfl) rfl
theorem q2556 : (Jvm.Cond.selects "PageGarden$Garden" ({ cls := "PageGarden$Garden", name := "get", desc := "(I)I" } : Jvm.MethodName) ({ cls := "PageGarden$Garden", name := "get", desc := "(I)I" } : Jvm.MethodName)) ∈ lw_all := lw_g (lw_at lw_m11 49 rfl) rfl
theorem q2557 : (Jvm.Cond.code ({ cls := "PageGarden$Garden", name := "get", desc := "(I)I" } : Jvm.MethodName) prog_5_method_42_code (2 : Nat) (Option.some Jvm.ClassFile.FieldType.int)) ∈ lw_all := lw_g (lw_at lw_m11 50 rfl) rfl
theorem q2652 : (Jvm.Cond.instanceMethod ({ cls := "PageGarden$Garden", name := "changedSince", desc := "(I)I" } : Jvm.MethodName)) ∈ lw_all := lw_g (lw_at lw_m11 145 rfl) rfl
theorem q2653 : (Jvm.Cond.selects "PageGarden$Garden" ({ cls := "PageGarden$Garden", name := "changedSince", desc := "(I)I" } : Jvm.MethodName) ({ cls := "PageGarden$Garden", name := "changedSince", desc := "(I)I" } : Jvm.MethodName)) ∈ lw_all := lw_g (lw_at lw_m11 146 rfl) rfl
theorem q2654 : (Jvm.Cond.code ({ cls := "PageGarden$Garden", name := "changedSince", desc := "(I)I" } : Jvm.MethodName) prog_5_method_50_code (3 : Nat) (Option.some Jvm.ClassFile.FieldType.int)) ∈ lw_all := lw_g (lw_at lw_m11 147 rfl) rfl
theorem q2655 : (Jvm.Cond.privateMethod ({ cls := "PageGarden$Garden", name := "lambda$changedSince$0", desc := "(II)I" } : Jvm.MethodName)) ∈ lw_tbl := lw_at lw_m11 148 rfl
theorem q2656 : (Jvm.Cond.instanceMethod ({ cls := "PageGarden$Garden", name := "lambda$changedSince$0", desc := "(II)I" } : Jvm.MethodName)) ∈ lw_all := lw_g (lw_at lw_m11 149 rfl) rfl
theorem q2657 : (Jvm.Cond.code ({ cls := "PageGarden$Garden", name := "lambda$changedSince$0", desc := "(II)I" } : Jvm.MethodName) prog_5_method_52_code (3 : Nat) (Option.some Jvm.ClassFile.FieldType.int)) ∈ lw_all := lw_g (lw_at lw_m11 150 rfl) rfl
theorem q2658 : (Jvm.Cond.privateMethod ({ cls := "PageGarden$Garden", name := "lambda$changedSince$1", desc := "(I)I" } : Jvm.MethodName)) ∈ lw_tbl := lw_at lw_m11 151 rfl
theorem q2659 : (Jvm.Cond.instanceMethod ({ cls := "PageGarden$Garden", name := "lambda$changedSince$1", desc := "(I)I" } : Jvm.MethodName)) ∈ lw_all := lw_g (lw_at lw_m11 152 rfl) rfl
theorem q2660 : (Jvm.Cond.code ({ cls := "PageGarden$Garden", name := "lambda$changedSince$1", desc := "(I)I" } : Jvm.MethodName) prog_5_method_51_code (2 : Nat) (Option.some Jvm.ClassFile.FieldType.int)) ∈ lw_all := lw_g (lw_at lw_m11 153 rfl) rfl
theorem q2661 : (Jvm.Cond.methodLink "PageGarden$Garden" (404 : Nat) ({ cls := "PageGarden$Garden", name := "get", desc := "(I)I" } : Jvm.MethodName)) ∈ lw_all := lw_g (lw_at lw_m11 154 rfl) rfl
theorem q2662 : (Jvm.Cond.methodLink "PageGarden$Garden" (400 : Nat) ({ cls := "PageGarden$Keys", name := "unlike", desc := "(LPageGarden$Lookup;LPageGarden$Lookup;)I" } : Jvm.MethodName)) ∈ lw_all := lw_g (lw_at lw_m11 155 rfl) rfl
theorem q3148 : (Jvm.Cond.castable "PageGarden$Garden" "java/lang/Object") ∈ lw_tbl := lw_at lw_m13 161 rfl
theorem q111 : (Jvm.Cond.initialized "PageGarden$Root") ∈ lw_all := lw_g (lw_at lw_m1 4 rfl) rfl
theorem q193 : (Jvm.Cond.instantiable "PageGarden$Root" (3 : Nat)) ∈ lw_all := lw_g (lw_at lw_m1 86 rfl) rfl
theorem q195 : (Jvm.Cond.instanceMethod ({ cls := "PageGarden$Root", name := "<init>", desc := "(IIZ)V" } : Jvm.MethodName)) ∈ lw_all := lw_g (lw_at lw_m1 88 rfl) rfl
theorem q196 : (Jvm.Cond.code ({ cls := "PageGarden$Root", name := "<init>", desc := "(IIZ)V" } : Jvm.MethodName) prog_11_method_1_code (4 : Nat) (Option.none : Option Jvm.ClassFile.FieldType)) ∈ lw_all := lw_g (lw_at lw_m1 89 rfl) rfl
theorem q197 : (Jvm.Cond.methodLink "PageGarden$Root" (1 : Nat) ({ cls := "java/lang/Object", name := "<init>", desc := "()V" } : Jvm.MethodName)) ∈ lw_all := lw_g (lw_at lw_m1 90 rfl) rfl
theorem q198 : (Jvm.Cond.fieldLink "PageGarden$Root" (7 : Nat) "PageGarden$Root" "count" "I") ∈ lw_all := lw_g (lw_at lw_m1 91 rfl) rfl
theorem q200 : (Jvm.Cond.fieldLink "PageGarden$Root" (13 : Nat) "PageGarden$Root" "directory" "I") ∈ lw_all := lw_g (lw_at lw_m1 93 rfl) rfl
theorem q202 : (Jvm.Cond.fieldLink "PageGarden$Root" (16 : Nat) "PageGarden$Root" "whole" "Z") ∈ lw_all := lw_g (lw_at lw_m1 95 rfl) rfl
theorem q204 : (Jvm.Cond.lays "PageGarden$Root" "PageGarden$Root" "count" "I") ∈ lw_all := lw_g (lw_at lw_m1 97 rfl) rfl
theorem q205 : (Jvm.Cond.soleField "PageGarden$Root" "count") ∈ lw_all := lw_g (lw_at lw_m1 98 rfl) rfl
theorem q206 : (Jvm.Cond.lays "PageGarden$Root" "PageGarden$Root" "directory" "I") ∈ lw_all := lw_g (lw_at lw_m1 99 rfl) rfl
theorem q207 : (Jvm.Cond.soleField "PageGarden$Root" "directory") ∈ lw_all := lw_g (lw_at lw_m1 100 rfl) rfl
theorem q208 : (Jvm.Cond.lays "PageGarden$Root" "PageGarden$Root" "whole" "Z") ∈ lw_all := lw_g (lw_at lw_m1 101 rfl) rfl
theorem q209 : (Jvm.Cond.soleField "PageGarden$Root" "whole") ∈ lw_all := lw_g (lw_at lw_m1 102 rfl) rfl
theorem q210 : (Jvm.Cond.superclass "PageGarden$Root" "java/lang/Object") ∈ lw_all := lw_g (lw_at lw_m1 103 rfl) rfl
theorem q351 : (Jvm.Cond.selects "PageGarden$Root" ({ cls := "java/lang/Object", name := "hashCode", desc := "()I" } : Jvm.MethodName) ({ cls := "java/lang/Object", name := "hashCode", desc := "()I" } : Jvm.MethodName)) ∈ lw_all := lw_g (lw_at lw_m2 4 rfl) rfl
theorem q859 : (Jvm.Cond.selects "PageGarden$Root" ({ cls := "java/lang/Object", name := "getClass", desc := "()Ljava/lang/Class;" } : Jvm.MethodName) ({ cls := "java/lang/Object", name := "getClass", desc := "()Ljava/lang/Class;" } : Jvm.MethodName)) ∈ lw_all := lw_g (lw_at lw_m4 32 rfl) rfl
theorem q1140 : (Jvm.Cond.selects "PageGarden$Root" ({ cls := "java/lang/Object", name := "equals", desc := "(Ljava/lang/Object;)Z" } : Jvm.MethodName) ({ cls := "java/lang/Object", name := "equals", desc := "(Ljava/lang/Object;)Z" } : Jvm.MethodName)) ∈ lw_all := lw_g (lw_at lw_m5 73 rfl) rfl
theorem q1421 : (Jvm.Cond.instanceMethod ({ cls := "PageGarden$Root", name := "copy", desc := "()LPageGarden$Root;" } : Jvm.MethodName)) ∈ lw_all := lw_g (lw_at lw_m6 114 rfl) rfl
theorem q1422 : (Jvm.Cond.selects "PageGarden$Root" ({ cls := "PageGarden$Root", name := "copy", desc := "()LPageGarden$Root;" } : Jvm.MethodName) ({ cls := "PageGarden$Root", name := "copy", desc := "()LPageGarden$Root;" } : Jvm.MethodName)) ∈ lw_all := lw_g (lw_at lw_m6 115 rfl) rfl
theorem q1423 : (Jvm.Cond.code ({ cls := "PageGarden$Root", name := "copy", desc := "()LPageGarden$Root;" } : Jvm.MethodName) prog_11_method_2_code (1 : Nat) (Option.some (Jvm.ClassFile.FieldType.object "PageGarden$Root"))) ∈ lw_all := lw_g (lw_at lw_m6 116 rfl) rfl
theorem q1424 : (Jvm.Cond.classLink "PageGarden$Root" (8 : Nat) "PageGarden$Root") ∈ lw_all := lw_g (lw_at lw_m6 117 rfl) rfl
theorem q1425 : (Jvm.Cond.methodLink "PageGarden$Root" (20 : Nat) ({ cls := "PageGarden$Root", name := "<init>", desc := "(IIZ)V" } : Jvm.MethodName)) ∈ lw_all := lw_g (lw_at lw_m6 118 rfl) rfl
theorem q3143 : (Jvm.Cond.castable "PageGarden$Root" "java/lang/Object") ∈ lw_tbl := lw_at lw_m13 156 rfl
theorem q117 : (Jvm.Cond.initialized "PageGarden$Directory") ∈ lw_all := lw_g (lw_at lw_m1 10 rfl) rfl
theorem q315 : (Jvm.Cond.instantiable "PageGarden$Directory" (1 : Nat)) ∈ lw_all := lw_g (lw_at lw_m1 208 rfl) rfl
theorem q317 : (Jvm.Cond.instanceMethod ({ cls := "PageGarden$Directory", name := "<init>", desc := "([I)V" } : Jvm.MethodName)) ∈ lw_all := lw_g (lw_at lw_m1 210 rfl) rfl
theorem q318 : (Jvm.Cond.code ({ cls := "PageGarden$Directory", name := "<init>", desc := "([I)V" } : Jvm.MethodName) prog_3_method_1_code (2 : Nat) (Option.none : Option Jvm.ClassFile.FieldType)) ∈ lw_all := lw_g (lw_at lw_m1 211 rfl) rfl
theorem q319 : (Jvm.Cond.methodLink "PageGarden$Directory" (1 : Nat) ({ cls := "java/lang/Object", name := "<init>", desc := "()V" } : Jvm.MethodName)) ∈ lw_all := lw_g (lw_at lw_m1 212 rfl) rfl
theorem q320 : (Jvm.Cond.fieldLink "PageGarden$Directory" (7 : Nat) "PageGarden$Directory" "leaves" "[I") ∈ lw_all := lw_g (lw_at lw_m1 213 rfl) rfl
theorem q322 : (Jvm.Cond.laysFinal "PageGarden$Directory" "PageGarden$Directory" "leaves" "[I") ∈ lw_all := lw_g (lw_at lw_m1 215 rfl) rfl
theorem q323 : (Jvm.Cond.soleField "PageGarden$Directory" "leaves") ∈ lw_all := lw_g (lw_at lw_m1 216 rfl) rfl
theorem q324 : (Jvm.Cond.superclass "PageGarden$Directory" "java/lang/Object") ∈ lw_all := lw_g (lw_at lw_m1 217 rfl) rfl
theorem q346 : (Jvm.Cond.selects "PageGarden$Directory" ({ cls := "java/lang/Object", name := "hashCode", desc := "()I" } : Jvm.MethodName) ({ cls := "java/lang/Object", name := "hashCode", desc := "()I" } : Jvm.MethodName)) ∈ lw_all := lw_g (lw_at lw_m1 239 rfl) rfl
theorem q854 : (Jvm.Cond.selects "PageGarden$Directory" ({ cls := "java/lang/Object", name := "getClass", desc := "()Ljava/lang/Class;" } : Jvm.MethodName) ({ cls := "java/lang/Object", name := "getClass", desc := "()Ljava/lang/Class;" } : Jvm.MethodName)) ∈ lw_all := lw_g (lw_at lw_m4 27 rfl) rfl
theorem q1135 : (Jvm.Cond.selects "PageGarden$Directory" ({ cls := "java/lang/Object", name := "equals", desc := "(Ljava/lang/Object;)Z" } : Jvm.MethodName) ({ cls := "java/lang/Object", name := "equals", desc := "(Ljava/lang/Object;)Z" } : Jvm.MethodName)) ∈ lw_all := lw_g (lw_at lw_m5 68 rfl) rfl
theorem q2180 : (Jvm.Cond.instanceMethod ({ cls := "PageGarden$Directory", name := "with", desc := "(II)LPageGarden$Directory;" } : Jvm.MethodName)) ∈ lw_all := lw_g (lw_at lw_m9 153 rfl) rfl
theorem q2181 : (Jvm.Cond.selects "PageGarden$Directory" ({ cls := "PageGarden$Directory", name := "with", desc := "(II)LPageGarden$Directory;" } : Jvm.MethodName) ({ cls := "PageGarden$Directory", name := "with", desc := "(II)LPageGarden$Directory;" } : Jvm.MethodName)) ∈ lw_all := lw_g (lw_at lw_m9 154 rfl) rfl
theorem q2182 : (Jvm.Cond.code ({ cls := "PageGarden$Directory", name := "with", desc := "(II)LPageGarden$Directory;" } : Jvm.MethodName) prog_3_method_4_code (3 : Nat) (Option.some (Jvm.ClassFile.FieldType.object "PageGarden$Directory"))) ∈ lw_all := lw_g (lw_at lw_m9 155 rfl) rfl
theorem q2183 : (Jvm.Cond.classLink "PageGarden$Directory" (8 : Nat) "PageGarden$Directory") ∈ lw_all := lw_g (lw_at lw_m9 156 rfl) rfl
theorem q2184 : (Jvm.Cond.methodLinkNest "PageGarden$Directory" (13 : Nat) ({ cls := "PageGarden$Leaf", name := "more", desc := "([III)[I" } : Jvm.MethodName) "PageGarden") ∈ lw_tbl := lw_at lw_m9 157 rfl
theorem q2187 : (Jvm.Cond.methodLink "PageGarden$Directory" (19 : Nat) ({ cls := "PageGarden$Directory", name := "<init>", desc := "([I)V" } : Jvm.MethodName)) ∈ lw_all := lw_g (lw_at lw_m9 160 rfl) rfl
theorem q2207 : (Jvm.Cond.instanceMethod ({ cls := "PageGarden$Directory", name := "instead", desc := "(II)LPageGarden$Directory;" } : Jvm.MethodName)) ∈ lw_all := lw_g (lw_at lw_m9 180 rfl) rfl
theorem q2208 : (Jvm.Cond.selects "PageGarden$Directory" ({ cls := "PageGarden$Directory", name := "instead", desc := "(II)LPageGarden$Directory;" } : Jvm.MethodName) ({ cls := "PageGarden$Directory", name := "instead", desc := "(II)LPageGarden$Directory;" } : Jvm.MethodName)) ∈ lw_all := lw_g (lw_at lw_m9 181 rfl) rfl
theorem q2209 : (Jvm.Cond.code ({ cls := "PageGarden$Directory", name := "instead", desc := "(II)LPageGarden$Directory;" } : Jvm.MethodName) prog_3_method_5_code (4 : Nat) (Option.some (Jvm.ClassFile.FieldType.object "PageGarden$Directory"))) ∈ lw_all := lw_g (lw_at lw_m9 182 rfl) rfl
theorem q2210 : (Jvm.Cond.methodLink "PageGarden$Directory" (22 : Nat) ({ cls := "[I", name := "clone", desc := "()Ljava/lang/Object;" } : Jvm.MethodName)) ∈ lw_all := lw_g (lw_at lw_m9 183 rfl) rfl
theorem q2211 : (Jvm.Cond.classLink "PageGarden$Directory" (23 : Nat) "[I") ∈ lw_all := lw_g (lw_at lw_m9 184 rfl) rfl
theorem q2234 : (Jvm.Cond.instanceMethod ({ cls := "PageGarden$Directory", name := "without", desc := "(I)LPageGarden$Directory;" } : Jvm.MethodName)) ∈ lw_all := lw_g (lw_at lw_m9 207 rfl) rfl
theorem q2235 : (Jvm.Cond.selects "PageGarden$Directory" ({ cls := "PageGarden$Directory", name := "without", desc := "(I)LPageGarden$Directory;" } : Jvm.MethodName) ({ cls := "PageGarden$Directory", name := "without", desc := "(I)LPageGarden$Directory;" } : Jvm.MethodName)) ∈ lw_all := lw_g (lw_at lw_m9 208 rfl) rfl
theorem q2236 : (Jvm.Cond.code ({ cls := "PageGarden$Directory", name := "without", desc := "(I)LPageGarden$Directory;" } : Jvm.MethodName) prog_3_method_6_code (4 : Nat) (Option.some (Jvm.ClassFile.FieldType.object "PageGarden$Directory"))) ∈ lw_all := lw_g (lw_at lw_m9 209 rfl) rfl
theorem q2407 : (Jvm.Cond.castable "PageGarden$Directory" "PageGarden$Page") ∈ lw_tbl := lw_at lw_m10 140 rfl
theorem q2408 : (Jvm.Cond.selects "PageGarden$Directory" ({ cls := "PageGarden$Page", name := "size", desc := "()I" } : Jvm.MethodName) ({ cls := "PageGarden$Directory", name := "size", desc := "()I" } : Jvm.MethodName)) ∈ lw_all := lw_g (lw_at lw_m10 141 rfl) rfl
theorem q2409 : (Jvm.Cond.unhidden "PageGarden$Directory" "size" "()I") ∈ lw_tbl := lw_at lw_m10 142 rfl
theorem q2410 : (Jvm.Cond.instanceMethod ({ cls := "PageGarden$Directory", name := "size", desc := "()I" } : Jvm.MethodName)) ∈ lw_all := lw_g (lw_at lw_m10 143 rfl) rfl
theorem q2411 : (Jvm.Cond.publicMethod ({ cls := "PageGarden$Directory", name := "size", desc := "()I" } : Jvm.MethodName)) ∈ lw_tbl := lw_at lw_m10 144 rfl
theorem q2412 : (Jvm.Cond.code ({ cls := "PageGarden$Directory", name := "size", desc := "()I" } : Jvm.MethodName) prog_3_method_3_code (1 : Nat) (Option.some Jvm.ClassFile.FieldType.int)) ∈ lw_all := lw_g (lw_at lw_m10 145 rfl) rfl
theorem q2475 : (Jvm.Cond.selects "PageGarden$Directory" ({ cls := "PageGarden$Page", name := "kind", desc := "()I" } : Jvm.MethodName) ({ cls := "PageGarden$Directory", name := "kind", desc := "()I" } : Jvm.MethodName)) ∈ lw_all := lw_g (lw_at lw_m10 208 rfl) rfl
theorem q2476 : (Jvm.Cond.unhidden "PageGarden$Directory" "kind" "()I") ∈ lw_tbl := lw_at lw_m10 209 rfl
theorem q2477 : (Jvm.Cond.instanceMethod ({ cls := "PageGarden$Directory", name := "kind", desc := "()I" } : Jvm.MethodName)) ∈ lw_all := lw_g (lw_at lw_m10 210 rfl) rfl
theorem q2478 : (Jvm.Cond.publicMethod ({ cls := "PageGarden$Directory", name := "kind", desc := "()I" } : Jvm.MethodName)) ∈ lw_tbl := lw_at lw_m10 211 rfl
theorem q2479 : (Jvm.Cond.code ({ cls := "PageGarden$Directory", name := "kind", desc := "()I" } : Jvm.MethodName) prog_3_method_2_code (1 : Nat) (Option.some Jvm.ClassFile.FieldType.int)) ∈ lw_all := lw_g (lw_at lw_m10 212 rfl) rfl
theorem q3132 : (Jvm.Cond.selects "PageGarden$Directory" ({ cls := "PageGarden$Directory", name := "size", desc := "()I" } : Jvm.MethodName) ({ cls := "PageGarden$Directory", name := "size", desc := "()I" } : Jvm.MethodName)) ∈ lw_all := lw_g (lw_at lw_m13 145 rfl) rfl
theorem q3152 : (Jvm.Cond.castable "PageGarden$Directory" "java/lang/Object") ∈ lw_tbl := lw_at lw_m13 165 rfl
theorem q143 : (Jvm.Cond.initialized "PageGardenModel") ∈ lw_all := lw_g (lw_at lw_m1 36 rfl) rfl
theorem q361 : (Jvm.Cond.selects "PageGardenModel" ({ cls := "java/lang/Object", name := "hashCode", desc := "()I" } : Jvm.MethodName) ({ cls := "java/lang/Object", name := "hashCode", desc := "()I" } : Jvm.MethodName)) ∈ lw_all := lw_g (lw_at lw_m2 14 rfl) rfl
theorem q864 : (Jvm.Cond.selects "PageGardenModel" ({ cls := "java/lang/Object", name := "getClass", desc := "()Ljava/lang/Class;" } : Jvm.MethodName) ({ cls := "java/lang/Object", name := "getClass", desc := "()Ljava/lang/Class;" } : Jvm.MethodName)) ∈ lw_all := lw_g (lw_at lw_m4 37 rfl) rfl
theorem q1147 : (Jvm.Cond.selects "PageGardenModel" ({ cls := "java/lang/Object", name := "equals", desc := "(Ljava/lang/Object;)Z" } : Jvm.MethodName) ({ cls := "java/lang/Object", name := "equals", desc := "(Ljava/lang/Object;)Z" } : Jvm.MethodName)) ∈ lw_all := lw_g (lw_at lw_m5 80 rfl) rfl
theorem q2689 : (Jvm.Cond.instantiable "PageGardenModel" (13 : Nat)) ∈ lw_all := lw_g (lw_at lw_m11 182 rfl) rfl
theorem q2691 : (Jvm.Cond.instanceMethod ({ cls := "PageGardenModel", name := "<init>", desc := "()V" } : Jvm.MethodName)) ∈ lw_all := lw_g (lw_at lw_m11 184 rfl) rfl
theorem q2692 : (Jvm.Cond.code ({ cls := "PageGardenModel", name := "<init>", desc := "()V" } : Jvm.MethodName) prog_18_method_1_code (1 : Nat) (Option.none : Option Jvm.ClassFile.FieldType)) ∈ lw_all := lw_g (lw_at lw_m11 185 rfl) rfl
theorem q2693 : (Jvm.Cond.methodLink "PageGardenModel" (1 : Nat) ({ cls := "java/lang/Object", name := "<init>", desc := "()V" } : Jvm.MethodName)) ∈ lw_all := lw_g (lw_at lw_m11 186 rfl) rfl
theorem q2694 : (Jvm.Cond.fieldLink "PageGardenModel" (7 : Nat) "PageGardenModel" "p" "[I") ∈ lw_all := lw_g (lw_at lw_m11 187 rfl) rfl
theorem q2695 : (Jvm.Cond.fieldLink "PageGardenModel" (13 : Nat) "PageGardenModel" "aside" "[I") ∈ lw_all := lw_g (lw_at lw_m11 188 rfl) rfl
theorem q2696 : (Jvm.Cond.fieldLink "PageGardenModel" (16 : Nat) "PageGardenModel" "saved" "[I") ∈ lw_all := lw_g (lw_at lw_m11 189 rfl) rfl
theorem q2697 : (Jvm.Cond.fieldLink "PageGardenModel" (39 : Nat) "PageGardenModel" "states" "I") ∈ lw_all := lw_g (lw_at lw_m11 190 rfl) rfl
theorem q2698 : (Jvm.Cond.fieldLink "PageGardenModel" (19 : Nat) "PageGardenModel" "text" "[I") ∈ lw_all := lw_g (lw_at lw_m11 191 rfl) rfl
theorem q2699 : (Jvm.Cond.fieldLink "PageGardenModel" (211 : Nat) "PageGardenModel" "length" "I") ∈ lw_all := lw_g (lw_at lw_m11 192 rfl) rfl
theorem q2700 : (Jvm.Cond.fieldLink "PageGardenModel" (28 : Nat) "PageGardenModel" "thrown" "I") ∈ lw_all := lw_g (lw_at lw_m11 193 rfl) rfl
theorem q2701 : (Jvm.Cond.fieldLink "PageGardenModel" (32 : Nat) "PageGardenModel" "code" "I") ∈ lw_all := lw_g (lw_at lw_m11 194 rfl) rfl
theorem q2702 : (Jvm.Cond.fieldLink "PageGardenModel" (22 : Nat) "PageGardenModel" "row" "[I") ∈ lw_all := lw_g (lw_at lw_m11 195 rfl) rfl
theorem q2703 : (Jvm.Cond.fieldLink "PageGardenModel" (220 : Nat) "PageGardenModel" "at" "I") ∈ lw_all := lw_g (lw_at lw_m11 196 rfl) rfl
theorem q2704 : (Jvm.Cond.fieldLink "PageGardenModel" (248 : Nat) "PageGardenModel" "command" "I") ∈ lw_all := lw_g (lw_at lw_m11 197 rfl) rfl
theorem q2705 : (Jvm.Cond.fieldLink "PageGardenModel" (25 : Nat) "PageGardenModel" "number" "[I") ∈ lw_all := lw_g (lw_at lw_m11 198 rfl) rfl
theorem q2706 : (Jvm.Cond.fieldLink "PageGardenModel" (269 : Nat) "PageGardenModel" "hash" "J") ∈ lw_all := lw_g (lw_at lw_m11 199 rfl) rfl
theorem q2707 : (Jvm.Cond.laysFinal "PageGardenModel" "PageGardenModel" "p" "[I") ∈ lw_all := lw_g (lw_at lw_m11 200 rfl) rfl
theorem q2708 : (Jvm.Cond.soleField "PageGardenModel" "p") ∈ lw_all := lw_g (lw_at lw_m11 201 rfl) rfl
theorem q2709 : (Jvm.Cond.laysFinal "PageGardenModel" "PageGardenModel" "aside" "[I") ∈ lw_all := lw_g (lw_at lw_m11 202 rfl) rfl
theorem q2710 : (Jvm.Cond.soleField "PageGardenModel" "aside") ∈ lw_all := lw_g (lw_at lw_m11 203 rfl) rfl
theorem q2711 : (Jvm.Cond.laysFinal "PageGardenModel" "PageGardenModel" "saved" "[I") ∈ lw_all := lw_g (lw_at lw_m11 204 rfl) rfl
theorem q2712 : (Jvm.Cond.soleField "PageGardenModel" "saved") ∈ lw_all := lw_g (lw_at lw_m11 205 rfl) rfl
theorem q2713 : (Jvm.Cond.lays "PageGardenModel" "PageGardenModel" "states" "I") ∈ lw_all := lw_g (lw_at lw_m11 206 rfl) rfl
theorem q2714 : (Jvm.Cond.soleField "PageGardenModel" "states") ∈ lw_all := lw_g (lw_at lw_m11 207 rfl) rfl
theorem q2715 : (Jvm.Cond.laysFinal "PageGardenModel" "PageGardenModel" "text" "[I") ∈ lw_all := lw_g (lw_at lw_m11 208 rfl) rfl
theorem q2716 : (Jvm.Cond.soleField "PageGardenModel" "text") ∈ lw_all := lw_g (lw_at lw_m11 209 rfl) rfl
theorem q2717 : (Jvm.Cond.lays "PageGardenModel" "PageGardenModel" "length" "I") ∈ lw_all := lw_g (lw_at lw_m11 210 rfl) rfl
theorem q2718 : (Jvm.Cond.soleField "PageGardenModel" "length") ∈ lw_all := lw_g (lw_at lw_m11 211 rfl) rfl
theorem q2719 : (Jvm.Cond.lays "PageGardenModel" "PageGardenModel" "thrown" "I") ∈ lw_all := lw_g (lw_at lw_m11 212 rfl) rfl
theorem q2720 : (Jvm.Cond.soleField "PageGardenModel" "thrown") ∈ lw_all := lw_g (lw_at lw_m11 213 rfl) rfl
theorem q2721 : (Jvm.Cond.lays "PageGardenModel" "PageGardenModel" "code" "I") ∈ lw_all := lw_g (lw_at lw_m11 214 rfl) rfl
theorem q2722 : (Jvm.Cond.soleField "PageGardenModel" "code") ∈ lw_all := lw_g (lw_at lw_m11 215 rfl) rfl
theorem q2723 : (Jvm.Cond.laysFinal "PageGardenModel" "PageGardenModel" "row" "[I") ∈ lw_all := lw_g (lw_at lw_m11 216 rfl) rfl
theorem q2724 : (Jvm.Cond.soleField "PageGardenModel" "row") ∈ lw_all := lw_g (lw_at lw_m11 217 rfl) rfl
theorem q2725 : (Jvm.Cond.lays "PageGardenModel" "PageGardenModel" "at" "I") ∈ lw_all := lw_g (lw_at lw_m11 218 rfl) rfl
theorem q2726 : (Jvm.Cond.soleField "PageGardenModel" "at") ∈ lw_all := lw_g (lw_at lw_m11 219 rfl) rfl
theorem q2727 : (Jvm.Cond.lays "PageGardenModel" "PageGardenModel" "command" "I") ∈ lw_all := lw_g (lw_at lw_m11 220 rfl) rfl
theorem q2728 : (Jvm.Cond.soleField "PageGardenModel" "command") ∈ lw_all := lw_g (lw_at lw_m11 221 rfl) rfl
theorem q2729 : (Jvm.Cond.laysFinal "PageGardenModel" "PageGardenModel" "number" "[I") ∈ lw_all := lw_g (lw_at lw_m11 222 rfl) rfl
theorem q2730 : (Jvm.Cond.soleField "PageGardenModel" "number") ∈ lw_all := lw_g (lw_at lw_m11 223 rfl) rfl
theorem q2731 : (Jvm.Cond.lays "PageGardenModel" "PageGardenModel" "hash" "J") ∈ lw_all := lw_g (lw_at lw_m11 224 rfl) rfl
theorem q2732 : (Jvm.Cond.soleField "PageGardenModel" "hash") ∈ lw_all := lw_g (lw_at lw_m11 225 rfl) rfl
theorem q2733 : (Jvm.Cond.superclass "PageGardenModel" "java/lang/Object") ∈ lw_all := lw_g (lw_at lw_m11 226 rfl) rfl
theorem q2735 : (Jvm.Cond.instanceMethod ({ cls := "PageGardenModel", name := "thrown", desc := "()I" } : Jvm.MethodName)) ∈ lw_all := lw_g (lw_at lw_m11 228 rfl) rfl
theorem q2736 : (Jvm.Cond.selects "PageGardenModel" ({ cls := "PageGardenModel", name := "thrown", desc := "()I" } : Jvm.MethodName) ({ cls := "PageGardenModel", name := "thrown", desc := "()I" } : Jvm.MethodName)) ∈ lw_all := lw_g (lw_at lw_m11 229 rfl) rfl
theorem q2737 : (Jvm.Cond.code ({ cls := "PageGardenModel", name := "thrown", desc := "()I" } : Jvm.MethodName) prog_18_method_2_code (1 : Nat) (Option.some Jvm.ClassFile.FieldType.int)) ∈ lw_all := lw_g (lw_at lw_m11 230 rfl) rfl
theorem q2739 : (Jvm.Cond.instanceMethod ({ cls := "PageGardenModel", name := "begin", desc := "()I" } : Jvm.MethodName)) ∈ lw_all := lw_g (lw_at lw_m11 232 rfl) rfl
theorem q2740 : (Jvm.Cond.selects "PageGardenModel" ({ cls := "PageGardenModel", name := "begin", desc := "()I" } : Jvm.MethodName) ({ cls := "PageGardenModel", name := "begin", desc := "()I" } : Jvm.MethodName)) ∈ lw_all := lw_g (lw_at lw_m11 233 rfl) rfl
theorem q2741 : (Jvm.Cond.code ({ cls := "PageGardenModel", name := "begin", desc := "()I" } : Jvm.MethodName) prog_18_method_41_code (1 : Nat) (Option.some Jvm.ClassFile.FieldType.int)) ∈ lw_all := lw_g (lw_at lw_m11 234 rfl) rfl
theorem q2742 : (Jvm.Cond.methodLink "PageGardenModel" (142 : Nat) ({ cls := "PageGardenModel", name := "hold", desc := "()V" } : Jvm.MethodName)) ∈ lw_all := lw_g (lw_at lw_m11 235 rfl) rfl
theorem q2743 : (Jvm.Cond.privateMethod ({ cls := "PageGardenModel", name := "hold", desc := "()V" } : Jvm.MethodName)) ∈ lw_tbl := lw_at lw_m11 236 rfl
theorem q2744 : (Jvm.Cond.instanceMethod ({ cls := "PageGardenModel", name := "hold", desc := "()V" } : Jvm.MethodName)) ∈ lw_all := lw_g (lw_at lw_m11 237 rfl) rfl
theorem q2745 : (Jvm.Cond.code ({ cls := "PageGardenModel", name := "hold", desc := "()V" } : Jvm.MethodName) prog_18_method_5_code (1 : Nat) (Option.none : Option Jvm.ClassFile.FieldType)) ∈ lw_all := lw_g (lw_at lw_m11 238 rfl) rfl
theorem q2746 : (Jvm.Cond.methodLink "PageGardenModel" (35 : Nat) ({ cls := "PageGardenModel", name := "bring", desc := "([II[II)V" } : Jvm.MethodName)) ∈ lw_all := lw_g (lw_at lw_m11 239 rfl) rfl
theorem q2747 : (Jvm.Cond.static ({ cls := "PageGardenModel", name := "bring", desc := "([II[II)V" } : Jvm.MethodName)) ∈ lw_all := lw_g (lw_at lw_m12 0 rfl) rfl
theorem q2748 : (Jvm.Cond.code ({ cls := "PageGardenModel", name := "bring", desc := "([II[II)V" } : Jvm.MethodName) prog_18_method_4_code (5 : Nat) (Option.none : Option Jvm.ClassFile.FieldType)) ∈ lw_all := lw_g (lw_at lw_m12 1 rfl) rfl
theorem q2749 : (Jvm.Cond.methodLink "PageGardenModel" (145 : Nat) ({ cls := "PageGardenModel", name := "doBegin", desc := "()I" } : Jvm.MethodName)) ∈ lw_all := lw_g (lw_at lw_m12 2 rfl) rfl
theorem q2750 : (Jvm.Cond.privateMethod ({ cls := "PageGardenModel", name := "doBegin", desc := "()I" } : Jvm.MethodName)) ∈ lw_tbl := lw_at lw_m12 3 rfl
theorem q2751 : (Jvm.Cond.instanceMethod ({ cls := "PageGardenModel", name := "doBegin", desc := "()I" } : Jvm.MethodName)) ∈ lw_all := lw_g (lw_at lw_m12 4 rfl) rfl
theorem q2752 : (Jvm.Cond.code ({ cls := "PageGardenModel", name := "doBegin", desc := "()I" } : Jvm.MethodName) prog_18_method_40_code (1 : Nat) (Option.some Jvm.ClassFile.FieldType.int)) ∈ lw_all := lw_g (lw_at lw_m12 5 rfl) rfl
theorem q2753 : (Jvm.Cond.methodLink "PageGardenModel" (117 : Nat) ({ cls := "PageGardenModel", name := "refuse", desc := "(I)I" } : Jvm.MethodName)) ∈ lw_all := lw_g (lw_at lw_m12 6 rfl) rfl
theorem q2754 : (Jvm.Cond.privateMethod ({ cls := "PageGardenModel", name := "refuse", desc := "(I)I" } : Jvm.MethodName)) ∈ lw_tbl := lw_at lw_m12 7 rfl
theorem q2755 : (Jvm.Cond.instanceMethod ({ cls := "PageGardenModel", name := "refuse", desc := "(I)I" } : Jvm.MethodName)) ∈ lw_all := lw_g (lw_at lw_m12 8 rfl) rfl
theorem q2756 : (Jvm.Cond.code ({ cls := "PageGardenModel", name := "refuse", desc := "(I)I" } : Jvm.MethodName) prog_18_method_7_code (2 : Nat) (Option.some Jvm.ClassFile.FieldType.int)) ∈ lw_all := lw_g (lw_at lw_m12 9 rfl) rfl
theorem q2757 : (Jvm.Cond.methodLink "PageGardenModel" (42 : Nat) ({ cls := "PageGardenModel", name := "current", desc := "()I" } : Jvm.MethodName)) ∈ lw_all := lw_g (lw_at lw_m12 10 rfl) rfl
theorem q2758 : (Jvm.Cond.privateMethod ({ cls := "PageGardenModel", name := "current", desc := "()I" } : Jvm.MethodName)) ∈ lw_tbl := lw_at lw_m12 11 rfl
theorem q2759 : (Jvm.Cond.instanceMethod ({ cls := "PageGardenModel", name := "current", desc := "()I" } : Jvm.MethodName)) ∈ lw_all := lw_g (lw_at lw_m12 12 rfl) rfl
theorem q2760 : (Jvm.Cond.code ({ cls := "PageGardenModel", name := "current", desc := "()I" } : Jvm.MethodName) prog_18_method_11_code (2 : Nat) (Option.some Jvm.ClassFile.FieldType.int)) ∈ lw_all := lw_g (lw_at lw_m12 13 rfl) rfl
theorem q2761 : (Jvm.Cond.methodLink "PageGardenModel" (46 : Nat) ({ cls := "PageGardenModel", name := "ofRoot", desc := "(II)I" } : Jvm.MethodName)) ∈ lw_all := lw_g (lw_at lw_m12 14 rfl) rfl
theorem q2762 : (Jvm.Cond.privateMethod ({ cls := "PageGardenModel", name := "ofRoot", desc := "(II)I" } : Jvm.MethodName)) ∈ lw_tbl := lw_at lw_m12 15 rfl
theorem q2763 : (Jvm.Cond.instanceMethod ({ cls := "PageGardenModel", name := "ofRoot", desc := "(II)I" } : Jvm.MethodName)) ∈ lw_all := lw_g (lw_at lw_m12 16 rfl) rfl
theorem q2764 : (Jvm.Cond.code ({ cls := "PageGardenModel", name := "ofRoot", desc := "(II)I" } : Jvm.MethodName) prog_18_method_12_code (3 : Nat) (Option.some Jvm.ClassFile.FieldType.int)) ∈ lw_all := lw_g (lw_at lw_m12 17 rfl) rfl
theorem q2765 : (Jvm.Cond.methodLink "PageGardenModel" (148 : Nat) ({ cls := "PageGardenModel", name := "ends", desc := "(I)I" } : Jvm.MethodName)) ∈ lw_all := lw_g (lw_at lw_m12 18 rfl) rfl
theorem q2766 : (Jvm.Cond.privateMethod ({ cls := "PageGardenModel", name := "ends", desc := "(I)I" } : Jvm.MethodName)) ∈ lw_tbl := lw_at lw_m12 19 rfl
theorem q2767 : (Jvm.Cond.instanceMethod ({ cls := "PageGardenModel", name := "ends", desc := "(I)I" } : Jvm.MethodName)) ∈ lw_all := lw_g (lw_at lw_m12 20 rfl) rfl
theorem q2768 : (Jvm.Cond.code ({ cls := "PageGardenModel", name := "ends", desc := "(I)I" } : Jvm.MethodName) prog_18_method_6_code (3 : Nat) (Option.some Jvm.ClassFile.FieldType.int)) ∈ lw_all := lw_g (lw_at lw_m12 21 rfl) rfl
theorem q2770 : (Jvm.Cond.instanceMethod ({ cls := "PageGardenModel", name := "put", desc := "(II)I" } : Jvm.MethodName)) ∈ lw_all := lw_g (lw_at lw_m12 23 rfl) rfl
theorem q2771 : (Jvm.Cond.selects "PageGardenModel" ({ cls := "PageGardenModel", name := "put", desc := "(II)I" } : Jvm.MethodName) ({ cls := "PageGardenModel", name := "put", desc := "(II)I" } : Jvm.MethodName)) ∈ lw_all := lw_g (lw_at lw_m12 24 rfl) rfl
theorem q2772 : (Jvm.Cond.code ({ cls := "PageGardenModel", name := "put", desc := "(II)I" } : Jvm.MethodName) prog_18_method_42_code (3 : Nat) (Option.some Jvm.ClassFile.FieldType.int)) ∈ lw_all := lw_g (lw_at lw_m12 25 rfl) rfl
theorem q2773 : (Jvm.Cond.methodLink "PageGardenModel" (151 : Nat) ({ cls := "PageGardenModel", name := "doPut", desc := "(II)I" } : Jvm.MethodName)) ∈ lw_all := lw_g (lw_at lw_m12 26 rfl) rfl
theorem q2774 : (Jvm.Cond.privateMethod ({ cls := "PageGardenModel", name := "doPut", desc := "(II)I" } : Jvm.MethodName)) ∈ lw_tbl := lw_at lw_m12 27 rfl
theorem q2775 : (Jvm.Cond.instanceMethod ({ cls := "PageGardenModel", name := "doPut", desc := "(II)I" } : Jvm.MethodName)) ∈ lw_all := lw_g (lw_at lw_m12 28 rfl) rfl
theorem q2776 : (Jvm.Cond.code ({ cls := "PageGardenModel", name := "doPut", desc := "(II)I" } : Jvm.MethodName) prog_18_method_38_code (9 : Nat) (Option.some Jvm.ClassFile.FieldType.int)) ∈ lw_all := lw_g (lw_at lw_m12 29 rfl) rfl
theorem q2777 : (Jvm.Cond.methodLink "PageGardenModel" (113 : Nat) ({ cls := "PageGardenModel", name := "in", desc := "(III)Z" } : Jvm.MethodName)) ∈ lw_all := lw_g (lw_at lw_m12 30 rfl) rfl
theorem q2778 : (Jvm.Cond.static ({ cls := "PageGardenModel", name := "in", desc := "(III)Z" } : Jvm.MethodName)) ∈ lw_all := lw_g (lw_at lw_m12 31 rfl) rfl
theorem q2779 : (Jvm.Cond.code ({ cls := "PageGardenModel", name := "in", desc := "(III)Z" } : Jvm.MethodName) prog_18_method_3_code (3 : Nat) (Option.some Jvm.ClassFile.FieldType.boolean)) ∈ lw_all := lw_g (lw_at lw_m12 32 rfl) rfl
theorem q2780 : (Jvm.Cond.methodLink "PageGardenModel" (120 : Nat) ({ cls := "PageGardenModel", name := "bedsOf", desc := "(I)I" } : Jvm.MethodName)) ∈ lw_all := lw_g (lw_at lw_m12 33 rfl) rfl
theorem q2781 : (Jvm.Cond.privateMethod ({ cls := "PageGardenModel", name := "bedsOf", desc := "(I)I" } : Jvm.MethodName)) ∈ lw_tbl := lw_at lw_m12 34 rfl
theorem q2782 : (Jvm.Cond.instanceMethod ({ cls := "PageGardenModel", name := "bedsOf", desc := "(I)I" } : Jvm.MethodName)) ∈ lw_all := lw_g (lw_at lw_m12 35 rfl) rfl
theorem q2783 : (Jvm.Cond.code ({ cls := "PageGardenModel", name := "bedsOf", desc := "(I)I" } : Jvm.MethodName) prog_18_method_31_code (8 : Nat) (Option.some Jvm.ClassFile.FieldType.int)) ∈ lw_all := lw_g (lw_at lw_m12 36 rfl) rfl
theorem q2784 : (Jvm.Cond.methodLink "PageGardenModel" (93 : Nat) ({ cls := "PageGardenModel", name := "drafts", desc := "()I" } : Jvm.MethodName)) ∈ lw_all := lw_g (lw_at lw_m12 37 rfl) rfl
theorem q2785 : (Jvm.Cond.privateMethod ({ cls := "PageGardenModel", name := "drafts", desc := "()I" } : Jvm.MethodName)) ∈ lw_tbl := lw_at lw_m12 38 rfl
theorem q2786 : (Jvm.Cond.instanceMethod ({ cls := "PageGardenModel", name := "drafts", desc := "()I" } : Jvm.MethodName)) ∈ lw_all := lw_g (lw_at lw_m12 39 rfl) rfl
theorem q2787 : (Jvm.Cond.code ({ cls := "PageGardenModel", name := "drafts", desc := "()I" } : Jvm.MethodName) prog_18_method_30_code (1 : Nat) (Option.some Jvm.ClassFile.FieldType.int)) ∈ lw_all := lw_g (lw_at lw_m12 40 rfl) rfl
theorem q2788 : (Jvm.Cond.methodLink "PageGardenModel" (90 : Nat) ({ cls := "PageGardenModel", name := "now", desc := "()I" } : Jvm.MethodName)) ∈ lw_all := lw_g (lw_at lw_m12 41 rfl) rfl
theorem q2789 : (Jvm.Cond.privateMethod ({ cls := "PageGardenModel", name := "now", desc := "()I" } : Jvm.MethodName)) ∈ lw_tbl := lw_at lw_m12 42 rfl
theorem q2790 : (Jvm.Cond.instanceMethod ({ cls := "PageGardenModel", name := "now", desc := "()I" } : Jvm.MethodName)) ∈ lw_all := lw_g (lw_at lw_m12 43 rfl) rfl
theorem q2791 : (Jvm.Cond.code ({ cls := "PageGardenModel", name := "now", desc := "()I" } : Jvm.MethodName) prog_18_method_29_code (1 : Nat) (Option.some Jvm.ClassFile.FieldType.int)) ∈ lw_all := lw_g (lw_at lw_m12 44 rfl) rfl
theorem q2792 : (Jvm.Cond.methodLink "PageGardenModel" (81 : Nat) ({ cls := "PageGardenModel", name := "placeFor", desc := "(II)I" } : Jvm.MethodName)) ∈ lw_all := lw_g (lw_at lw_m12 45 rfl) rfl
theorem q2793 : (Jvm.Cond.privateMethod ({ cls := "PageGardenModel", name := "placeFor", desc := "(II)I" } : Jvm.MethodName)) ∈ lw_tbl := lw_at lw_m12 46 rfl
theorem q2794 : (Jvm.Cond.instanceMethod ({ cls := "PageGardenModel", name := "placeFor", desc := "(II)I" } : Jvm.MethodName)) ∈ lw_all := lw_g (lw_at lw_m12 47 rfl) rfl
theorem q2795 : (Jvm.Cond.code ({ cls := "PageGardenModel", name := "placeFor", desc := "(II)I" } : Jvm.MethodName) prog_18_method_25_code (5 : Nat) (Option.some Jvm.ClassFile.FieldType.int)) ∈ lw_all := lw_g (lw_at lw_m12 48 rfl) rfl
theorem q2796 : (Jvm.Cond.methodLink "PageGardenModel" (53 : Nat) ({ cls := "PageGardenModel", name := "of", desc := "(II)I" } : Jvm.MethodName)) ∈ lw_all := lw_g (lw_at lw_m12 49 rfl) rfl
theorem q2797 : (Jvm.Cond.privateMethod ({ cls := "PageGardenModel", name := "of", desc := "(II)I" } : Jvm.MethodName)) ∈ lw_tbl := lw_at lw_m12 50 rfl
theorem q2798 : (Jvm.Cond.instanceMethod ({ cls := "PageGardenModel", name := "of", desc := "(II)I" } : Jvm.MethodName)) ∈ lw_all := lw_g (lw_at lw_m12 51 rfl) rfl
theorem q2799 : (Jvm.Cond.code ({ cls := "PageGardenModel", name := "of", desc := "(II)I" } : Jvm.MethodName) prog_18_method_9_code (3 : Nat) (Option.some Jvm.ClassFile.FieldType.int)) ∈ lw_all := lw_g (lw_at lw_m12 52 rfl) rfl
theorem q2800 : (Jvm.Cond.methodLink "PageGardenModel" (75 : Nat) ({ cls := "PageGardenModel", name := "leafAt", desc := "(II)I" } : Jvm.MethodName)) ∈ lw_all := lw_g (lw_at lw_m12 53 rfl) rfl
theorem q2801 : (Jvm.Cond.privateMethod ({ cls := "PageGardenModel", name := "leafAt", desc := "(II)I" } : Jvm.MethodName)) ∈ lw_tbl := lw_at lw_m12 54 rfl
theorem q2802 : (Jvm.Cond.instanceMethod ({ cls := "PageGardenModel", name := "leafAt", desc := "(II)I" } : Jvm.MethodName)) ∈ lw_all := lw_g (lw_at lw_m12 55 rfl) rfl
theorem q2803 : (Jvm.Cond.code ({ cls := "PageGardenModel", name := "leafAt", desc := "(II)I" } : Jvm.MethodName) prog_18_method_22_code (3 : Nat) (Option.some Jvm.ClassFile.FieldType.int)) ∈ lw_all := lw_g (lw_at lw_m12 56 rfl) rfl
theorem q2804 : (Jvm.Cond.methodLink "PageGardenModel" (78 : Nat) ({ cls := "PageGardenModel", name := "keyAt", desc := "(II)I" } : Jvm.MethodName)) ∈ lw_all := lw_g (lw_at lw_m12 57 rfl) rfl
theorem q2805 : (Jvm.Cond.privateMethod ({ cls := "PageGardenModel", name := "keyAt", desc := "(II)I" } : Jvm.MethodName)) ∈ lw_tbl := lw_at lw_m12 58 rfl
theorem q2806 : (Jvm.Cond.instanceMethod ({ cls := "PageGardenModel", name := "keyAt", desc := "(II)I" } : Jvm.MethodName)) ∈ lw_all := lw_g (lw_at lw_m12 59 rfl) rfl
theorem q2807 : (Jvm.Cond.code ({ cls := "PageGardenModel", name := "keyAt", desc := "(II)I" } : Jvm.MethodName) prog_18_method_23_code (3 : Nat) (Option.some Jvm.ClassFile.FieldType.int)) ∈ lw_all := lw_g (lw_at lw_m12 60 rfl) rfl
theorem q2808 : (Jvm.Cond.methodLink "PageGardenModel" (84 : Nat) ({ cls := "PageGardenModel", name := "placeIn", desc := "(II)I" } : Jvm.MethodName)) ∈ lw_all := lw_g (lw_at lw_m12 61 rfl) rfl
theorem q2809 : (Jvm.Cond.privateMethod ({ cls := "PageGardenModel", name := "placeIn", desc := "(II)I" } : Jvm.MethodName)) ∈ lw_tbl := lw_at lw_m12 62 rfl
theorem q2810 : (Jvm.Cond.instanceMethod ({ cls := "PageGardenModel", name := "placeIn", desc := "(II)I" } : Jvm.MethodName)) ∈ lw_all := lw_g (lw_at lw_m12 63 rfl) rfl
theorem q2811 : (Jvm.Cond.code ({ cls := "PageGardenModel", name := "placeIn", desc := "(II)I" } : Jvm.MethodName) prog_18_method_26_code (4 : Nat) (Option.some Jvm.ClassFile.FieldType.int)) ∈ lw_all := lw_g (lw_at lw_m12 64 rfl) rfl
theorem q2812 : (Jvm.Cond.methodLink "PageGardenModel" (123 : Nat) ({ cls := "PageGardenModel", name := "manyToDig", desc := "()I" } : Jvm.MethodName)) ∈ lw_all := lw_g (lw_at lw_m12 65 rfl) rfl
theorem q2813 : (Jvm.Cond.privateMethod ({ cls := "PageGardenModel", name := "manyToDig", desc := "()I" } : Jvm.MethodName)) ∈ lw_tbl := lw_at lw_m12 66 rfl
theorem q2814 : (Jvm.Cond.instanceMethod ({ cls := "PageGardenModel", name := "manyToDig", desc := "()I" } : Jvm.MethodName)) ∈ lw_all := lw_g (lw_at lw_m12 67 rfl) rfl
theorem q2815 : (Jvm.Cond.code ({ cls := "PageGardenModel", name := "manyToDig", desc := "()I" } : Jvm.MethodName) prog_18_method_17_code (3 : Nat) (Option.some Jvm.ClassFile.FieldType.int)) ∈ lw_all := lw_g (lw_at lw_m12 68 rfl) rfl
theorem q2816 : (Jvm.Cond.methodLink "PageGardenModel" (60 : Nat) ({ cls := "PageGardenModel", name := "canBeDug", desc := "(I)Z" } : Jvm.MethodName)) ∈ lw_all := lw_g (lw_at lw_m12 69 rfl) rfl
theorem q2817 : (Jvm.Cond.privateMethod ({ cls := "PageGardenModel", name := "canBeDug", desc := "(I)Z" } : Jvm.MethodName)) ∈ lw_tbl := lw_at lw_m12 70 rfl
theorem q2818 : (Jvm.Cond.instanceMethod ({ cls := "PageGardenModel", name := "canBeDug", desc := "(I)Z" } : Jvm.MethodName)) ∈ lw_all := lw_g (lw_at lw_m12 71 rfl) rfl
theorem q2819 : (Jvm.Cond.code ({ cls := "PageGardenModel", name := "canBeDug", desc := "(I)Z" } : Jvm.MethodName) prog_18_method_15_code (2 : Nat) (Option.some Jvm.ClassFile.FieldType.boolean)) ∈ lw_all := lw_g (lw_at lw_m12 72 rfl) rfl
theorem q2820 : (Jvm.Cond.methodLink "PageGardenModel" (56 : Nat) ({ cls := "PageGardenModel", name := "needed", desc := "(I)I" } : Jvm.MethodName)) ∈ lw_all := lw_g (lw_at lw_m12 73 rfl) rfl
theorem q2821 : (Jvm.Cond.privateMethod ({ cls := "PageGardenModel", name := "needed", desc := "(I)I" } : Jvm.MethodName)) ∈ lw_tbl := lw_at lw_m12 74 rfl
theorem q2822 : (Jvm.Cond.instanceMethod ({ cls := "PageGardenModel", name := "needed", desc := "(I)I" } : Jvm.MethodName)) ∈ lw_all := lw_g (lw_at lw_m12 75 rfl) rfl
theorem q2823 : (Jvm.Cond.code ({ cls := "PageGardenModel", name := "needed", desc := "(I)I" } : Jvm.MethodName) prog_18_method_14_code (5 : Nat) (Option.some Jvm.ClassFile.FieldType.int)) ∈ lw_all := lw_g (lw_at lw_m12 76 rfl) rfl
theorem q2824 : (Jvm.Cond.methodLink "PageGardenModel" (50 : Nat) ({ cls := "PageGardenModel", name := "ofReader", desc := "(II)I" } : Jvm.MethodName)) ∈ lw_all := lw_g (lw_at lw_m12 77 rfl) rfl
theorem q2825 : (Jvm.Cond.privateMethod ({ cls := "PageGardenModel", name := "ofReader", desc := "(II)I" } : Jvm.MethodName)) ∈ lw_tbl := lw_at lw_m12 78 rfl
theorem q2826 : (Jvm.Cond.instanceMethod ({ cls := "PageGardenModel", name := "ofReader", desc := "(II)I" } : Jvm.MethodName)) ∈ lw_all := lw_g (lw_at lw_m12 79 rfl) rfl
theorem q2827 : (Jvm.Cond.code ({ cls := "PageGardenModel", name := "ofReader", desc := "(II)I" } : Jvm.MethodName) prog_18_method_13_code (3 : Nat) (Option.some Jvm.ClassFile.FieldType.int)) ∈ lw_all := lw_g (lw_at lw_m12 80 rfl) rfl
theorem q2828 : (Jvm.Cond.methodLink "PageGardenModel" (126 : Nat) ({ cls := "PageGardenModel", name := "directory", desc := "()I" } : Jvm.MethodName)) ∈ lw_all := lw_g (lw_at lw_m12 81 rfl) rfl
theorem q2829 : (Jvm.Cond.privateMethod ({ cls := "PageGardenModel", name := "directory", desc := "()I" } : Jvm.MethodName)) ∈ lw_tbl := lw_at lw_m12 82 rfl
theorem q2830 : (Jvm.Cond.instanceMethod ({ cls := "PageGardenModel", name := "directory", desc := "()I" } : Jvm.MethodName)) ∈ lw_all := lw_g (lw_at lw_m12 83 rfl) rfl
theorem q2831 : (Jvm.Cond.code ({ cls := "PageGardenModel", name := "directory", desc := "()I" } : Jvm.MethodName) prog_18_method_32_code (2 : Nat) (Option.some Jvm.ClassFile.FieldType.int)) ∈ lw_all := lw_g (lw_at lw_m12 84 rfl) rfl
theorem q2832 : (Jvm.Cond.methodLink "PageGardenModel" (96 : Nat) ({ cls := "PageGardenModel", name := "dig", desc := "(I)I" } : Jvm.MethodName)) ∈ lw_all := lw_g (lw_at lw_m12 85 rfl) rfl
theorem q2833 : (Jvm.Cond.privateMethod ({ cls := "PageGardenModel", name := "dig", desc := "(I)I" } : Jvm.MethodName)) ∈ lw_tbl := lw_at lw_m12 86 rfl
theorem q2834 : (Jvm.Cond.instanceMethod ({ cls := "PageGardenModel", name := "dig", desc := "(I)I" } : Jvm.MethodName)) ∈ lw_all := lw_g (lw_at lw_m12 87 rfl) rfl
theorem q2835 : (Jvm.Cond.code ({ cls := "PageGardenModel", name := "dig", desc := "(I)I" } : Jvm.MethodName) prog_18_method_18_code (3 : Nat) (Option.some Jvm.ClassFile.FieldType.int)) ∈ lw_all := lw_g (lw_at lw_m12 88 rfl) rfl
theorem q2836 : (Jvm.Cond.methodLink "PageGardenModel" (64 : Nat) ({ cls := "PageGardenModel", name := "nextNow", desc := "()I" } : Jvm.MethodName)) ∈ lw_all := lw_g (lw_at lw_m12 89 rfl) rfl
theorem q2837 : (Jvm.Cond.privateMethod ({ cls := "PageGardenModel", name := "nextNow", desc := "()I" } : Jvm.MethodName)) ∈ lw_tbl := lw_at lw_m12 90 rfl
theorem q2838 : (Jvm.Cond.instanceMethod ({ cls := "PageGardenModel", name := "nextNow", desc := "()I" } : Jvm.MethodName)) ∈ lw_all := lw_g (lw_at lw_m12 91 rfl) rfl
theorem q2839 : (Jvm.Cond.code ({ cls := "PageGardenModel", name := "nextNow", desc := "()I" } : Jvm.MethodName) prog_18_method_16_code (4 : Nat) (Option.some Jvm.ClassFile.FieldType.int)) ∈ lw_all := lw_g (lw_at lw_m12 92 rfl) rfl
theorem q2840 : (Jvm.Cond.methodLink "PageGardenModel" (67 : Nat) ({ cls := "PageGardenModel", name := "lay", desc := "(III)V" } : Jvm.MethodName)) ∈ lw_all := lw_g (lw_at lw_m12 93 rfl) rfl
theorem q2841 : (Jvm.Cond.privateMethod ({ cls := "PageGardenModel", name := "lay", desc := "(III)V" } : Jvm.MethodName)) ∈ lw_tbl := lw_at lw_m12 94 rfl
theorem q2842 : (Jvm.Cond.instanceMethod ({ cls := "PageGardenModel", name := "lay", desc := "(III)V" } : Jvm.MethodName)) ∈ lw_all := lw_g (lw_at lw_m12 95 rfl) rfl
theorem q2843 : (Jvm.Cond.code ({ cls := "PageGardenModel", name := "lay", desc := "(III)V" } : Jvm.MethodName) prog_18_method_10_code (4 : Nat) (Option.none : Option Jvm.ClassFile.FieldType)) ∈ lw_all := lw_g (lw_at lw_m12 96 rfl) rfl
theorem q2844 : (Jvm.Cond.methodLink "PageGardenModel" (99 : Nat) ({ cls := "PageGardenModel", name := "copies", desc := "(II)V" } : Jvm.MethodName)) ∈ lw_all := lw_g (lw_at lw_m12 97 rfl) rfl
theorem q2845 : (Jvm.Cond.privateMethod ({ cls := "PageGardenModel", name := "copies", desc := "(II)V" } : Jvm.MethodName)) ∈ lw_tbl := lw_at lw_m12 98 rfl
theorem q2846 : (Jvm.Cond.instanceMethod ({ cls := "PageGardenModel", name := "copies", desc := "(II)V" } : Jvm.MethodName)) ∈ lw_all := lw_g (lw_at lw_m12 99 rfl) rfl
theorem q2847 : (Jvm.Cond.code ({ cls := "PageGardenModel", name := "copies", desc := "(II)V" } : Jvm.MethodName) prog_18_method_21_code (4 : Nat) (Option.none : Option Jvm.ClassFile.FieldType)) ∈ lw_all := lw_g (lw_at lw_m12 100 rfl) rfl
theorem q2848 : (Jvm.Cond.methodLink "PageGardenModel" (103 : Nat) ({ cls := "PageGardenModel", name := "leaves", desc := "(I)V" } : Jvm.MethodName)) ∈ lw_all := lw_g (lw_at lw_m12 101 rfl) rfl
theorem q2849 : (Jvm.Cond.privateMethod ({ cls := "PageGardenModel", name := "leaves", desc := "(I)V" } : Jvm.MethodName)) ∈ lw_tbl := lw_at lw_m12 102 rfl
theorem q2850 : (Jvm.Cond.instanceMethod ({ cls := "PageGardenModel", name := "leaves", desc := "(I)V" } : Jvm.MethodName)) ∈ lw_all := lw_g (lw_at lw_m12 103 rfl) rfl
theorem q2851 : (Jvm.Cond.code ({ cls := "PageGardenModel", name := "leaves", desc := "(I)V" } : Jvm.MethodName) prog_18_method_20_code (2 : Nat) (Option.none : Option Jvm.ClassFile.FieldType)) ∈ lw_all := lw_g (lw_at lw_m12 104 rfl) rfl
theorem q2852 : (Jvm.Cond.methodLink "PageGardenModel" (71 : Nat) ({ cls := "PageGardenModel", name := "becomesWild", desc := "(I)V" } : Jvm.MethodName)) ∈ lw_all := lw_g (lw_at lw_m12 105 rfl) rfl
theorem q2853 : (Jvm.Cond.privateMethod ({ cls := "PageGardenModel", name := "becomesWild", desc := "(I)V" } : Jvm.MethodName)) ∈ lw_tbl := lw_at lw_m12 106 rfl
theorem q2854 : (Jvm.Cond.instanceMethod ({ cls := "PageGardenModel", name := "becomesWild", desc := "(I)V" } : Jvm.MethodName)) ∈ lw_all := lw_g (lw_at lw_m12 107 rfl) rfl
theorem q2855 : (Jvm.Cond.code ({ cls := "PageGardenModel", name := "becomesWild", desc := "(I)V" } : Jvm.MethodName) prog_18_method_19_code (3 : Nat) (Option.none : Option Jvm.ClassFile.FieldType)) ∈ lw_all := lw_g (lw_at lw_m12 108 rfl) rfl
theorem q2856 : (Jvm.Cond.methodLink "PageGardenModel" (129 : Nat) ({ cls := "PageGardenModel", name := "inserts", desc := "(III)V" } : Jvm.MethodName)) ∈ lw_all := lw_g (lw_at lw_m12 109 rfl) rfl
theorem q2857 : (Jvm.Cond.privateMethod ({ cls := "PageGardenModel", name := "inserts", desc := "(III)V" } : Jvm.MethodName)) ∈ lw_tbl := lw_at lw_m12 110 rfl
theorem q2858 : (Jvm.Cond.instanceMethod ({ cls := "PageGardenModel", name := "inserts", desc := "(III)V" } : Jvm.MethodName)) ∈ lw_all := lw_g (lw_at lw_m12 111 rfl) rfl
theorem q2859 : (Jvm.Cond.code ({ cls := "PageGardenModel", name := "inserts", desc := "(III)V" } : Jvm.MethodName) prog_18_method_37_code (5 : Nat) (Option.none : Option Jvm.ClassFile.FieldType)) ∈ lw_all := lw_g (lw_at lw_m12 112 rfl) rfl
theorem q2860 : (Jvm.Cond.methodLink "PageGardenModel" (87 : Nat) ({ cls := "PageGardenModel", name := "valueAt", desc := "(II)I" } : Jvm.MethodName)) ∈ lw_all := lw_g (lw_at lw_m12 113 rfl) rfl
theorem q2861 : (Jvm.Cond.privateMethod ({ cls := "PageGardenModel", name := "valueAt", desc := "(II)I" } : Jvm.MethodName)) ∈ lw_tbl := lw_at lw_m12 114 rfl
theorem q2862 : (Jvm.Cond.instanceMethod ({ cls := "PageGardenModel", name := "valueAt", desc := "(II)I" } : Jvm.MethodName)) ∈ lw_all := lw_g (lw_at lw_m12 115 rfl) rfl
theorem q2863 : (Jvm.Cond.code ({ cls := "PageGardenModel", name := "valueAt", desc := "(II)I" } : Jvm.MethodName) prog_18_method_24_code (3 : Nat) (Option.some Jvm.ClassFile.FieldType.int)) ∈ lw_all := lw_g (lw_at lw_m12 116 rfl) rfl
theorem q2864 : (Jvm.Cond.methodLink "PageGardenModel" (106 : Nat) ({ cls := "PageGardenModel", name := "setEntry", desc := "(IIII)V" } : Jvm.MethodName)) ∈ lw_all := lw_g (lw_at lw_m12 117 rfl) rfl
theorem q2865 : (Jvm.Cond.privateMethod ({ cls := "PageGardenModel", name := "setEntry", desc := "(IIII)V" } : Jvm.MethodName)) ∈ lw_tbl := lw_at lw_m12 118 rfl
theorem q2866 : (Jvm.Cond.instanceMethod ({ cls := "PageGardenModel", name := "setEntry", desc := "(IIII)V" } : Jvm.MethodName)) ∈ lw_all := lw_g (lw_at lw_m12 119 rfl) rfl
theorem q2867 : (Jvm.Cond.code ({ cls := "PageGardenModel", name := "setEntry", desc := "(IIII)V" } : Jvm.MethodName) prog_18_method_35_code (5 : Nat) (Option.none : Option Jvm.ClassFile.FieldType)) ∈ lw_all := lw_g (lw_at lw_m12 120 rfl) rfl
theorem q2868 : (Jvm.Cond.methodLink "PageGardenModel" (110 : Nat) ({ cls := "PageGardenModel", name := "insertLeaf", desc := "(III)V" } : Jvm.MethodName)) ∈ lw_all := lw_g (lw_at lw_m12 121 rfl) rfl
theorem q2869 : (Jvm.Cond.privateMethod ({ cls := "PageGardenModel", name := "insertLeaf", desc := "(III)V" } : Jvm.MethodName)) ∈ lw_tbl := lw_at lw_m12 122 rfl
theorem q2870 : (Jvm.Cond.instanceMethod ({ cls := "PageGardenModel", name := "insertLeaf", desc := "(III)V" } : Jvm.MethodName)) ∈ lw_all := lw_g (lw_at lw_m12 123 rfl) rfl
theorem q2871 : (Jvm.Cond.code ({ cls := "PageGardenModel", name := "insertLeaf", desc := "(III)V" } : Jvm.MethodName) prog_18_method_34_code (5 : Nat) (Option.none : Option Jvm.ClassFile.FieldType)) ∈ lw_all := lw_g (lw_at lw_m12 124 rfl) rfl
theorem q2872 : (Jvm.Cond.methodLink "PageGardenModel" (132 : Nat) ({ cls := "PageGardenModel", name := "ownLeaf", desc := "(II)I" } : Jvm.MethodName)) ∈ lw_all := lw_g (lw_at lw_m12 125 rfl) rfl
theorem q2873 : (Jvm.Cond.privateMethod ({ cls := "PageGardenModel", name := "ownLeaf", desc := "(II)I" } : Jvm.MethodName)) ∈ lw_tbl := lw_at lw_m12 126 rfl
theorem q2874 : (Jvm.Cond.instanceMethod ({ cls := "PageGardenModel", name := "ownLeaf", desc := "(II)I" } : Jvm.MethodName)) ∈ lw_all := lw_g (lw_at lw_m12 127 rfl) rfl
theorem q2875 : (Jvm.Cond.code ({ cls := "PageGardenModel", name := "ownLeaf", desc := "(II)I" } : Jvm.MethodName) prog_18_method_33_code (5 : Nat) (Option.some Jvm.ClassFile.FieldType.int)) ∈ lw_all := lw_g (lw_at lw_m12 128 rfl) rfl
theorem q2876 : (Jvm.Cond.methodLink "PageGardenModel" (135 : Nat) ({ cls := "PageGardenModel", name := "splits", desc := "(IIIII)V" } : Jvm.MethodName)) ∈ lw_all := lw_g (lw_at lw_m12 129 rfl) rfl
theorem q2877 : (Jvm.Cond.privateMethod ({ cls := "PageGardenModel", name := "splits", desc := "(IIIII)V" } : Jvm.MethodName)) ∈ lw_tbl := lw_at lw_m12 130 rfl
theorem q2878 : (Jvm.Cond.instanceMethod ({ cls := "PageGardenModel", name := "splits", desc := "(IIIII)V" } : Jvm.MethodName)) ∈ lw_all := lw_g (lw_at lw_m12 131 rfl) rfl
theorem q2879 : (Jvm.Cond.code ({ cls := "PageGardenModel", name := "splits", desc := "(IIIII)V" } : Jvm.MethodName) prog_18_method_36_code (9 : Nat) (Option.none : Option Jvm.ClassFile.FieldType)) ∈ lw_all := lw_g (lw_at lw_m12 132 rfl) rfl
theorem q2881 : (Jvm.Cond.instanceMethod ({ cls := "PageGardenModel", name := "remove", desc := "(I)I" } : Jvm.MethodName)) ∈ lw_all := lw_g (lw_at lw_m12 134 rfl) rfl
theorem q2882 : (Jvm.Cond.selects "PageGardenModel" ({ cls := "PageGardenModel", name := "remove", desc := "(I)I" } : Jvm.MethodName) ({ cls := "PageGardenModel", name := "remove", desc := "(I)I" } : Jvm.MethodName)) ∈ lw_all := lw_g (lw_at lw_m12 135 rfl) rfl
theorem q2883 : (Jvm.Cond.code ({ cls := "PageGardenModel", name := "remove", desc := "(I)I" } : Jvm.MethodName) prog_18_method_43_code (2 : Nat) (Option.some Jvm.ClassFile.FieldType.int)) ∈ lw_all := lw_g (lw_at lw_m12 136 rfl) rfl
theorem q2884 : (Jvm.Cond.methodLink "PageGardenModel" (154 : Nat) ({ cls := "PageGardenModel", name := "doRemove", desc := "(I)I" } : Jvm.MethodName)) ∈ lw_all := lw_g (lw_at lw_m12 137 rfl) rfl
theorem q2885 : (Jvm.Cond.privateMethod ({ cls := "PageGardenModel", name := "doRemove", desc := "(I)I" } : Jvm.MethodName)) ∈ lw_tbl := lw_at lw_m12 138 rfl
theorem q2886 : (Jvm.Cond.instanceMethod ({ cls := "PageGardenModel", name := "doRemove", desc := "(I)I" } : Jvm.MethodName)) ∈ lw_all := lw_g (lw_at lw_m12 139 rfl) rfl
theorem q2887 : (Jvm.Cond.code ({ cls := "PageGardenModel", name := "doRemove", desc := "(I)I" } : Jvm.MethodName) prog_18_method_39_code (10 : Nat) (Option.some Jvm.ClassFile.FieldType.int)) ∈ lw_all := lw_g (lw_at lw_m12 140 rfl) rfl
theorem q2888 : (Jvm.Cond.methodLink "PageGardenModel" (139 : Nat) ({ cls := "PageGardenModel", name := "valueBy", desc := "(II)I" } : Jvm.MethodName)) ∈ lw_all := lw_g (lw_at lw_m12 141 rfl) rfl
theorem q2889 : (Jvm.Cond.privateMethod ({ cls := "PageGardenModel", name := "valueBy", desc := "(II)I" } : Jvm.MethodName)) ∈ lw_tbl := lw_at lw_m12 142 rfl
theorem q2890 : (Jvm.Cond.instanceMethod ({ cls := "PageGardenModel", name := "valueBy", desc := "(II)I" } : Jvm.MethodName)) ∈ lw_all := lw_g (lw_at lw_m12 143 rfl) rfl
theorem q2891 : (Jvm.Cond.code ({ cls := "PageGardenModel", name := "valueBy", desc := "(II)I" } : Jvm.MethodName) prog_18_method_27_code (5 : Nat) (Option.some Jvm.ClassFile.FieldType.int)) ∈ lw_all := lw_g (lw_at lw_m12 144 rfl) rfl
theorem q2893 : (Jvm.Cond.instanceMethod ({ cls := "PageGardenModel", name := "commit", desc := "(I)I" } : Jvm.MethodName)) ∈ lw_all := lw_g (lw_at lw_m12 146 rfl) rfl
theorem q2894 : (Jvm.Cond.selects "PageGardenModel" ({ cls := "PageGardenModel", name := "commit", desc := "(I)I" } : Jvm.MethodName) ({ cls := "PageGardenModel", name := "commit", desc := "(I)I" } : Jvm.MethodName)) ∈ lw_all := lw_g (lw_at lw_m12 147 rfl) rfl
theorem q2895 : (Jvm.Cond.code ({ cls := "PageGardenModel", name := "commit", desc := "(I)I" } : Jvm.MethodName) prog_18_method_47_code (2 : Nat) (Option.some Jvm.ClassFile.FieldType.int)) ∈ lw_all := lw_g (lw_at lw_m12 148 rfl) rfl
theorem q2896 : (Jvm.Cond.methodLink "PageGardenModel" (163 : Nat) ({ cls := "PageGardenModel", name := "doCommit", desc := "(I)I" } : Jvm.MethodName)) ∈ lw_all := lw_g (lw_at lw_m12 149 rfl) rfl
theorem q2897 : (Jvm.Cond.privateMethod ({ cls := "PageGardenModel", name := "doCommit", desc := "(I)I" } : Jvm.MethodName)) ∈ lw_tbl := lw_at lw_m12 150 rfl
theorem q2898 : (Jvm.Cond.instanceMethod ({ cls := "PageGardenModel", name := "doCommit", desc := "(I)I" } : Jvm.MethodName)) ∈ lw_all := lw_g (lw_at lw_m12 151 rfl) rfl
theorem q2899 : (Jvm.Cond.code ({ cls := "PageGardenModel", name := "doCommit", desc := "(I)I" } : Jvm.MethodName) prog_18_method_46_code (5 : Nat) (Option.some Jvm.ClassFile.FieldType.int)) ∈ lw_all := lw_g (lw_at lw_m12 152 rfl) rfl
theorem q2900 : (Jvm.Cond.methodLink "PageGardenModel" (157 : Nat) ({ cls := "PageGardenModel", name := "drops", desc := "()I" } : Jvm.MethodName)) ∈ lw_all := lw_g (lw_at lw_m12 153 rfl) rfl
theorem q2901 : (Jvm.Cond.privateMethod ({ cls := "PageGardenModel", name := "drops", desc := "()I" } : Jvm.MethodName)) ∈ lw_tbl := lw_at lw_m12 154 rfl
theorem q2902 : (Jvm.Cond.instanceMethod ({ cls := "PageGardenModel", name := "drops", desc := "()I" } : Jvm.MethodName)) ∈ lw_all := lw_g (lw_at lw_m12 155 rfl) rfl
theorem q2903 : (Jvm.Cond.code ({ cls := "PageGardenModel", name := "drops", desc := "()I" } : Jvm.MethodName) prog_18_method_44_code (3 : Nat) (Option.some Jvm.ClassFile.FieldType.int)) ∈ lw_all := lw_g (lw_at lw_m12 156 rfl) rfl
theorem q2904 : (Jvm.Cond.methodLink "PageGardenModel" (160 : Nat) ({ cls := "PageGardenModel", name := "frees", desc := "(I)I" } : Jvm.MethodName)) ∈ lw_all := lw_g (lw_at lw_m12 157 rfl) rfl
theorem q2905 : (Jvm.Cond.privateMethod ({ cls := "PageGardenModel", name := "frees", desc := "(I)I" } : Jvm.MethodName)) ∈ lw_tbl := lw_at lw_m12 158 rfl
theorem q2906 : (Jvm.Cond.instanceMethod ({ cls := "PageGardenModel", name := "frees", desc := "(I)I" } : Jvm.MethodName)) ∈ lw_all := lw_g (lw_at lw_m12 159 rfl) rfl
theorem q2907 : (Jvm.Cond.code ({ cls := "PageGardenModel", name := "frees", desc := "(I)I" } : Jvm.MethodName) prog_18_method_45_code (4 : Nat) (Option.some Jvm.ClassFile.FieldType.int)) ∈ lw_all := lw_g (lw_at lw_m12 160 rfl) rfl
theorem q2909 : (Jvm.Cond.instanceMethod ({ cls := "PageGardenModel", name := "abort", desc := "()I" } : Jvm.MethodName)) ∈ lw_all := lw_g (lw_at lw_m12 162 rfl) rfl
theorem q2910 : (Jvm.Cond.selects "PageGardenModel" ({ cls := "PageGardenModel", name := "abort", desc := "()I" } : Jvm.MethodName) ({ cls := "PageGardenModel", name := "abort", desc := "()I" } : Jvm.MethodName)) ∈ lw_all := lw_g (lw_at lw_m12 163 rfl) rfl
theorem q2911 : (Jvm.Cond.code ({ cls := "PageGardenModel", name := "abort", desc := "()I" } : Jvm.MethodName) prog_18_method_49_code (1 : Nat) (Option.some Jvm.ClassFile.FieldType.int)) ∈ lw_all := lw_g (lw_at lw_m12 164 rfl) rfl
theorem q2912 : (Jvm.Cond.methodLink "PageGardenModel" (166 : Nat) ({ cls := "PageGardenModel", name := "doAbort", desc := "()I" } : Jvm.MethodName)) ∈ lw_all := lw_g (lw_at lw_m12 165 rfl) rfl
theorem q2913 : (Jvm.Cond.privateMethod ({ cls := "PageGardenModel", name := "doAbort", desc := "()I" } : Jvm.MethodName)) ∈ lw_tbl := lw_at lw_m12 166 rfl
theorem q2914 : (Jvm.Cond.instanceMethod ({ cls := "PageGardenModel", name := "doAbort", desc := "()I" } : Jvm.MethodName)) ∈ lw_all := lw_g (lw_at lw_m12 167 rfl) rfl
theorem q2915 : (Jvm.Cond.code ({ cls := "PageGardenModel", name := "doAbort", desc := "()I" } : Jvm.MethodName) prog_18_method_48_code (1 : Nat) (Option.some Jvm.ClassFile.FieldType.int)) ∈ lw_all := lw_g (lw_at lw_m12 168 rfl) rfl
theorem q2917 : (Jvm.Cond.instanceMethod ({ cls := "PageGardenModel", name := "open", desc := "()I" } : Jvm.MethodName)) ∈ lw_all := lw_g (lw_at lw_m12 170 rfl) rfl
theorem q2918 : (Jvm.Cond.selects "PageGardenModel" ({ cls := "PageGardenModel", name := "open", desc := "()I" } : Jvm.MethodName) ({ cls := "PageGardenModel", name := "open", desc := "()I" } : Jvm.MethodName)) ∈ lw_all := lw_g (lw_at lw_m12 171 rfl) rfl
theorem q2919 : (Jvm.Cond.code ({ cls := "PageGardenModel", name := "open", desc := "()I" } : Jvm.MethodName) prog_18_method_51_code (1 : Nat) (Option.some Jvm.ClassFile.FieldType.int)) ∈ lw_all := lw_g (lw_at lw_m12 172 rfl) rfl
theorem q2920 : (Jvm.Cond.methodLink "PageGardenModel" (169 : Nat) ({ cls := "PageGardenModel", name := "doOpen", desc := "()I" } : Jvm.MethodName)) ∈ lw_all := lw_g (lw_at lw_m12 173 rfl) rfl
theorem q2921 : (Jvm.Cond.privateMethod ({ cls := "PageGardenModel", name := "doOpen", desc := "()I" } : Jvm.MethodName)) ∈ lw_tbl := lw_at lw_m12 174 rfl
theorem q2922 : (Jvm.Cond.instanceMethod ({ cls := "PageGardenModel", name := "doOpen", desc := "()I" } : Jvm.MethodName)) ∈ lw_all := lw_g (lw_at lw_m12 175 rfl) rfl
theorem q2923 : (Jvm.Cond.code ({ cls := "PageGardenModel", name := "doOpen", desc := "()I" } : Jvm.MethodName) prog_18_method_50_code (2 : Nat) (Option.some Jvm.ClassFile.FieldType.int)) ∈ lw_all := lw_g (lw_at lw_m12 176 rfl) rfl
theorem q2925 : (Jvm.Cond.instanceMethod ({ cls := "PageGardenModel", name := "close", desc := "(I)I" } : Jvm.MethodName)) ∈ lw_all := lw_g (lw_at lw_m12 178 rfl) rfl
theorem q2926 : (Jvm.Cond.selects "PageGardenModel" ({ cls := "PageGardenModel", name := "close", desc := "(I)I" } : Jvm.MethodName) ({ cls := "PageGardenModel", name := "close", desc := "(I)I" } : Jvm.MethodName)) ∈ lw_all := lw_g (lw_at lw_m12 179 rfl) rfl
theorem q2927 : (Jvm.Cond.code ({ cls := "PageGardenModel", name := "close", desc := "(I)I" } : Jvm.MethodName) prog_18_method_54_code (2 : Nat) (Option.some Jvm.ClassFile.FieldType.int)) ∈ lw_all := lw_g (lw_at lw_m12 180 rfl) rfl
theorem q2928 : (Jvm.Cond.methodLink "PageGardenModel" (175 : Nat) ({ cls := "PageGardenModel", name := "doClose", desc := "(I)I" } : Jvm.MethodName)) ∈ lw_all := lw_g (lw_at lw_m12 181 rfl) rfl
theorem q2929 : (Jvm.Cond.privateMethod ({ cls := "PageGardenModel", name := "doClose", desc := "(I)I" } : Jvm.MethodName)) ∈ lw_tbl := lw_at lw_m12 182 rfl
theorem q2930 : (Jvm.Cond.instanceMethod ({ cls := "PageGardenModel", name := "doClose", desc := "(I)I" } : Jvm.MethodName)) ∈ lw_all := lw_g (lw_at lw_m12 183 rfl) rfl
theorem q2931 : (Jvm.Cond.code ({ cls := "PageGardenModel", name := "doClose", desc := "(I)I" } : Jvm.MethodName) prog_18_method_53_code (4 : Nat) (Option.some Jvm.ClassFile.FieldType.int)) ∈ lw_all := lw_g (lw_at lw_m12 184 rfl) rfl
theorem q2932 : (Jvm.Cond.methodLink "PageGardenModel" (172 : Nat) ({ cls := "PageGardenModel", name := "freedToDig", desc := "()I" } : Jvm.MethodName)) ∈ lw_all := lw_g (lw_at lw_m12 185 rfl) rfl
theorem q2933 : (Jvm.Cond.privateMethod ({ cls := "PageGardenModel", name := "freedToDig", desc := "()I" } : Jvm.MethodName)) ∈ lw_tbl := lw_at lw_m12 186 rfl
theorem q2934 : (Jvm.Cond.instanceMethod ({ cls := "PageGardenModel", name := "freedToDig", desc := "()I" } : Jvm.MethodName)) ∈ lw_all := lw_g (lw_at lw_m12 187 rfl) rfl
theorem q2935 : (Jvm.Cond.code ({ cls := "PageGardenModel", name := "freedToDig", desc := "()I" } : Jvm.MethodName) prog_18_method_52_code (3 : Nat) (Option.some Jvm.ClassFile.FieldType.int)) ∈ lw_all := lw_g (lw_at lw_m12 188 rfl) rfl
theorem q2937 : (Jvm.Cond.instanceMethod ({ cls := "PageGardenModel", name := "get", desc := "(I)I" } : Jvm.MethodName)) ∈ lw_all := lw_g (lw_at lw_m12 190 rfl) rfl
theorem q2938 : (Jvm.Cond.selects "PageGardenModel" ({ cls := "PageGardenModel", name := "get", desc := "(I)I" } : Jvm.MethodName) ({ cls := "PageGardenModel", name := "get", desc := "(I)I" } : Jvm.MethodName)) ∈ lw_all := lw_g (lw_at lw_m12 191 rfl) rfl
theorem q2939 : (Jvm.Cond.code ({ cls := "PageGardenModel", name := "get", desc := "(I)I" } : Jvm.MethodName) prog_18_method_57_code (2 : Nat) (Option.some Jvm.ClassFile.FieldType.int)) ∈ lw_all := lw_g (lw_at lw_m12 192 rfl) rfl
theorem q2940 : (Jvm.Cond.methodLink "PageGardenModel" (178 : Nat) ({ cls := "PageGardenModel", name := "isKey", desc := "(I)Z" } : Jvm.MethodName)) ∈ lw_all := lw_g (lw_at lw_m12 193 rfl) rfl
theorem q2941 : (Jvm.Cond.static ({ cls := "PageGardenModel", name := "isKey", desc := "(I)Z" } : Jvm.MethodName)) ∈ lw_all := lw_g (lw_at lw_m12 194 rfl) rfl
theorem q2942 : (Jvm.Cond.code ({ cls := "PageGardenModel", name := "isKey", desc := "(I)Z" } : Jvm.MethodName) prog_18_method_55_code (1 : Nat) (Option.some Jvm.ClassFile.FieldType.boolean)) ∈ lw_all := lw_g (lw_at lw_m12 195 rfl) rfl
theorem q2943 : (Jvm.Cond.methodLink "PageGardenModel" (181 : Nat) ({ cls := "PageGardenModel", name := "fails", desc := "(I)I" } : Jvm.MethodName)) ∈ lw_all := lw_g (lw_at lw_m12 196 rfl) rfl
theorem q2944 : (Jvm.Cond.privateMethod ({ cls := "PageGardenModel", name := "fails", desc := "(I)I" } : Jvm.MethodName)) ∈ lw_tbl := lw_at lw_m12 197 rfl
theorem q2945 : (Jvm.Cond.instanceMethod ({ cls := "PageGardenModel", name := "fails", desc := "(I)I" } : Jvm.MethodName)) ∈ lw_all := lw_g (lw_at lw_m12 198 rfl) rfl
theorem q2946 : (Jvm.Cond.code ({ cls := "PageGardenModel", name := "fails", desc := "(I)I" } : Jvm.MethodName) prog_18_method_8_code (2 : Nat) (Option.some Jvm.ClassFile.FieldType.int)) ∈ lw_all := lw_g (lw_at lw_m12 199 rfl) rfl
theorem q2948 : (Jvm.Cond.instanceMethod ({ cls := "PageGardenModel", name := "drafted", desc := "(I)I" } : Jvm.MethodName)) ∈ lw_all := lw_g (lw_at lw_m12 201 rfl) rfl
theorem q2949 : (Jvm.Cond.selects "PageGardenModel" ({ cls := "PageGardenModel", name := "drafted", desc := "(I)I" } : Jvm.MethodName) ({ cls := "PageGardenModel", name := "drafted", desc := "(I)I" } : Jvm.MethodName)) ∈ lw_all := lw_g (lw_at lw_m12 202 rfl) rfl
theorem q2950 : (Jvm.Cond.code ({ cls := "PageGardenModel", name := "drafted", desc := "(I)I" } : Jvm.MethodName) prog_18_method_58_code (2 : Nat) (Option.some Jvm.ClassFile.FieldType.int)) ∈ lw_all := lw_g (lw_at lw_m12 203 rfl) rfl
theorem q2952 : (Jvm.Cond.instanceMethod ({ cls := "PageGardenModel", name := "read", desc := "(II)I" } : Jvm.MethodName)) ∈ lw_all := lw_g (lw_at lw_m12 205 rfl) rfl
theorem q2953 : (Jvm.Cond.selects "PageGardenModel" ({ cls := "PageGardenModel", name := "read", desc := "(II)I" } : Jvm.MethodName) ({ cls := "PageGardenModel", name := "read", desc := "(II)I" } : Jvm.MethodName)) ∈ lw_all := lw_g (lw_at lw_m12 206 rfl) rfl
theorem q2954 : (Jvm.Cond.code ({ cls := "PageGardenModel", name := "read", desc := "(II)I" } : Jvm.MethodName) prog_18_method_59_code (3 : Nat) (Option.some Jvm.ClassFile.FieldType.int)) ∈ lw_all := lw_g (lw_at lw_m12 207 rfl) rfl
theorem q2955 : (Jvm.Cond.methodLink "PageGardenModel" (184 : Nat) ({ cls := "PageGardenModel", name := "isReader", desc := "(I)Z" } : Jvm.MethodName)) ∈ lw_all := lw_g (lw_at lw_m12 208 rfl) rfl
theorem q2956 : (Jvm.Cond.static ({ cls := "PageGardenModel", name := "isReader", desc := "(I)Z" } : Jvm.MethodName)) ∈ lw_all := lw_g (lw_at lw_m12 209 rfl) rfl
theorem q2957 : (Jvm.Cond.code ({ cls := "PageGardenModel", name := "isReader", desc := "(I)Z" } : Jvm.MethodName) prog_18_method_56_code (1 : Nat) (Option.some Jvm.ClassFile.FieldType.boolean)) ∈ lw_all := lw_g (lw_at lw_m12 210 rfl) rfl
theorem q2959 : (Jvm.Cond.instanceMethod ({ cls := "PageGardenModel", name := "entry", desc := "(II)I" } : Jvm.MethodName)) ∈ lw_all := lw_g (lw_at lw_m12 212 rfl) rfl
theorem q2960 : (Jvm.Cond.selects "PageGardenModel" ({ cls := "PageGardenModel", name := "entry", desc := "(II)I" } : Jvm.MethodName) ({ cls := "PageGardenModel", name := "entry", desc := "(II)I" } : Jvm.MethodName)) ∈ lw_all := lw_g (lw_at lw_m12 213 rfl) rfl
theorem q2961 : (Jvm.Cond.code ({ cls := "PageGardenModel", name := "entry", desc := "(II)I" } : Jvm.MethodName) prog_18_method_61_code (3 : Nat) (Option.some Jvm.ClassFile.FieldType.int)) ∈ lw_all := lw_g (lw_at lw_m12 214 rfl) rfl
theorem q2962 : (Jvm.Cond.methodLink "PageGardenModel" (187 : Nat) ({ cls := "PageGardenModel", name := "entriesBy", desc := "(I)I" } : Jvm.MethodName)) ∈ lw_all := lw_g (lw_at lw_m12 215 rfl) rfl
theorem q2963 : (Jvm.Cond.privateMethod ({ cls := "PageGardenModel", name := "entriesBy", desc := "(I)I" } : Jvm.MethodName)) ∈ lw_tbl := lw_at lw_m12 216 rfl
theorem q2964 : (Jvm.Cond.instanceMethod ({ cls := "PageGardenModel", name := "entriesBy", desc := "(I)I" } : Jvm.MethodName)) ∈ lw_all := lw_g (lw_at lw_m12 217 rfl) rfl
theorem q2965 : (Jvm.Cond.code ({ cls := "PageGardenModel", name := "entriesBy", desc := "(I)I" } : Jvm.MethodName) prog_18_method_28_code (4 : Nat) (Option.some Jvm.ClassFile.FieldType.int)) ∈ lw_all := lw_g (lw_at lw_m12 218 rfl) rfl
theorem q2966 : (Jvm.Cond.methodLink "PageGardenModel" (190 : Nat) ({ cls := "PageGardenModel", name := "tellEntry", desc := "(II)I" } : Jvm.MethodName)) ∈ lw_all := lw_g (lw_at lw_m12 219 rfl) rfl
theorem q2967 : (Jvm.Cond.privateMethod ({ cls := "PageGardenModel", name := "tellEntry", desc := "(II)I" } : Jvm.MethodName)) ∈ lw_tbl := lw_at lw_m12 220 rfl
theorem q2968 : (Jvm.Cond.instanceMethod ({ cls := "PageGardenModel", name := "tellEntry", desc := "(II)I" } : Jvm.MethodName)) ∈ lw_all := lw_g (lw_at lw_m12 221 rfl) rfl
theorem q2969 : (Jvm.Cond.code ({ cls := "PageGardenModel", name := "tellEntry", desc := "(II)I" } : Jvm.MethodName) prog_18_method_60_code (6 : Nat) (Option.some Jvm.ClassFile.FieldType.int)) ∈ lw_all := lw_g (lw_at lw_m12 222 rfl) rfl
theorem q2971 : (Jvm.Cond.instanceMethod ({ cls := "PageGardenModel", name := "root", desc := "(II)I" } : Jvm.MethodName)) ∈ lw_all := lw_g (lw_at lw_m12 224 rfl) rfl
theorem q2972 : (Jvm.Cond.selects "PageGardenModel" ({ cls := "PageGardenModel", name := "root", desc := "(II)I" } : Jvm.MethodName) ({ cls := "PageGardenModel", name := "root", desc := "(II)I" } : Jvm.MethodName)) ∈ lw_all := lw_g (lw_at lw_m12 225 rfl) rfl
theorem q2973 : (Jvm.Cond.code ({ cls := "PageGardenModel", name := "root", desc := "(II)I" } : Jvm.MethodName) prog_18_method_63_code (3 : Nat) (Option.some Jvm.ClassFile.FieldType.int)) ∈ lw_all := lw_g (lw_at lw_m12 226 rfl) rfl
theorem q2974 : (Jvm.Cond.methodLink "PageGardenModel" (193 : Nat) ({ cls := "PageGardenModel", name := "tellRoot", desc := "(II)I" } : Jvm.MethodName)) ∈ lw_all := lw_g (lw_at lw_m12 227 rfl) rfl
theorem q2975 : (Jvm.Cond.privateMethod ({ cls := "PageGardenModel", name := "tellRoot", desc := "(II)I" } : Jvm.MethodName)) ∈ lw_tbl := lw_at lw_m12 228 rfl
theorem q2976 : (Jvm.Cond.instanceMethod ({ cls := "PageGardenModel", name := "tellRoot", desc := "(II)I" } : Jvm.MethodName)) ∈ lw_all := lw_g (lw_at lw_m12 229 rfl) rfl
theorem q2977 : (Jvm.Cond.code ({ cls := "PageGardenModel", name := "tellRoot", desc := "(II)I" } : Jvm.MethodName) prog_18_method_62_code (4 : Nat) (Option.some Jvm.ClassFile.FieldType.int)) ∈ lw_all := lw_g (lw_at lw_m12 230 rfl) rfl
theorem q2979 : (Jvm.Cond.instanceMethod ({ cls := "PageGardenModel", name := "reader", desc := "(II)I" } : Jvm.MethodName)) ∈ lw_all := lw_g (lw_at lw_m12 232 rfl) rfl
theorem q2980 : (Jvm.Cond.selects "PageGardenModel" ({ cls := "PageGardenModel", name := "reader", desc := "(II)I" } : Jvm.MethodName) ({ cls := "PageGardenModel", name := "reader", desc := "(II)I" } : Jvm.MethodName)) ∈ lw_all := lw_g (lw_at lw_m12 233 rfl) rfl
theorem q2981 : (Jvm.Cond.code ({ cls := "PageGardenModel", name := "reader", desc := "(II)I" } : Jvm.MethodName) prog_18_method_65_code (3 : Nat) (Option.some Jvm.ClassFile.FieldType.int)) ∈ lw_all := lw_g (lw_at lw_m12 234 rfl) rfl
theorem q2982 : (Jvm.Cond.methodLink "PageGardenModel" (196 : Nat) ({ cls := "PageGardenModel", name := "tellReader", desc := "(II)I" } : Jvm.MethodName)) ∈ lw_all := lw_g (lw_at lw_m12 235 rfl) rfl
theorem q2983 : (Jvm.Cond.privateMethod ({ cls := "PageGardenModel", name := "tellReader", desc := "(II)I" } : Jvm.MethodName)) ∈ lw_tbl := lw_at lw_m12 236 rfl
theorem q2984 : (Jvm.Cond.instanceMethod ({ cls := "PageGardenModel", name := "tellReader", desc := "(II)I" } : Jvm.MethodName)) ∈ lw_all := lw_g (lw_at lw_m12 237 rfl) rfl
theorem q2985 : (Jvm.Cond.code ({ cls := "PageGardenModel", name := "tellReader", desc := "(II)I" } : Jvm.MethodName) prog_18_method_64_code (3 : Nat) (Option.some Jvm.ClassFile.FieldType.int)) ∈ lw_all := lw_g (lw_at lw_m12 238 rfl) rfl
theorem q2987 : (Jvm.Cond.instanceMethod ({ cls := "PageGardenModel", name := "bed", desc := "(II)I" } : Jvm.MethodName)) ∈ lw_all := lw_g (lw_at lw_m13 0 rfl) rfl
theorem q2988 : (Jvm.Cond.selects "PageGardenModel" ({ cls := "PageGardenModel", name := "bed", desc := "(II)I" } : Jvm.MethodName) ({ cls := "PageGardenModel", name := "bed", desc := "(II)I" } : Jvm.MethodName)) ∈ lw_all := lw_g (lw_at lw_m13 1 rfl) rfl
theorem q2989 : (Jvm.Cond.code ({ cls := "PageGardenModel", name := "bed", desc := "(II)I" } : Jvm.MethodName) prog_18_method_67_code (3 : Nat) (Option.some Jvm.ClassFile.FieldType.int)) ∈ lw_all := lw_g (lw_at lw_m13 2 rfl) rfl
theorem q2990 : (Jvm.Cond.methodLink "PageGardenModel" (199 : Nat) ({ cls := "PageGardenModel", name := "tellBed", desc := "(II)I" } : Jvm.MethodName)) ∈ lw_all := lw_g (lw_at lw_m13 3 rfl) rfl
theorem q2991 : (Jvm.Cond.privateMethod ({ cls := "PageGardenModel", name := "tellBed", desc := "(II)I" } : Jvm.MethodName)) ∈ lw_tbl := lw_at lw_m13 4 rfl
theorem q2992 : (Jvm.Cond.instanceMethod ({ cls := "PageGardenModel", name := "tellBed", desc := "(II)I" } : Jvm.MethodName)) ∈ lw_all := lw_g (lw_at lw_m13 5 rfl) rfl
theorem q2993 : (Jvm.Cond.code ({ cls := "PageGardenModel", name := "tellBed", desc := "(II)I" } : Jvm.MethodName) prog_18_method_66_code (4 : Nat) (Option.some Jvm.ClassFile.FieldType.int)) ∈ lw_all := lw_g (lw_at lw_m13 6 rfl) rfl
theorem q2995 : (Jvm.Cond.instanceMethod ({ cls := "PageGardenModel", name := "whole", desc := "(I)I" } : Jvm.MethodName)) ∈ lw_all := lw_g (lw_at lw_m13 8 rfl) rfl
theorem q2996 : (Jvm.Cond.selects "PageGardenModel" ({ cls := "PageGardenModel", name := "whole", desc := "(I)I" } : Jvm.MethodName) ({ cls := "PageGardenModel", name := "whole", desc := "(I)I" } : Jvm.MethodName)) ∈ lw_all := lw_g (lw_at lw_m13 9 rfl) rfl
theorem q2997 : (Jvm.Cond.code ({ cls := "PageGardenModel", name := "whole", desc := "(I)I" } : Jvm.MethodName) prog_18_method_72_code (2 : Nat) (Option.some Jvm.ClassFile.FieldType.int)) ∈ lw_all := lw_g (lw_at lw_m13 10 rfl) rfl
theorem q2998 : (Jvm.Cond.methodLink "PageGardenModel" (214 : Nat) ({ cls := "PageGardenModel", name := "tell", desc := "(I)I" } : Jvm.MethodName)) ∈ lw_all := lw_g (lw_at lw_m13 11 rfl) rfl
theorem q2999 : (Jvm.Cond.privateMethod ({ cls := "PageGardenModel", name := "tell", desc := "(I)I" } : Jvm.MethodName)) ∈ lw_tbl := lw_at lw_m13 12 rfl
theorem q3000 : (Jvm.Cond.instanceMethod ({ cls := "PageGardenModel", name := "tell", desc := "(I)I" } : Jvm.MethodName)) ∈ lw_all := lw_g (lw_at lw_m13 13 rfl) rfl
theorem q3001 : (Jvm.Cond.code ({ cls := "PageGardenModel", name := "tell", desc := "(I)I" } : Jvm.MethodName) prog_18_method_71_code (2 : Nat) (Option.some Jvm.ClassFile.FieldType.int)) ∈ lw_all := lw_g (lw_at lw_m13 14 rfl) rfl
theorem q3002 : (Jvm.Cond.methodLink "PageGardenModel" (202 : Nat) ({ cls := "PageGardenModel", name := "bedsWith", desc := "(II)I" } : Jvm.MethodName)) ∈ lw_all := lw_g (lw_at lw_m13 15 rfl) rfl
theorem q3003 : (Jvm.Cond.privateMethod ({ cls := "PageGardenModel", name := "bedsWith", desc := "(II)I" } : Jvm.MethodName)) ∈ lw_tbl := lw_at lw_m13 16 rfl
theorem q3004 : (Jvm.Cond.instanceMethod ({ cls := "PageGardenModel", name := "bedsWith", desc := "(II)I" } : Jvm.MethodName)) ∈ lw_all := lw_g (lw_at lw_m13 17 rfl) rfl
theorem q3005 : (Jvm.Cond.code ({ cls := "PageGardenModel", name := "bedsWith", desc := "(II)I" } : Jvm.MethodName) prog_18_method_68_code (5 : Nat) (Option.some Jvm.ClassFile.FieldType.int)) ∈ lw_all := lw_g (lw_at lw_m13 18 rfl) rfl
theorem q3006 : (Jvm.Cond.methodLink "PageGardenModel" (205 : Nat) ({ cls := "PageGardenModel", name := "openReaders", desc := "()I" } : Jvm.MethodName)) ∈ lw_all := lw_g (lw_at lw_m13 19 rfl) rfl
theorem q3007 : (Jvm.Cond.privateMethod ({ cls := "PageGardenModel", name := "openReaders", desc := "()I" } : Jvm.MethodName)) ∈ lw_tbl := lw_at lw_m13 20 rfl
theorem q3008 : (Jvm.Cond.instanceMethod ({ cls := "PageGardenModel", name := "openReaders", desc := "()I" } : Jvm.MethodName)) ∈ lw_all := lw_g (lw_at lw_m13 21 rfl) rfl
theorem q3009 : (Jvm.Cond.code ({ cls := "PageGardenModel", name := "openReaders", desc := "()I" } : Jvm.MethodName) prog_18_method_69_code (3 : Nat) (Option.some Jvm.ClassFile.FieldType.int)) ∈ lw_all := lw_g (lw_at lw_m13 22 rfl) rfl
theorem q3010 : (Jvm.Cond.methodLink "PageGardenModel" (208 : Nat) ({ cls := "PageGardenModel", name := "sumOfValues", desc := "()I" } : Jvm.MethodName)) ∈ lw_all := lw_g (lw_at lw_m13 23 rfl) rfl
theorem q3011 : (Jvm.Cond.privateMethod ({ cls := "PageGardenModel", name := "sumOfValues", desc := "()I" } : Jvm.MethodName)) ∈ lw_tbl := lw_at lw_m13 24 rfl
theorem q3012 : (Jvm.Cond.instanceMethod ({ cls := "PageGardenModel", name := "sumOfValues", desc := "()I" } : Jvm.MethodName)) ∈ lw_all := lw_g (lw_at lw_m13 25 rfl) rfl
theorem q3013 : (Jvm.Cond.code ({ cls := "PageGardenModel", name := "sumOfValues", desc := "()I" } : Jvm.MethodName) prog_18_method_70_code (3 : Nat) (Option.some Jvm.ClassFile.FieldType.int)) ∈ lw_all := lw_g (lw_at lw_m13 26 rfl) rfl
theorem q3015 : (Jvm.Cond.instanceMethod ({ cls := "PageGardenModel", name := "nextBed", desc := "()I" } : Jvm.MethodName)) ∈ lw_all := lw_g (lw_at lw_m13 28 rfl) rfl
theorem q3016 : (Jvm.Cond.selects "PageGardenModel" ({ cls := "PageGardenModel", name := "nextBed", desc := "()I" } : Jvm.MethodName) ({ cls := "PageGardenModel", name := "nextBed", desc := "()I" } : Jvm.MethodName)) ∈ lw_all := lw_g (lw_at lw_m13 29 rfl) rfl
theorem q3017 : (Jvm.Cond.code ({ cls := "PageGardenModel", name := "nextBed", desc := "()I" } : Jvm.MethodName) prog_18_method_74_code (1 : Nat) (Option.some Jvm.ClassFile.FieldType.int)) ∈ lw_all := lw_g (lw_at lw_m13 30 rfl) rfl
theorem q3018 : (Jvm.Cond.methodLink "PageGardenModel" (217 : Nat) ({ cls := "PageGardenModel", name := "tellNext", desc := "()I" } : Jvm.MethodName)) ∈ lw_all := lw_g (lw_at lw_m13 31 rfl) rfl
theorem q3019 : (Jvm.Cond.privateMethod ({ cls := "PageGardenModel", name := "tellNext", desc := "()I" } : Jvm.MethodName)) ∈ lw_tbl := lw_at lw_m13 32 rfl
theorem q3020 : (Jvm.Cond.instanceMethod ({ cls := "PageGardenModel", name := "tellNext", desc := "()I" } : Jvm.MethodName)) ∈ lw_all := lw_g (lw_at lw_m13 33 rfl) rfl
theorem q3021 : (Jvm.Cond.code ({ cls := "PageGardenModel", name := "tellNext", desc := "()I" } : Jvm.MethodName) prog_18_method_73_code (2 : Nat) (Option.some Jvm.ClassFile.FieldType.int)) ∈ lw_all := lw_g (lw_at lw_m13 34 rfl) rfl
theorem q3023 : (Jvm.Cond.instanceMethod ({ cls := "PageGardenModel", name := "bedsFor", desc := "(I)I" } : Jvm.MethodName)) ∈ lw_all := lw_g (lw_at lw_m13 36 rfl) rfl
theorem q3024 : (Jvm.Cond.selects "PageGardenModel" ({ cls := "PageGardenModel", name := "bedsFor", desc := "(I)I" } : Jvm.MethodName) ({ cls := "PageGardenModel", name := "bedsFor", desc := "(I)I" } : Jvm.MethodName)) ∈ lw_all := lw_g (lw_at lw_m13 37 rfl) rfl
theorem q3025 : (Jvm.Cond.code ({ cls := "PageGardenModel", name := "bedsFor", desc := "(I)I" } : Jvm.MethodName) prog_18_method_75_code (2 : Nat) (Option.some Jvm.ClassFile.FieldType.int)) ∈ lw_all := lw_g (lw_at lw_m13 38 rfl) rfl
theorem q3027 : (Jvm.Cond.instanceMethod ({ cls := "PageGardenModel", name := "reason", desc := "(I)I" } : Jvm.MethodName)) ∈ lw_all := lw_g (lw_at lw_m13 40 rfl) rfl
theorem q3028 : (Jvm.Cond.selects "PageGardenModel" ({ cls := "PageGardenModel", name := "reason", desc := "(I)I" } : Jvm.MethodName) ({ cls := "PageGardenModel", name := "reason", desc := "(I)I" } : Jvm.MethodName)) ∈ lw_all := lw_g (lw_at lw_m13 41 rfl) rfl
theorem q3029 : (Jvm.Cond.code ({ cls := "PageGardenModel", name := "reason", desc := "(I)I" } : Jvm.MethodName) prog_18_method_76_code (3 : Nat) (Option.some Jvm.ClassFile.FieldType.int)) ∈ lw_all := lw_g (lw_at lw_m13 42 rfl) rfl
theorem q3031 : (Jvm.Cond.instanceMethod ({ cls := "PageGardenModel", name := "neededWithout", desc := "(I)I" } : Jvm.MethodName)) ∈ lw_all := lw_g (lw_at lw_m13 44 rfl) rfl
theorem q3032 : (Jvm.Cond.selects "PageGardenModel" ({ cls := "PageGardenModel", name := "neededWithout", desc := "(I)I" } : Jvm.MethodName) ({ cls := "PageGardenModel", name := "neededWithout", desc := "(I)I" } : Jvm.MethodName)) ∈ lw_all := lw_g (lw_at lw_m13 45 rfl) rfl
theorem q3033 : (Jvm.Cond.code ({ cls := "PageGardenModel", name := "neededWithout", desc := "(I)I" } : Jvm.MethodName) prog_18_method_77_code (2 : Nat) (Option.some Jvm.ClassFile.FieldType.int)) ∈ lw_all := lw_g (lw_at lw_m13 46 rfl) rfl
theorem q3035 : (Jvm.Cond.instanceMethod ({ cls := "PageGardenModel", name := "changedSince", desc := "(I)I" } : Jvm.MethodName)) ∈ lw_all := lw_g (lw_at lw_m13 48 rfl) rfl
theorem q3036 : (Jvm.Cond.selects "PageGardenModel" ({ cls := "PageGardenModel", name := "changedSince", desc := "(I)I" } : Jvm.MethodName) ({ cls := "PageGardenModel", name := "changedSince", desc := "(I)I" } : Jvm.MethodName)) ∈ lw_all := lw_g (lw_at lw_m13 49 rfl) rfl
theorem q3037 : (Jvm.Cond.code ({ cls := "PageGardenModel", name := "changedSince", desc := "(I)I" } : Jvm.MethodName) prog_18_method_78_code (4 : Nat) (Option.some Jvm.ClassFile.FieldType.int)) ∈ lw_all := lw_g (lw_at lw_m13 50 rfl) rfl
theorem q3039 : (Jvm.Cond.instanceMethod ({ cls := "PageGardenModel", name := "type", desc := "(I)I" } : Jvm.MethodName)) ∈ lw_all := lw_g (lw_at lw_m13 52 rfl) rfl
theorem q3040 : (Jvm.Cond.selects "PageGardenModel" ({ cls := "PageGardenModel", name := "type", desc := "(I)I" } : Jvm.MethodName) ({ cls := "PageGardenModel", name := "type", desc := "(I)I" } : Jvm.MethodName)) ∈ lw_all := lw_g (lw_at lw_m13 53 rfl) rfl
theorem q3041 : (Jvm.Cond.code ({ cls := "PageGardenModel", name := "type", desc := "(I)I" } : Jvm.MethodName) prog_18_method_79_code (2 : Nat) (Option.some Jvm.ClassFile.FieldType.int)) ∈ lw_all := lw_g (lw_at lw_m13 54 rfl) rfl
theorem q3043 : (Jvm.Cond.instanceMethod ({ cls := "PageGardenModel", name := "clearCommands", desc := "()I" } : Jvm.MethodName)) ∈ lw_all := lw_g (lw_at lw_m13 56 rfl) rfl
theorem q3044 : (Jvm.Cond.selects "PageGardenModel" ({ cls := "PageGardenModel", name := "clearCommands", desc := "()I" } : Jvm.MethodName) ({ cls := "PageGardenModel", name := "clearCommands", desc := "()I" } : Jvm.MethodName)) ∈ lw_all := lw_g (lw_at lw_m13 57 rfl) rfl
theorem q3045 : (Jvm.Cond.code ({ cls := "PageGardenModel", name := "clearCommands", desc := "()I" } : Jvm.MethodName) prog_18_method_80_code (2 : Nat) (Option.some Jvm.ClassFile.FieldType.int)) ∈ lw_all := lw_g (lw_at lw_m13 58 rfl) rfl
theorem q3047 : (Jvm.Cond.instanceMethod ({ cls := "PageGardenModel", name := "runCommands", desc := "()I" } : Jvm.MethodName)) ∈ lw_all := lw_g (lw_at lw_m13 60 rfl) rfl
theorem q3048 : (Jvm.Cond.selects "PageGardenModel" ({ cls := "PageGardenModel", name := "runCommands", desc := "()I" } : Jvm.MethodName) ({ cls := "PageGardenModel", name := "runCommands", desc := "()I" } : Jvm.MethodName)) ∈ lw_all := lw_g (lw_at lw_m13 61 rfl) rfl
theorem q3049 : (Jvm.Cond.code ({ cls := "PageGardenModel", name := "runCommands", desc := "()I" } : Jvm.MethodName) prog_18_method_88_code (4 : Nat) (Option.some Jvm.ClassFile.FieldType.int)) ∈ lw_all := lw_g (lw_at lw_m13 62 rfl) rfl
theorem q3050 : (Jvm.Cond.methodLink "PageGardenModel" (251 : Nat) ({ cls := "PageGardenModel", name := "spaces", desc := "()V" } : Jvm.MethodName)) ∈ lw_all := lw_g (lw_at lw_m13 63 rfl) rfl
theorem q3051 : (Jvm.Cond.privateMethod ({ cls := "PageGardenModel", name := "spaces", desc := "()V" } : Jvm.MethodName)) ∈ lw_tbl := lw_at lw_m13 64 rfl
theorem q3052 : (Jvm.Cond.instanceMethod ({ cls := "PageGardenModel", name := "spaces", desc := "()V" } : Jvm.MethodName)) ∈ lw_all := lw_g (lw_at lw_m13 65 rfl) rfl
theorem q3053 : (Jvm.Cond.code ({ cls := "PageGardenModel", name := "spaces", desc := "()V" } : Jvm.MethodName) prog_18_method_82_code (1 : Nat) (Option.none : Option Jvm.ClassFile.FieldType)) ∈ lw_all := lw_g (lw_at lw_m13 66 rfl) rfl
theorem q3054 : (Jvm.Cond.methodLink "PageGardenModel" (223 : Nat) ({ cls := "PageGardenModel", name := "here", desc := "()I" } : Jvm.MethodName)) ∈ lw_all := lw_g (lw_at lw_m13 67 rfl) rfl
theorem q3055 : (Jvm.Cond.privateMethod ({ cls := "PageGardenModel", name := "here", desc := "()I" } : Jvm.MethodName)) ∈ lw_tbl := lw_at lw_m13 68 rfl
theorem q3056 : (Jvm.Cond.instanceMethod ({ cls := "PageGardenModel", name := "here", desc := "()I" } : Jvm.MethodName)) ∈ lw_all := lw_g (lw_at lw_m13 69 rfl) rfl
theorem q3057 : (Jvm.Cond.code ({ cls := "PageGardenModel", name := "here", desc := "()I" } : Jvm.MethodName) prog_18_method_81_code (1 : Nat) (Option.some Jvm.ClassFile.FieldType.int)) ∈ lw_all := lw_g (lw_at lw_m13 70 rfl) rfl
theorem q3058 : (Jvm.Cond.methodLink "PageGardenModel" (261 : Nat) ({ cls := "PageGardenModel", name := "readCommand", desc := "()Z" } : Jvm.MethodName)) ∈ lw_all := lw_g (lw_at lw_m13 71 rfl) rfl
theorem q3059 : (Jvm.Cond.privateMethod ({ cls := "PageGardenModel", name := "readCommand", desc := "()Z" } : Jvm.MethodName)) ∈ lw_tbl := lw_at lw_m13 72 rfl
theorem q3060 : (Jvm.Cond.instanceMethod ({ cls := "PageGardenModel", name := "readCommand", desc := "()Z" } : Jvm.MethodName)) ∈ lw_all := lw_g (lw_at lw_m13 73 rfl) rfl
theorem q3061 : (Jvm.Cond.code ({ cls := "PageGardenModel", name := "readCommand", desc := "()Z" } : Jvm.MethodName) prog_18_method_86_code (3 : Nat) (Option.some Jvm.ClassFile.FieldType.boolean)) ∈ lw_all := lw_g (lw_at lw_m13 74 rfl) rfl
theorem q3062 : (Jvm.Cond.methodLink "PageGardenModel" (254 : Nat) ({ cls := "PageGardenModel", name := "readWord", desc := "()Z" } : Jvm.MethodName)) ∈ lw_all := lw_g (lw_at lw_m13 75 rfl) rfl
theorem q3063 : (Jvm.Cond.privateMethod ({ cls := "PageGardenModel", name := "readWord", desc := "()Z" } : Jvm.MethodName)) ∈ lw_tbl := lw_at lw_m13 76 rfl
theorem q3064 : (Jvm.Cond.instanceMethod ({ cls := "PageGardenModel", name := "readWord", desc := "()Z" } : Jvm.MethodName)) ∈ lw_all := lw_g (lw_at lw_m13 77 rfl) rfl
theorem q3065 : (Jvm.Cond.code ({ cls := "PageGardenModel", name := "readWord", desc := "()Z" } : Jvm.MethodName) prog_18_method_84_code (4 : Nat) (Option.some Jvm.ClassFile.FieldType.boolean)) ∈ lw_all := lw_g (lw_at lw_m13 78 rfl) rfl
theorem q3066 : (Jvm.Cond.constantLong "PageGardenModel" (240 : Nat) (32 : Int64)) ∈ lw_all := lw_g (lw_at lw_m13 79 rfl) rfl
theorem q3067 : (Jvm.Cond.constantLong "PageGardenModel" (242 : Nat) (96 : Int64)) ∈ lw_all := lw_g (lw_at lw_m13 80 rfl) rfl
theorem q3068 : (Jvm.Cond.methodLink "PageGardenModel" (244 : Nat) ({ cls := "PageGardenModel", name := "meaning", desc := "(J)I" } : Jvm.MethodName)) ∈ lw_all := lw_g (lw_at lw_m13 81 rfl) rfl
theorem q3069 : (Jvm.Cond.static ({ cls := "PageGardenModel", name := "meaning", desc := "(J)I" } : Jvm.MethodName)) ∈ lw_all := lw_g (lw_at lw_m13 82 rfl) rfl
theorem q3070 : (Jvm.Cond.code ({ cls := "PageGardenModel", name := "meaning", desc := "(J)I" } : Jvm.MethodName) prog_18_method_83_code (2 : Nat) (Option.some Jvm.ClassFile.FieldType.int)) ∈ lw_all := lw_g (lw_at lw_m13 83 rfl) rfl
theorem q3071 : (Jvm.Cond.constantLong "PageGardenModel" (226 : Nat) (2268462 : Int64)) ∈ lw_all := lw_g (lw_at lw_m13 84 rfl) rfl
theorem q3072 : (Jvm.Cond.constantLong "PageGardenModel" (228 : Nat) (17076 : Int64)) ∈ lw_all := lw_g (lw_at lw_m13 85 rfl) rfl
theorem q3073 : (Jvm.Cond.constantLong "PageGardenModel" (230 : Nat) (150000 : Int64)) ∈ lw_all := lw_g (lw_at lw_m13 86 rfl) rfl
theorem q3074 : (Jvm.Cond.constantLong "PageGardenModel" (232 : Nat) (116831540 : Int64)) ∈ lw_all := lw_g (lw_at lw_m13 87 rfl) rfl
theorem q3075 : (Jvm.Cond.constantLong "PageGardenModel" (234 : Nat) (1130068 : Int64)) ∈ lw_all := lw_g (lw_at lw_m13 88 rfl) rfl
theorem q3076 : (Jvm.Cond.constantLong "PageGardenModel" (236 : Nat) (508078 : Int64)) ∈ lw_all := lw_g (lw_at lw_m13 89 rfl) rfl
theorem q3077 : (Jvm.Cond.constantLong "PageGardenModel" (238 : Nat) (3554917 : Int64)) ∈ lw_all := lw_g (lw_at lw_m13 90 rfl) rfl
theorem q3078 : (Jvm.Cond.methodLink "PageGardenModel" (258 : Nat) ({ cls := "PageGardenModel", name := "readNumber", desc := "(I)Z" } : Jvm.MethodName)) ∈ lw_all := lw_g (lw_at lw_m13 91 rfl) rfl
theorem q3079 : (Jvm.Cond.privateMethod ({ cls := "PageGardenModel", name := "readNumber", desc := "(I)Z" } : Jvm.MethodName)) ∈ lw_tbl := lw_at lw_m13 92 rfl
theorem q3080 : (Jvm.Cond.instanceMethod ({ cls := "PageGardenModel", name := "readNumber", desc := "(I)Z" } : Jvm.MethodName)) ∈ lw_all := lw_g (lw_at lw_m13 93 rfl) rfl
theorem q3081 : (Jvm.Cond.code ({ cls := "PageGardenModel", name := "readNumber", desc := "(I)Z" } : Jvm.MethodName) prog_18_method_85_code (3 : Nat) (Option.some Jvm.ClassFile.FieldType.boolean)) ∈ lw_all := lw_g (lw_at lw_m13 94 rfl) rfl
theorem q3082 : (Jvm.Cond.methodLink "PageGardenModel" (264 : Nat) ({ cls := "PageGardenModel", name := "does", desc := "()I" } : Jvm.MethodName)) ∈ lw_all := lw_g (lw_at lw_m13 95 rfl) rfl
theorem q3083 : (Jvm.Cond.privateMethod ({ cls := "PageGardenModel", name := "does", desc := "()I" } : Jvm.MethodName)) ∈ lw_tbl := lw_at lw_m13 96 rfl
theorem q3084 : (Jvm.Cond.instanceMethod ({ cls := "PageGardenModel", name := "does", desc := "()I" } : Jvm.MethodName)) ∈ lw_all := lw_g (lw_at lw_m13 97 rfl) rfl
theorem q3085 : (Jvm.Cond.code ({ cls := "PageGardenModel", name := "does", desc := "()I" } : Jvm.MethodName) prog_18_method_87_code (1 : Nat) (Option.some Jvm.ClassFile.FieldType.int)) ∈ lw_all := lw_g (lw_at lw_m13 98 rfl) rfl
theorem q3087 : (Jvm.Cond.instanceMethod ({ cls := "PageGardenModel", name := "undo", desc := "()I" } : Jvm.MethodName)) ∈ lw_all := lw_g (lw_at lw_m13 100 rfl) rfl
theorem q3088 : (Jvm.Cond.selects "PageGardenModel" ({ cls := "PageGardenModel", name := "undo", desc := "()I" } : Jvm.MethodName) ({ cls := "PageGardenModel", name := "undo", desc := "()I" } : Jvm.MethodName)) ∈ lw_all := lw_g (lw_at lw_m13 101 rfl) rfl
theorem q3089 : (Jvm.Cond.code ({ cls := "PageGardenModel", name := "undo", desc := "()I" } : Jvm.MethodName) prog_18_method_89_code (1 : Nat) (Option.some Jvm.ClassFile.FieldType.int)) ∈ lw_all := lw_g (lw_at lw_m13 102 rfl) rfl
theorem q3091 : (Jvm.Cond.instanceMethod ({ cls := "PageGardenModel", name := "digest", desc := "()J" } : Jvm.MethodName)) ∈ lw_all := lw_g (lw_at lw_m13 104 rfl) rfl
theorem q3092 : (Jvm.Cond.selects "PageGardenModel" ({ cls := "PageGardenModel", name := "digest", desc := "()J" } : Jvm.MethodName) ({ cls := "PageGardenModel", name := "digest", desc := "()J" } : Jvm.MethodName)) ∈ lw_all := lw_g (lw_at lw_m13 105 rfl) rfl
theorem q3093 : (Jvm.Cond.code ({ cls := "PageGardenModel", name := "digest", desc := "()J" } : Jvm.MethodName) prog_18_method_92_code (3 : Nat) (Option.some Jvm.ClassFile.FieldType.long)) ∈ lw_all := lw_g (lw_at lw_m13 106 rfl) rfl
theorem q3094 : (Jvm.Cond.constantLong "PageGardenModel" (276 : Nat) (43518 : Int64)) ∈ lw_all := lw_g (lw_at lw_m13 107 rfl) rfl
theorem q3095 : (Jvm.Cond.methodLink "PageGardenModel" (273 : Nat) ({ cls := "PageGardenModel", name := "mix", desc := "(I)V" } : Jvm.MethodName)) ∈ lw_all := lw_g (lw_at lw_m13 108 rfl) rfl
theorem q3096 : (Jvm.Cond.privateMethod ({ cls := "PageGardenModel", name := "mix", desc := "(I)V" } : Jvm.MethodName)) ∈ lw_tbl := lw_at lw_m13 109 rfl
theorem q3097 : (Jvm.Cond.instanceMethod ({ cls := "PageGardenModel", name := "mix", desc := "(I)V" } : Jvm.MethodName)) ∈ lw_all := lw_g (lw_at lw_m13 110 rfl) rfl
theorem q3098 : (Jvm.Cond.code ({ cls := "PageGardenModel", name := "mix", desc := "(I)V" } : Jvm.MethodName) prog_18_method_90_code (2 : Nat) (Option.none : Option Jvm.ClassFile.FieldType)) ∈ lw_all := lw_g (lw_at lw_m13 111 rfl) rfl
theorem q3099 : (Jvm.Cond.constantLong "PageGardenModel" (267 : Nat) (31 : Int64)) ∈ lw_all := lw_g (lw_at lw_m13 112 rfl) rfl
theorem q3100 : (Jvm.Cond.methodLink "PageGardenModel" (278 : Nat) ({ cls := "PageGardenModel", name := "mixRest", desc := "()V" } : Jvm.MethodName)) ∈ lw_all := lw_g (lw_at lw_m13 113 rfl) rfl
theorem q3101 : (Jvm.Cond.privateMethod ({ cls := "PageGardenModel", name := "mixRest", desc := "()V" } : Jvm.MethodName)) ∈ lw_tbl := lw_at lw_m13 114 rfl
theorem q3102 : (Jvm.Cond.instanceMethod ({ cls := "PageGardenModel", name := "mixRest", desc := "()V" } : Jvm.MethodName)) ∈ lw_all := lw_g (lw_at lw_m13 115 rfl) rfl
theorem q3103 : (Jvm.Cond.code ({ cls := "PageGardenModel", name := "mixRest", desc := "()V" } : Jvm.MethodName) prog_18_method_91_code (3 : Nat) (Option.none : Option Jvm.ClassFile.FieldType)) ∈ lw_all := lw_g (lw_at lw_m13 116 rfl) rfl
theorem q3156 : (Jvm.Cond.castable "PageGardenModel" "java/lang/Object") ∈ lw_tbl := lw_at lw_m13 169 rfl
theorem q144 : (Jvm.Cond.initialized "PageGarden$Draft") ∈ lw_all := lw_g (lw_at lw_m1 37 rfl) rfl
theorem q347 : (Jvm.Cond.selects "PageGarden$Draft" ({ cls := "java/lang/Object", name := "hashCode", desc := "()I" } : Jvm.MethodName) ({ cls := "java/lang/Object", name := "hashCode", desc := "()I" } : Jvm.MethodName)) ∈ lw_all := lw_g (lw_at lw_m2 0 rfl) rfl
theorem q855 : (Jvm.Cond.selects "PageGarden$Draft" ({ cls := "java/lang/Object", name := "getClass", desc := "()Ljava/lang/Class;" } : Jvm.MethodName) ({ cls := "java/lang/Object", name := "getClass", desc := "()Ljava/lang/Class;" } : Jvm.MethodName)) ∈ lw_all := lw_g (lw_at lw_m4 28 rfl) rfl
theorem q1136 : (Jvm.Cond.selects "PageGarden$Draft" ({ cls := "java/lang/Object", name := "equals", desc := "(Ljava/lang/Object;)Z" } : Jvm.MethodName) ({ cls := "java/lang/Object", name := "equals", desc := "(Ljava/lang/Object;)Z" } : Jvm.MethodName)) ∈ lw_all := lw_g (lw_at lw_m5 69 rfl) rfl
theorem q1460 : (Jvm.Cond.instanceMethod ({ cls := "PageGarden$Draft", name := "copy", desc := "()LPageGarden$Draft;" } : Jvm.MethodName)) ∈ lw_all := lw_g (lw_at lw_m6 153 rfl) rfl
theorem q1461 : (Jvm.Cond.selects "PageGarden$Draft" ({ cls := "PageGarden$Draft", name := "copy", desc := "()LPageGarden$Draft;" } : Jvm.MethodName) ({ cls := "PageGarden$Draft", name := "copy", desc := "()LPageGarden$Draft;" } : Jvm.MethodName)) ∈ lw_all := lw_g (lw_at lw_m6 154 rfl) rfl
theorem q1462 : (Jvm.Cond.code ({ cls := "PageGarden$Draft", name := "copy", desc := "()LPageGarden$Draft;" } : Jvm.MethodName) prog_4_method_2_code (5 : Nat) (Option.some (Jvm.ClassFile.FieldType.object "PageGarden$Draft"))) ∈ lw_all := lw_g (lw_at lw_m6 155 rfl) rfl
theorem q1463 : (Jvm.Cond.classLink "PageGarden$Draft" (11 : Nat) "PageGarden$Draft") ∈ lw_all := lw_g (lw_at lw_m6 156 rfl) rfl
theorem q1464 : (Jvm.Cond.instantiable "PageGarden$Draft" (3 : Nat)) ∈ lw_all := lw_g (lw_at lw_m6 157 rfl) rfl
theorem q1465 : (Jvm.Cond.methodLink "PageGarden$Draft" (23 : Nat) ({ cls := "PageGarden$Draft", name := "<init>", desc := "(I)V" } : Jvm.MethodName)) ∈ lw_all := lw_g (lw_at lw_m6 158 rfl) rfl
theorem q1466 : (Jvm.Cond.instanceMethod ({ cls := "PageGarden$Draft", name := "<init>", desc := "(I)V" } : Jvm.MethodName)) ∈ lw_all := lw_g (lw_at lw_m6 159 rfl) rfl
theorem q1467 : (Jvm.Cond.code ({ cls := "PageGarden$Draft", name := "<init>", desc := "(I)V" } : Jvm.MethodName) prog_4_method_1_code (2 : Nat) (Option.none : Option Jvm.ClassFile.FieldType)) ∈ lw_all := lw_g (lw_at lw_m6 160 rfl) rfl
theorem q1468 : (Jvm.Cond.methodLink "PageGarden$Draft" (1 : Nat) ({ cls := "java/lang/Object", name := "<init>", desc := "()V" } : Jvm.MethodName)) ∈ lw_all := lw_g (lw_at lw_m6 161 rfl) rfl
theorem q1469 : (Jvm.Cond.classLink "PageGarden$Draft" (7 : Nat) "java/util/LinkedHashSet") ∈ lw_all := lw_g (lw_at lw_m6 162 rfl) rfl
theorem q1471 : (Jvm.Cond.methodLink "PageGarden$Draft" (9 : Nat) ({ cls := "java/util/LinkedHashSet", name := "<init>", desc := "()V" } : Jvm.MethodName)) ∈ lw_all := lw_g (lw_at lw_m6 164 rfl) rfl
theorem q1786 : (Jvm.Cond.fieldLink "PageGarden$Draft" (10 : Nat) "PageGarden$Draft" "fresh" "Ljava/util/LinkedHashSet;") ∈ lw_all := lw_g (lw_at lw_m7 239 rfl) rfl
theorem q1788 : (Jvm.Cond.fieldLink "PageGarden$Draft" (16 : Nat) "PageGarden$Draft" "left" "Ljava/util/LinkedHashSet;") ∈ lw_all := lw_g (lw_at lw_m8 1 rfl) rfl
theorem q1790 : (Jvm.Cond.fieldLink "PageGarden$Draft" (19 : Nat) "PageGarden$Draft" "directory" "I") ∈ lw_all := lw_g (lw_at lw_m8 3 rfl) rfl
theorem q1792 : (Jvm.Cond.laysFinal "PageGarden$Draft" "PageGarden$Draft" "fresh" "Ljava/util/LinkedHashSet;") ∈ lw_all := lw_g (lw_at lw_m8 5 rfl) rfl
theorem q1793 : (Jvm.Cond.soleField "PageGarden$Draft" "fresh") ∈ lw_all := lw_g (lw_at lw_m8 6 rfl) rfl
theorem q1794 : (Jvm.Cond.laysFinal "PageGarden$Draft" "PageGarden$Draft" "left" "Ljava/util/LinkedHashSet;") ∈ lw_all := lw_g (lw_at lw_m8 7 rfl) rfl
theorem q1795 : (Jvm.Cond.soleField "PageGarden$Draft" "left") ∈ lw_all := lw_g (lw_at lw_m8 8 rfl) rfl
theorem q1796 : (Jvm.Cond.lays "PageGarden$Draft" "PageGarden$Draft" "directory" "I") ∈ lw_all := lw_g (lw_at lw_m8 9 rfl) rfl
theorem q1797 : (Jvm.Cond.soleField "PageGarden$Draft" "directory") ∈ lw_all := lw_g (lw_at lw_m8 10 rfl) rfl
theorem q1798 : (Jvm.Cond.superclass "PageGarden$Draft" "java/lang/Object") ∈ lw_all := lw_g (lw_at lw_m8 11 rfl) rfl
theorem q1799 : (Jvm.Cond.methodLink "PageGarden$Draft" (26 : Nat) ({ cls := "java/util/LinkedHashSet", name := "iterator", desc := "()Ljava/util/Iterator;" } : Jvm.MethodName)) ∈ lw_all := lw_g (lw_at lw_m8 12 rfl) rfl
theorem q1900 : (Jvm.Cond.interfaceEntry "PageGarden$Draft" (30 : Nat)) ∈ lw_tbl := lw_at lw_m8 113 rfl
theorem q1901 : (Jvm.Cond.methodLink "PageGarden$Draft" (30 : Nat) ({ cls := "java/util/Iterator", name := "hasNext", desc := "()Z" } : Jvm.MethodName)) ∈ lw_all := lw_g (lw_at lw_m8 114 rfl) rfl
theorem q1916 : (Jvm.Cond.interfaceEntry "PageGarden$Draft" (36 : Nat)) ∈ lw_tbl := lw_at lw_m8 129 rfl
theorem q1917 : (Jvm.Cond.methodLink "PageGarden$Draft" (36 : Nat) ({ cls := "java/util/Iterator", name := "next", desc := "()Ljava/lang/Object;" } : Jvm.MethodName)) ∈ lw_all := lw_g (lw_at lw_m8 130 rfl) rfl
theorem q1949 : (Jvm.Cond.classLink "PageGarden$Draft" (40 : Nat) "PageGarden$Bed") ∈ lw_all := lw_g (lw_at lw_m8 162 rfl) rfl
theorem q1950 : (Jvm.Cond.methodLink "PageGarden$Draft" (42 : Nat) ({ cls := "java/util/LinkedHashSet", name := "add", desc := "(Ljava/lang/Object;)Z" } : Jvm.MethodName)) ∈ lw_all := lw_g (lw_at lw_m8 163 rfl) rfl
theorem q2076 : (Jvm.Cond.instanceMethod ({ cls := "PageGarden$Draft", name := "isNew", desc := "(I)Z" } : Jvm.MethodName)) ∈ lw_all := lw_g (lw_at lw_m9 49 rfl) rfl
theorem q2077 : (Jvm.Cond.selects "PageGarden$Draft" ({ cls := "PageGarden$Draft", name := "isNew", desc := "(I)Z" } : Jvm.MethodName) ({ cls := "PageGarden$Draft", name := "isNew", desc := "(I)Z" } : Jvm.MethodName)) ∈ lw_all := lw_g (lw_at lw_m9 50 rfl) rfl
theorem q2078 : (Jvm.Cond.code ({ cls := "PageGarden$Draft", name := "isNew", desc := "(I)Z" } : Jvm.MethodName) prog_4_method_3_code (2 : Nat) (Option.some Jvm.ClassFile.FieldType.boolean)) ∈ lw_all := lw_g (lw_at lw_m9 51 rfl) rfl
theorem q2079 : (Jvm.Cond.methodLink "PageGarden$Draft" (46 : Nat) ({ cls := "PageGarden$Bed", name := "<init>", desc := "(I)V" } : Jvm.MethodName)) ∈ lw_all := lw_g (lw_at lw_m9 52 rfl) rfl
theorem q2080 : (Jvm.Cond.methodLink "PageGarden$Draft" (47 : Nat) ({ cls := "java/util/LinkedHashSet", name := "contains", desc := "(Ljava/lang/Object;)Z" } : Jvm.MethodName)) ∈ lw_all := lw_g (lw_at lw_m9 53 rfl) rfl
theorem q2244 : (Jvm.Cond.instanceMethod ({ cls := "PageGarden$Draft", name := "isChanged", desc := "()Z" } : Jvm.MethodName)) ∈ lw_all := lw_g (lw_at lw_m9 217 rfl) rfl
theorem q2245 : (Jvm.Cond.selects "PageGarden$Draft" ({ cls := "PageGarden$Draft", name := "isChanged", desc := "()Z" } : Jvm.MethodName) ({ cls := "PageGarden$Draft", name := "isChanged", desc := "()Z" } : Jvm.MethodName)) ∈ lw_all := lw_g (lw_at lw_m9 218 rfl) rfl
theorem q2246 : (Jvm.Cond.code ({ cls := "PageGarden$Draft", name := "isChanged", desc := "()Z" } : Jvm.MethodName) prog_4_method_4_code (1 : Nat) (Option.some Jvm.ClassFile.FieldType.boolean)) ∈ lw_all := lw_g (lw_at lw_m9 219 rfl) rfl
theorem q2247 : (Jvm.Cond.methodLink "PageGarden$Draft" (50 : Nat) ({ cls := "java/util/LinkedHashSet", name := "size", desc := "()I" } : Jvm.MethodName)) ∈ lw_all := lw_g (lw_at lw_m9 220 rfl) rfl
theorem q3157 : (Jvm.Cond.castable "PageGarden$Draft" "java/lang/Object") ∈ lw_tbl := lw_at lw_m13 170 rfl
theorem q159 : (Jvm.Cond.initialized "PageGarden$Keys") ∈ lw_all := lw_g (lw_at lw_m1 52 rfl) rfl
theorem q1996 : (Jvm.Cond.static ({ cls := "PageGarden$Keys", name := "isKey", desc := "(I)Z" } : Jvm.MethodName)) ∈ lw_all := lw_g (lw_at lw_m8 209 rfl) rfl
theorem q1997 : (Jvm.Cond.code ({ cls := "PageGarden$Keys", name := "isKey", desc := "(I)Z" } : Jvm.MethodName) prog_6_method_1_code (1 : Nat) (Option.some Jvm.ClassFile.FieldType.boolean)) ∈ lw_all := lw_g (lw_at lw_m8 210 rfl) rfl
theorem q1998 : (Jvm.Cond.constantLong "PageGarden$Keys" (3 : Nat) (99 : Int64)) ∈ lw_all := lw_g (lw_at lw_m8 211 rfl) rfl
theorem q1999 : (Jvm.Cond.methodLinkNest "PageGarden$Keys" (5 : Nat) ({ cls := "PageGarden", name := "inRange", desc := "(JJJ)Z" } : Jvm.MethodName) "PageGarden") ∈ lw_tbl := lw_at lw_m8 212 rfl
theorem q2663 : (Jvm.Cond.static ({ cls := "PageGarden$Keys", name := "unlike", desc := "(LPageGarden$Lookup;LPageGarden$Lookup;)I" } : Jvm.MethodName)) ∈ lw_all := lw_g (lw_at lw_m11 156 rfl) rfl
theorem q2664 : (Jvm.Cond.code ({ cls := "PageGarden$Keys", name := "unlike", desc := "(LPageGarden$Lookup;LPageGarden$Lookup;)I" } : Jvm.MethodName) prog_6_method_2_code (4 : Nat) (Option.some Jvm.ClassFile.FieldType.int)) ∈ lw_all := lw_g (lw_at lw_m11 157 rfl) rfl
theorem q2665 : (Jvm.Cond.interfaceEntry "PageGarden$Keys" (9 : Nat)) ∈ lw_tbl := lw_at lw_m11 158 rfl
theorem q2666 : (Jvm.Cond.methodLink "PageGarden$Keys" (9 : Nat) ({ cls := "PageGarden$Lookup", name := "of", desc := "(I)I" } : Jvm.MethodName)) ∈ lw_all := lw_g (lw_at lw_m11 159 rfl) rfl
theorem q160 : (Jvm.Cond.initialized "PageGarden$Leaf") ∈ lw_all := lw_g (lw_at lw_m1 53 rfl) rfl
theorem q349 : (Jvm.Cond.selects "PageGarden$Leaf" ({ cls := "java/lang/Object", name := "hashCode", desc := "()I" } : Jvm.MethodName) ({ cls := "java/lang/Object", name := "hashCode", desc := "()I" } : Jvm.MethodName)) ∈ lw_all := lw_g (lw_at lw_m2 2 rfl) rfl
theorem q857 : (Jvm.Cond.selects "PageGarden$Leaf" ({ cls := "java/lang/Object", name := "getClass", desc := "()Ljava/lang/Class;" } : Jvm.MethodName) ({ cls := "java/lang/Object", name := "getClass", desc := "()Ljava/lang/Class;" } : Jvm.MethodName)) ∈ lw_all := lw_g (lw_at lw_m4 30 rfl) rfl
theorem q1138 : (Jvm.Cond.selects "PageGarden$Leaf" ({ cls := "java/lang/Object", name := "equals", desc := "(Ljava/lang/Object;)Z" } : Jvm.MethodName) ({ cls := "java/lang/Object", name := "equals", desc := "(Ljava/lang/Object;)Z" } : Jvm.MethodName)) ∈ lw_all := lw_g (lw_at lw_m5 71 rfl) rfl
theorem q2064 : (Jvm.Cond.instanceMethod ({ cls := "PageGarden$Leaf", name := "has", desc := "(I)Z" } : Jvm.MethodName)) ∈ lw_all := lw_g (lw_at lw_m9 37 rfl) rfl
theorem q2065 : (Jvm.Cond.selects "PageGarden$Leaf" ({ cls := "PageGarden$Leaf", name := "has", desc := "(I)Z" } : Jvm.MethodName) ({ cls := "PageGarden$Leaf", name := "has", desc := "(I)Z" } : Jvm.MethodName)) ∈ lw_all := lw_g (lw_at lw_m9 38 rfl) rfl
theorem q2066 : (Jvm.Cond.code ({ cls := "PageGarden$Leaf", name := "has", desc := "(I)Z" } : Jvm.MethodName) prog_7_method_5_code (3 : Nat) (Option.some Jvm.ClassFile.FieldType.boolean)) ∈ lw_all := lw_g (lw_at lw_m9 39 rfl) rfl
theorem q2067 : (Jvm.Cond.methodLink "PageGarden$Leaf" (16 : Nat) ({ cls := "PageGarden$Leaf", name := "placeOf", desc := "(I)I" } : Jvm.MethodName)) ∈ lw_all := lw_g (lw_at lw_m9 40 rfl) rfl
theorem q2068 : (Jvm.Cond.instanceMethod ({ cls := "PageGarden$Leaf", name := "placeOf", desc := "(I)I" } : Jvm.MethodName)) ∈ lw_all := lw_g (lw_at lw_m9 41 rfl) rfl
theorem q2069 : (Jvm.Cond.selects "PageGarden$Leaf" ({ cls := "PageGarden$Leaf", name := "placeOf", desc := "(I)I" } : Jvm.MethodName) ({ cls := "PageGarden$Leaf", name := "placeOf", desc := "(I)I" } : Jvm.MethodName)) ∈ lw_all := lw_g (lw_at lw_m9 42 rfl) rfl
theorem q2070 : (Jvm.Cond.code ({ cls := "PageGarden$Leaf", name := "placeOf", desc := "(I)I" } : Jvm.MethodName) prog_7_method_4_code (3 : Nat) (Option.some Jvm.ClassFile.FieldType.int)) ∈ lw_all := lw_g (lw_at lw_m9 43 rfl) rfl
theorem q2072 : (Jvm.Cond.instanceMethod ({ cls := "PageGarden$Leaf", name := "size", desc := "()I" } : Jvm.MethodName)) ∈ lw_all := lw_g (lw_at lw_m9 45 rfl) rfl
theorem q2073 : (Jvm.Cond.selects "PageGarden$Leaf" ({ cls := "PageGarden$Leaf", name := "size", desc := "()I" } : Jvm.MethodName) ({ cls := "PageGarden$Leaf", name := "size", desc := "()I" } : Jvm.MethodName)) ∈ lw_all := lw_g (lw_at lw_m9 46 rfl) rfl
theorem q2074 : (Jvm.Cond.code ({ cls := "PageGarden$Leaf", name := "size", desc := "()I" } : Jvm.MethodName) prog_7_method_3_code (1 : Nat) (Option.some Jvm.ClassFile.FieldType.int)) ∈ lw_all := lw_g (lw_at lw_m9 47 rfl) rfl
theorem q2165 : (Jvm.Cond.instantiable "PageGarden$Leaf" (2 : Nat)) ∈ lw_all := lw_g (lw_at lw_m9 138 rfl) rfl
theorem q2167 : (Jvm.Cond.instanceMethod ({ cls := "PageGarden$Leaf", name := "<init>", desc := "([I[I)V" } : Jvm.MethodName)) ∈ lw_all := lw_g (lw_at lw_m9 140 rfl) rfl
theorem q2168 : (Jvm.Cond.code ({ cls := "PageGarden$Leaf", name := "<init>", desc := "([I[I)V" } : Jvm.MethodName) prog_7_method_1_code (3 : Nat) (Option.none : Option Jvm.ClassFile.FieldType)) ∈ lw_all := lw_g (lw_at lw_m9 141 rfl) rfl
theorem q2169 : (Jvm.Cond.methodLink "PageGarden$Leaf" (1 : Nat) ({ cls := "java/lang/Object", name := "<init>", desc := "()V" } : Jvm.MethodName)) ∈ lw_all := lw_g (lw_at lw_m9 142 rfl) rfl
theorem q2170 : (Jvm.Cond.fieldLink "PageGarden$Leaf" (7 : Nat) "PageGarden$Leaf" "keys" "[I") ∈ lw_all := lw_g (lw_at lw_m9 143 rfl) rfl
theorem q2172 : (Jvm.Cond.fieldLink "PageGarden$Leaf" (13 : Nat) "PageGarden$Leaf" "values" "[I") ∈ lw_all := lw_g (lw_at lw_m9 145 rfl) rfl
theorem q2174 : (Jvm.Cond.laysFinal "PageGarden$Leaf" "PageGarden$Leaf" "keys" "[I") ∈ lw_all := lw_g (lw_at lw_m9 147 rfl) rfl
theorem q2175 : (Jvm.Cond.soleField "PageGarden$Leaf" "keys") ∈ lw_all := lw_g (lw_at lw_m9 148 rfl) rfl
theorem q2176 : (Jvm.Cond.laysFinal "PageGarden$Leaf" "PageGarden$Leaf" "values" "[I") ∈ lw_all := lw_g (lw_at lw_m9 149 rfl) rfl
theorem q2177 : (Jvm.Cond.soleField "PageGarden$Leaf" "values") ∈ lw_all := lw_g (lw_at lw_m9 150 rfl) rfl
theorem q2178 : (Jvm.Cond.superclass "PageGarden$Leaf" "java/lang/Object") ∈ lw_all := lw_g (lw_at lw_m9 151 rfl) rfl
theorem q2185 : (Jvm.Cond.static ({ cls := "PageGarden$Leaf", name := "more", desc := "([III)[I" } : Jvm.MethodName)) ∈ lw_all := lw_g (lw_at lw_m9 158 rfl) rfl
theorem q2186 : (Jvm.Cond.code ({ cls := "PageGarden$Leaf", name := "more", desc := "([III)[I" } : Jvm.MethodName) prog_7_method_6_code (5 : Nat) (Option.some (Jvm.ClassFile.FieldType.array Jvm.ClassFile.FieldType.int))) ∈ lw_all := lw_g (lw_at lw_m9 159 rfl) rfl
theorem q2193 : (Jvm.Cond.instanceMethod ({ cls := "PageGarden$Leaf", name := "with", desc := "(II)LPageGarden$Leaf;" } : Jvm.MethodName)) ∈ lw_all := lw_g (lw_at lw_m9 166 rfl) rfl
theorem q2194 : (Jvm.Cond.selects "PageGarden$Leaf" ({ cls := "PageGarden$Leaf", name := "with", desc := "(II)LPageGarden$Leaf;" } : Jvm.MethodName) ({ cls := "PageGarden$Leaf", name := "with", desc := "(II)LPageGarden$Leaf;" } : Jvm.MethodName)) ∈ lw_all := lw_g (lw_at lw_m9 167 rfl) rfl
theorem q2195 : (Jvm.Cond.code ({ cls := "PageGarden$Leaf", name := "with", desc := "(II)LPageGarden$Leaf;" } : Jvm.MethodName) prog_7_method_8_code (5 : Nat) (Option.some (Jvm.ClassFile.FieldType.object "PageGarden$Leaf"))) ∈ lw_all := lw_g (lw_at lw_m9 168 rfl) rfl
theorem q2196 : (Jvm.Cond.methodLink "PageGarden$Leaf" (26 : Nat) ({ cls := "PageGarden$Leaf", name := "has", desc := "(I)Z" } : Jvm.MethodName)) ∈ lw_all := lw_g (lw_at lw_m9 169 rfl) rfl
theorem q2197 : (Jvm.Cond.methodLink "PageGarden$Leaf" (30 : Nat) ({ cls := "[I", name := "clone", desc := "()Ljava/lang/Object;" } : Jvm.MethodName)) ∈ lw_all := lw_g (lw_at lw_m9 170 rfl) rfl
theorem q2198 : (Jvm.Cond.classLink "PageGarden$Leaf" (31 : Nat) "[I") ∈ lw_all := lw_g (lw_at lw_m9 171 rfl) rfl
theorem q2199 : (Jvm.Cond.classLink "PageGarden$Leaf" (8 : Nat) "PageGarden$Leaf") ∈ lw_all := lw_g (lw_at lw_m9 172 rfl) rfl
theorem q2200 : (Jvm.Cond.methodLink "PageGarden$Leaf" (35 : Nat) ({ cls := "PageGarden$Leaf", name := "<init>", desc := "([I[I)V" } : Jvm.MethodName)) ∈ lw_all := lw_g (lw_at lw_m9 173 rfl) rfl
theorem q2201 : (Jvm.Cond.methodLink "PageGarden$Leaf" (38 : Nat) ({ cls := "PageGarden$Leaf", name := "more", desc := "([III)[I" } : Jvm.MethodName)) ∈ lw_all := lw_g (lw_at lw_m9 174 rfl) rfl
theorem q2213 : (Jvm.Cond.instanceMethod ({ cls := "PageGarden$Leaf", name := "part", desc := "(II)LPageGarden$Leaf;" } : Jvm.MethodName)) ∈ lw_all := lw_g (lw_at lw_m9 186 rfl) rfl
theorem q2214 : (Jvm.Cond.selects "PageGarden$Leaf" ({ cls := "PageGarden$Leaf", name := "part", desc := "(II)LPageGarden$Leaf;" } : Jvm.MethodName) ({ cls := "PageGarden$Leaf", name := "part", desc := "(II)LPageGarden$Leaf;" } : Jvm.MethodName)) ∈ lw_all := lw_g (lw_at lw_m9 187 rfl) rfl
theorem q2215 : (Jvm.Cond.code ({ cls := "PageGarden$Leaf", name := "part", desc := "(II)LPageGarden$Leaf;" } : Jvm.MethodName) prog_7_method_10_code (3 : Nat) (Option.some (Jvm.ClassFile.FieldType.object "PageGarden$Leaf"))) ∈ lw_all := lw_g (lw_at lw_m9 188 rfl) rfl
theorem q2216 : (Jvm.Cond.methodLink "PageGarden$Leaf" (42 : Nat) ({ cls := "PageGarden$Leaf", name := "cut", desc := "([III)[I" } : Jvm.MethodName)) ∈ lw_all := lw_g (lw_at lw_m9 189 rfl) rfl
theorem q2217 : (Jvm.Cond.static ({ cls := "PageGarden$Leaf", name := "cut", desc := "([III)[I" } : Jvm.MethodName)) ∈ lw_all := lw_g (lw_at lw_m9 190 rfl) rfl
theorem q2218 : (Jvm.Cond.code ({ cls := "PageGarden$Leaf", name := "cut", desc := "([III)[I" } : Jvm.MethodName) prog_7_method_7_code (4 : Nat) (Option.some (Jvm.ClassFile.FieldType.array Jvm.ClassFile.FieldType.int))) ∈ lw_all := lw_g (lw_at lw_m9 191 rfl) rfl
theorem q2219 : (Jvm.Cond.methodLink "PageGarden$Leaf" (20 : Nat) ({ cls := "java/lang/System", name := "arraycopy", desc := "(Ljava/lang/Object;ILjava/lang/Object;II)V" } : Jvm.MethodName)) ∈ lw_all := lw_g (lw_at lw_m9 192 rfl) rfl
theorem q2230 : (Jvm.Cond.instanceMethod ({ cls := "PageGarden$Leaf", name := "without", desc := "(I)LPageGarden$Leaf;" } : Jvm.MethodName)) ∈ lw_all := lw_g (lw_at lw_m9 203 rfl) rfl
theorem q2231 : (Jvm.Cond.selects "PageGarden$Leaf" ({ cls := "PageGarden$Leaf", name := "without", desc := "(I)LPageGarden$Leaf;" } : Jvm.MethodName) ({ cls := "PageGarden$Leaf", name := "without", desc := "(I)LPageGarden$Leaf;" } : Jvm.MethodName)) ∈ lw_all := lw_g (lw_at lw_m9 204 rfl) rfl
theorem q2232 : (Jvm.Cond.code ({ cls := "PageGarden$Leaf", name := "without", desc := "(I)LPageGarden$Leaf;" } : Jvm.MethodName) prog_7_method_9_code (6 : Nat) (Option.some (Jvm.ClassFile.FieldType.object "PageGarden$Leaf"))) ∈ lw_all := lw_g (lw_at lw_m9 205 rfl) rfl
theorem q2413 : (Jvm.Cond.castable "PageGarden$Leaf" "PageGarden$Page") ∈ lw_tbl := lw_at lw_m10 146 rfl
theorem q2414 : (Jvm.Cond.selects "PageGarden$Leaf" ({ cls := "PageGarden$Page", name := "size", desc := "()I" } : Jvm.MethodName) ({ cls := "PageGarden$Leaf", name := "size", desc := "()I" } : Jvm.MethodName)) ∈ lw_all := lw_g (lw_at lw_m10 147 rfl) rfl
theorem q2415 : (Jvm.Cond.unhidden "PageGarden$Leaf" "size" "()I") ∈ lw_tbl := lw_at lw_m10 148 rfl
theorem q2416 : (Jvm.Cond.publicMethod ({ cls := "PageGarden$Leaf", name := "size", desc := "()I" } : Jvm.MethodName)) ∈ lw_tbl := lw_at lw_m10 149 rfl
theorem q2480 : (Jvm.Cond.selects "PageGarden$Leaf" ({ cls := "PageGarden$Page", name := "kind", desc := "()I" } : Jvm.MethodName) ({ cls := "PageGarden$Leaf", name := "kind", desc := "()I" } : Jvm.MethodName)) ∈ lw_all := lw_g (lw_at lw_m10 213 rfl) rfl
theorem q2481 : (Jvm.Cond.unhidden "PageGarden$Leaf" "kind" "()I") ∈ lw_tbl := lw_at lw_m10 214 rfl
theorem q2482 : (Jvm.Cond.instanceMethod ({ cls := "PageGarden$Leaf", name := "kind", desc := "()I" } : Jvm.MethodName)) ∈ lw_all := lw_g (lw_at lw_m10 215 rfl) rfl
theorem q2483 : (Jvm.Cond.publicMethod ({ cls := "PageGarden$Leaf", name := "kind", desc := "()I" } : Jvm.MethodName)) ∈ lw_tbl := lw_at lw_m10 216 rfl
theorem q2484 : (Jvm.Cond.code ({ cls := "PageGarden$Leaf", name := "kind", desc := "()I" } : Jvm.MethodName) prog_7_method_2_code (1 : Nat) (Option.some Jvm.ClassFile.FieldType.int)) ∈ lw_all := lw_g (lw_at lw_m10 217 rfl) rfl
theorem q3171 : (Jvm.Cond.castable "PageGarden$Leaf" "java/lang/Object") ∈ lw_tbl := lw_at lw_m13 184 rfl
theorem q161 : (Jvm.Cond.initialized "PageGarden$Reader") ∈ lw_all := lw_g (lw_at lw_m1 54 rfl) rfl
theorem q350 : (Jvm.Cond.selects "PageGarden$Reader" ({ cls := "java/lang/Object", name := "hashCode", desc := "()I" } : Jvm.MethodName) ({ cls := "java/lang/Object", name := "hashCode", desc := "()I" } : Jvm.MethodName)) ∈ lw_all := lw_g (lw_at lw_m2 3 rfl) rfl
theorem q858 : (Jvm.Cond.selects "PageGarden$Reader" ({ cls := "java/lang/Object", name := "getClass", desc := "()Ljava/lang/Class;" } : Jvm.MethodName) ({ cls := "java/lang/Object", name := "getClass", desc := "()Ljava/lang/Class;" } : Jvm.MethodName)) ∈ lw_all := lw_g (lw_at lw_m4 31 rfl) rfl
theorem q1139 : (Jvm.Cond.selects "PageGarden$Reader" ({ cls := "java/lang/Object", name := "equals", desc := "(Ljava/lang/Object;)Z" } : Jvm.MethodName) ({ cls := "java/lang/Object", name := "equals", desc := "(Ljava/lang/Object;)Z" } : Jvm.MethodName)) ∈ lw_all := lw_g (lw_at lw_m5 72 rfl) rfl
theorem q2317 : (Jvm.Cond.instantiable "PageGarden$Reader" (2 : Nat)) ∈ lw_all := lw_g (lw_at lw_m10 50 rfl) rfl
theorem q2319 : (Jvm.Cond.instanceMethod ({ cls := "PageGarden$Reader", name := "<init>", desc := "(II)V" } : Jvm.MethodName)) ∈ lw_all := lw_g (lw_at lw_m10 52 rfl) rfl
theorem q2320 : (Jvm.Cond.code ({ cls := "PageGarden$Reader", name := "<init>", desc := "(II)V" } : Jvm.MethodName) prog_10_method_1_code (3 : Nat) (Option.none : Option Jvm.ClassFile.FieldType)) ∈ lw_all := lw_g (lw_at lw_m10 53 rfl) rfl
theorem q2321 : (Jvm.Cond.methodLink "PageGarden$Reader" (1 : Nat) ({ cls := "java/lang/Object", name := "<init>", desc := "()V" } : Jvm.MethodName)) ∈ lw_all := lw_g (lw_at lw_m10 54 rfl) rfl
theorem q2322 : (Jvm.Cond.fieldLink "PageGarden$Reader" (7 : Nat) "PageGarden$Reader" "count" "I") ∈ lw_all := lw_g (lw_at lw_m10 55 rfl) rfl
theorem q2324 : (Jvm.Cond.fieldLink "PageGarden$Reader" (13 : Nat) "PageGarden$Reader" "directory" "I") ∈ lw_all := lw_g (lw_at lw_m10 57 rfl) rfl
theorem q2327 : (Jvm.Cond.laysFinal "PageGarden$Reader" "PageGarden$Reader" "count" "I") ∈ lw_all := lw_g (lw_at lw_m10 60 rfl) rfl
theorem q2328 : (Jvm.Cond.soleField "PageGarden$Reader" "count") ∈ lw_all := lw_g (lw_at lw_m10 61 rfl) rfl
theorem q2329 : (Jvm.Cond.laysFinal "PageGarden$Reader" "PageGarden$Reader" "directory" "I") ∈ lw_all := lw_g (lw_at lw_m10 62 rfl) rfl
theorem q2330 : (Jvm.Cond.soleField "PageGarden$Reader" "directory") ∈ lw_all := lw_g (lw_at lw_m10 63 rfl) rfl
theorem q2331 : (Jvm.Cond.superclass "PageGarden$Reader" "java/lang/Object") ∈ lw_all := lw_g (lw_at lw_m10 64 rfl) rfl
theorem q3145 : (Jvm.Cond.castable "PageGarden$Reader" "java/lang/Object") ∈ lw_tbl := lw_at lw_m13 158 rfl
theorem q165 : (Jvm.Cond.initialized "PageGarden$Text") ∈ lw_all := lw_g (lw_at lw_m1 58 rfl) rfl
theorem q360 : (Jvm.Cond.selects "PageGarden$Text" ({ cls := "java/lang/Object", name := "hashCode", desc := "()I" } : Jvm.MethodName) ({ cls := "java/lang/Object", name := "hashCode", desc := "()I" } : Jvm.MethodName)) ∈ lw_all := lw_g (lw_at lw_m2 13 rfl) rfl
theorem q863 : (Jvm.Cond.selects "PageGarden$Text" ({ cls := "java/lang/Object", name := "getClass", desc := "()Ljava/lang/Class;" } : Jvm.MethodName) ({ cls := "java/lang/Object", name := "getClass", desc := "()Ljava/lang/Class;" } : Jvm.MethodName)) ∈ lw_all := lw_g (lw_at lw_m4 36 rfl) rfl
theorem q1146 : (Jvm.Cond.selects "PageGarden$Text" ({ cls := "java/lang/Object", name := "equals", desc := "(Ljava/lang/Object;)Z" } : Jvm.MethodName) ({ cls := "java/lang/Object", name := "equals", desc := "(Ljava/lang/Object;)Z" } : Jvm.MethodName)) ∈ lw_all := lw_g (lw_at lw_m5 79 rfl) rfl
theorem q1273 : (Jvm.Cond.fieldLinkNest "PageGarden$Text" (35 : Nat) "PageGarden" "commands" "[B" "PageGarden") ∈ lw_tbl := lw_at lw_m5 206 rfl
theorem q1275 : (Jvm.Cond.fieldLinkNest "PageGarden$Text" (32 : Nat) "PageGarden" "commandLength" "I" "PageGarden") ∈ lw_tbl := lw_at lw_m5 208 rfl
theorem q1326 : (Jvm.Cond.instantiable "PageGarden$Text" (5 : Nat)) ∈ lw_all := lw_g (lw_at lw_m6 19 rfl) rfl
theorem q1328 : (Jvm.Cond.instanceMethod ({ cls := "PageGarden$Text", name := "<init>", desc := "(LPageGarden;)V" } : Jvm.MethodName)) ∈ lw_all := lw_g (lw_at lw_m6 21 rfl) rfl
theorem q1329 : (Jvm.Cond.code ({ cls := "PageGarden$Text", name := "<init>", desc := "(LPageGarden;)V" } : Jvm.MethodName) prog_16_method_1_code (2 : Nat) (Option.none : Option Jvm.ClassFile.FieldType)) ∈ lw_all := lw_g (lw_at lw_m6 22 rfl) rfl
theorem q1330 : (Jvm.Cond.methodLink "PageGarden$Text" (9 : Nat) ({ cls := "java/lang/Object", name := "<init>", desc := "()V" } : Jvm.MethodName)) ∈ lw_all := lw_g (lw_at lw_m6 23 rfl) rfl
theorem q1331 : (Jvm.Cond.stringRef "PageGarden$Text" (19 : Nat) "") ∈ lw_tbl := lw_at lw_m6 24 rfl
theorem q1332 : (Jvm.Cond.fieldLink "PageGarden$Text" (29 : Nat) "PageGarden$Text" "at" "I") ∈ lw_all := lw_g (lw_at lw_m6 25 rfl) rfl
theorem q1333 : (Jvm.Cond.fieldLink "PageGarden$Text" (15 : Nat) "PageGarden$Text" "fault" "I") ∈ lw_all := lw_g (lw_at lw_m6 26 rfl) rfl
theorem q1335 : (Jvm.Cond.fieldLink "PageGarden$Text" (21 : Nat) "PageGarden$Text" "word" "Ljava/lang/String;") ∈ lw_all := lw_g (lw_at lw_m6 28 rfl) rfl
theorem q1336 : (Jvm.Cond.fieldLink "PageGarden$Text" (25 : Nat) "PageGarden$Text" "numbers" "[I") ∈ lw_all := lw_g (lw_at lw_m6 29 rfl) rfl
theorem q1337 : (Jvm.Cond.fieldLink "PageGarden$Text" (3 : Nat) "PageGarden$Text" "this$0" "LPageGarden;") ∈ lw_all := lw_g (lw_at lw_m6 30 rfl) rfl
theorem q1338 : (Jvm.Cond.lays "PageGarden$Text" "PageGarden$Text" "at" "I") ∈ lw_all := lw_g (lw_at lw_m6 31 rfl) rfl
theorem q1339 : (Jvm.Cond.soleField "PageGarden$Text" "at") ∈ lw_all := lw_g (lw_at lw_m6 32 rfl) rfl
theorem q1340 : (Jvm.Cond.lays "PageGarden$Text" "PageGarden$Text" "fault" "I") ∈ lw_all := lw_g (lw_at lw_m6 33 rfl) rfl
theorem q1341 : (Jvm.Cond.soleField "PageGarden$Text" "fault") ∈ lw_all := lw_g (lw_at lw_m6 34 rfl) rfl
theorem q1342 : (Jvm.Cond.lays "PageGarden$Text" "PageGarden$Text" "word" "Ljava/lang/String;") ∈ lw_all := lw_g (lw_at lw_m6 35 rfl) rfl
theorem q1343 : (Jvm.Cond.soleField "PageGarden$Text" "word") ∈ lw_all := lw_g (lw_at lw_m6 36 rfl) rfl
theorem q1344 : (Jvm.Cond.laysFinal "PageGarden$Text" "PageGarden$Text" "numbers" "[I") ∈ lw_all := lw_g (lw_at lw_m6 37 rfl) rfl
theorem q1345 : (Jvm.Cond.soleField "PageGarden$Text" "numbers") ∈ lw_all := lw_g (lw_at lw_m6 38 rfl) rfl
theorem q1346 : (Jvm.Cond.laysFinal "PageGarden$Text" "PageGarden$Text" "this$0" "LPageGarden;") ∈ lw_all := lw_g (lw_at lw_m6 39 rfl) rfl
theorem q1347 : (Jvm.Cond.soleField "PageGarden$Text" "this$0") ∈ lw_all := lw_g (lw_at lw_m6 40 rfl) rfl
theorem q1348 : (Jvm.Cond.superclass "PageGarden$Text" "java/lang/Object") ∈ lw_all := lw_g (lw_at lw_m6 41 rfl) rfl
theorem q1350 : (Jvm.Cond.instanceMethod ({ cls := "PageGarden$Text", name := "next", desc := "()Z" } : Jvm.MethodName)) ∈ lw_all := lw_g (lw_at lw_m6 43 rfl) rfl
theorem q1351 : (Jvm.Cond.selects "PageGarden$Text" ({ cls := "PageGarden$Text", name := "next", desc := "()Z" } : Jvm.MethodName) ({ cls := "PageGarden$Text", name := "next", desc := "()Z" } : Jvm.MethodName)) ∈ lw_all := lw_g (lw_at lw_m6 44 rfl) rfl
theorem q1352 : (Jvm.Cond.code ({ cls := "PageGarden$Text", name := "next", desc := "()Z" } : Jvm.MethodName) prog_16_method_4_code (2 : Nat) (Option.some Jvm.ClassFile.FieldType.boolean)) ∈ lw_all := lw_g (lw_at lw_m6 45 rfl) rfl
theorem q1353 : (Jvm.Cond.methodLink "PageGarden$Text" (47 : Nat) ({ cls := "PageGarden$Text", name := "spaces", desc := "()Z" } : Jvm.MethodName)) ∈ lw_all := lw_g (lw_at lw_m6 46 rfl) rfl
theorem q1354 : (Jvm.Cond.privateMethod ({ cls := "PageGarden$Text", name := "spaces", desc := "()Z" } : Jvm.MethodName)) ∈ lw_tbl := lw_at lw_m6 47 rfl
theorem q1355 : (Jvm.Cond.instanceMethod ({ cls := "PageGarden$Text", name := "spaces", desc := "()Z" } : Jvm.MethodName)) ∈ lw_all := lw_g (lw_at lw_m6 48 rfl) rfl
theorem q1356 : (Jvm.Cond.code ({ cls := "PageGarden$Text", name := "spaces", desc := "()Z" } : Jvm.MethodName) prog_16_method_3_code (2 : Nat) (Option.some Jvm.ClassFile.FieldType.boolean)) ∈ lw_all := lw_g (lw_at lw_m6 49 rfl) rfl
theorem q1357 : (Jvm.Cond.methodLink "PageGarden$Text" (43 : Nat) ({ cls := "PageGarden$Text", name := "isAt", desc := "(II)Z" } : Jvm.MethodName)) ∈ lw_all := lw_g (lw_at lw_m6 50 rfl) rfl
theorem q1358 : (Jvm.Cond.privateMethod ({ cls := "PageGarden$Text", name := "isAt", desc := "(II)Z" } : Jvm.MethodName)) ∈ lw_tbl := lw_at lw_m6 51 rfl
theorem q1359 : (Jvm.Cond.instanceMethod ({ cls := "PageGarden$Text", name := "isAt", desc := "(II)Z" } : Jvm.MethodName)) ∈ lw_all := lw_g (lw_at lw_m6 52 rfl) rfl
theorem q1360 : (Jvm.Cond.code ({ cls := "PageGarden$Text", name := "isAt", desc := "(II)Z" } : Jvm.MethodName) prog_16_method_2_code (3 : Nat) (Option.some Jvm.ClassFile.FieldType.boolean)) ∈ lw_all := lw_g (lw_at lw_m6 53 rfl) rfl
theorem q1361 : (Jvm.Cond.methodLinkNest "PageGarden$Text" (39 : Nat) ({ cls := "PageGarden", name := "inRange", desc := "(JJJ)Z" } : Jvm.MethodName) "PageGarden") ∈ lw_tbl := lw_at lw_m6 54 rfl
theorem q1364 : (Jvm.Cond.methodLink "PageGarden$Text" (51 : Nat) ({ cls := "PageGarden$Text", name := "readCommand", desc := "()Z" } : Jvm.MethodName)) ∈ lw_all := lw_g (lw_at lw_m6 57 rfl) rfl
theorem q1365 : (Jvm.Cond.privateMethod ({ cls := "PageGarden$Text", name := "readCommand", desc := "()Z" } : Jvm.MethodName)) ∈ lw_tbl := lw_at lw_m6 58 rfl
theorem q1366 : (Jvm.Cond.instanceMethod ({ cls := "PageGarden$Text", name := "readCommand", desc := "()Z" } : Jvm.MethodName)) ∈ lw_all := lw_g (lw_at lw_m6 59 rfl) rfl
theorem q1367 : (Jvm.Cond.code ({ cls := "PageGarden$Text", name := "readCommand", desc := "()Z" } : Jvm.MethodName) prog_16_method_5_code (6 : Nat) (Option.some Jvm.ClassFile.FieldType.boolean)) ∈ lw_all := lw_g (lw_at lw_m6 60 rfl) rfl
theorem q1368 : (Jvm.Cond.classLink "PageGarden$Text" (54 : Nat) "java/lang/StringBuilder") ∈ lw_all := lw_g (lw_at lw_m6 61 rfl) rfl
theorem q1369 : (Jvm.Cond.methodLink "PageGarden$Text" (56 : Nat) ({ cls := "java/lang/StringBuilder", name := "<init>", desc := "()V" } : Jvm.MethodName)) ∈ lw_all := lw_g (lw_at lw_m6 62 rfl) rfl
theorem q1370 : (Jvm.Cond.methodLink "PageGarden$Text" (57 : Nat) ({ cls := "java/lang/StringBuilder", name := "append", desc := "(C)Ljava/lang/StringBuilder;" } : Jvm.MethodName)) ∈ lw_all := lw_g (lw_at lw_m6 63 rfl) rfl
theorem q1392 : (Jvm.Cond.methodLink "PageGarden$Text" (61 : Nat) ({ cls := "java/lang/StringBuilder", name := "toString", desc := "()Ljava/lang/String;" } : Jvm.MethodName)) ∈ lw_all := lw_g (lw_at lw_m6 85 rfl) rfl
theorem q1393 : (Jvm.Cond.methodLinkNest "PageGarden$Text" (65 : Nat) ({ cls := "PageGarden", name := "numbersOf", desc := "(Ljava/lang/String;)I" } : Jvm.MethodName) "PageGarden") ∈ lw_tbl := lw_at lw_m6 86 rfl
theorem q1405 : (Jvm.Cond.methodLink "PageGarden$Text" (69 : Nat) ({ cls := "PageGarden$Text", name := "readNumber", desc := "(I)Z" } : Jvm.MethodName)) ∈ lw_all := lw_g (lw_at lw_m6 98 rfl) rfl
theorem q1406 : (Jvm.Cond.privateMethod ({ cls := "PageGarden$Text", name := "readNumber", desc := "(I)Z" } : Jvm.MethodName)) ∈ lw_tbl := lw_at lw_m6 99 rfl
theorem q1407 : (Jvm.Cond.instanceMethod ({ cls := "PageGarden$Text", name := "readNumber", desc := "(I)Z" } : Jvm.MethodName)) ∈ lw_all := lw_g (lw_at lw_m6 100 rfl) rfl
theorem q1408 : (Jvm.Cond.code ({ cls := "PageGarden$Text", name := "readNumber", desc := "(I)Z" } : Jvm.MethodName) prog_16_method_6_code (3 : Nat) (Option.some Jvm.ClassFile.FieldType.boolean)) ∈ lw_all := lw_g (lw_at lw_m6 101 rfl) rfl
theorem q1960 : (Jvm.Cond.instanceMethod ({ cls := "PageGarden$Text", name := "carryOutOn", desc := "(LPageGarden$Garden;)I" } : Jvm.MethodName)) ∈ lw_all := lw_g (lw_at lw_m8 173 rfl) rfl
theorem q1961 : (Jvm.Cond.selects "PageGarden$Text" ({ cls := "PageGarden$Text", name := "carryOutOn", desc := "(LPageGarden$Garden;)I" } : Jvm.MethodName) ({ cls := "PageGarden$Text", name := "carryOutOn", desc := "(LPageGarden$Garden;)I" } : Jvm.MethodName)) ∈ lw_all := lw_g (lw_at lw_m8 174 rfl) rfl
theorem q1962 : (Jvm.Cond.codeWith ({ cls := "PageGarden$Text", name := "carryOutOn", desc := "(LPageGarden$Garden;)I" } : Jvm.MethodName) prog_16_method_7_code (4 : Nat) (Option.some Jvm.ClassFile.FieldType.int) [((2 : Nat), (28 : Nat), (31 : Nat), (80 : Nat)), ((2 : Nat), (28 : Nat), (31 : Nat), (82 : Nat)), ((2 : Nat), (28 : Nat), (31 : Nat), (84 : Nat))]) ∈ lw_all := lw_g (lw_at lw_m8 175 rfl) rfl
theorem q1963 : (Jvm.Cond.classLink "PageGarden$Text" (80 : Nat) "java/lang/IndexOutOfBoundsException") ∈ lw_all := lw_g (lw_at lw_m8 176 rfl) rfl
theorem q1982 : (Jvm.Cond.classLink "PageGarden$Text" (82 : Nat) "java/lang/IllegalArgumentException") ∈ lw_all := lw_g (lw_at lw_m8 195 rfl) rfl
theorem q1983 : (Jvm.Cond.classLink "PageGarden$Text" (84 : Nat) "java/lang/IllegalStateException") ∈ lw_all := lw_g (lw_at lw_m8 196 rfl) rfl
theorem q1984 : (Jvm.Cond.methodLink "PageGarden$Text" (73 : Nat) ({ cls := "PageGarden$Text", name := "next", desc := "()Z" } : Jvm.MethodName)) ∈ lw_all := lw_g (lw_at lw_m8 197 rfl) rfl
theorem q1985 : (Jvm.Cond.methodLinkNest "PageGarden$Text" (76 : Nat) ({ cls := "PageGarden", name := "carryOut", desc := "(LPageGarden$Garden;Ljava/lang/String;[I)I" } : Jvm.MethodName) "PageGarden") ∈ lw_tbl := lw_at lw_m8 198 rfl
theorem q3175 : (Jvm.Cond.castable "PageGarden$Text" "java/lang/Object") ∈ lw_tbl := lw_at lw_m13 188 rfl
theorem q352 : (Jvm.Cond.selects "PageGarden$State$1" ({ cls := "java/lang/Object", name := "hashCode", desc := "()I" } : Jvm.MethodName) ({ cls := "java/lang/Enum", name := "hashCode", desc := "()I" } : Jvm.MethodName)) ∈ lw_all := lw_g (lw_at lw_m2 5 rfl) rfl
theorem q860 : (Jvm.Cond.selects "PageGarden$State$1" ({ cls := "java/lang/Object", name := "getClass", desc := "()Ljava/lang/Class;" } : Jvm.MethodName) ({ cls := "java/lang/Object", name := "getClass", desc := "()Ljava/lang/Class;" } : Jvm.MethodName)) ∈ lw_all := lw_g (lw_at lw_m4 33 rfl) rfl
theorem q894 : (Jvm.Cond.castable "PageGarden$State$1" "java/lang/Comparable") ∈ lw_tbl := lw_at lw_m4 67 rfl
theorem q895 : (Jvm.Cond.selects "PageGarden$State$1" ({ cls := "java/lang/Comparable", name := "compareTo", desc := "(Ljava/lang/Object;)I" } : Jvm.MethodName) ({ cls := "java/lang/Enum", name := "compareTo", desc := "(Ljava/lang/Object;)I" } : Jvm.MethodName)) ∈ lw_all := lw_g (lw_at lw_m4 68 rfl) rfl
theorem q896 : (Jvm.Cond.unhidden "PageGarden$State$1" "compareTo" "(Ljava/lang/Object;)I") ∈ lw_tbl := lw_at lw_m4 69 rfl
theorem q904 : (Jvm.Cond.selects "PageGarden$State$1" ({ cls := "java/lang/Enum", name := "compareTo", desc := "(Ljava/lang/Enum;)I" } : Jvm.MethodName) ({ cls := "java/lang/Enum", name := "compareTo", desc := "(Ljava/lang/Enum;)I" } : Jvm.MethodName)) ∈ lw_all := lw_g (lw_at lw_m4 77 rfl) rfl
theorem q912 : (Jvm.Cond.selects "PageGarden$State$1" ({ cls := "java/lang/Enum", name := "getDeclaringClass", desc := "()Ljava/lang/Class;" } : Jvm.MethodName) ({ cls := "java/lang/Enum", name := "getDeclaringClass", desc := "()Ljava/lang/Class;" } : Jvm.MethodName)) ∈ lw_all := lw_g (lw_at lw_m4 85 rfl) rfl
theorem q1141 : (Jvm.Cond.selects "PageGarden$State$1" ({ cls := "java/lang/Object", name := "equals", desc := "(Ljava/lang/Object;)Z" } : Jvm.MethodName) ({ cls := "java/lang/Enum", name := "equals", desc := "(Ljava/lang/Object;)Z" } : Jvm.MethodName)) ∈ lw_all := lw_g (lw_at lw_m5 74 rfl) rfl
theorem q1430 : (Jvm.Cond.selects "PageGarden$State$1" ({ cls := "PageGarden$State", name := "holds", desc := "()Z" } : Jvm.MethodName) ({ cls := "PageGarden$State$1", name := "holds", desc := "()Z" } : Jvm.MethodName)) ∈ lw_all := lw_g (lw_at lw_m6 123 rfl) rfl
theorem q1431 : (Jvm.Cond.instanceMethod ({ cls := "PageGarden$State$1", name := "holds", desc := "()Z" } : Jvm.MethodName)) ∈ lw_all := lw_g (lw_at lw_m6 124 rfl) rfl
theorem q1432 : (Jvm.Cond.code ({ cls := "PageGarden$State$1", name := "holds", desc := "()Z" } : Jvm.MethodName) prog_13_method_2_code (1 : Nat) (Option.some Jvm.ClassFile.FieldType.boolean)) ∈ lw_all := lw_g (lw_at lw_m6 125 rfl) rfl
theorem q2466 : (Jvm.Cond.selects "PageGarden$State$1" ({ cls := "PageGarden$State", name := "ordinal", desc := "()I" } : Jvm.MethodName) ({ cls := "java/lang/Enum", name := "ordinal", desc := "()I" } : Jvm.MethodName)) ∈ lw_all := lw_g (lw_at lw_m10 199 rfl) rfl
theorem q3135 : (Jvm.Cond.castable "PageGarden$State$1" "java/lang/Enum") ∈ lw_tbl := lw_at lw_m13 148 rfl
theorem q3150 : (Jvm.Cond.castable "PageGarden$State$1" "java/lang/Object") ∈ lw_tbl := lw_at lw_m13 163 rfl
theorem q3177 : (Jvm.Cond.castable "PageGarden$State$1" "PageGarden$State") ∈ lw_tbl := lw_at lw_m13 190 rfl
theorem q358 : (Jvm.Cond.selects "PageGarden$State$2" ({ cls := "java/lang/Object", name := "hashCode", desc := "()I" } : Jvm.MethodName) ({ cls := "java/lang/Enum", name := "hashCode", desc := "()I" } : Jvm.MethodName)) ∈ lw_all := lw_g (lw_at lw_m2 11 rfl) rfl
theorem q861 : (Jvm.Cond.selects "PageGarden$State$2" ({ cls := "java/lang/Object", name := "getClass", desc := "()Ljava/lang/Class;" } : Jvm.MethodName) ({ cls := "java/lang/Object", name := "getClass", desc := "()Ljava/lang/Class;" } : Jvm.MethodName)) ∈ lw_all := lw_g (lw_at lw_m4 34 rfl) rfl
theorem q905 : (Jvm.Cond.selects "PageGarden$State$2" ({ cls := "java/lang/Enum", name := "compareTo", desc := "(Ljava/lang/Enum;)I" } : Jvm.MethodName) ({ cls := "java/lang/Enum", name := "compareTo", desc := "(Ljava/lang/Enum;)I" } : Jvm.MethodName)) ∈ lw_all := lw_g (lw_at lw_m4 78 rfl) rfl
theorem q913 : (Jvm.Cond.selects "PageGarden$State$2" ({ cls := "java/lang/Enum", name := "getDeclaringClass", desc := "()Ljava/lang/Class;" } : Jvm.MethodName) ({ cls := "java/lang/Enum", name := "getDeclaringClass", desc := "()Ljava/lang/Class;" } : Jvm.MethodName)) ∈ lw_all := lw_g (lw_at lw_m4 86 rfl) rfl
theorem q916 : (Jvm.Cond.castable "PageGarden$State$2" "java/lang/Comparable") ∈ lw_tbl := lw_at lw_m4 89 rfl
theorem q917 : (Jvm.Cond.selects "PageGarden$State$2" ({ cls := "java/lang/Comparable", name := "compareTo", desc := "(Ljava/lang/Object;)I" } : Jvm.MethodName) ({ cls := "java/lang/Enum", name := "compareTo", desc := "(Ljava/lang/Object;)I" } : Jvm.MethodName)) ∈ lw_all := lw_g (lw_at lw_m4 90 rfl) rfl
theorem q918 : (Jvm.Cond.unhidden "PageGarden$State$2" "compareTo" "(Ljava/lang/Object;)I") ∈ lw_tbl := lw_at lw_m4 91 rfl
theorem q1144 : (Jvm.Cond.selects "PageGarden$State$2" ({ cls := "java/lang/Object", name := "equals", desc := "(Ljava/lang/Object;)Z" } : Jvm.MethodName) ({ cls := "java/lang/Enum", name := "equals", desc := "(Ljava/lang/Object;)Z" } : Jvm.MethodName)) ∈ lw_all := lw_g (lw_at lw_m5 77 rfl) rfl
theorem q1433 : (Jvm.Cond.selects "PageGarden$State$2" ({ cls := "PageGarden$State", name := "holds", desc := "()Z" } : Jvm.MethodName) ({ cls := "PageGarden$State$2", name := "holds", desc := "()Z" } : Jvm.MethodName)) ∈ lw_all := lw_g (lw_at lw_m6 126 rfl) rfl
theorem q1434 : (Jvm.Cond.instanceMethod ({ cls := "PageGarden$State$2", name := "holds", desc := "()Z" } : Jvm.MethodName)) ∈ lw_all := lw_g (lw_at lw_m6 127 rfl) rfl
theorem q1435 : (Jvm.Cond.code ({ cls := "PageGarden$State$2", name := "holds", desc := "()Z" } : Jvm.MethodName) prog_14_method_2_code (1 : Nat) (Option.some Jvm.ClassFile.FieldType.boolean)) ∈ lw_all := lw_g (lw_at lw_m6 128 rfl) rfl
theorem q2467 : (Jvm.Cond.selects "PageGarden$State$2" ({ cls := "PageGarden$State", name := "ordinal", desc := "()I" } : Jvm.MethodName) ({ cls := "java/lang/Enum", name := "ordinal", desc := "()I" } : Jvm.MethodName)) ∈ lw_all := lw_g (lw_at lw_m10 200 rfl) rfl
theorem q3136 : (Jvm.Cond.castable "PageGarden$State$2" "java/lang/Enum") ∈ lw_tbl := lw_at lw_m13 149 rfl
theorem q3151 : (Jvm.Cond.castable "PageGarden$State$2" "java/lang/Object") ∈ lw_tbl := lw_at lw_m13 164 rfl
theorem q3178 : (Jvm.Cond.castable "PageGarden$State$2" "PageGarden$State") ∈ lw_tbl := lw_at lw_m13 191 rfl
theorem q359 : (Jvm.Cond.selects "PageGarden$State$3" ({ cls := "java/lang/Object", name := "hashCode", desc := "()I" } : Jvm.MethodName) ({ cls := "java/lang/Enum", name := "hashCode", desc := "()I" } : Jvm.MethodName)) ∈ lw_all := lw_g (lw_at lw_m2 12 rfl) rfl
theorem q862 : (Jvm.Cond.selects "PageGarden$State$3" ({ cls := "java/lang/Object", name := "getClass", desc := "()Ljava/lang/Class;" } : Jvm.MethodName) ({ cls := "java/lang/Object", name := "getClass", desc := "()Ljava/lang/Class;" } : Jvm.MethodName)) ∈ lw_all := lw_g (lw_at lw_m4 35 rfl) rfl
theorem q906 : (Jvm.Cond.selects "PageGarden$State$3" ({ cls := "java/lang/Enum", name := "compareTo", desc := "(Ljava/lang/Enum;)I" } : Jvm.MethodName) ({ cls := "java/lang/Enum", name := "compareTo", desc := "(Ljava/lang/Enum;)I" } : Jvm.MethodName)) ∈ lw_all := lw_g (lw_at lw_m4 79 rfl) rfl
theorem q914 : (Jvm.Cond.selects "PageGarden$State$3" ({ cls := "java/lang/Enum", name := "getDeclaringClass", desc := "()Ljava/lang/Class;" } : Jvm.MethodName) ({ cls := "java/lang/Enum", name := "getDeclaringClass", desc := "()Ljava/lang/Class;" } : Jvm.MethodName)) ∈ lw_all := lw_g (lw_at lw_m4 87 rfl) rfl
theorem q919 : (Jvm.Cond.castable "PageGarden$State$3" "java/lang/Comparable") ∈ lw_tbl := lw_at lw_m4 92 rfl
theorem q920 : (Jvm.Cond.selects "PageGarden$State$3" ({ cls := "java/lang/Comparable", name := "compareTo", desc := "(Ljava/lang/Object;)I" } : Jvm.MethodName) ({ cls := "java/lang/Enum", name := "compareTo", desc := "(Ljava/lang/Object;)I" } : Jvm.MethodName)) ∈ lw_all := lw_g (lw_at lw_m4 93 rfl) rfl
theorem q921 : (Jvm.Cond.unhidden "PageGarden$State$3" "compareTo" "(Ljava/lang/Object;)I") ∈ lw_tbl := lw_at lw_m4 94 rfl
theorem q1145 : (Jvm.Cond.selects "PageGarden$State$3" ({ cls := "java/lang/Object", name := "equals", desc := "(Ljava/lang/Object;)Z" } : Jvm.MethodName) ({ cls := "java/lang/Enum", name := "equals", desc := "(Ljava/lang/Object;)Z" } : Jvm.MethodName)) ∈ lw_all := lw_g (lw_at lw_m5 78 rfl) rfl
theorem q1436 : (Jvm.Cond.selects "PageGarden$State$3" ({ cls := "PageGarden$State", name := "holds", desc := "()Z" } : Jvm.MethodName) ({ cls := "PageGarden$State$3", name := "holds", desc := "()Z" } : Jvm.MethodName)) ∈ lw_all := lw_g (lw_at lw_m6 129 rfl) rfl
theorem q1437 : (Jvm.Cond.instanceMethod ({ cls := "PageGarden$State$3", name := "holds", desc := "()Z" } : Jvm.MethodName)) ∈ lw_all := lw_g (lw_at lw_m6 130 rfl) rfl
theorem q1438 : (Jvm.Cond.code ({ cls := "PageGarden$State$3", name := "holds", desc := "()Z" } : Jvm.MethodName) prog_15_method_2_code (1 : Nat) (Option.some Jvm.ClassFile.FieldType.boolean)) ∈ lw_all := lw_g (lw_at lw_m6 131 rfl) rfl
theorem q2468 : (Jvm.Cond.selects "PageGarden$State$3" ({ cls := "PageGarden$State", name := "ordinal", desc := "()I" } : Jvm.MethodName) ({ cls := "java/lang/Enum", name := "ordinal", desc := "()I" } : Jvm.MethodName)) ∈ lw_all := lw_g (lw_at lw_m10 201 rfl) rfl
theorem q3137 : (Jvm.Cond.castable "PageGarden$State$3" "java/lang/Enum") ∈ lw_tbl := lw_at lw_m13 150 rfl
theorem q3170 : (Jvm.Cond.castable "PageGarden$State$3" "java/lang/Object") ∈ lw_tbl := lw_at lw_m13 183 rfl
theorem q3179 : (Jvm.Cond.castable "PageGarden$State$3" "PageGarden$State") ∈ lw_tbl := lw_at lw_m13 192 rfl
theorem q112 : (Jvm.Cond.initialized "java/util/AbstractMap") ∈ lw_all := lw_g (lw_at lw_m1 5 rfl) rfl
theorem q225 : (Jvm.Cond.instanceMethod ({ cls := "java/util/AbstractMap", name := "<init>", desc := "()V" } : Jvm.MethodName)) ∈ lw_all := lw_g (lw_at lw_m1 118 rfl) rfl
theorem q226 : (Jvm.Cond.code ({ cls := "java/util/AbstractMap", name := "<init>", desc := "()V" } : Jvm.MethodName) prog_51_method_1_code (1 : Nat) (Option.none : Option Jvm.ClassFile.FieldType)) ∈ lw_all := lw_g (lw_at lw_m1 119 rfl) rfl
theorem q227 : (Jvm.Cond.methodLink "java/util/AbstractMap" (1 : Nat) ({ cls := "java/lang/Object", name := "<init>", desc := "()V" } : Jvm.MethodName)) ∈ lw_all := lw_g (lw_at lw_m1 120 rfl) rfl
theorem q271 : (Jvm.Cond.soleField "java/util/AbstractMap" "keySet") ∈ lw_all := lw_g (lw_at lw_m1 164 rfl) rfl
theorem q273 : (Jvm.Cond.soleField "java/util/AbstractMap" "values") ∈ lw_all := lw_g (lw_at lw_m1 166 rfl) rfl
theorem q113 : (Jvm.Cond.initialized "java/util/HashMap") ∈ lw_all := lw_g (lw_at lw_m1 6 rfl) rfl
theorem q222 : (Jvm.Cond.instanceMethod ({ cls := "java/util/HashMap", name := "<init>", desc := "()V" } : Jvm.MethodName)) ∈ lw_all := lw_g (lw_at lw_m1 115 rfl) rfl
theorem q223 : (Jvm.Cond.code ({ cls := "java/util/HashMap", name := "<init>", desc := "()V" } : Jvm.MethodName) prog_56_method_7_code (1 : Nat) (Option.none : Option Jvm.ClassFile.FieldType)) ∈ lw_all := lw_g (lw_at lw_m1 116 rfl) rfl
theorem q224 : (Jvm.Cond.methodLink "java/util/HashMap" (43 : Nat) ({ cls := "java/util/AbstractMap", name := "<init>", desc := "()V" } : Jvm.MethodName)) ∈ lw_all := lw_g (lw_at lw_m1 117 rfl) rfl
theorem q228 : (Jvm.Cond.constantFloat "java/util/HashMap" (92 : Nat) (1061158912 : UInt32)) ∈ lw_all := lw_g (lw_at lw_m1 121 rfl) rfl
theorem q236 : (Jvm.Cond.fieldLink "java/util/HashMap" (105 : Nat) "java/util/HashMap" "table" "[Ljava/util/HashMap$Node;") ∈ lw_all := lw_g (lw_at lw_m1 129 rfl) rfl
theorem q238 : (Jvm.Cond.fieldLink "java/util/HashMap" (156 : Nat) "java/util/HashMap" "size" "I") ∈ lw_all := lw_g (lw_at lw_m1 131 rfl) rfl
theorem q243 : (Jvm.Cond.fieldLink "java/util/HashMap" (202 : Nat) "java/util/HashMap" "modCount" "I") ∈ lw_all := lw_g (lw_at lw_m1 136 rfl) rfl
theorem q244 : (Jvm.Cond.fieldLink "java/util/HashMap" (88 : Nat) "java/util/HashMap" "threshold" "I") ∈ lw_all := lw_g (lw_at lw_m1 137 rfl) rfl
theorem q245 : (Jvm.Cond.fieldLink "java/util/HashMap" (81 : Nat) "java/util/HashMap" "loadFactor" "F") ∈ lw_all := lw_g (lw_at lw_m1 138 rfl) rfl
theorem q246 : (Jvm.Cond.fieldLink "java/util/HashMap" (239 : Nat) "java/util/HashMap" "keySet" "Ljava/util/Set;") ∈ lw_all := lw_g (lw_at lw_m1 139 rfl) rfl
theorem q247 : (Jvm.Cond.sameField "java/util/HashMap" "java/util/AbstractMap" "keySet" "Ljava/util/Set;") ∈ lw_all := lw_g (lw_at lw_m1 140 rfl) rfl
theorem q259 : (Jvm.Cond.soleField "java/util/HashMap" "table") ∈ lw_all := lw_g (lw_at lw_m1 152 rfl) rfl
theorem q261 : (Jvm.Cond.soleField "java/util/HashMap" "entrySet") ∈ lw_all := lw_g (lw_at lw_m1 154 rfl) rfl
theorem q263 : (Jvm.Cond.soleField "java/util/HashMap" "size") ∈ lw_all := lw_g (lw_at lw_m1 156 rfl) rfl
theorem q265 : (Jvm.Cond.soleField "java/util/HashMap" "modCount") ∈ lw_all := lw_g (lw_at lw_m1 158 rfl) rfl
theorem q267 : (Jvm.Cond.soleField "java/util/HashMap" "threshold") ∈ lw_all := lw_g (lw_at lw_m1 160 rfl) rfl
theorem q269 : (Jvm.Cond.soleField "java/util/HashMap" "loadFactor") ∈ lw_all := lw_g (lw_at lw_m1 162 rfl) rfl
theorem q331 : (Jvm.Cond.declares ({ cls := "java/util/HashMap", name := "put", desc := "(Ljava/lang/Object;Ljava/lang/Object;)Ljava/lang/Object;" } : Jvm.MethodName)) ∈ lw_tbl := lw_at lw_m1 224 rfl
theorem q333 : (Jvm.Cond.instanceMethod ({ cls := "java/util/HashMap", name := "put", desc := "(Ljava/lang/Object;Ljava/lang/Object;)Ljava/lang/Object;" } : Jvm.MethodName)) ∈ lw_all := lw_g (lw_at lw_m1 226 rfl) rfl
theorem q334 : (Jvm.Cond.code ({ cls := "java/util/HashMap", name := "put", desc := "(Ljava/lang/Object;Ljava/lang/Object;)Ljava/lang/Object;" } : Jvm.MethodName) prog_56_method_15_code (3 : Nat) (Option.some (Jvm.ClassFile.FieldType.object "java/lang/Object"))) ∈ lw_all := lw_g (lw_at lw_m1 227 rfl) rfl
theorem q335 : (Jvm.Cond.methodLink "java/util/HashMap" (149 : Nat) ({ cls := "java/util/HashMap", name := "hash", desc := "(Ljava/lang/Object;)I" } : Jvm.MethodName)) ∈ lw_all := lw_g (lw_at lw_m1 228 rfl) rfl
theorem q336 : (Jvm.Cond.static ({ cls := "java/util/HashMap", name := "hash", desc := "(Ljava/lang/Object;)I" } : Jvm.MethodName)) ∈ lw_all := lw_g (lw_at lw_m1 229 rfl) rfl
theorem q337 : (Jvm.Cond.code ({ cls := "java/util/HashMap", name := "hash", desc := "(Ljava/lang/Object;)I" } : Jvm.MethodName) prog_56_method_1_code (2 : Nat) (Option.some Jvm.ClassFile.FieldType.int)) ∈ lw_all := lw_g (lw_at lw_m1 230 rfl) rfl
theorem q339 : (Jvm.Cond.methodLink "java/util/HashMap" (1 : Nat) ({ cls := "java/lang/Object", name := "hashCode", desc := "()I" } : Jvm.MethodName)) ∈ lw_all := lw_g (lw_at lw_m1 232 rfl) rfl
theorem q754 : (Jvm.Cond.methodLink "java/util/HashMap" (152 : Nat) ({ cls := "java/util/HashMap", name := "putVal", desc := "(ILjava/lang/Object;Ljava/lang/Object;ZZ)Ljava/lang/Object;" } : Jvm.MethodName)) ∈ lw_all := lw_g (lw_at lw_m3 167 rfl) rfl
theorem q755 : (Jvm.Cond.instanceMethod ({ cls := "java/util/HashMap", name := "putVal", desc := "(ILjava/lang/Object;Ljava/lang/Object;ZZ)Ljava/lang/Object;" } : Jvm.MethodName)) ∈ lw_all := lw_g (lw_at lw_m3 168 rfl) rfl
theorem q756 : (Jvm.Cond.sameMethod "java/util/HashMap" "java/util/HashMap" "putVal" "(ILjava/lang/Object;Ljava/lang/Object;ZZ)Ljava/lang/Object;") ∈ lw_all := lw_g (lw_at lw_m3 169 rfl) rfl
theorem q758 : (Jvm.Cond.code ({ cls := "java/util/HashMap", name := "putVal", desc := "(ILjava/lang/Object;Ljava/lang/Object;ZZ)Ljava/lang/Object;" } : Jvm.MethodName) prog_56_method_16_code (13 : Nat) (Option.some (Jvm.ClassFile.FieldType.object "java/lang/Object"))) ∈ lw_all := lw_g (lw_at lw_m3 171 rfl) rfl
theorem q759 : (Jvm.Cond.methodLink "java/util/HashMap" (117 : Nat) ({ cls := "java/util/HashMap", name := "resize", desc := "()[Ljava/util/HashMap$Node;" } : Jvm.MethodName)) ∈ lw_all := lw_g (lw_at lw_m3 172 rfl) rfl
theorem q760 : (Jvm.Cond.instanceMethod ({ cls := "java/util/HashMap", name := "resize", desc := "()[Ljava/util/HashMap$Node;" } : Jvm.MethodName)) ∈ lw_all := lw_g (lw_at lw_m3 173 rfl) rfl
theorem q761 : (Jvm.Cond.sameMethod "java/util/HashMap" "java/util/HashMap" "resize" "()[Ljava/util/HashMap$Node;") ∈ lw_all := lw_g (lw_at lw_m3 174 rfl) rfl
theorem q763 : (Jvm.Cond.code ({ cls := "java/util/HashMap", name := "resize", desc := "()[Ljava/util/HashMap$Node;" } : Jvm.MethodName) prog_56_method_17_code (14 : Nat) (Option.some (Jvm.ClassFile.FieldType.array (Jvm.ClassFile.FieldType.object "java/util/HashMap$Node")))) ∈ lw_all := lw_g (lw_at lw_m3 176 rfl) rfl
theorem q764 : (Jvm.Cond.constant "java/util/HashMap" (42 : Nat) (1073741824 : Int32)) ∈ lw_all := lw_g (lw_at lw_m3 177 rfl) rfl
theorem q765 : (Jvm.Cond.constant "java/util/HashMap" (209 : Nat) (2147483647 : Int32)) ∈ lw_all := lw_g (lw_at lw_m3 178 rfl) rfl
theorem q766 : (Jvm.Cond.constantFloat "java/util/HashMap" (210 : Nat) (1317011456 : UInt32)) ∈ lw_all := lw_g (lw_at lw_m3 179 rfl) rfl
theorem q767 : (Jvm.Cond.classLink "java/util/HashMap" (163 : Nat) "java/util/HashMap$Node") ∈ lw_all := lw_g (lw_at lw_m3 180 rfl) rfl
theorem q769 : (Jvm.Cond.classLink "java/util/HashMap" (180 : Nat) "java/util/HashMap$TreeNode") ∈ lw_all := lw_g (lw_at lw_m3 182 rfl) rfl
theorem q770 : (Jvm.Cond.methodLink "java/util/HashMap" (211 : Nat) ({ cls := "java/util/HashMap$TreeNode", name := "split", desc := "(Ljava/util/HashMap;[Ljava/util/HashMap$Node;II)V" } : Jvm.MethodName)) ∈ lw_all := lw_g (lw_at lw_m3 183 rfl) rfl
theorem q780 : (Jvm.Cond.instanceMethod ({ cls := "java/util/HashMap", name := "replacementNode", desc := "(Ljava/util/HashMap$Node;Ljava/util/HashMap$Node;)Ljava/util/HashMap$Node;" } : Jvm.MethodName)) ∈ lw_all := lw_g (lw_at lw_m3 193 rfl) rfl
theorem q781 : (Jvm.Cond.sameMethod "java/util/HashMap" "java/util/HashMap" "replacementNode" "(Ljava/util/HashMap$Node;Ljava/util/HashMap$Node;)Ljava/util/HashMap$Node;") ∈ lw_all := lw_g (lw_at lw_m3 194 rfl) rfl
theorem q803 : (Jvm.Cond.fieldLink "java/util/HashMap" (168 : Nat) "java/util/HashMap$Node" "hash" "I") ∈ lw_all := lw_g (lw_at lw_m3 216 rfl) rfl
theorem q810 : (Jvm.Cond.fieldLink "java/util/HashMap" (170 : Nat) "java/util/HashMap$Node" "key" "Ljava/lang/Object;") ∈ lw_all := lw_g (lw_at lw_m3 223 rfl) rfl
theorem q814 : (Jvm.Cond.fieldLink "java/util/HashMap" (162 : Nat) "java/util/HashMap$Node" "value" "Ljava/lang/Object;") ∈ lw_all := lw_g (lw_at lw_m3 227 rfl) rfl
theorem q821 : (Jvm.Cond.fieldLink "java/util/HashMap" (177 : Nat) "java/util/HashMap$Node" "next" "Ljava/util/HashMap$Node;") ∈ lw_all := lw_g (lw_at lw_m3 234 rfl) rfl
theorem q822 : (Jvm.Cond.fieldLink "java/util/HashMap" (223 : Nat) "java/util/HashMap$TreeNode" "next" "Ljava/util/HashMap$Node;") ∈ lw_all := lw_g (lw_at lw_m3 235 rfl) rfl
theorem q840 : (Jvm.Cond.declares ({ cls := "java/util/HashMap", name := "replacementNode", desc := "(Ljava/util/HashMap$Node;Ljava/util/HashMap$Node;)Ljava/util/HashMap$Node;" } : Jvm.MethodName)) ∈ lw_tbl := lw_at lw_m4 13 rfl
theorem q846 : (Jvm.Cond.static ({ cls := "java/util/HashMap", name := "comparableClassFor", desc := "(Ljava/lang/Object;)Ljava/lang/Class;" } : Jvm.MethodName)) ∈ lw_all := lw_g (lw_at lw_m4 19 rfl) rfl
theorem q847 : (Jvm.Cond.code ({ cls := "java/util/HashMap", name := "comparableClassFor", desc := "(Ljava/lang/Object;)Ljava/lang/Class;" } : Jvm.MethodName) prog_56_method_2_code (9 : Nat) (Option.some (Jvm.ClassFile.FieldType.object "java/lang/Class"))) ∈ lw_all := lw_g (lw_at lw_m4 20 rfl) rfl
theorem q848 : (Jvm.Cond.classLink "java/util/HashMap" (7 : Nat) "java/lang/Comparable") ∈ lw_all := lw_g (lw_at lw_m4 21 rfl) rfl
theorem q849 : (Jvm.Cond.methodLink "java/util/HashMap" (9 : Nat) ({ cls := "java/lang/Object", name := "getClass", desc := "()Ljava/lang/Class;" } : Jvm.MethodName)) ∈ lw_all := lw_g (lw_at lw_m4 22 rfl) rfl
theorem q886 : (Jvm.Cond.classLink "java/util/HashMap" (13 : Nat) "java/lang/String") ∈ lw_all := lw_g (lw_at lw_m4 59 rfl) rfl
theorem q888 : (Jvm.Cond.static ({ cls := "java/util/HashMap", name := "compareComparables", desc := "(Ljava/lang/Class;Ljava/lang/Object;Ljava/lang/Object;)I" } : Jvm.MethodName)) ∈ lw_all := lw_g (lw_at lw_m4 61 rfl) rfl
theorem q889 : (Jvm.Cond.code ({ cls := "java/util/HashMap", name := "compareComparables", desc := "(Ljava/lang/Class;Ljava/lang/Object;Ljava/lang/Object;)I" } : Jvm.MethodName) prog_56_method_3_code (3 : Nat) (Option.some Jvm.ClassFile.FieldType.int)) ∈ lw_all := lw_g (lw_at lw_m4 62 rfl) rfl
theorem q890 : (Jvm.Cond.interfaceEntry "java/util/HashMap" (30 : Nat)) ∈ lw_tbl := lw_at lw_m4 63 rfl
theorem q891 : (Jvm.Cond.methodLink "java/util/HashMap" (30 : Nat) ({ cls := "java/lang/Comparable", name := "compareTo", desc := "(Ljava/lang/Object;)I" } : Jvm.MethodName)) ∈ lw_all := lw_g (lw_at lw_m4 64 rfl) rfl
theorem q1115 : (Jvm.Cond.methodLink "java/util/HashMap" (186 : Nat) ({ cls := "java/util/HashMap", name := "newNode", desc := "(ILjava/lang/Object;Ljava/lang/Object;Ljava/util/HashMap$Node;)Ljava/util/HashMap$Node;" } : Jvm.MethodName)) ∈ lw_all := lw_g (lw_at lw_m5 48 rfl) rfl
theorem q1116 : (Jvm.Cond.instanceMethod ({ cls := "java/util/HashMap", name := "newNode", desc := "(ILjava/lang/Object;Ljava/lang/Object;Ljava/util/HashMap$Node;)Ljava/util/HashMap$Node;" } : Jvm.MethodName)) ∈ lw_all := lw_g (lw_at lw_m5 49 rfl) rfl
theorem q1117 : (Jvm.Cond.sameMethod "java/util/HashMap" "java/util/HashMap" "newNode" "(ILjava/lang/Object;Ljava/lang/Object;Ljava/util/HashMap$Node;)Ljava/util/HashMap$Node;") ∈ lw_all := lw_g (lw_at lw_m5 50 rfl) rfl
theorem q1125 : (Jvm.Cond.declares ({ cls := "java/util/HashMap", name := "newNode", desc := "(ILjava/lang/Object;Ljava/lang/Object;Ljava/util/HashMap$Node;)Ljava/util/HashMap$Node;" } : Jvm.MethodName)) ∈ lw_tbl := lw_at lw_m5 58 rfl
theorem q1127 : (Jvm.Cond.methodLink "java/util/HashMap" (173 : Nat) ({ cls := "java/lang/Object", name := "equals", desc := "(Ljava/lang/Object;)Z" } : Jvm.MethodName)) ∈ lw_all := lw_g (lw_at lw_m5 60 rfl) rfl
theorem q1164 : (Jvm.Cond.methodLink "java/util/HashMap" (190 : Nat) ({ cls := "java/util/HashMap$TreeNode", name := "putTreeVal", desc := "(Ljava/util/HashMap;[Ljava/util/HashMap$Node;ILjava/lang/Object;Ljava/lang/Object;)Ljava/util/HashMap$TreeNode;" } : Jvm.MethodName)) ∈ lw_all := lw_g (lw_at lw_m5 97 rfl) rfl
theorem q1178 : (Jvm.Cond.instanceMethod ({ cls := "java/util/HashMap", name := "newTreeNode", desc := "(ILjava/lang/Object;Ljava/lang/Object;Ljava/util/HashMap$Node;)Ljava/util/HashMap$TreeNode;" } : Jvm.MethodName)) ∈ lw_all := lw_g (lw_at lw_m5 111 rfl) rfl
theorem q1179 : (Jvm.Cond.sameMethod "java/util/HashMap" "java/util/HashMap" "newTreeNode" "(ILjava/lang/Object;Ljava/lang/Object;Ljava/util/HashMap$Node;)Ljava/util/HashMap$TreeNode;") ∈ lw_all := lw_g (lw_at lw_m5 112 rfl) rfl
theorem q1193 : (Jvm.Cond.fieldLink "java/util/HashMap" (219 : Nat) "java/util/HashMap$TreeNode" "prev" "Ljava/util/HashMap$TreeNode;") ∈ lw_all := lw_g (lw_at lw_m5 126 rfl) rfl
theorem q1212 : (Jvm.Cond.declares ({ cls := "java/util/HashMap", name := "newTreeNode", desc := "(ILjava/lang/Object;Ljava/lang/Object;Ljava/util/HashMap$Node;)Ljava/util/HashMap$TreeNode;" } : Jvm.MethodName)) ∈ lw_tbl := lw_at lw_m5 145 rfl
theorem q1213 : (Jvm.Cond.methodLink "java/util/HashMap" (194 : Nat) ({ cls := "java/util/HashMap", name := "treeifyBin", desc := "([Ljava/util/HashMap$Node;I)V" } : Jvm.MethodName)) ∈ lw_all := lw_g (lw_at lw_m5 146 rfl) rfl
theorem q1214 : (Jvm.Cond.instanceMethod ({ cls := "java/util/HashMap", name := "treeifyBin", desc := "([Ljava/util/HashMap$Node;I)V" } : Jvm.MethodName)) ∈ lw_all := lw_g (lw_at lw_m5 147 rfl) rfl
theorem q1215 : (Jvm.Cond.sameMethod "java/util/HashMap" "java/util/HashMap" "treeifyBin" "([Ljava/util/HashMap$Node;I)V") ∈ lw_all := lw_g (lw_at lw_m5 148 rfl) rfl
theorem q1217 : (Jvm.Cond.code ({ cls := "java/util/HashMap", name := "treeifyBin", desc := "([Ljava/util/HashMap$Node;I)V" } : Jvm.MethodName) prog_56_method_18_code (9 : Nat) (Option.none : Option Jvm.ClassFile.FieldType)) ∈ lw_all := lw_g (lw_at lw_m5 150 rfl) rfl
theorem q1218 : (Jvm.Cond.methodLink "java/util/HashMap" (215 : Nat) ({ cls := "java/util/HashMap", name := "replacementTreeNode", desc := "(Ljava/util/HashMap$Node;Ljava/util/HashMap$Node;)Ljava/util/HashMap$TreeNode;" } : Jvm.MethodName)) ∈ lw_all := lw_g (lw_at lw_m5 151 rfl) rfl
theorem q1219 : (Jvm.Cond.instanceMethod ({ cls := "java/util/HashMap", name := "replacementTreeNode", desc := "(Ljava/util/HashMap$Node;Ljava/util/HashMap$Node;)Ljava/util/HashMap$TreeNode;" } : Jvm.MethodName)) ∈ lw_all := lw_g (lw_at lw_m5 152 rfl) rfl
theorem q1220 : (Jvm.Cond.sameMethod "java/util/HashMap" "java/util/HashMap" "replacementTreeNode" "(Ljava/util/HashMap$Node;Ljava/util/HashMap$Node;)Ljava/util/HashMap$TreeNode;") ∈ lw_all := lw_g (lw_at lw_m5 153 rfl) rfl
theorem q1224 : (Jvm.Cond.declares ({ cls := "java/util/HashMap", name := "replacementTreeNode", desc := "(Ljava/util/HashMap$Node;Ljava/util/HashMap$Node;)Ljava/util/HashMap$TreeNode;" } : Jvm.MethodName)) ∈ lw_tbl := lw_at lw_m5 157 rfl
theorem q1225 : (Jvm.Cond.methodLink "java/util/HashMap" (224 : Nat) ({ cls := "java/util/HashMap$TreeNode", name := "treeify", desc := "([Ljava/util/HashMap$Node;)V" } : Jvm.MethodName)) ∈ lw_all := lw_g (lw_at lw_m5 158 rfl) rfl
theorem q1226 : (Jvm.Cond.methodLink "java/util/HashMap" (198 : Nat) ({ cls := "java/util/HashMap", name := "afterNodeAccess", desc := "(Ljava/util/HashMap$Node;)V" } : Jvm.MethodName)) ∈ lw_all := lw_g (lw_at lw_m5 159 rfl) rfl
theorem q1227 : (Jvm.Cond.instanceMethod ({ cls := "java/util/HashMap", name := "afterNodeAccess", desc := "(Ljava/util/HashMap$Node;)V" } : Jvm.MethodName)) ∈ lw_all := lw_g (lw_at lw_m5 160 rfl) rfl
theorem q1228 : (Jvm.Cond.sameMethod "java/util/HashMap" "java/util/HashMap" "afterNodeAccess" "(Ljava/util/HashMap$Node;)V") ∈ lw_all := lw_g (lw_at lw_m5 161 rfl) rfl
theorem q1232 : (Jvm.Cond.declares ({ cls := "java/util/HashMap", name := "afterNodeAccess", desc := "(Ljava/util/HashMap$Node;)V" } : Jvm.MethodName)) ∈ lw_tbl := lw_at lw_m5 165 rfl
theorem q1233 : (Jvm.Cond.methodLink "java/util/HashMap" (205 : Nat) ({ cls := "java/util/HashMap", name := "afterNodeInsertion", desc := "(Z)V" } : Jvm.MethodName)) ∈ lw_all := lw_g (lw_at lw_m5 166 rfl) rfl
theorem q1234 : (Jvm.Cond.instanceMethod ({ cls := "java/util/HashMap", name := "afterNodeInsertion", desc := "(Z)V" } : Jvm.MethodName)) ∈ lw_all := lw_g (lw_at lw_m5 167 rfl) rfl
theorem q1235 : (Jvm.Cond.sameMethod "java/util/HashMap" "java/util/HashMap" "afterNodeInsertion" "(Z)V") ∈ lw_all := lw_g (lw_at lw_m5 168 rfl) rfl
theorem q1243 : (Jvm.Cond.declares ({ cls := "java/util/HashMap", name := "afterNodeInsertion", desc := "(Z)V" } : Jvm.MethodName)) ∈ lw_tbl := lw_at lw_m5 176 rfl
theorem q1449 : (Jvm.Cond.declares ({ cls := "java/util/HashMap", name := "getNode", desc := "(Ljava/lang/Object;)Ljava/util/HashMap$Node;" } : Jvm.MethodName)) ∈ lw_tbl := lw_at lw_m6 142 rfl
theorem q1451 : (Jvm.Cond.instanceMethod ({ cls := "java/util/HashMap", name := "getNode", desc := "(Ljava/lang/Object;)Ljava/util/HashMap$Node;" } : Jvm.MethodName)) ∈ lw_all := lw_g (lw_at lw_m6 144 rfl) rfl
theorem q1452 : (Jvm.Cond.code ({ cls := "java/util/HashMap", name := "getNode", desc := "(Ljava/lang/Object;)Ljava/util/HashMap$Node;" } : Jvm.MethodName) prog_56_method_13_code (8 : Nat) (Option.some (Jvm.ClassFile.FieldType.object "java/util/HashMap$Node"))) ∈ lw_all := lw_g (lw_at lw_m6 145 rfl) rfl
theorem q1453 : (Jvm.Cond.methodLink "java/util/HashMap" (182 : Nat) ({ cls := "java/util/HashMap$TreeNode", name := "getTreeNode", desc := "(ILjava/lang/Object;)Ljava/util/HashMap$TreeNode;" } : Jvm.MethodName)) ∈ lw_all := lw_g (lw_at lw_m6 146 rfl) rfl
theorem q1487 : (Jvm.Cond.instanceMethod ({ cls := "java/util/HashMap", name := "<init>", desc := "(IF)V" } : Jvm.MethodName)) ∈ lw_all := lw_g (lw_at lw_m6 180 rfl) rfl
theorem q1488 : (Jvm.Cond.code ({ cls := "java/util/HashMap", name := "<init>", desc := "(IF)V" } : Jvm.MethodName) prog_56_method_5_code (3 : Nat) (Option.none : Option Jvm.ClassFile.FieldType)) ∈ lw_all := lw_g (lw_at lw_m6 181 rfl) rfl
theorem q1489 : (Jvm.Cond.classLink "java/util/HashMap" (49 : Nat) "java/lang/IllegalArgumentException") ∈ lw_all := lw_g (lw_at lw_m6 182 rfl) rfl
theorem q1490 : (Jvm.Cond.classLink "java/util/HashMap" (51 : Nat) "java/lang/StringBuilder") ∈ lw_all := lw_g (lw_at lw_m6 183 rfl) rfl
theorem q1491 : (Jvm.Cond.methodLink "java/util/HashMap" (53 : Nat) ({ cls := "java/lang/StringBuilder", name := "<init>", desc := "()V" } : Jvm.MethodName)) ∈ lw_all := lw_g (lw_at lw_m6 184 rfl) rfl
theorem q1492 : (Jvm.Cond.stringRef "java/util/HashMap" (54 : Nat) "Illegal initial capacity: ") ∈ lw_tbl := lw_at lw_m6 185 rfl
theorem q1493 : (Jvm.Cond.methodLink "java/util/HashMap" (56 : Nat) ({ cls := "java/lang/StringBuilder", name := "append", desc := "(Ljava/lang/String;)Ljava/lang/StringBuilder;" } : Jvm.MethodName)) ∈ lw_all := lw_g (lw_at lw_m6 186 rfl) rfl
theorem q1494 : (Jvm.Cond.methodLink "java/util/HashMap" (60 : Nat) ({ cls := "java/lang/StringBuilder", name := "append", desc := "(I)Ljava/lang/StringBuilder;" } : Jvm.MethodName)) ∈ lw_all := lw_g (lw_at lw_m6 187 rfl) rfl
theorem q1495 : (Jvm.Cond.methodLink "java/util/HashMap" (63 : Nat) ({ cls := "java/lang/StringBuilder", name := "toString", desc := "()Ljava/lang/String;" } : Jvm.MethodName)) ∈ lw_all := lw_g (lw_at lw_m6 188 rfl) rfl
theorem q1496 : (Jvm.Cond.methodLink "java/util/HashMap" (67 : Nat) ({ cls := "java/lang/IllegalArgumentException", name := "<init>", desc := "(Ljava/lang/String;)V" } : Jvm.MethodName)) ∈ lw_all := lw_g (lw_at lw_m6 189 rfl) rfl
theorem q1497 : (Jvm.Cond.methodLink "java/util/HashMap" (70 : Nat) ({ cls := "java/lang/Float", name := "isNaN", desc := "(F)Z" } : Jvm.MethodName)) ∈ lw_all := lw_g (lw_at lw_m6 190 rfl) rfl
theorem q1500 : (Jvm.Cond.stringRef "java/util/HashMap" (76 : Nat) "Illegal load factor: ") ∈ lw_tbl := lw_at lw_m6 193 rfl
theorem q1501 : (Jvm.Cond.methodLink "java/util/HashMap" (78 : Nat) ({ cls := "java/lang/StringBuilder", name := "append", desc := "(F)Ljava/lang/StringBuilder;" } : Jvm.MethodName)) ∈ lw_all := lw_g (lw_at lw_m6 194 rfl) rfl
theorem q1777 : (Jvm.Cond.methodLink "java/util/HashMap" (85 : Nat) ({ cls := "java/util/HashMap", name := "tableSizeFor", desc := "(I)I" } : Jvm.MethodName)) ∈ lw_all := lw_g (lw_at lw_m7 230 rfl) rfl
theorem q1778 : (Jvm.Cond.static ({ cls := "java/util/HashMap", name := "tableSizeFor", desc := "(I)I" } : Jvm.MethodName)) ∈ lw_all := lw_g (lw_at lw_m7 231 rfl) rfl
theorem q1779 : (Jvm.Cond.code ({ cls := "java/util/HashMap", name := "tableSizeFor", desc := "(I)I" } : Jvm.MethodName) prog_56_method_4_code (2 : Nat) (Option.some Jvm.ClassFile.FieldType.int)) ∈ lw_all := lw_g (lw_at lw_m7 232 rfl) rfl
theorem q1780 : (Jvm.Cond.methodLink "java/util/HashMap" (34 : Nat) ({ cls := "java/lang/Integer", name := "numberOfLeadingZeros", desc := "(I)I" } : Jvm.MethodName)) ∈ lw_all := lw_g (lw_at lw_m7 233 rfl) rfl
theorem q1806 : (Jvm.Cond.instanceMethod ({ cls := "java/util/HashMap", name := "keySet", desc := "()Ljava/util/Set;" } : Jvm.MethodName)) ∈ lw_all := lw_g (lw_at lw_m8 19 rfl) rfl
theorem q1807 : (Jvm.Cond.sameMethod "java/util/HashMap" "java/util/HashMap" "keySet" "()Ljava/util/Set;") ∈ lw_all := lw_g (lw_at lw_m8 20 rfl) rfl
theorem q1829 : (Jvm.Cond.declares ({ cls := "java/util/HashMap", name := "keySet", desc := "()Ljava/util/Set;" } : Jvm.MethodName)) ∈ lw_tbl := lw_at lw_m8 42 rfl
theorem q2087 : (Jvm.Cond.instanceMethod ({ cls := "java/util/HashMap", name := "containsKey", desc := "(Ljava/lang/Object;)Z" } : Jvm.MethodName)) ∈ lw_all := lw_g (lw_at lw_m9 60 rfl) rfl
theorem q2088 : (Jvm.Cond.sameMethod "java/util/HashMap" "java/util/HashMap" "containsKey" "(Ljava/lang/Object;)Z") ∈ lw_all := lw_g (lw_at lw_m9 61 rfl) rfl
theorem q2090 : (Jvm.Cond.code ({ cls := "java/util/HashMap", name := "containsKey", desc := "(Ljava/lang/Object;)Z" } : Jvm.MethodName) prog_56_method_14_code (2 : Nat) (Option.some Jvm.ClassFile.FieldType.boolean)) ∈ lw_all := lw_g (lw_at lw_m9 63 rfl) rfl
theorem q2091 : (Jvm.Cond.methodLink "java/util/HashMap" (158 : Nat) ({ cls := "java/util/HashMap", name := "getNode", desc := "(Ljava/lang/Object;)Ljava/util/HashMap$Node;" } : Jvm.MethodName)) ∈ lw_all := lw_g (lw_at lw_m9 64 rfl) rfl
theorem q2134 : (Jvm.Cond.instanceMethod ({ cls := "java/util/HashMap", name := "remove", desc := "(Ljava/lang/Object;)Ljava/lang/Object;" } : Jvm.MethodName)) ∈ lw_all := lw_g (lw_at lw_m9 107 rfl) rfl
theorem q2135 : (Jvm.Cond.sameMethod "java/util/HashMap" "java/util/HashMap" "remove" "(Ljava/lang/Object;)Ljava/lang/Object;") ∈ lw_all := lw_g (lw_at lw_m9 108 rfl) rfl
theorem q2137 : (Jvm.Cond.code ({ cls := "java/util/HashMap", name := "remove", desc := "(Ljava/lang/Object;)Ljava/lang/Object;" } : Jvm.MethodName) prog_56_method_20_code (3 : Nat) (Option.some (Jvm.ClassFile.FieldType.object "java/lang/Object"))) ∈ lw_all := lw_g (lw_at lw_m9 110 rfl) rfl
theorem q2138 : (Jvm.Cond.methodLink "java/util/HashMap" (228 : Nat) ({ cls := "java/util/HashMap", name := "removeNode", desc := "(ILjava/lang/Object;Ljava/lang/Object;ZZ)Ljava/util/HashMap$Node;" } : Jvm.MethodName)) ∈ lw_all := lw_g (lw_at lw_m9 111 rfl) rfl
theorem q2139 : (Jvm.Cond.instanceMethod ({ cls := "java/util/HashMap", name := "removeNode", desc := "(ILjava/lang/Object;Ljava/lang/Object;ZZ)Ljava/util/HashMap$Node;" } : Jvm.MethodName)) ∈ lw_all := lw_g (lw_at lw_m9 112 rfl) rfl
theorem q2140 : (Jvm.Cond.sameMethod "java/util/HashMap" "java/util/HashMap" "removeNode" "(ILjava/lang/Object;Ljava/lang/Object;ZZ)Ljava/util/HashMap$Node;") ∈ lw_all := lw_g (lw_at lw_m9 113 rfl) rfl
theorem q2142 : (Jvm.Cond.code ({ cls := "java/util/HashMap", name := "removeNode", desc := "(ILjava/lang/Object;Ljava/lang/Object;ZZ)Ljava/util/HashMap$Node;" } : Jvm.MethodName) prog_56_method_21_code (14 : Nat) (Option.some (Jvm.ClassFile.FieldType.object "java/util/HashMap$Node"))) ∈ lw_all := lw_g (lw_at lw_m9 115 rfl) rfl
theorem q2143 : (Jvm.Cond.methodLink "java/util/HashMap" (232 : Nat) ({ cls := "java/util/HashMap$TreeNode", name := "removeTreeNode", desc := "(Ljava/util/HashMap;[Ljava/util/HashMap$Node;Z)V" } : Jvm.MethodName)) ∈ lw_all := lw_g (lw_at lw_m9 116 rfl) rfl
theorem q2150 : (Jvm.Cond.methodLink "java/util/HashMap" (236 : Nat) ({ cls := "java/util/HashMap", name := "afterNodeRemoval", desc := "(Ljava/util/HashMap$Node;)V" } : Jvm.MethodName)) ∈ lw_all := lw_g (lw_at lw_m9 123 rfl) rfl
theorem q2151 : (Jvm.Cond.instanceMethod ({ cls := "java/util/HashMap", name := "afterNodeRemoval", desc := "(Ljava/util/HashMap$Node;)V" } : Jvm.MethodName)) ∈ lw_all := lw_g (lw_at lw_m9 124 rfl) rfl
theorem q2152 : (Jvm.Cond.sameMethod "java/util/HashMap" "java/util/HashMap" "afterNodeRemoval" "(Ljava/util/HashMap$Node;)V") ∈ lw_all := lw_g (lw_at lw_m9 125 rfl) rfl
theorem q2156 : (Jvm.Cond.declares ({ cls := "java/util/HashMap", name := "afterNodeRemoval", desc := "(Ljava/util/HashMap$Node;)V" } : Jvm.MethodName)) ∈ lw_tbl := lw_at lw_m9 129 rfl
theorem q2163 : (Jvm.Cond.declares ({ cls := "java/util/HashMap", name := "remove", desc := "(Ljava/lang/Object;)Ljava/lang/Object;" } : Jvm.MethodName)) ∈ lw_tbl := lw_at lw_m9 136 rfl
theorem q2254 : (Jvm.Cond.instanceMethod ({ cls := "java/util/HashMap", name := "size", desc := "()I" } : Jvm.MethodName)) ∈ lw_all := lw_g (lw_at lw_m9 227 rfl) rfl
theorem q2255 : (Jvm.Cond.sameMethod "java/util/HashMap" "java/util/HashMap" "size" "()I") ∈ lw_all := lw_g (lw_at lw_m9 228 rfl) rfl
theorem q2257 : (Jvm.Cond.code ({ cls := "java/util/HashMap", name := "size", desc := "()I" } : Jvm.MethodName) prog_56_method_10_code (1 : Nat) (Option.some Jvm.ClassFile.FieldType.int)) ∈ lw_all := lw_g (lw_at lw_m9 230 rfl) rfl
theorem q3128 : (Jvm.Cond.sameMethod "java/util/HashMap" "java/util/HashMap" "put" "(Ljava/lang/Object;Ljava/lang/Object;)Ljava/lang/Object;") ∈ lw_all := lw_g (lw_at lw_m13 141 rfl) rfl
theorem q3130 : (Jvm.Cond.sameMethod "java/util/HashMap" "java/util/HashMap" "getNode" "(Ljava/lang/Object;)Ljava/util/HashMap$Node;") ∈ lw_all := lw_g (lw_at lw_m13 143 rfl) rfl
theorem q114 : (Jvm.Cond.initialized "java/util/LinkedHashMap") ∈ lw_all := lw_g (lw_at lw_m1 7 rfl) rfl
theorem q217 : (Jvm.Cond.instantiable "java/util/LinkedHashMap" (12 : Nat)) ∈ lw_all := lw_g (lw_at lw_m1 110 rfl) rfl
theorem q219 : (Jvm.Cond.instanceMethod ({ cls := "java/util/LinkedHashMap", name := "<init>", desc := "()V" } : Jvm.MethodName)) ∈ lw_all := lw_g (lw_at lw_m1 112 rfl) rfl
theorem q220 : (Jvm.Cond.code ({ cls := "java/util/LinkedHashMap", name := "<init>", desc := "()V" } : Jvm.MethodName) prog_64_method_16_code (1 : Nat) (Option.none : Option Jvm.ClassFile.FieldType)) ∈ lw_all := lw_g (lw_at lw_m1 113 rfl) rfl
theorem q221 : (Jvm.Cond.methodLink "java/util/LinkedHashMap" (87 : Nat) ({ cls := "java/util/HashMap", name := "<init>", desc := "()V" } : Jvm.MethodName)) ∈ lw_all := lw_g (lw_at lw_m1 114 rfl) rfl
theorem q229 : (Jvm.Cond.fieldLink "java/util/LinkedHashMap" (7 : Nat) "java/util/LinkedHashMap" "head" "Ljava/util/LinkedHashMap$Entry;") ∈ lw_all := lw_g (lw_at lw_m1 122 rfl) rfl
theorem q232 : (Jvm.Cond.fieldLink "java/util/LinkedHashMap" (11 : Nat) "java/util/LinkedHashMap" "tail" "Ljava/util/LinkedHashMap$Entry;") ∈ lw_all := lw_g (lw_at lw_m1 125 rfl) rfl
theorem q233 : (Jvm.Cond.fieldLink "java/util/LinkedHashMap" (64 : Nat) "java/util/LinkedHashMap" "accessOrder" "Z") ∈ lw_all := lw_g (lw_at lw_m1 126 rfl) rfl
theorem q234 : (Jvm.Cond.fieldLink "java/util/LinkedHashMap" (1 : Nat) "java/util/LinkedHashMap" "putMode" "I") ∈ lw_all := lw_g (lw_at lw_m1 127 rfl) rfl
theorem q241 : (Jvm.Cond.sameField "java/util/LinkedHashMap" "java/util/HashMap" "modCount" "I") ∈ lw_all := lw_g (lw_at lw_m1 134 rfl) rfl
theorem q242 : (Jvm.Cond.fieldLink "java/util/LinkedHashMap" (68 : Nat) "java/util/LinkedHashMap" "modCount" "I") ∈ lw_all := lw_g (lw_at lw_m1 135 rfl) rfl
theorem q248 : (Jvm.Cond.fieldLink "java/util/LinkedHashMap" (117 : Nat) "java/util/LinkedHashMap" "keySet" "Ljava/util/Set;") ∈ lw_all := lw_g (lw_at lw_m1 141 rfl) rfl
theorem q249 : (Jvm.Cond.sameField "java/util/LinkedHashMap" "java/util/AbstractMap" "keySet" "Ljava/util/Set;") ∈ lw_all := lw_g (lw_at lw_m1 142 rfl) rfl
theorem q250 : (Jvm.Cond.lays "java/util/LinkedHashMap" "java/util/LinkedHashMap" "head" "Ljava/util/LinkedHashMap$Entry;") ∈ lw_all := lw_g (lw_at lw_m1 143 rfl) rfl
theorem q251 : (Jvm.Cond.soleField "java/util/LinkedHashMap" "head") ∈ lw_all := lw_g (lw_at lw_m1 144 rfl) rfl
theorem q252 : (Jvm.Cond.lays "java/util/LinkedHashMap" "java/util/LinkedHashMap" "tail" "Ljava/util/LinkedHashMap$Entry;") ∈ lw_all := lw_g (lw_at lw_m1 145 rfl) rfl
theorem q253 : (Jvm.Cond.soleField "java/util/LinkedHashMap" "tail") ∈ lw_all := lw_g (lw_at lw_m1 146 rfl) rfl
theorem q254 : (Jvm.Cond.laysFinal "java/util/LinkedHashMap" "java/util/LinkedHashMap" "accessOrder" "Z") ∈ lw_all := lw_g (lw_at lw_m1 147 rfl) rfl
theorem q255 : (Jvm.Cond.soleField "java/util/LinkedHashMap" "accessOrder") ∈ lw_all := lw_g (lw_at lw_m1 148 rfl) rfl
theorem q256 : (Jvm.Cond.lays "java/util/LinkedHashMap" "java/util/LinkedHashMap" "putMode" "I") ∈ lw_all := lw_g (lw_at lw_m1 149 rfl) rfl
theorem q257 : (Jvm.Cond.soleField "java/util/LinkedHashMap" "putMode") ∈ lw_all := lw_g (lw_at lw_m1 150 rfl) rfl
theorem q258 : (Jvm.Cond.lays "java/util/LinkedHashMap" "java/util/HashMap" "table" "[Ljava/util/HashMap$Node;") ∈ lw_all := lw_g (lw_at lw_m1 151 rfl) rfl
theorem q260 : (Jvm.Cond.lays "java/util/LinkedHashMap" "java/util/HashMap" "entrySet" "Ljava/util/Set;") ∈ lw_all := lw_g (lw_at lw_m1 153 rfl) rfl
theorem q262 : (Jvm.Cond.lays "java/util/LinkedHashMap" "java/util/HashMap" "size" "I") ∈ lw_all := lw_g (lw_at lw_m1 155 rfl) rfl
theorem q264 : (Jvm.Cond.lays "java/util/LinkedHashMap" "java/util/HashMap" "modCount" "I") ∈ lw_all := lw_g (lw_at lw_m1 157 rfl) rfl
theorem q266 : (Jvm.Cond.lays "java/util/LinkedHashMap" "java/util/HashMap" "threshold" "I") ∈ lw_all := lw_g (lw_at lw_m1 159 rfl) rfl
theorem q268 : (Jvm.Cond.laysFinal "java/util/LinkedHashMap" "java/util/HashMap" "loadFactor" "F") ∈ lw_all := lw_g (lw_at lw_m1 161 rfl) rfl
theorem q270 : (Jvm.Cond.lays "java/util/LinkedHashMap" "java/util/AbstractMap" "keySet" "Ljava/util/Set;") ∈ lw_all := lw_g (lw_at lw_m1 163 rfl) rfl
theorem q272 : (Jvm.Cond.lays "java/util/LinkedHashMap" "java/util/AbstractMap" "values" "Ljava/util/Collection;") ∈ lw_all := lw_g (lw_at lw_m1 165 rfl) rfl
theorem q274 : (Jvm.Cond.superclass "java/util/LinkedHashMap" "java/util/HashMap") ∈ lw_all := lw_g (lw_at lw_m1 167 rfl) rfl
theorem q330 : (Jvm.Cond.sameMethod "java/util/LinkedHashMap" "java/util/HashMap" "put" "(Ljava/lang/Object;Ljava/lang/Object;)Ljava/lang/Object;") ∈ lw_all := lw_g (lw_at lw_m1 223 rfl) rfl
theorem q332 : (Jvm.Cond.selects "java/util/LinkedHashMap" ({ cls := "java/util/LinkedHashMap", name := "put", desc := "(Ljava/lang/Object;Ljava/lang/Object;)Ljava/lang/Object;" } : Jvm.MethodName) ({ cls := "java/util/HashMap", name := "put", desc := "(Ljava/lang/Object;Ljava/lang/Object;)Ljava/lang/Object;" } : Jvm.MethodName)) ∈ lw_all := lw_g (lw_at lw_m1 225 rfl) rfl
theorem q757 : (Jvm.Cond.selects "java/util/LinkedHashMap" ({ cls := "java/util/HashMap", name := "putVal", desc := "(ILjava/lang/Object;Ljava/lang/Object;ZZ)Ljava/lang/Object;" } : Jvm.MethodName) ({ cls := "java/util/HashMap", name := "putVal", desc := "(ILjava/lang/Object;Ljava/lang/Object;ZZ)Ljava/lang/Object;" } : Jvm.MethodName)) ∈ lw_all := lw_g (lw_at lw_m3 170 rfl) rfl
theorem q762 : (Jvm.Cond.selects "java/util/LinkedHashMap" ({ cls := "java/util/HashMap", name := "resize", desc := "()[Ljava/util/HashMap$Node;" } : Jvm.MethodName) ({ cls := "java/util/HashMap", name := "resize", desc := "()[Ljava/util/HashMap$Node;" } : Jvm.MethodName)) ∈ lw_all := lw_g (lw_at lw_m3 175 rfl) rfl
theorem q782 : (Jvm.Cond.selects "java/util/LinkedHashMap" ({ cls := "java/util/HashMap", name := "replacementNode", desc := "(Ljava/util/HashMap$Node;Ljava/util/HashMap$Node;)Ljava/util/HashMap$Node;" } : Jvm.MethodName) ({ cls := "java/util/LinkedHashMap", name := "replacementNode", desc := "(Ljava/util/HashMap$Node;Ljava/util/HashMap$Node;)Ljava/util/HashMap$Node;" } : Jvm.MethodName)) ∈ lw_all := lw_g (lw_at lw_m3 195 rfl) rfl
theorem q783 : (Jvm.Cond.instanceMethod ({ cls := "java/util/LinkedHashMap", name := "replacementNode", desc := "(Ljava/util/HashMap$Node;Ljava/util/HashMap$Node;)Ljava/util/HashMap$Node;" } : Jvm.MethodName)) ∈ lw_all := lw_g (lw_at lw_m3 196 rfl) rfl
theorem q784 : (Jvm.Cond.code ({ cls := "java/util/LinkedHashMap", name := "replacementNode", desc := "(Ljava/util/HashMap$Node;Ljava/util/HashMap$Node;)Ljava/util/HashMap$Node;" } : Jvm.MethodName) prog_64_method_5_code (5 : Nat) (Option.some (Jvm.ClassFile.FieldType.object "java/util/HashMap$Node"))) ∈ lw_all := lw_g (lw_at lw_m3 197 rfl) rfl
theorem q785 : (Jvm.Cond.classLink "java/util/LinkedHashMap" (15 : Nat) "java/util/LinkedHashMap$Entry") ∈ lw_all := lw_g (lw_at lw_m3 198 rfl) rfl
theorem q787 : (Jvm.Cond.methodLink "java/util/LinkedHashMap" (28 : Nat) ({ cls := "java/util/LinkedHashMap$Entry", name := "<init>", desc := "(ILjava/lang/Object;Ljava/lang/Object;Ljava/util/HashMap$Node;)V" } : Jvm.MethodName)) ∈ lw_all := lw_g (lw_at lw_m3 200 rfl) rfl
theorem q794 : (Jvm.Cond.fieldLink "java/util/LinkedHashMap" (19 : Nat) "java/util/LinkedHashMap$Entry" "before" "Ljava/util/LinkedHashMap$Entry;") ∈ lw_all := lw_g (lw_at lw_m3 207 rfl) rfl
theorem q796 : (Jvm.Cond.fieldLink "java/util/LinkedHashMap" (14 : Nat) "java/util/LinkedHashMap$Entry" "after" "Ljava/util/LinkedHashMap$Entry;") ∈ lw_all := lw_g (lw_at lw_m3 209 rfl) rfl
theorem q801 : (Jvm.Cond.fieldLink "java/util/LinkedHashMap" (36 : Nat) "java/util/LinkedHashMap$Entry" "hash" "I") ∈ lw_all := lw_g (lw_at lw_m3 214 rfl) rfl
theorem q808 : (Jvm.Cond.fieldLink "java/util/LinkedHashMap" (39 : Nat) "java/util/LinkedHashMap$Entry" "key" "Ljava/lang/Object;") ∈ lw_all := lw_g (lw_at lw_m3 221 rfl) rfl
theorem q812 : (Jvm.Cond.fieldLink "java/util/LinkedHashMap" (43 : Nat) "java/util/LinkedHashMap$Entry" "value" "Ljava/lang/Object;") ∈ lw_all := lw_g (lw_at lw_m3 225 rfl) rfl
theorem q815 : (Jvm.Cond.fieldLink "java/util/LinkedHashMap" (107 : Nat) "java/util/HashMap$Node" "value" "Ljava/lang/Object;") ∈ lw_all := lw_g (lw_at lw_m3 228 rfl) rfl
theorem q836 : (Jvm.Cond.methodLink "java/util/LinkedHashMap" (46 : Nat) ({ cls := "java/util/LinkedHashMap", name := "transferLinks", desc := "(Ljava/util/LinkedHashMap$Entry;Ljava/util/LinkedHashMap$Entry;)V" } : Jvm.MethodName)) ∈ lw_all := lw_g (lw_at lw_m4 9 rfl) rfl
theorem q837 : (Jvm.Cond.privateMethod ({ cls := "java/util/LinkedHashMap", name := "transferLinks", desc := "(Ljava/util/LinkedHashMap$Entry;Ljava/util/LinkedHashMap$Entry;)V" } : Jvm.MethodName)) ∈ lw_tbl := lw_at lw_m4 10 rfl
theorem q838 : (Jvm.Cond.instanceMethod ({ cls := "java/util/LinkedHashMap", name := "transferLinks", desc := "(Ljava/util/LinkedHashMap$Entry;Ljava/util/LinkedHashMap$Entry;)V" } : Jvm.MethodName)) ∈ lw_all := lw_g (lw_at lw_m4 11 rfl) rfl
theorem q839 : (Jvm.Cond.code ({ cls := "java/util/LinkedHashMap", name := "transferLinks", desc := "(Ljava/util/LinkedHashMap$Entry;Ljava/util/LinkedHashMap$Entry;)V" } : Jvm.MethodName) prog_64_method_2_code (5 : Nat) (Option.none : Option Jvm.ClassFile.FieldType)) ∈ lw_all := lw_g (lw_at lw_m4 12 rfl) rfl
theorem q878 : (Jvm.Cond.selects "java/util/LinkedHashMap" ({ cls := "java/lang/Object", name := "getClass", desc := "()Ljava/lang/Class;" } : Jvm.MethodName) ({ cls := "java/lang/Object", name := "getClass", desc := "()Ljava/lang/Class;" } : Jvm.MethodName)) ∈ lw_all := lw_g (lw_at lw_m4 51 rfl) rfl
theorem q1118 : (Jvm.Cond.selects "java/util/LinkedHashMap" ({ cls := "java/util/HashMap", name := "newNode", desc := "(ILjava/lang/Object;Ljava/lang/Object;Ljava/util/HashMap$Node;)Ljava/util/HashMap$Node;" } : Jvm.MethodName) ({ cls := "java/util/LinkedHashMap", name := "newNode", desc := "(ILjava/lang/Object;Ljava/lang/Object;Ljava/util/HashMap$Node;)Ljava/util/HashMap$Node;" } : Jvm.MethodName)) ∈ lw_all := lw_g (lw_at lw_m5 51 rfl) rfl
theorem q1119 : (Jvm.Cond.instanceMethod ({ cls := "java/util/LinkedHashMap", name := "newNode", desc := "(ILjava/lang/Object;Ljava/lang/Object;Ljava/util/HashMap$Node;)Ljava/util/HashMap$Node;" } : Jvm.MethodName)) ∈ lw_all := lw_g (lw_at lw_m5 52 rfl) rfl
theorem q1120 : (Jvm.Cond.code ({ cls := "java/util/LinkedHashMap", name := "newNode", desc := "(ILjava/lang/Object;Ljava/lang/Object;Ljava/util/HashMap$Node;)Ljava/util/HashMap$Node;" } : Jvm.MethodName) prog_64_method_4_code (6 : Nat) (Option.some (Jvm.ClassFile.FieldType.object "java/util/HashMap$Node"))) ∈ lw_all := lw_g (lw_at lw_m5 53 rfl) rfl
theorem q1121 : (Jvm.Cond.methodLink "java/util/LinkedHashMap" (32 : Nat) ({ cls := "java/util/LinkedHashMap", name := "linkNodeAtEnd", desc := "(Ljava/util/LinkedHashMap$Entry;)V" } : Jvm.MethodName)) ∈ lw_all := lw_g (lw_at lw_m5 54 rfl) rfl
theorem q1122 : (Jvm.Cond.privateMethod ({ cls := "java/util/LinkedHashMap", name := "linkNodeAtEnd", desc := "(Ljava/util/LinkedHashMap$Entry;)V" } : Jvm.MethodName)) ∈ lw_tbl := lw_at lw_m5 55 rfl
theorem q1123 : (Jvm.Cond.instanceMethod ({ cls := "java/util/LinkedHashMap", name := "linkNodeAtEnd", desc := "(Ljava/util/LinkedHashMap$Entry;)V" } : Jvm.MethodName)) ∈ lw_all := lw_g (lw_at lw_m5 56 rfl) rfl
theorem q1124 : (Jvm.Cond.code ({ cls := "java/util/LinkedHashMap", name := "linkNodeAtEnd", desc := "(Ljava/util/LinkedHashMap$Entry;)V" } : Jvm.MethodName) prog_64_method_1_code (3 : Nat) (Option.none : Option Jvm.ClassFile.FieldType)) ∈ lw_all := lw_g (lw_at lw_m5 57 rfl) rfl
theorem q1180 : (Jvm.Cond.selects "java/util/LinkedHashMap" ({ cls := "java/util/HashMap", name := "newTreeNode", desc := "(ILjava/lang/Object;Ljava/lang/Object;Ljava/util/HashMap$Node;)Ljava/util/HashMap$TreeNode;" } : Jvm.MethodName) ({ cls := "java/util/LinkedHashMap", name := "newTreeNode", desc := "(ILjava/lang/Object;Ljava/lang/Object;Ljava/util/HashMap$Node;)Ljava/util/HashMap$TreeNode;" } : Jvm.MethodName)) ∈ lw_all := lw_g (lw_at lw_m5 113 rfl) rfl
theorem q1181 : (Jvm.Cond.instanceMethod ({ cls := "java/util/LinkedHashMap", name := "newTreeNode", desc := "(ILjava/lang/Object;Ljava/lang/Object;Ljava/util/HashMap$Node;)Ljava/util/HashMap$TreeNode;" } : Jvm.MethodName)) ∈ lw_all := lw_g (lw_at lw_m5 114 rfl) rfl
theorem q1182 : (Jvm.Cond.code ({ cls := "java/util/LinkedHashMap", name := "newTreeNode", desc := "(ILjava/lang/Object;Ljava/lang/Object;Ljava/util/HashMap$Node;)Ljava/util/HashMap$TreeNode;" } : Jvm.MethodName) prog_64_method_6_code (6 : Nat) (Option.some (Jvm.ClassFile.FieldType.object "java/util/HashMap$TreeNode"))) ∈ lw_all := lw_g (lw_at lw_m5 115 rfl) rfl
theorem q1183 : (Jvm.Cond.classLink "java/util/LinkedHashMap" (50 : Nat) "java/util/HashMap$TreeNode") ∈ lw_all := lw_g (lw_at lw_m5 116 rfl) rfl
theorem q1185 : (Jvm.Cond.methodLink "java/util/LinkedHashMap" (52 : Nat) ({ cls := "java/util/HashMap$TreeNode", name := "<init>", desc := "(ILjava/lang/Object;Ljava/lang/Object;Ljava/util/HashMap$Node;)V" } : Jvm.MethodName)) ∈ lw_all := lw_g (lw_at lw_m5 118 rfl) rfl
theorem q1216 : (Jvm.Cond.selects "java/util/LinkedHashMap" ({ cls := "java/util/HashMap", name := "treeifyBin", desc := "([Ljava/util/HashMap$Node;I)V" } : Jvm.MethodName) ({ cls := "java/util/HashMap", name := "treeifyBin", desc := "([Ljava/util/HashMap$Node;I)V" } : Jvm.MethodName)) ∈ lw_all := lw_g (lw_at lw_m5 149 rfl) rfl
theorem q1221 : (Jvm.Cond.selects "java/util/LinkedHashMap" ({ cls := "java/util/HashMap", name := "replacementTreeNode", desc := "(Ljava/util/HashMap$Node;Ljava/util/HashMap$Node;)Ljava/util/HashMap$TreeNode;" } : Jvm.MethodName) ({ cls := "java/util/LinkedHashMap", name := "replacementTreeNode", desc := "(Ljava/util/HashMap$Node;Ljava/util/HashMap$Node;)Ljava/util/HashMap$TreeNode;" } : Jvm.MethodName)) ∈ lw_all := lw_g (lw_at lw_m5 154 rfl) rfl
theorem q1222 : (Jvm.Cond.instanceMethod ({ cls := "java/util/LinkedHashMap", name := "replacementTreeNode", desc := "(Ljava/util/HashMap$Node;Ljava/util/HashMap$Node;)Ljava/util/HashMap$TreeNode;" } : Jvm.MethodName)) ∈ lw_all := lw_g (lw_at lw_m5 155 rfl) rfl
theorem q1223 : (Jvm.Cond.code ({ cls := "java/util/LinkedHashMap", name := "replacementTreeNode", desc := "(Ljava/util/HashMap$Node;Ljava/util/HashMap$Node;)Ljava/util/HashMap$TreeNode;" } : Jvm.MethodName) prog_64_method_7_code (5 : Nat) (Option.some (Jvm.ClassFile.FieldType.object "java/util/HashMap$TreeNode"))) ∈ lw_all := lw_g (lw_at lw_m5 156 rfl) rfl
theorem q1229 : (Jvm.Cond.selects "java/util/LinkedHashMap" ({ cls := "java/util/HashMap", name := "afterNodeAccess", desc := "(Ljava/util/HashMap$Node;)V" } : Jvm.MethodName) ({ cls := "java/util/LinkedHashMap", name := "afterNodeAccess", desc := "(Ljava/util/HashMap$Node;)V" } : Jvm.MethodName)) ∈ lw_all := lw_g (lw_at lw_m5 162 rfl) rfl
