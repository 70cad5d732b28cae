/-! the classes of the heap, by their tags (10 + place); written by tools/mkcls.py -/
def xNoT : u_T := fun _ => ("", "", "", false)
def xNoTy : Nat → FieldType := fun _ => .int
def vwCl : List vw_C := [(RX4, TX4, 35), (RX1, TX1, 15), (RX7, TX7, 7), (RX21, TX21, 27), (RX17, TX17, 8), (RX9, TX9, 4), (RX10, TX10, 7), (RX20, TX20, 3), (RX8, TX8, 4), (RX6, TX6, 3), (RX5, TX5, 5), (RX22, TX22, 5), (RX23, TX23, 2), (RX2, TX2, 1), (RX3, TX3, 1), (RX18, TX18, 1), (RX19, TX19, 1), (RX12, xNoT, 0), (RX13, xNoT, 0), (RX14, xNoT, 0), (RX15, xNoT, 0), (RX16, xNoT, 0), (RJ2, TJ2, 3), (RJ5, TJ5, 4), (RJ4, TJ4, 4), (RJ16, TJ16, 6)]
def vwTy : Nat → Nat → FieldType := fun i => match i with
  | 0 => tyX4
  | 1 => tyX1
  | 2 => tyX7
  | 3 => tyX21
  | 4 => tyX17
  | 5 => tyX9
  | 6 => tyX10
  | 7 => tyX20
  | 8 => tyX8
  | 9 => tyX6
  | 10 => tyX5
  | 11 => tyX22
  | 12 => tyX23
  | 13 => tyX2
  | 14 => tyX3
  | 15 => tyX18
  | 16 => tyX19
  | 17 => xNoTy
  | 18 => xNoTy
  | 19 => xNoTy
  | 20 => xNoTy
  | 21 => xNoTy
  | 22 => tyJ2
  | 23 => tyJ5
  | 24 => tyJ4
  | _ => tyJ16
/-- the final references: (tag, place) -/
def xFin : List (Int × Nat) := [(10, 1), (10, 12), (10, 15), (10, 16), (10, 17), (10, 18), (10, 19), (10, 20), (10, 23), (10, 24), (10, 29), (10, 30), (10, 31), (10, 32), (10, 34), (11, 0), (11, 11), (11, 12), (11, 13), (11, 14), (12, 3), (12, 4), (12, 5), (12, 6), (13, 0), (13, 2), (13, 3), (13, 4), (13, 5), (13, 6), (13, 7), (13, 8), (13, 9), (13, 10), (13, 11), (13, 12), (13, 13), (13, 14), (13, 15), (13, 16), (13, 17), (13, 18), (13, 19), (13, 20), (13, 21), (13, 22), (14, 0), (14, 1), (14, 2), (15, 0), (16, 0), (16, 1), (18, 3), (19, 0), (20, 0), (20, 1), (21, 0), (21, 1), (21, 2), (22, 0), (22, 1), (33, 0)]
def xNest0 : List Cond := [
(Jvm.Cond.methodLinkNest "NextAtBar$Reade\x72" (11 : Nat) ({ cls := "NextAtBar$House", name := "<init>", desc := "()V" } : Jvm.MethodName) "NextAtBa\x72"),
  (Jvm.Cond.methodLinkNest "NextAtBar$Tokens" (33 : Nat) ({ cls := "NextAtBa\x72", name := "in", desc := "(III)Z" } : Jvm.MethodName) "NextAtBa\x72"),
  (Jvm.Cond.castable "[B" "java/lang/Cloneable"),
  (Jvm.Cond.fieldLinkNest "NextAtBa\x72" (94 : Nat) "NextAtBar$Reade\x72" "fault" "I" "NextAtBa\x72"),
  (Jvm.Cond.fieldLinkNest "NextAtBa\x72" (98 : Nat) "NextAtBar$Reade\x72" "place" "I" "NextAtBa\x72"),
  (Jvm.Cond.declares ({ cls := "jdk/internal/access/JavaLangAccess", name := "getUTF16Cha\x72", desc := "([BI)C" } : Jvm.MethodName)),
  (Jvm.Cond.castable "java/lang/System$2" "jdk/internal/access/JavaLangAccess"),
  (Jvm.Cond.methodLinkNest "NextAtBar$Reade\x72" (67 : Nat) ({ cls := "NextAtBa\x72", name := "in", desc := "(III)Z" } : Jvm.MethodName) "NextAtBa\x72"),
  (Jvm.Cond.methodLinkNest "NextAtBar$Reade\x72" (205 : Nat) ({ cls := "NextAtBa\x72", name := "ruleOf", desc := "(I)LNextAtBar$Rule;" } : Jvm.MethodName) "NextAtBa\x72"),
  (Jvm.Cond.methodLinkNest "NextAtBa\x72" (44 : Nat) ({ cls := "NextAtBar$Row", name := "<init>", desc := "()V" } : Jvm.MethodName) "NextAtBa\x72"),
  (Jvm.Cond.methodLinkNest "NextAtBar$Row" (3 : Nat) ({ cls := "NextAtBar$Nea\x72", name := "<init>", desc := "()V" } : Jvm.MethodName) "NextAtBa\x72"),
  (Jvm.Cond.methodLinkNest "NextAtBar$Nea\x72" (1 : Nat) ({ cls := "NextAtBar$Rule", name := "<init>", desc := "()V" } : Jvm.MethodName) "NextAtBa\x72"),
  (Jvm.Cond.methodLinkNest "NextAtBa\x72" (47 : Nat) ({ cls := "NextAtBar$Nea\x72", name := "<init>", desc := "()V" } : Jvm.MethodName) "NextAtBa\x72"),
  (Jvm.Cond.methodLinkNest "NextAtBa\x72" (50 : Nat) ({ cls := "NextAtBar$Eye", name := "<init>", desc := "()V" } : Jvm.MethodName) "NextAtBa\x72"),
  (Jvm.Cond.methodLinkNest "NextAtBar$Eye" (3 : Nat) ({ cls := "NextAtBar$Rule", name := "<init>", desc := "()V" } : Jvm.MethodName) "NextAtBa\x72"),
  (Jvm.Cond.methodLinkNest "NextAtBa\x72" (53 : Nat) ({ cls := "NextAtBar$Asked", name := "<init>", desc := "()V" } : Jvm.MethodName) "NextAtBa\x72"),
  (Jvm.Cond.methodLinkNest "NextAtBar$Asked" (1 : Nat) ({ cls := "NextAtBar$Rule", name := "<init>", desc := "()V" } : Jvm.MethodName) "NextAtBa\x72"),
  (Jvm.Cond.methodLinkNest "NextAtBa\x72" (56 : Nat) ({ cls := "NextAtBar$Regulars", name := "<init>", desc := "()V" } : Jvm.MethodName) "NextAtBa\x72"),
  (Jvm.Cond.methodLinkNest "NextAtBar$Regulars" (1 : Nat) ({ cls := "NextAtBar$Rule", name := "<init>", desc := "()V" } : Jvm.MethodName) "NextAtBa\x72"),
  (Jvm.Cond.methodLinkNest "NextAtBar$Reade\x72" (238 : Nat) ({ cls := "NextAtBa\x72", name := "mannerOf", desc := "(II)LNextAtBar$Manner;" } : Jvm.MethodName) "NextAtBa\x72"),
  (Jvm.Cond.methodLinkNest "NextAtBar$Ba\x72" (175 : Nat) ({ cls := "NextAtBa\x72", name := "in", desc := "(III)Z" } : Jvm.MethodName) "NextAtBa\x72"),
  (Jvm.Cond.declares ({ cls := "NextAtBar$Rule", name := "fa\x72", desc := "(LNextAtBar$Bar;II)I" } : Jvm.MethodName)),
  (Jvm.Cond.methodLinkNest "NextAtBar$Ba\x72" (243 : Nat) ({ cls := "NextAtBa\x72", name := "bits", desc := "(I)I" } : Jvm.MethodName) "NextAtBa\x72"),
  (Jvm.Cond.methodLinkNest "NextAtBar$Orders" (39 : Nat) ({ cls := "NextAtBa\x72", name := "holds", desc := "(II)Z" } : Jvm.MethodName) "NextAtBa\x72"),
  (Jvm.Cond.methodLinkNest "NextAtBar$Tellings" (54 : Nat) ({ cls := "NextAtBa\x72", name := "bits", desc := "(I)I" } : Jvm.MethodName) "NextAtBa\x72"),
  (Jvm.Cond.methodLinkNest "NextAtBar$Tellings" (41 : Nat) ({ cls := "NextAtBa\x72", name := "holds", desc := "(II)Z" } : Jvm.MethodName) "NextAtBa\x72"),
  (Jvm.Cond.castable "java/util/NoSuchElementException" "java/util/NoSuchElementException"),
  (Jvm.Cond.declares ({ cls := "java/lang/RuntimeException", name := "<init>", desc := "()V" } : Jvm.MethodName)),
  (Jvm.Cond.declares ({ cls := "java/lang/RuntimeException", name := "<init>", desc := "(Ljava/lang/String;)V" } : Jvm.MethodName)),
  (Jvm.Cond.declares ({ cls := "java/lang/Exception", name := "<init>", desc := "()V" } : Jvm.MethodName)),
  (Jvm.Cond.declares ({ cls := "java/lang/Exception", name := "<init>", desc := "(Ljava/lang/String;)V" } : Jvm.MethodName)),
  (Jvm.Cond.declares ({ cls := "java/lang/Throwable", name := "<init>", desc := "()V" } : Jvm.MethodName)),
  (Jvm.Cond.declares ({ cls := "java/lang/Throwable", name := "<init>", desc := "(Ljava/lang/String;)V" } : Jvm.MethodName)),
  (Jvm.Cond.castable "NextAtBar$Rule" "java/lang/Object"),
  (Jvm.Cond.castable "NextAtBa\x72" "java/lang/Object"),
  (Jvm.Cond.castable "NextAtBar$Manne\x72" "java/lang/Object"),
  (Jvm.Cond.castable "NextAtBar$Lia\x72" "java/lang/Object"),
  (Jvm.Cond.castable "java/util/ArrayList" "java/lang/Object"),
  (Jvm.Cond.castable "NextAtBarModel" "java/lang/Object"),
  (Jvm.Cond.castable "NextAtBar$Reade\x72" "java/lang/Object"),
  (Jvm.Cond.castable "NextAtBar$Tokens" "java/lang/Object"),
  (Jvm.Cond.castable "NextAtBar$House" "java/lang/Object"),
  (Jvm.Cond.castable "NextAtBar$Token" "java/lang/Object"),
  (Jvm.Cond.castable "java/lang/StringBuilde\x72" "java/lang/Object"),
  (Jvm.Cond.castable "java/lang/String" "java/lang/Object"),
  (Jvm.Cond.castable "java/lang/System$2" "java/lang/Object"),
  (Jvm.Cond.castable "NextAtBar$Drink" "java/lang/Object"),
  (Jvm.Cond.castable "NextAtBar$Serve\x72" "java/lang/Object"),
  (Jvm.Cond.castable "NextAtBar$Row" "java/lang/Object"),
  (Jvm.Cond.castable "NextAtBar$Nea\x72" "java/lang/Object"),
  (Jvm.Cond.castable "NextAtBar$Eye" "java/lang/Object"),
  (Jvm.Cond.castable "NextAtBar$Asked" "java/lang/Object"),
  (Jvm.Cond.castable "NextAtBar$Regulars" "java/lang/Object"),
  (Jvm.Cond.castable "NextAtBar$Person" "java/lang/Object"),
  (Jvm.Cond.castable "NextAtBar$Polite" "java/lang/Object"),
  (Jvm.Cond.castable "NextAtBar$Regula\x72" "java/lang/Object"),
  (Jvm.Cond.castable "NextAtBar$Telling" "java/lang/Object"),
  (Jvm.Cond.castable "NextAtBar$Ba\x72" "java/lang/Object"),
  (Jvm.Cond.castable "NextAtBar$Orders" "java/lang/Object"),
  (Jvm.Cond.castable "NextAtBar$Tellings" "java/lang/Object"),
  (Jvm.Cond.castable "java/util/NoSuchElementException" "java/lang/Object"),
  (Jvm.Cond.castable "java/lang/Throwable" "java/lang/Object"),
  (Jvm.Cond.castable "NextAtBar$Row" "NextAtBar$Rule"),
  (Jvm.Cond.castable "NextAtBar$Nea\x72" "NextAtBar$Rule"),
  (Jvm.Cond.castable "NextAtBar$Eye" "NextAtBar$Rule"),
  (Jvm.Cond.castable "NextAtBar$Asked" "NextAtBar$Rule"),
  (Jvm.Cond.castable "NextAtBar$Regulars" "NextAtBar$Rule"),
  (Jvm.Cond.declares ({ cls := "java/lang/Object", name := "getClass", desc := "()Ljava/lang/Class;" } : Jvm.MethodName)),
  (Jvm.Cond.castable "[B" "java/lang/Object"),
  (Jvm.Cond.castable "[Ljava/lang/Object;" "java/lang/Object"),
  (Jvm.Cond.castable "[I" "java/lang/Object"),
  (Jvm.Cond.castable "[LNextAtBar$Rule;" "java/lang/Object"),
  (Jvm.Cond.castable "[Z" "java/lang/Object"),
  (Jvm.Cond.castable "[J" "java/lang/Object")]
/-- a private method of a superclass, on a StringBuilder -/
def xSelP : Cond := Cond.selects "java/lang/StringBuilde\x72" ⟨"java/lang/AbstractStringBuilde\x72", "ensureCapacityInternal", "(I)V"⟩ ⟨"java/lang/AbstractStringBuilde\x72", "ensureCapacityInternal", "(I)V"⟩
def xNest : List Cond := xNest0 ++ [xSelP]
theorem xNest_tbl : ∀ w ∈ xNest0, w ∈ lw_tbl := by
  intro w hw
  simp only [xNest0, List.mem_cons, List.not_mem_nil, or_false] at hw
  rcases hw with h | h | h | h | h | h | h | h | h | h | h | h | h | h | h | h | h | h | h | h | h | h | h | h | h | h | h | h | h | h | h | h | h | h | h | h | h | h | h | h | h | h | h | h | h | h | h | h | h | h | h | h | h | h | h | h | h | h | h | h | h | h | h | h | h | h | h | h | h | h | h | h | h | h
  · rw [h]; exact q307
  · rw [h]; exact q383
  · rw [h]; exact q449
  · rw [h]; exact q577
  · rw [h]; exact q579
  · rw [h]; exact q626
  · rw [h]; exact q627
  · rw [h]; exact q701
  · rw [h]; exact q857
  · rw [h]; exact q862
  · rw [h]; exact q865
  · rw [h]; exact q868
  · rw [h]; exact q875
  · rw [h]; exact q879
  · rw [h]; exact q882
  · rw [h]; exact q886
  · rw [h]; exact q889
  · rw [h]; exact q893
  · rw [h]; exact q896
  · rw [h]; exact q953
  · rw [h]; exact q1323
  · rw [h]; exact q1329
  · rw [h]; exact q1459
  · rw [h]; exact q1603
  · rw [h]; exact q1652
  · rw [h]; exact q1659
  · rw [h]; exact q1772
  · rw [h]; exact q1773
  · rw [h]; exact q1774
  · rw [h]; exact q1775
  · rw [h]; exact q1776
  · rw [h]; exact q1777
  · rw [h]; exact q1778
  · rw [h]; exact q2507
  · rw [h]; exact q2508
  · rw [h]; exact q2509
  · rw [h]; exact q2510
  · rw [h]; exact q2511
  · rw [h]; exact q2512
  · rw [h]; exact q2513
  · rw [h]; exact q2514
  · rw [h]; exact q2515
  · rw [h]; exact q2516
  · rw [h]; exact q2517
  · rw [h]; exact q2518
  · rw [h]; exact q2519
  · rw [h]; exact q2520
  · rw [h]; exact q2521
  · rw [h]; exact q2522
  · rw [h]; exact q2523
  · rw [h]; exact q2524
  · rw [h]; exact q2525
  · rw [h]; exact q2526
  · rw [h]; exact q2527
  · rw [h]; exact q2528
  · rw [h]; exact q2529
  · rw [h]; exact q2530
  · rw [h]; exact q2531
  · rw [h]; exact q2532
  · rw [h]; exact q2533
  · rw [h]; exact q2534
  · rw [h]; exact q2535
  · rw [h]; exact q2536
  · rw [h]; exact q2537
  · rw [h]; exact q2538
  · rw [h]; exact q2539
  · rw [h]; exact q2540
  · rw [h]; exact q2543
  · rw [h]; exact q2544
  · rw [h]; exact q2545
  · rw [h]; exact q2546
  · rw [h]; exact q2547
  · rw [h]; exact q2548
  · rw [h]; exact q2549
/-- the String constants: class, entry, text, number of the text -/
def xStr : List (String × Nat × String × Nat) := [
("NextAtBar$Tokens", 28, "", 0),
  ("NextAtBar$Reade\x72", 120, "", 0),
  ("NextAtBar$Reade\x72", 128, "house", 1),
  ("NextAtBar$Reade\x72", 133, "drink", 4),
  ("NextAtBar$Reade\x72", 135, "staff", 5),
  ("NextAtBar$Reade\x72", 136, "person", 6),
  ("NextAtBar$Reade\x72", 137, "shelf", 7),
  ("NextAtBar$Reade\x72", 139, "says", 8),
  ("NextAtBar$Reade\x72", 155, "long", 2),
  ("NextAtBar$Reade\x72", 161, "bell", 3),
  ("NextAtBar$Token", 33, "house", 1),
  ("NextAtBar$Token", 35, "drink", 4),
  ("NextAtBar$Token", 37, "staff", 5),
  ("NextAtBar$Token", 39, "person", 6),
  ("NextAtBar$Token", 41, "shelf", 7),
  ("NextAtBar$Token", 43, "says", 8),
  ("NextAtBar$Reade\x72", 176, "takes", 9),
  ("NextAtBar$Reade\x72", 178, "then", 10),
  ("NextAtBar$Reade\x72", 180, "costs", 11),
  ("NextAtBar$Reade\x72", 190, "row", 12),
  ("NextAtBar$Reade\x72", 192, "nea\x72", 13),
  ("NextAtBar$Reade\x72", 194, "eye", 14),
  ("NextAtBar$Reade\x72", 196, "asked", 15),
  ("NextAtBar$Reade\x72", 198, "regula\x72", 16),
  ("NextAtBar$Reade\x72", 212, "at", 17),
  ("NextAtBar$Reade\x72", 216, "from", 18),
  ("NextAtBar$Reade\x72", 220, "to", 19),
  ("NextAtBar$Reade\x72", 224, "step", 20),
  ("NextAtBar$Reade\x72", 228, "hands", 21),
  ("NextAtBar$Reade\x72", 232, "honest", 22),
  ("NextAtBar$Reade\x72", 234, "lia\x72", 23),
  ("NextAtBar$Reade\x72", 236, "polite", 24),
  ("NextAtBar$Reade\x72", 251, "comes", 25),
  ("NextAtBar$Reade\x72", 256, "patience", 26),
  ("NextAtBar$Reade\x72", 260, "look", 27),
  ("NextAtBar$Reade\x72", 264, "wants", 28),
  ("NextAtBar$Reade\x72", 277, "ready", 29),
  ("NextAtBar$Reade\x72", 287, "before", 30),
  ("NextAtBa\x72", 266, "", 0),
  ("NextAtBarModel", 129, "house", 1),
  ("NextAtBarModel", 216, "long", 2),
  ("NextAtBarModel", 222, "bell", 3),
  ("NextAtBarModel", 131, "drink", 4),
  ("NextAtBarModel", 133, "staff", 5),
  ("NextAtBarModel", 135, "person", 6),
  ("NextAtBarModel", 137, "shelf", 7),
  ("NextAtBarModel", 139, "says", 8),
  ("NextAtBarModel", 228, "takes", 9),
  ("NextAtBarModel", 230, "then", 10),
  ("NextAtBarModel", 232, "costs", 11),
  ("NextAtBarModel", 234, "row", 12),
  ("NextAtBarModel", 236, "nea\x72", 13),
  ("NextAtBarModel", 238, "eye", 14),
  ("NextAtBarModel", 240, "asked", 15),
  ("NextAtBarModel", 242, "regula\x72", 16),
  ("NextAtBarModel", 244, "at", 17),
  ("NextAtBarModel", 245, "from", 18),
  ("NextAtBarModel", 247, "to", 19),
  ("NextAtBarModel", 249, "step", 20),
  ("NextAtBarModel", 251, "hands", 21),
  ("NextAtBarModel", 253, "honest", 22),
  ("NextAtBarModel", 255, "lia\x72", 23),
  ("NextAtBarModel", 257, "polite", 24),
  ("NextAtBarModel", 259, "comes", 25),
  ("NextAtBarModel", 261, "patience", 26),
  ("NextAtBarModel", 263, "look", 27),
  ("NextAtBarModel", 265, "wants", 28),
  ("NextAtBarModel", 271, "ready", 29),
  ("NextAtBarModel", 276, "before", 30)]
def xTexts : List String := ["", "house", "long", "bell", "drink", "staff", "person", "shelf", "says", "takes", "then", "costs", "row", "nea\x72", "eye", "asked", "regula\x72", "at", "from", "to", "step", "hands", "honest", "lia\x72", "polite", "comes", "patience", "look", "wants", "ready", "before"]
