/-! words in the forms that the walks use (printed by gen/words17.py) -/
set_option maxRecDepth 100000
theorem nl0 : (Jvm.Cond.arrayOver (Jvm.ClassFile.FieldType.object "java/lang/Object")) ∈ gNl := List.mem_of_getElem? (i := 0) rfl
theorem nl1 : (Jvm.Cond.arrayOver (Jvm.ClassFile.FieldType.object "LikedOrders$State")) ∈ gNl := List.mem_of_getElem? (i := 1) rfl
theorem nl2 : (Jvm.Cond.fieldLinkNest "LikedOrders$Parser" (50 : Nat) "LikedOrders" "buffer" "[B" "LikedOrders") ∈ gNl := List.mem_of_getElem? (i := 2) rfl
theorem nl3 : (Jvm.Cond.fieldLinkNest "LikedOrders$Parser" (41 : Nat) "LikedOrders" "buffered" "I" "LikedOrders") ∈ gNl := List.mem_of_getElem? (i := 3) rfl
theorem nl4 : (Jvm.Cond.fieldLinkNest "LikedOrders$Parser" (44 : Nat) "LikedOrders" "parseError" "I" "LikedOrders") ∈ gNl := List.mem_of_getElem? (i := 4) rfl
theorem nl5 : (Jvm.Cond.fieldLinkNest "LikedOrders$Parser" (47 : Nat) "LikedOrders" "errorPosition" "I" "LikedOrders") ∈ gNl := List.mem_of_getElem? (i := 5) rfl
theorem nl6 : (Jvm.Cond.fieldLinkNest "LikedOrders$Stopper" (17 : Nat) "LikedOrders" "comparisons" "I" "LikedOrders") ∈ gNl := List.mem_of_getElem? (i := 6) rfl
theorem nl7 : (Jvm.Cond.fieldLinkNest "LikedOrders$1Asker" (33 : Nat) "LikedOrders" "asked" "I" "LikedOrders") ∈ gNl := List.mem_of_getElem? (i := 7) rfl
theorem nl8 : (Jvm.Cond.declares ({ cls := "java/util/Deque", name := "size", desc := "()I" } : Jvm.MethodName)) ∈ gNl := List.mem_of_getElem? (i := 8) rfl
theorem nl9 : (Jvm.Cond.castable "java/util/ArrayDeque" "java/util/Deque") ∈ gNl := List.mem_of_getElem? (i := 9) rfl
theorem nl10 : (Jvm.Cond.castable "java/lang/ArrayIndexOutOfBoundsException" "java/lang/ArrayIndexOutOfBoundsException") ∈ gNl := List.mem_of_getElem? (i := 10) rfl
theorem nl11 : (Jvm.Cond.declares ({ cls := "java/lang/IndexOutOfBoundsException", name := "<init>", desc := "()V" } : Jvm.MethodName)) ∈ gNl := List.mem_of_getElem? (i := 11) rfl
theorem nl12 : (Jvm.Cond.declares ({ cls := "java/lang/IndexOutOfBoundsException", name := "<init>", desc := "(Ljava/lang/String;)V" } : Jvm.MethodName)) ∈ gNl := List.mem_of_getElem? (i := 12) rfl
theorem nl13 : (Jvm.Cond.declares ({ cls := "java/lang/RuntimeException", name := "<init>", desc := "()V" } : Jvm.MethodName)) ∈ gNl := List.mem_of_getElem? (i := 13) rfl
theorem nl14 : (Jvm.Cond.declares ({ cls := "java/lang/RuntimeException", name := "<init>", desc := "(Ljava/lang/String;)V" } : Jvm.MethodName)) ∈ gNl := List.mem_of_getElem? (i := 14) rfl
theorem nl15 : (Jvm.Cond.declares ({ cls := "java/lang/Exception", name := "<init>", desc := "()V" } : Jvm.MethodName)) ∈ gNl := List.mem_of_getElem? (i := 15) rfl
theorem nl16 : (Jvm.Cond.declares ({ cls := "java/lang/Exception", name := "<init>", desc := "(Ljava/lang/String;)V" } : Jvm.MethodName)) ∈ gNl := List.mem_of_getElem? (i := 16) rfl
theorem nl17 : (Jvm.Cond.declares ({ cls := "java/lang/Throwable", name := "<init>", desc := "()V" } : Jvm.MethodName)) ∈ gNl := List.mem_of_getElem? (i := 17) rfl
theorem nl18 : (Jvm.Cond.declares ({ cls := "java/lang/Throwable", name := "<init>", desc := "(Ljava/lang/String;)V" } : Jvm.MethodName)) ∈ gNl := List.mem_of_getElem? (i := 18) rfl
theorem nl19 : (Jvm.Cond.castable "java/lang/IndexOutOfBoundsException" "java/lang/IndexOutOfBoundsException") ∈ gNl := List.mem_of_getElem? (i := 19) rfl
theorem nl20 : (Jvm.Cond.methodLinkNest "LikedOrders$Parser" (32 : Nat) ({ cls := "LikedOrders$State", name := "<init>", desc := "()V" } : Jvm.MethodName) "LikedOrders") ∈ gNl := List.mem_of_getElem? (i := 20) rfl
theorem nl21 : (Jvm.Cond.methodLinkNest "LikedOrders$State" (11 : Nat) ({ cls := "LikedOrders$Row", name := "<init>", desc := "()V" } : Jvm.MethodName) "LikedOrders") ∈ gNl := List.mem_of_getElem? (i := 21) rfl
theorem nl22 : (Jvm.Cond.castable "java/lang/IllegalArgumentException" "java/lang/IllegalArgumentException") ∈ gNl := List.mem_of_getElem? (i := 22) rfl
theorem nl23 : (Jvm.Cond.castable "[B" "java/lang/Cloneable") ∈ gNl := List.mem_of_getElem? (i := 23) rfl
theorem nl24 : (Jvm.Cond.fieldLinkNest "LikedOrders$Parser" (115 : Nat) "LikedOrders$State" "items" "LLikedOrders$Row;" "LikedOrders") ∈ gNl := List.mem_of_getElem? (i := 24) rfl
theorem nl25 : (Jvm.Cond.fieldLinkNest "LikedOrders" (98 : Nat) "LikedOrders$State" "items" "LLikedOrders$Row;" "LikedOrders") ∈ gNl := List.mem_of_getElem? (i := 25) rfl
theorem nl26 : (Jvm.Cond.fieldLinkNest "LikedOrders$Parser" (154 : Nat) "LikedOrders$State" "answers" "LLikedOrders$Row;" "LikedOrders") ∈ gNl := List.mem_of_getElem? (i := 26) rfl
theorem nl27 : (Jvm.Cond.fieldLinkNest "LikedOrders" (130 : Nat) "LikedOrders$State" "answers" "LLikedOrders$Row;" "LikedOrders") ∈ gNl := List.mem_of_getElem? (i := 27) rfl
theorem nl28 : (Jvm.Cond.fieldLinkNest "LikedOrders$Parser" (171 : Nat) "LikedOrders$State" "method" "I" "LikedOrders") ∈ gNl := List.mem_of_getElem? (i := 28) rfl
theorem nl29 : (Jvm.Cond.fieldLinkNest "LikedOrders" (152 : Nat) "LikedOrders$State" "method" "I" "LikedOrders") ∈ gNl := List.mem_of_getElem? (i := 29) rfl
theorem nl30 : (Jvm.Cond.fieldLinkNest "LikedOrders" (169 : Nat) "LikedOrders$State" "given" "I" "LikedOrders") ∈ gNl := List.mem_of_getElem? (i := 30) rfl
theorem nl31 : (Jvm.Cond.fieldLinkNest "LikedOrders" (172 : Nat) "LikedOrders$State" "taken" "I" "LikedOrders") ∈ gNl := List.mem_of_getElem? (i := 31) rfl
theorem nl32 : (Jvm.Cond.methodLinkNest "LikedOrders$Parser" (64 : Nat) ({ cls := "LikedOrders", name := "in", desc := "(III)Z" } : Jvm.MethodName) "LikedOrders") ∈ gNl := List.mem_of_getElem? (i := 32) rfl
theorem nl33 : (Jvm.Cond.castable "LikedOrders$FormatException" "LikedOrders$FormatException") ∈ gNl := List.mem_of_getElem? (i := 33) rfl
theorem nl34 : (Jvm.Cond.fieldLinkNest "LikedOrders" (75 : Nat) "LikedOrders$FormatException" "kind" "I" "LikedOrders") ∈ gNl := List.mem_of_getElem? (i := 34) rfl
theorem nl35 : (Jvm.Cond.fieldLinkNest "LikedOrders" (81 : Nat) "LikedOrders$FormatException" "position" "I" "LikedOrders") ∈ gNl := List.mem_of_getElem? (i := 35) rfl
theorem nl36 : (Jvm.Cond.declares ({ cls := "java/util/List", name := "size", desc := "()I" } : Jvm.MethodName)) ∈ gNl := List.mem_of_getElem? (i := 36) rfl
theorem nl37 : (Jvm.Cond.castable "java/util/ArrayList" "java/util/List") ∈ gNl := List.mem_of_getElem? (i := 37) rfl
theorem nl38 : (Jvm.Cond.declares ({ cls := "java/util/List", name := "get", desc := "(I)Ljava/lang/Object;" } : Jvm.MethodName)) ∈ gNl := List.mem_of_getElem? (i := 38) rfl
theorem nl39 : (Jvm.Cond.methodLinkNest "LikedOrders$Item" (1 : Nat) ({ cls := "LikedOrders$Told", name := "<init>", desc := "()V" } : Jvm.MethodName) "LikedOrders") ∈ gNl := List.mem_of_getElem? (i := 39) rfl
theorem nl40 : (Jvm.Cond.fieldLinkNest "LikedOrders$State" (46 : Nat) "LikedOrders$Item" "name" "Ljava/lang/String;" "LikedOrders") ∈ gNl := List.mem_of_getElem? (i := 40) rfl
theorem nl41 : (Jvm.Cond.fieldLinkNest "LikedOrders" (206 : Nat) "LikedOrders$Item" "name" "Ljava/lang/String;" "LikedOrders") ∈ gNl := List.mem_of_getElem? (i := 41) rfl
theorem nl42 : (Jvm.Cond.fieldLinkNest "LikedOrders$State" (56 : Nat) "LikedOrders$Item" "worth" "I" "LikedOrders") ∈ gNl := List.mem_of_getElem? (i := 42) rfl
theorem nl43 : (Jvm.Cond.fieldLinkNest "LikedOrders" (196 : Nat) "LikedOrders$Item" "worth" "I" "LikedOrders") ∈ gNl := List.mem_of_getElem? (i := 43) rfl
theorem nl44 : (Jvm.Cond.declares ({ cls := "java/util/List", name := "add", desc := "(Ljava/lang/Object;)Z" } : Jvm.MethodName)) ∈ gNl := List.mem_of_getElem? (i := 44) rfl
theorem nl45 : (Jvm.Cond.fieldLinkNest "LikedOrders" (256 : Nat) "LikedOrders$Known" "better" "[I" "LikedOrders") ∈ gNl := List.mem_of_getElem? (i := 45) rfl
theorem nl46 : (Jvm.Cond.fieldLinkNest "LikedOrders" (258 : Nat) "LikedOrders$Known" "worse" "[I" "LikedOrders") ∈ gNl := List.mem_of_getElem? (i := 46) rfl
theorem nl47 : (Jvm.Cond.fieldLinkNest "LikedOrders" (138 : Nat) "LikedOrders$Known" "many" "I" "LikedOrders") ∈ gNl := List.mem_of_getElem? (i := 47) rfl
theorem nl48 : (Jvm.Cond.methodLinkNest "LikedOrders$Known" (51 : Nat) ({ cls := "LikedOrders", name := "has", desc := "(II)Z" } : Jvm.MethodName) "LikedOrders") ∈ gNl := List.mem_of_getElem? (i := 48) rfl
theorem nl49 : (Jvm.Cond.methodLinkNest "LikedOrders$Answer" (1 : Nat) ({ cls := "LikedOrders$Told", name := "<init>", desc := "()V" } : Jvm.MethodName) "LikedOrders") ∈ gNl := List.mem_of_getElem? (i := 49) rfl
theorem nl50 : (Jvm.Cond.fieldLinkNest "LikedOrders$Known" (37 : Nat) "LikedOrders$Answer" "better" "I" "LikedOrders") ∈ gNl := List.mem_of_getElem? (i := 50) rfl
theorem nl51 : (Jvm.Cond.fieldLinkNest "LikedOrders$State" (70 : Nat) "LikedOrders$Answer" "better" "I" "LikedOrders") ∈ gNl := List.mem_of_getElem? (i := 51) rfl
theorem nl52 : (Jvm.Cond.fieldLinkNest "LikedOrders" (184 : Nat) "LikedOrders$Answer" "better" "I" "LikedOrders") ∈ gNl := List.mem_of_getElem? (i := 52) rfl
theorem nl53 : (Jvm.Cond.fieldLinkNest "LikedOrders$Known" (39 : Nat) "LikedOrders$Answer" "worse" "I" "LikedOrders") ∈ gNl := List.mem_of_getElem? (i := 53) rfl
theorem nl54 : (Jvm.Cond.fieldLinkNest "LikedOrders$State" (73 : Nat) "LikedOrders$Answer" "worse" "I" "LikedOrders") ∈ gNl := List.mem_of_getElem? (i := 54) rfl
theorem nl55 : (Jvm.Cond.fieldLinkNest "LikedOrders" (187 : Nat) "LikedOrders$Answer" "worse" "I" "LikedOrders") ∈ gNl := List.mem_of_getElem? (i := 55) rfl
theorem nl56 : (Jvm.Cond.declares ({ cls := "java/util/Collection", name := "clear", desc := "()V" } : Jvm.MethodName)) ∈ gNl := List.mem_of_getElem? (i := 56) rfl
theorem nl57 : (Jvm.Cond.castable "java/lang/IllegalStateException" "java/lang/IllegalStateException") ∈ gNl := List.mem_of_getElem? (i := 57) rfl
theorem nl58 : (Jvm.Cond.methodLinkNest "LikedOrders" (133 : Nat) ({ cls := "LikedOrders$Known", name := "laysWays", desc := "([I)V" } : Jvm.MethodName) "LikedOrders") ∈ gNl := List.mem_of_getElem? (i := 58) rfl
theorem nl59 : (Jvm.Cond.methodLinkNest "LikedOrders$State" (80 : Nat) ({ cls := "LikedOrders", name := "one", desc := "(Z)I" } : Jvm.MethodName) "LikedOrders") ∈ gNl := List.mem_of_getElem? (i := 59) rfl
theorem nl60 : (Jvm.Cond.methodLinkNest "LikedOrders$Row" (26 : Nat) ({ cls := "LikedOrders", name := "in", desc := "(III)Z" } : Jvm.MethodName) "LikedOrders") ∈ gNl := List.mem_of_getElem? (i := 60) rfl
theorem nl61 : (Jvm.Cond.methodLinkNest "LikedOrders" (253 : Nat) ({ cls := "LikedOrders$Known", name := "laysRests", desc := "([I)V" } : Jvm.MethodName) "LikedOrders") ∈ gNl := List.mem_of_getElem? (i := 61) rfl
theorem nl62 : (Jvm.Cond.methodLinkNest "LikedOrders$Stopper" (7 : Nat) ({ cls := "LikedOrders$Judge", name := "<init>", desc := "()V" } : Jvm.MethodName) "LikedOrders") ∈ gNl := List.mem_of_getElem? (i := 62) rfl
theorem nl63 : (Jvm.Cond.declares ({ cls := "LikedOrders$Judge", name := "prefers", desc := "(III)Z" } : Jvm.MethodName)) ∈ gNl := List.mem_of_getElem? (i := 63) rfl
theorem nl64 : (Jvm.Cond.castable "LikedOrders$Unknown" "LikedOrders$Unknown") ∈ gNl := List.mem_of_getElem? (i := 64) rfl
theorem nl65 : (Jvm.Cond.fieldLinkNest "LikedOrders" (296 : Nat) "LikedOrders$Unknown" "first" "I" "LikedOrders") ∈ gNl := List.mem_of_getElem? (i := 65) rfl
theorem nl66 : (Jvm.Cond.fieldLinkNest "LikedOrders" (293 : Nat) "LikedOrders$Unknown" "second" "I" "LikedOrders") ∈ gNl := List.mem_of_getElem? (i := 66) rfl
theorem nl67 : (Jvm.Cond.fieldLinkNest "LikedOrders" (302 : Nat) "LikedOrders$Unknown" "doing" "I" "LikedOrders") ∈ gNl := List.mem_of_getElem? (i := 67) rfl
theorem nl68 : (Jvm.Cond.methodLinkNest "LikedOrders$Method" (49 : Nat) ({ cls := "LikedOrders", name := "one", desc := "(Z)I" } : Jvm.MethodName) "LikedOrders") ∈ gNl := List.mem_of_getElem? (i := 68) rfl
theorem nl69 : (Jvm.Cond.methodLinkNest "LikedOrders$1Asker" (15 : Nat) ({ cls := "LikedOrders$Judge", name := "<init>", desc := "()V" } : Jvm.MethodName) "LikedOrders") ∈ gNl := List.mem_of_getElem? (i := 69) rfl
theorem nl70 : (Jvm.Cond.methodLinkNest "LikedOrders" (337 : Nat) ({ cls := "LikedOrders$Method", name := "placeOf", desc := "([II)I" } : Jvm.MethodName) "LikedOrders") ∈ gNl := List.mem_of_getElem? (i := 70) rfl
theorem nl71 : (Jvm.Cond.declares ({ cls := "java/util/Deque", name := "removeFirst", desc := "()Ljava/lang/Object;" } : Jvm.MethodName)) ∈ gNl := List.mem_of_getElem? (i := 71) rfl
theorem nl72 : (Jvm.Cond.declares ({ cls := "java/util/Deque", name := "addLast", desc := "(Ljava/lang/Object;)V" } : Jvm.MethodName)) ∈ gNl := List.mem_of_getElem? (i := 72) rfl
theorem nl73 : (Jvm.Cond.declares ({ cls := "java/util/List", name := "remove", desc := "(I)Ljava/lang/Object;" } : Jvm.MethodName)) ∈ gNl := List.mem_of_getElem? (i := 73) rfl
theorem nl74 : (Jvm.Cond.methodLinkNest "LikedOrders" (409 : Nat) ({ cls := "LikedOrders$Row", name := "<init>", desc := "()V" } : Jvm.MethodName) "LikedOrders") ∈ gNl := List.mem_of_getElem? (i := 74) rfl
theorem nl75 : (Jvm.Cond.methodLinkNest "LikedOrders$Answer" (16 : Nat) ({ cls := "LikedOrders", name := "one", desc := "(Z)I" } : Jvm.MethodName) "LikedOrders") ∈ gNl := List.mem_of_getElem? (i := 75) rfl
theorem nl76 : (Jvm.Cond.declares ({ cls := "java/util/List", name := "set", desc := "(ILjava/lang/Object;)Ljava/lang/Object;" } : Jvm.MethodName)) ∈ gNl := List.mem_of_getElem? (i := 76) rfl
theorem nl77 : (Jvm.Cond.declares ({ cls := "java/util/Collection", name := "isEmpty", desc := "()Z" } : Jvm.MethodName)) ∈ gNl := List.mem_of_getElem? (i := 77) rfl
theorem nl78 : (Jvm.Cond.declares ({ cls := "java/util/Deque", name := "removeLast", desc := "()Ljava/lang/Object;" } : Jvm.MethodName)) ∈ gNl := List.mem_of_getElem? (i := 78) rfl
theorem nl79 : (Jvm.Cond.castable "java/lang/ArrayIndexOutOfBoundsException" "java/lang/IndexOutOfBoundsException") ∈ gNl := List.mem_of_getElem? (i := 79) rfl
theorem nl80 : (Jvm.Cond.castable "LikedOrders$Answer" "LikedOrders$Told") ∈ gNl := List.mem_of_getElem? (i := 80) rfl
theorem nl81 : (Jvm.Cond.castable "LikedOrders$Item" "LikedOrders$Told") ∈ gNl := List.mem_of_getElem? (i := 81) rfl
theorem nl82 : (Jvm.Cond.castable "LikedOrders$State" "java/lang/Object") ∈ gNl := List.mem_of_getElem? (i := 82) rfl
theorem nl83 : (Jvm.Cond.castable "LikedOrders" "java/lang/Object") ∈ gNl := List.mem_of_getElem? (i := 83) rfl
theorem nl84 : (Jvm.Cond.castable "java/util/ArrayDeque" "java/lang/Object") ∈ gNl := List.mem_of_getElem? (i := 84) rfl
theorem nl85 : (Jvm.Cond.castable "LikedOrdersModel" "java/lang/Object") ∈ gNl := List.mem_of_getElem? (i := 85) rfl
theorem nl86 : (Jvm.Cond.castable "java/lang/ArrayIndexOutOfBoundsException" "java/lang/Object") ∈ gNl := List.mem_of_getElem? (i := 86) rfl
theorem nl87 : (Jvm.Cond.castable "java/lang/IndexOutOfBoundsException" "java/lang/Object") ∈ gNl := List.mem_of_getElem? (i := 87) rfl
theorem nl88 : (Jvm.Cond.castable "LikedOrders$Parser" "java/lang/Object") ∈ gNl := List.mem_of_getElem? (i := 88) rfl
theorem nl89 : (Jvm.Cond.castable "LikedOrders$Token" "java/lang/Object") ∈ gNl := List.mem_of_getElem? (i := 89) rfl
theorem nl90 : (Jvm.Cond.castable "LikedOrders$Row" "java/lang/Object") ∈ gNl := List.mem_of_getElem? (i := 90) rfl
theorem nl91 : (Jvm.Cond.castable "java/util/ArrayList" "java/lang/Object") ∈ gNl := List.mem_of_getElem? (i := 91) rfl
theorem nl92 : (Jvm.Cond.castable "java/lang/IllegalArgumentException" "java/lang/Object") ∈ gNl := List.mem_of_getElem? (i := 92) rfl
theorem nl93 : (Jvm.Cond.castable "java/lang/StringBuilder" "java/lang/Object") ∈ gNl := List.mem_of_getElem? (i := 93) rfl
theorem nl94 : (Jvm.Cond.castable "java/lang/String" "java/lang/Object") ∈ gNl := List.mem_of_getElem? (i := 94) rfl
theorem nl95 : (Jvm.Cond.castable "LikedOrders$FormatException" "java/lang/Object") ∈ gNl := List.mem_of_getElem? (i := 95) rfl
theorem nl96 : (Jvm.Cond.castable "LikedOrders$Item" "java/lang/Object") ∈ gNl := List.mem_of_getElem? (i := 96) rfl
theorem nl97 : (Jvm.Cond.castable "LikedOrders$Known" "java/lang/Object") ∈ gNl := List.mem_of_getElem? (i := 97) rfl
theorem nl98 : (Jvm.Cond.castable "LikedOrders$Answer" "java/lang/Object") ∈ gNl := List.mem_of_getElem? (i := 98) rfl
theorem nl99 : (Jvm.Cond.castable "java/lang/IllegalStateException" "java/lang/Object") ∈ gNl := List.mem_of_getElem? (i := 99) rfl
theorem nl100 : (Jvm.Cond.castable "LikedOrders$Method" "java/lang/Object") ∈ gNl := List.mem_of_getElem? (i := 100) rfl
theorem nl101 : (Jvm.Cond.castable "LikedOrders$Stopper" "java/lang/Object") ∈ gNl := List.mem_of_getElem? (i := 101) rfl
theorem nl102 : (Jvm.Cond.castable "LikedOrders$Unknown" "java/lang/Object") ∈ gNl := List.mem_of_getElem? (i := 102) rfl
theorem nl103 : (Jvm.Cond.castable "LikedOrders$1Asker" "java/lang/Object") ∈ gNl := List.mem_of_getElem? (i := 103) rfl
theorem nl104 : (Jvm.Cond.castable "java/lang/Throwable" "java/lang/Object") ∈ gNl := List.mem_of_getElem? (i := 104) rfl
theorem nl105 : (Jvm.Cond.declares ({ cls := "java/lang/Object", name := "getClass", desc := "()Ljava/lang/Class;" } : Jvm.MethodName)) ∈ gNl := List.mem_of_getElem? (i := 105) rfl
theorem nl106 : (Jvm.Cond.castable "[Ljava/lang/Object;" "java/lang/Object") ∈ gNl := List.mem_of_getElem? (i := 106) rfl
theorem nl107 : (Jvm.Cond.castable "[B" "java/lang/Object") ∈ gNl := List.mem_of_getElem? (i := 107) rfl
theorem nl108 : (Jvm.Cond.castable "[LLikedOrders$State;" "java/lang/Object") ∈ gNl := List.mem_of_getElem? (i := 108) rfl
theorem nl109 : (Jvm.Cond.castable "[I" "java/lang/Object") ∈ gNl := List.mem_of_getElem? (i := 109) rfl
theorem nl110 : (Jvm.Cond.castable "[Z" "java/lang/Object") ∈ gNl := List.mem_of_getElem? (i := 110) rfl
theorem nl111 : (Jvm.Cond.castable "[J" "java/lang/Object") ∈ gNl := List.mem_of_getElem? (i := 111) rfl
theorem nl112 : (Jvm.Cond.castable "[D" "java/lang/Object") ∈ gNl := List.mem_of_getElem? (i := 112) rfl
theorem nl113 : (Jvm.Cond.selects "java/lang/StringBuilder" ({ cls := "java/lang/AbstractStringBuilder", name := "appendNull", desc := "()Ljava/lang/AbstractStringBuilder;" } : Jvm.MethodName) ({ cls := "java/lang/AbstractStringBuilder", name := "appendNull", desc := "()Ljava/lang/AbstractStringBuilder;" } : Jvm.MethodName)) ∈ gNl := List.mem_of_getElem? (i := 113) rfl
theorem nl114 : (Jvm.Cond.selects "java/lang/StringBuilder" ({ cls := "java/lang/AbstractStringBuilder", name := "ensureCapacityInternal", desc := "(I)V" } : Jvm.MethodName) ({ cls := "java/lang/AbstractStringBuilder", name := "ensureCapacityInternal", desc := "(I)V" } : Jvm.MethodName)) ∈ gNl := List.mem_of_getElem? (i := 114) rfl
theorem nl115 : (Jvm.Cond.selects "java/lang/StringBuilder" ({ cls := "java/lang/AbstractStringBuilder", name := "newCapacity", desc := "(I)I" } : Jvm.MethodName) ({ cls := "java/lang/AbstractStringBuilder", name := "newCapacity", desc := "(I)I" } : Jvm.MethodName)) ∈ gNl := List.mem_of_getElem? (i := 115) rfl
theorem nl116 : (Jvm.Cond.selects "java/lang/StringBuilder" ({ cls := "java/lang/AbstractStringBuilder", name := "putStringAt", desc := "(ILjava/lang/String;)V" } : Jvm.MethodName) ({ cls := "java/lang/AbstractStringBuilder", name := "putStringAt", desc := "(ILjava/lang/String;)V" } : Jvm.MethodName)) ∈ gNl := List.mem_of_getElem? (i := 116) rfl
theorem nl117 : (Jvm.Cond.selects "java/lang/StringBuilder" ({ cls := "java/lang/AbstractStringBuilder", name := "inflateIfNeededFor", desc := "(Ljava/lang/String;)V" } : Jvm.MethodName) ({ cls := "java/lang/AbstractStringBuilder", name := "inflateIfNeededFor", desc := "(Ljava/lang/String;)V" } : Jvm.MethodName)) ∈ gNl := List.mem_of_getElem? (i := 117) rfl
theorem nl118 : (Jvm.Cond.selects "java/lang/StringBuilder" ({ cls := "java/lang/AbstractStringBuilder", name := "inflate", desc := "()V" } : Jvm.MethodName) ({ cls := "java/lang/AbstractStringBuilder", name := "inflate", desc := "()V" } : Jvm.MethodName)) ∈ gNl := List.mem_of_getElem? (i := 118) rfl
theorem nl119 : (Jvm.Cond.publicMethod ({ cls := "java/util/Collection", name := "clear", desc := "()V" } : Jvm.MethodName)) ∈ gNl := List.mem_of_getElem? (i := 119) rfl
theorem nl120 : (Jvm.Cond.publicMethod ({ cls := "java/util/ArrayDeque", name := "clear", desc := "()V" } : Jvm.MethodName)) ∈ gNl := List.mem_of_getElem? (i := 120) rfl
theorem nl121 : (Jvm.Cond.unhidden "java/util/ArrayDeque" "clear" "()V") ∈ gNl := List.mem_of_getElem? (i := 121) rfl
theorem nl122 : (Jvm.Cond.interfaceMethod "java/util/Deque" "java/util/Collection" "clear" "()V") ∈ gNl := List.mem_of_getElem? (i := 122) rfl
theorem nl123 : (Jvm.Cond.methodLink "LikedOrders" (87 : Nat) ({ cls := "java/util/Deque", name := "clear", desc := "()V" } : Jvm.MethodName)) ∈ gNl := List.mem_of_getElem? (i := 123) rfl
theorem nl124 : (Jvm.Cond.publicMethod ({ cls := "java/util/Collection", name := "isEmpty", desc := "()Z" } : Jvm.MethodName)) ∈ gNl := List.mem_of_getElem? (i := 124) rfl
theorem nl125 : (Jvm.Cond.publicMethod ({ cls := "java/util/ArrayDeque", name := "isEmpty", desc := "()Z" } : Jvm.MethodName)) ∈ gNl := List.mem_of_getElem? (i := 125) rfl
theorem nl126 : (Jvm.Cond.unhidden "java/util/ArrayDeque" "isEmpty" "()Z") ∈ gNl := List.mem_of_getElem? (i := 126) rfl
theorem nl127 : (Jvm.Cond.interfaceMethod "java/util/Deque" "java/util/Collection" "isEmpty" "()Z") ∈ gNl := List.mem_of_getElem? (i := 127) rfl
theorem nl128 : (Jvm.Cond.methodLink "LikedOrders" (418 : Nat) ({ cls := "java/util/Deque", name := "isEmpty", desc := "()Z" } : Jvm.MethodName)) ∈ gNl := List.mem_of_getElem? (i := 128) rfl
theorem zl_INVALID : ("LikedOrders$Token", "INVALID", "LLikedOrders$Token;", 0) ∈ gZl := List.mem_of_getElem? (i := 0) rfl
theorem zl_END : ("LikedOrders$Token", "END", "LLikedOrders$Token;", 1) ∈ gZl := List.mem_of_getElem? (i := 1) rfl
theorem zl_WORD : ("LikedOrders$Token", "WORD", "LLikedOrders$Token;", 2) ∈ gZl := List.mem_of_getElem? (i := 2) rfl
theorem zl_NUMBER : ("LikedOrders$Token", "NUMBER", "LLikedOrders$Token;", 3) ∈ gZl := List.mem_of_getElem? (i := 3) rfl
theorem zl_LINE_END : ("LikedOrders$Token", "LINE_END", "LLikedOrders$Token;", 4) ∈ gZl := List.mem_of_getElem? (i := 4) rfl
theorem zl_BETTER : ("LikedOrders$Token", "BETTER", "LLikedOrders$Token;", 5) ∈ gZl := List.mem_of_getElem? (i := 5) rfl
theorem zl_UNASSIGNED_STACK : ("java/lang/Throwable", "UNASSIGNED_STACK", "[Ljava/lang/StackTraceElement;", 6) ∈ gZl := List.mem_of_getElem? (i := 6) rfl
theorem zl_SUPPRESSED_SENTINEL : ("java/lang/Throwable", "SUPPRESSED_SENTINEL", "Ljava/util/List;", 7) ∈ gZl := List.mem_of_getElem? (i := 7) rfl
theorem zl_SIOOBE_FORMATTER : ("jdk/internal/util/Preconditions", "SIOOBE_FORMATTER", "Ljava/util/function/BiFunction;", 13) ∈ gZl := List.mem_of_getElem? (i := 8) rfl
theorem sl0 : ("LikedOrders", 32, "", 9) ∈ gSl := List.mem_of_getElem? (i := 0) rfl
theorem sl1 : ("LikedOrders$Parser", 24, "", 9) ∈ gSl := List.mem_of_getElem? (i := 1) rfl
theorem sl2 : ("LikedOrders$Parser", 163, "liked", 10) ∈ gSl := List.mem_of_getElem? (i := 2) rfl
theorem sl3 : ("LikedOrders$Parser", 174, "item", 11) ∈ gSl := List.mem_of_getElem? (i := 3) rfl
theorem sl4 : ("LikedOrders", 365, "?", 12) ∈ gSl := List.mem_of_getElem? (i := 4) rfl
theorem sl5 : ("LikedOrdersModel", 253, "liked", 10) ∈ gSl := List.mem_of_getElem? (i := 5) rfl
theorem sl6 : ("LikedOrdersModel", 259, "item", 11) ∈ gSl := List.mem_of_getElem? (i := 6) rfl
def dfX1 : List gV := [gq none, gi 0, gi 0, gi 0, gq none, gq none, gq none, gq none, gq none, gq none, gi 0, gi 0]
theorem dfpX1 : ∀ j, j < 12 → defaultValue (tyX1 j) = vp_V (dfX1.map gval) j := fun j hj => by
  rcases (show j = 0 ∨ j = 1 ∨ j = 2 ∨ j = 3 ∨ j = 4 ∨ j = 5 ∨ j = 6 ∨ j = 7 ∨ j = 8 ∨ j = 9 ∨ j = 10 ∨ j = 11 by omega) with rfl | rfl | rfl | rfl | rfl | rfl | rfl | rfl | rfl | rfl | rfl | rfl <;> rfl
def dfX2 : List gV := [gi 0, gi 0, gq none, gq none, gi 0, gq none, gq none, gq none, gq none, gq none, gi 0, gi 0, gi 0, gi 0, gi 0, gi 0, gi 0, gq none, gi 0, gi 0, gi 0, gi 0, gi 0, gi 0, gi 0, gi 0, gi 0, gi 0, gq none, gq none, gi 0]
theorem dfpX2 : ∀ j, j < 31 → defaultValue (tyX2 j) = vp_V (dfX2.map gval) j := fun j hj => by
  rcases (show j = 0 ∨ j = 1 ∨ j = 2 ∨ j = 3 ∨ j = 4 ∨ j = 5 ∨ j = 6 ∨ j = 7 ∨ j = 8 ∨ j = 9 ∨ j = 10 ∨ j = 11 ∨ j = 12 ∨ j = 13 ∨ j = 14 ∨ j = 15 ∨ j = 16 ∨ j = 17 ∨ j = 18 ∨ j = 19 ∨ j = 20 ∨ j = 21 ∨ j = 22 ∨ j = 23 ∨ j = 24 ∨ j = 25 ∨ j = 26 ∨ j = 27 ∨ j = 28 ∨ j = 29 ∨ j = 30 by omega) with rfl | rfl | rfl | rfl | rfl | rfl | rfl | rfl | rfl | rfl | rfl | rfl | rfl | rfl | rfl | rfl | rfl | rfl | rfl | rfl | rfl | rfl | rfl | rfl | rfl | rfl | rfl | rfl | rfl | rfl | rfl <;> rfl
def dfX3 : List gV := [gi 0, gi 0, gi 0, gi 0, gq none, gq none, gq none, gq none, gq none]
theorem dfpX3 : ∀ j, j < 9 → defaultValue (tyX3 j) = vp_V (dfX3.map gval) j := fun j hj => by
  rcases (show j = 0 ∨ j = 1 ∨ j = 2 ∨ j = 3 ∨ j = 4 ∨ j = 5 ∨ j = 6 ∨ j = 7 ∨ j = 8 by omega) with rfl | rfl | rfl | rfl | rfl | rfl | rfl | rfl | rfl <;> rfl
def dfX4 : List gV := [gq none, gq none, gi 0, gi 0, gi 0]
theorem dfpX4 : ∀ j, j < 5 → defaultValue (tyX4 j) = vp_V (dfX4.map gval) j := fun j hj => by
  rcases (show j = 0 ∨ j = 1 ∨ j = 2 ∨ j = 3 ∨ j = 4 by omega) with rfl | rfl | rfl | rfl | rfl <;> rfl
def dfX5 : List gV := [gq none]
theorem dfpX5 : ∀ j, j < 1 → defaultValue (tyX5 j) = vp_V (dfX5.map gval) j := fun j hj => by
  rcases (show j = 0 by omega) with rfl <;> rfl
def dfX6 : List gV := [gq none, gq none, gq none, gq none, gq none, gi 0, gi 0, gi 0]
theorem dfpX6 : ∀ j, j < 8 → defaultValue (tyX6 j) = vp_V (dfX6.map gval) j := fun j hj => by
  rcases (show j = 0 ∨ j = 1 ∨ j = 2 ∨ j = 3 ∨ j = 4 ∨ j = 5 ∨ j = 6 ∨ j = 7 by omega) with rfl | rfl | rfl | rfl | rfl | rfl | rfl | rfl <;> rfl
def dfX8 : List gV := [gq none, gi 0]
theorem dfpX8 : ∀ j, j < 2 → defaultValue (tyX8 j) = vp_V (dfX8.map gval) j := fun j hj => by
  rcases (show j = 0 ∨ j = 1 by omega) with rfl | rfl <;> rfl
def dfX9 : List gV := [gq none, gq none, gi 0]
theorem dfpX9 : ∀ j, j < 3 → defaultValue (tyX9 j) = vp_V (dfX9.map gval) j := fun j hj => by
  rcases (show j = 0 ∨ j = 1 ∨ j = 2 by omega) with rfl | rfl | rfl <;> rfl
def dfX10 : List gV := [gi 0, gi 0]
theorem dfpX10 : ∀ j, j < 2 → defaultValue (tyX10 j) = vp_V (dfX10.map gval) j := fun j hj => by
  rcases (show j = 0 ∨ j = 1 by omega) with rfl | rfl <;> rfl
def dfX11 : List gV := [gq none]
theorem dfpX11 : ∀ j, j < 1 → defaultValue (tyX11 j) = vp_V (dfX11.map gval) j := fun j hj => by
  rcases (show j = 0 by omega) with rfl <;> rfl
def dfX13 : List gV := [gq none, gq none]
theorem dfpX13 : ∀ j, j < 2 → defaultValue (tyX13 j) = vp_V (dfX13.map gval) j := fun j hj => by
  rcases (show j = 0 ∨ j = 1 by omega) with rfl | rfl <;> rfl
def dfX14 : List gV := [gq none, gq none, gq none, gq none, gq none, gi 0, gi 0, gi 0, gi 0]
theorem dfpX14 : ∀ j, j < 9 → defaultValue (tyX14 j) = vp_V (dfX14.map gval) j := fun j hj => by
  rcases (show j = 0 ∨ j = 1 ∨ j = 2 ∨ j = 3 ∨ j = 4 ∨ j = 5 ∨ j = 6 ∨ j = 7 ∨ j = 8 by omega) with rfl | rfl | rfl | rfl | rfl | rfl | rfl | rfl | rfl <;> rfl
def dfX15 : List gV := [gq none, gq none, gq none, gq none]
theorem dfpX15 : ∀ j, j < 4 → defaultValue (tyX15 j) = vp_V (dfX15.map gval) j := fun j hj => by
  rcases (show j = 0 ∨ j = 1 ∨ j = 2 ∨ j = 3 by omega) with rfl | rfl | rfl | rfl <;> rfl
def dfJ1 : List gV := [gq none, gi 0, gi 0]
theorem dfpJ1 : ∀ j, j < 3 → defaultValue (tyJ1 j) = vp_V (dfJ1.map gval) j := fun j hj => by
  rcases (show j = 0 ∨ j = 1 ∨ j = 2 by omega) with rfl | rfl | rfl <;> rfl
def dfJ9 : List gV := [gi 0, gq none, gi 0]
theorem dfpJ9 : ∀ j, j < 3 → defaultValue (tyJ9 j) = vp_V (dfJ9.map gval) j := fun j hj => by
  rcases (show j = 0 ∨ j = 1 ∨ j = 2 by omega) with rfl | rfl | rfl <;> rfl
def dfJ12 : List gV := [gq none, gi 0, gi 0, gi 0]
theorem dfpJ12 : ∀ j, j < 4 → defaultValue (tyJ12 j) = vp_V (dfJ12.map gval) j := fun j hj => by
  rcases (show j = 0 ∨ j = 1 ∨ j = 2 ∨ j = 3 by omega) with rfl | rfl | rfl | rfl <;> rfl
def dfJ7 : List gV := [gq none, gi 0, gi 0, gi 0]
theorem dfpJ7 : ∀ j, j < 4 → defaultValue (tyJ7 j) = vp_V (dfJ7.map gval) j := fun j hj => by
  rcases (show j = 0 ∨ j = 1 ∨ j = 2 ∨ j = 3 by omega) with rfl | rfl | rfl | rfl <;> rfl
theorem gcs5 : ∀ ci ∈ ([3, 6, 8] : List Nat), ∃ rc : vw_C, gcl[ci]? = some rc ∧ (Cond.castable rc.1 "java/lang/Object" ∈ gNl ∨ rc.1 = "java/lang/Object") := by
  intro ci hci
  simp only [List.mem_cons, List.not_mem_nil, or_false] at hci
  rcases hci with rfl | rfl | rfl
  · exact ⟨_, rfl, Or.inl nl82⟩
  · exact ⟨_, rfl, Or.inl nl96⟩
  · exact ⟨_, rfl, Or.inl nl98⟩
theorem gcs6 : ∀ ci ∈ ([3] : List Nat), ∃ rc : vw_C, gcl[ci]? = some rc ∧ (Cond.castable rc.1 "LikedOrders$State" ∈ gNl ∨ rc.1 = "LikedOrders$State") := by
  intro ci hci
  obtain rfl := List.mem_singleton.mp hci
  · exact ⟨_, rfl, Or.inr rfl⟩
theorem gcc_Told : ∀ ci ∈ ([6, 8] : List Nat), ∃ rc : vw_C, gcl[ci]? = some rc ∧ (Cond.castable rc.1 "LikedOrders$Told" ∈ gNl ∨ rc.1 = "LikedOrders$Told") := by
  intro ci hci
  simp only [List.mem_cons, List.not_mem_nil, or_false] at hci
  rcases hci with rfl | rfl
  · exact ⟨_, rfl, Or.inl nl81⟩
  · exact ⟨_, rfl, Or.inl nl80⟩
theorem gcc_Item : ∀ ci ∈ ([6] : List Nat), ∃ rc : vw_C, gcl[ci]? = some rc ∧ (Cond.castable rc.1 "LikedOrders$Item" ∈ gNl ∨ rc.1 = "LikedOrders$Item") := by
  intro ci hci
  obtain rfl := List.mem_singleton.mp hci
  · exact ⟨_, rfl, Or.inr rfl⟩
theorem gcc_Answer : ∀ ci ∈ ([8] : List Nat), ∃ rc : vw_C, gcl[ci]? = some rc ∧ (Cond.castable rc.1 "LikedOrders$Answer" ∈ gNl ∨ rc.1 = "LikedOrders$Answer") := by
  intro ci hci
  obtain rfl := List.mem_singleton.mp hci
  · exact ⟨_, rfl, Or.inr rfl⟩
theorem gcc_State : ∀ ci ∈ ([3] : List Nat), ∃ rc : vw_C, gcl[ci]? = some rc ∧ (Cond.castable rc.1 "LikedOrders$State" ∈ gNl ∨ rc.1 = "LikedOrders$State") := by
  intro ci hci
  obtain rfl := List.mem_singleton.mp hci
  · exact ⟨_, rfl, Or.inr rfl⟩
theorem gcc_String : ∀ ci ∈ ([16] : List Nat), ∃ rc : vw_C, gcl[ci]? = some rc ∧ (Cond.castable rc.1 "java/lang/String" ∈ gNl ∨ rc.1 = "java/lang/String") := by
  intro ci hci
  obtain rfl := List.mem_singleton.mp hci
  · exact ⟨_, rfl, Or.inr rfl⟩
theorem gca3 : Cond.castable RX4 "java/lang/Object" ∈ gNl ∧ Cond.castable RX8 "java/lang/Object" ∈ gNl ∧ Cond.castable RX10 "java/lang/Object" ∈ gNl := ⟨nl82, nl96, nl98⟩
theorem sg_F_Deque_size : gSig (⟨"java/util/Deque", "size", "()I"⟩ : MethodName) 0 = true := by decide +kernel
theorem sg_F_List_size : gSig (⟨"java/util/List", "size", "()I"⟩ : MethodName) 0 = true := by decide +kernel
theorem sg_F_List_get : gSig (⟨"java/util/List", "get", "(I)Ljava/lang/Object;"⟩ : MethodName) 1 = true := by decide +kernel
theorem sg_F_List_add : gSig (⟨"java/util/List", "add", "(Ljava/lang/Object;)Z"⟩ : MethodName) 1 = true := by decide +kernel
theorem sg_F_Deque_removeFirst : gSig (⟨"java/util/Deque", "removeFirst", "()Ljava/lang/Object;"⟩ : MethodName) 0 = true := by decide +kernel
theorem sg_F_Deque_addLast : gSig (⟨"java/util/Deque", "addLast", "(Ljava/lang/Object;)V"⟩ : MethodName) 1 = true := by decide +kernel
theorem sg_F_List_remove : gSig (⟨"java/util/List", "remove", "(I)Ljava/lang/Object;"⟩ : MethodName) 1 = true := by decide +kernel
theorem sg_F_List_set : gSig (⟨"java/util/List", "set", "(ILjava/lang/Object;)Ljava/lang/Object;"⟩ : MethodName) 2 = true := by decide +kernel
theorem sg_F_Deque_removeLast : gSig (⟨"java/util/Deque", "removeLast", "()Ljava/lang/Object;"⟩ : MethodName) 0 = true := by decide +kernel
theorem sg_C_clear : gSig (⟨"java/util/Deque", "clear", "()V"⟩ : MethodName) 0 = true := by decide +kernel
theorem sg_C_isEmpty : gSig (⟨"java/util/Deque", "isEmpty", "()Z"⟩ : MethodName) 0 = true := by decide +kernel
theorem tfc {P : Cond → Prop} {w : Cond} {l : List Cond} (h : P w) (t : ∀ z ∈ l, P z) : ∀ z ∈ w :: l, P z := fun z hz => (List.mem_cons.mp hz).elim (fun e => by rw [e]; exact h) (t z)
theorem tfn {P : Cond → Prop} : ∀ z ∈ ([] : List Cond), P z := fun _ h => nomatch h
theorem thn_0 : ∀ n ∈ (["java/lang/RuntimeException", "java/lang/Exception"] : List String), Bundle.fit n = true := by decide
theorem thn_1 : ∀ n ∈ (["java/lang/RuntimeException", "java/lang/Exception"] : List String), Bundle.fit n = true := by decide
theorem thn_2 : ∀ n ∈ (["java/lang/RuntimeException", "java/lang/Exception"] : List String), Bundle.fit n = true := by decide
theorem thw_X1_2_a : ∀ w ∈ Bundle.ownAtoms0 "LikedOrders" 86 "java/lang/IllegalArgumentException" ["java/lang/RuntimeException", "java/lang/Exception"], vx_no w = true → w ∈ lw_all ∨ w ∈ gNl := (tfc (fun _ => Or.inl q115) (tfc (fun _ => Or.inl q340) (tfc (fun _ => Or.inl q292) (tfc (fun _ => Or.inl q300) (tfc (fun _ => Or.inl q303) (tfc (fun _ => Or.inl q305) (tfc (fun _ => Or.inl q341) (tfc (fun _ => Or.inl q342) (tfc (fun _ => Or.inl q158) (tfc (fun _ => Or.inl q159) (tfc (fun _ => Or.inl q286) (tfc (fun _ => Or.inl q291) (tfc (fun _ => Or.inl q301) (tfc (fun _ => Or.inl q308) (tfc (fun _ => Or.inl q334) (tfc (fun _ => Or.inl q309) (tfc (fun _ => Or.inl q335) (tfc (fun _ => Or.inl q310) (tfc (fun _ => Or.inl q336) (tfc (fun _ => Or.inl q287) (tfc (fun h => absurd h (by decide)) (tfc (fun _ => Or.inl q289) (tfc (fun h => absurd h (by decide)) (tfc (fun _ => Or.inl q337) (tfc (fun _ => Or.inl q1047) (tfc (fun _ => Or.inl q1048) (tfc (fun _ => Or.inl q1049) (tfc (fun _ => Or.inl q373) (tfc (fun _ => Or.inr nl13) (tfc (fun _ => Or.inl q373) (tfc (fun _ => Or.inl q374) (tfc (fun _ => Or.inl q375) (tfc (fun _ => Or.inl q376) (tfc (fun _ => Or.inr nl15) (tfc (fun _ => Or.inl q376) (tfc (fun _ => Or.inl q377) (tfc (fun _ => Or.inl q378) (tfc (fun _ => Or.inl q341) (tfc (fun _ => Or.inr nl17) (tfc (fun _ => Or.inl q1046) (tfc (fun _ => Or.inl q415) (tfc (fun _ => Or.inr nl22) (tfc (fun _ => Or.inl q417) (tfc (fun _ => Or.inl q297) (tfc (fun _ => Or.inl q418) (tfc (fun _ => Or.inl q419) (tfc (fun _ => Or.inl q420) (tfc (fun _ => Or.inl q421) (tfc (fun h => absurd h (by decide)) (tfc (fun h => absurd h (by decide)) (tfc (fun _ => Or.inl q339) (tfc (fun _ => Or.inl q338) (tfc (fun _ => Or.inl q422) tfn)))))))))))))))))))))))))))))))))))))))))))))))))))))
theorem thw_X1_2 : (∀ w ∈ vx_at0 "LikedOrders" 86 "java/lang/IllegalArgumentException" ["java/lang/RuntimeException", "java/lang/Exception"], w ∈ lw_all ∨ w ∈ gNl) ∧ (∀ w ∈ Cond.classLink "LikedOrders" 84 "java/lang/IllegalArgumentException" :: Cond.initialized "java/lang/IllegalArgumentException" :: vx_at0 "LikedOrders" 86 "java/lang/IllegalArgumentException" ["java/lang/RuntimeException", "java/lang/Exception"], vx_ot w = true) := by
  refine ⟨fun w hw => ?_, ?_⟩
  · obtain ⟨h1, h2⟩ := List.mem_filter.mp hw
    exact thw_X1_2_a w h1 h2
  · have h : (Cond.classLink "LikedOrders" 84 "java/lang/IllegalArgumentException" :: Cond.initialized "java/lang/IllegalArgumentException" :: vx_at0 "LikedOrders" 86 "java/lang/IllegalArgumentException" ["java/lang/RuntimeException", "java/lang/Exception"]).all vx_ot = true := by decide +kernel
    exact List.all_eq_true.mp h
theorem thw_X1_1_a : ∀ w ∈ Bundle.ownAtoms0 "LikedOrders" 110 "java/lang/IndexOutOfBoundsException" ["java/lang/RuntimeException", "java/lang/Exception"], vx_no w = true → w ∈ lw_all ∨ w ∈ gNl := (tfc (fun _ => Or.inl q115) (tfc (fun _ => Or.inl q340) (tfc (fun _ => Or.inl q292) (tfc (fun _ => Or.inl q300) (tfc (fun _ => Or.inl q303) (tfc (fun _ => Or.inl q305) (tfc (fun _ => Or.inl q341) (tfc (fun _ => Or.inl q342) (tfc (fun _ => Or.inl q158) (tfc (fun _ => Or.inl q159) (tfc (fun _ => Or.inl q286) (tfc (fun _ => Or.inl q291) (tfc (fun _ => Or.inl q301) (tfc (fun _ => Or.inl q308) (tfc (fun _ => Or.inl q334) (tfc (fun _ => Or.inl q309) (tfc (fun _ => Or.inl q335) (tfc (fun _ => Or.inl q310) (tfc (fun _ => Or.inl q336) (tfc (fun _ => Or.inl q287) (tfc (fun h => absurd h (by decide)) (tfc (fun _ => Or.inl q289) (tfc (fun h => absurd h (by decide)) (tfc (fun _ => Or.inl q337) (tfc (fun _ => Or.inl q370) (tfc (fun _ => Or.inl q371) (tfc (fun _ => Or.inl q372) (tfc (fun _ => Or.inl q373) (tfc (fun _ => Or.inr nl13) (tfc (fun _ => Or.inl q373) (tfc (fun _ => Or.inl q374) (tfc (fun _ => Or.inl q375) (tfc (fun _ => Or.inl q376) (tfc (fun _ => Or.inr nl15) (tfc (fun _ => Or.inl q376) (tfc (fun _ => Or.inl q377) (tfc (fun _ => Or.inl q378) (tfc (fun _ => Or.inl q341) (tfc (fun _ => Or.inr nl17) (tfc (fun _ => Or.inl q369) (tfc (fun _ => Or.inl q361) (tfc (fun _ => Or.inr nl19) (tfc (fun _ => Or.inl q363) (tfc (fun _ => Or.inl q299) (tfc (fun _ => Or.inl q364) (tfc (fun _ => Or.inl q365) (tfc (fun _ => Or.inl q366) (tfc (fun _ => Or.inl q367) (tfc (fun h => absurd h (by decide)) (tfc (fun h => absurd h (by decide)) (tfc (fun _ => Or.inl q339) (tfc (fun _ => Or.inl q338) (tfc (fun _ => Or.inl q368) tfn)))))))))))))))))))))))))))))))))))))))))))))))))))))
theorem thw_X1_1 : (∀ w ∈ vx_at0 "LikedOrders" 110 "java/lang/IndexOutOfBoundsException" ["java/lang/RuntimeException", "java/lang/Exception"], w ∈ lw_all ∨ w ∈ gNl) ∧ (∀ w ∈ Cond.classLink "LikedOrders" 108 "java/lang/IndexOutOfBoundsException" :: Cond.initialized "java/lang/IndexOutOfBoundsException" :: vx_at0 "LikedOrders" 110 "java/lang/IndexOutOfBoundsException" ["java/lang/RuntimeException", "java/lang/Exception"], vx_ot w = true) := by
  refine ⟨fun w hw => ?_, ?_⟩
  · obtain ⟨h1, h2⟩ := List.mem_filter.mp hw
    exact thw_X1_1_a w h1 h2
  · have h : (Cond.classLink "LikedOrders" 108 "java/lang/IndexOutOfBoundsException" :: Cond.initialized "java/lang/IndexOutOfBoundsException" :: vx_at0 "LikedOrders" 110 "java/lang/IndexOutOfBoundsException" ["java/lang/RuntimeException", "java/lang/Exception"]).all vx_ot = true := by decide +kernel
    exact List.all_eq_true.mp h
theorem thw_X1_0_a : ∀ w ∈ Bundle.ownAtoms0 "LikedOrders" 113 "java/lang/IllegalStateException" ["java/lang/RuntimeException", "java/lang/Exception"], vx_no w = true → w ∈ lw_all ∨ w ∈ gNl := (tfc (fun _ => Or.inl q115) (tfc (fun _ => Or.inl q340) (tfc (fun _ => Or.inl q292) (tfc (fun _ => Or.inl q300) (tfc (fun _ => Or.inl q303) (tfc (fun _ => Or.inl q305) (tfc (fun _ => Or.inl q341) (tfc (fun _ => Or.inl q342) (tfc (fun _ => Or.inl q158) (tfc (fun _ => Or.inl q159) (tfc (fun _ => Or.inl q286) (tfc (fun _ => Or.inl q291) (tfc (fun _ => Or.inl q301) (tfc (fun _ => Or.inl q308) (tfc (fun _ => Or.inl q334) (tfc (fun _ => Or.inl q309) (tfc (fun _ => Or.inl q335) (tfc (fun _ => Or.inl q310) (tfc (fun _ => Or.inl q336) (tfc (fun _ => Or.inl q287) (tfc (fun h => absurd h (by decide)) (tfc (fun _ => Or.inl q289) (tfc (fun h => absurd h (by decide)) (tfc (fun _ => Or.inl q337) (tfc (fun _ => Or.inl q1087) (tfc (fun _ => Or.inl q1088) (tfc (fun _ => Or.inl q1089) (tfc (fun _ => Or.inl q373) (tfc (fun _ => Or.inr nl13) (tfc (fun _ => Or.inl q373) (tfc (fun _ => Or.inl q374) (tfc (fun _ => Or.inl q375) (tfc (fun _ => Or.inl q376) (tfc (fun _ => Or.inr nl15) (tfc (fun _ => Or.inl q376) (tfc (fun _ => Or.inl q377) (tfc (fun _ => Or.inl q378) (tfc (fun _ => Or.inl q341) (tfc (fun _ => Or.inr nl17) (tfc (fun _ => Or.inl q1086) (tfc (fun _ => Or.inl q1078) (tfc (fun _ => Or.inr nl57) (tfc (fun _ => Or.inl q1080) (tfc (fun _ => Or.inl q298) (tfc (fun _ => Or.inl q1081) (tfc (fun _ => Or.inl q1082) (tfc (fun _ => Or.inl q1083) (tfc (fun _ => Or.inl q1084) (tfc (fun h => absurd h (by decide)) (tfc (fun h => absurd h (by decide)) (tfc (fun _ => Or.inl q339) (tfc (fun _ => Or.inl q338) (tfc (fun _ => Or.inl q1085) tfn)))))))))))))))))))))))))))))))))))))))))))))))))))))
theorem thw_X1_0 : (∀ w ∈ vx_at0 "LikedOrders" 113 "java/lang/IllegalStateException" ["java/lang/RuntimeException", "java/lang/Exception"], w ∈ lw_all ∨ w ∈ gNl) ∧ (∀ w ∈ Cond.classLink "LikedOrders" 111 "java/lang/IllegalStateException" :: Cond.initialized "java/lang/IllegalStateException" :: vx_at0 "LikedOrders" 113 "java/lang/IllegalStateException" ["java/lang/RuntimeException", "java/lang/Exception"], vx_ot w = true) := by
  refine ⟨fun w hw => ?_, ?_⟩
  · obtain ⟨h1, h2⟩ := List.mem_filter.mp hw
    exact thw_X1_0_a w h1 h2
  · have h : (Cond.classLink "LikedOrders" 111 "java/lang/IllegalStateException" :: Cond.initialized "java/lang/IllegalStateException" :: vx_at0 "LikedOrders" 113 "java/lang/IllegalStateException" ["java/lang/RuntimeException", "java/lang/Exception"]).all vx_ot = true := by decide +kernel
    exact List.all_eq_true.mp h
