set_option maxRecDepth 100000
theorem q340 : (Jvm.Cond.initialized "RewriteHouse") ∈ lw_all := lw_g (lw_at lw_m1 1 rfl) rfl
theorem q354 : (Jvm.Cond.instanceMethod ({ cls := "RewriteHouse", name := "feed", desc := "(IIIII)I" } : Jvm.MethodName)) ∈ lw_all := lw_g (lw_at lw_m1 15 rfl) rfl
theorem q355 : (Jvm.Cond.selects "RewriteHouse" ({ cls := "RewriteHouse", name := "feed", desc := "(IIIII)I" } : Jvm.MethodName) ({ cls := "RewriteHouse", name := "feed", desc := "(IIIII)I" } : Jvm.MethodName)) ∈ lw_all := lw_g (lw_at lw_m1 16 rfl) rfl
theorem q356 : (Jvm.Cond.code ({ cls := "RewriteHouse", name := "feed", desc := "(IIIII)I" } : Jvm.MethodName) prog_1_method_3_code (8 : Nat) (Option.some Jvm.ClassFile.FieldType.int)) ∈ lw_all := lw_g (lw_at lw_m1 17 rfl) rfl
theorem q358 : (Jvm.Cond.instanceMethod ({ cls := "RewriteHouse", name := "end", desc := "(I)I" } : Jvm.MethodName)) ∈ lw_all := lw_g (lw_at lw_m1 19 rfl) rfl
theorem q359 : (Jvm.Cond.selects "RewriteHouse" ({ cls := "RewriteHouse", name := "end", desc := "(I)I" } : Jvm.MethodName) ({ cls := "RewriteHouse", name := "end", desc := "(I)I" } : Jvm.MethodName)) ∈ lw_all := lw_g (lw_at lw_m1 20 rfl) rfl
theorem q360 : (Jvm.Cond.code ({ cls := "RewriteHouse", name := "end", desc := "(I)I" } : Jvm.MethodName) prog_1_method_4_code (2 : Nat) (Option.some Jvm.ClassFile.FieldType.int)) ∈ lw_all := lw_g (lw_at lw_m1 21 rfl) rfl
theorem q361 : (Jvm.Cond.methodLink "RewriteHouse" (20 : Nat) ({ cls := "RewriteHouse", name := "within", desc := "(III)Z" } : Jvm.MethodName)) ∈ lw_all := lw_g (lw_at lw_m1 22 rfl) rfl
theorem q362 : (Jvm.Cond.static ({ cls := "RewriteHouse", name := "within", desc := "(III)Z" } : Jvm.MethodName)) ∈ lw_all := lw_g (lw_at lw_m1 23 rfl) rfl
theorem q363 : (Jvm.Cond.code ({ cls := "RewriteHouse", name := "within", desc := "(III)Z" } : Jvm.MethodName) prog_1_method_2_code (3 : Nat) (Option.some Jvm.ClassFile.FieldType.boolean)) ∈ lw_all := lw_g (lw_at lw_m1 24 rfl) rfl
theorem q365 : (Jvm.Cond.instanceMethod ({ cls := "RewriteHouse", name := "module", desc := "()I" } : Jvm.MethodName)) ∈ lw_all := lw_g (lw_at lw_m1 26 rfl) rfl
theorem q366 : (Jvm.Cond.selects "RewriteHouse" ({ cls := "RewriteHouse", name := "module", desc := "()I" } : Jvm.MethodName) ({ cls := "RewriteHouse", name := "module", desc := "()I" } : Jvm.MethodName)) ∈ lw_all := lw_g (lw_at lw_m1 27 rfl) rfl
theorem q367 : (Jvm.Cond.code ({ cls := "RewriteHouse", name := "module", desc := "()I" } : Jvm.MethodName) prog_1_method_100_code (3 : Nat) (Option.some Jvm.ClassFile.FieldType.int)) ∈ lw_all := lw_g (lw_at lw_m1 28 rfl) rfl
theorem q368 : (Jvm.Cond.methodLink "RewriteHouse" (716 : Nat) ({ cls := "RewriteHouse", name := "takeTape", desc := "()V" } : Jvm.MethodName)) ∈ lw_all := lw_g (lw_at lw_m1 29 rfl) rfl
theorem q369 : (Jvm.Cond.privateMethod ({ cls := "RewriteHouse", name := "takeTape", desc := "()V" } : Jvm.MethodName)) ∈ lw_tbl := lw_at lw_m1 30 rfl
theorem q370 : (Jvm.Cond.instanceMethod ({ cls := "RewriteHouse", name := "takeTape", desc := "()V" } : Jvm.MethodName)) ∈ lw_all := lw_g (lw_at lw_m1 31 rfl) rfl
theorem q371 : (Jvm.Cond.instantiable "RewriteHouse" (202 : Nat)) ∈ lw_all := lw_g (lw_at lw_m1 32 rfl) rfl
theorem q372 : (Jvm.Cond.code ({ cls := "RewriteHouse", name := "takeTape", desc := "()V" } : Jvm.MethodName) prog_1_method_5_code (2 : Nat) (Option.none : Option Jvm.ClassFile.FieldType)) ∈ lw_all := lw_g (lw_at lw_m1 33 rfl) rfl
theorem q373 : (Jvm.Cond.methodLink "RewriteHouse" (719 : Nat) ({ cls := "RewriteHouse", name := "clear", desc := "()V" } : Jvm.MethodName)) ∈ lw_all := lw_g (lw_at lw_m1 34 rfl) rfl
theorem q374 : (Jvm.Cond.privateMethod ({ cls := "RewriteHouse", name := "clear", desc := "()V" } : Jvm.MethodName)) ∈ lw_tbl := lw_at lw_m1 35 rfl
theorem q375 : (Jvm.Cond.instanceMethod ({ cls := "RewriteHouse", name := "clear", desc := "()V" } : Jvm.MethodName)) ∈ lw_all := lw_g (lw_at lw_m1 36 rfl) rfl
theorem q376 : (Jvm.Cond.code ({ cls := "RewriteHouse", name := "clear", desc := "()V" } : Jvm.MethodName) prog_1_method_23_code (1 : Nat) (Option.none : Option Jvm.ClassFile.FieldType)) ∈ lw_all := lw_g (lw_at lw_m1 37 rfl) rfl
theorem q377 : (Jvm.Cond.methodLink "RewriteHouse" (209 : Nat) ({ cls := "RewriteHouse", name := "clearHash", desc := "()V" } : Jvm.MethodName)) ∈ lw_all := lw_g (lw_at lw_m1 38 rfl) rfl
theorem q378 : (Jvm.Cond.privateMethod ({ cls := "RewriteHouse", name := "clearHash", desc := "()V" } : Jvm.MethodName)) ∈ lw_tbl := lw_at lw_m1 39 rfl
theorem q379 : (Jvm.Cond.instanceMethod ({ cls := "RewriteHouse", name := "clearHash", desc := "()V" } : Jvm.MethodName)) ∈ lw_all := lw_g (lw_at lw_m1 40 rfl) rfl
theorem q380 : (Jvm.Cond.code ({ cls := "RewriteHouse", name := "clearHash", desc := "()V" } : Jvm.MethodName) prog_1_method_68_code (2 : Nat) (Option.none : Option Jvm.ClassFile.FieldType)) ∈ lw_all := lw_g (lw_at lw_m1 41 rfl) rfl
theorem q381 : (Jvm.Cond.constant "RewriteHouse" (562 : Nat) (131072 : Int32)) ∈ lw_all := lw_g (lw_at lw_m1 42 rfl) rfl
theorem q382 : (Jvm.Cond.methodLink "RewriteHouse" (722 : Nat) ({ cls := "RewriteHouse", name := "cutWords", desc := "(I)V" } : Jvm.MethodName)) ∈ lw_all := lw_g (lw_at lw_m1 43 rfl) rfl
theorem q383 : (Jvm.Cond.privateMethod ({ cls := "RewriteHouse", name := "cutWords", desc := "(I)V" } : Jvm.MethodName)) ∈ lw_tbl := lw_at lw_m1 44 rfl
theorem q384 : (Jvm.Cond.instanceMethod ({ cls := "RewriteHouse", name := "cutWords", desc := "(I)V" } : Jvm.MethodName)) ∈ lw_all := lw_g (lw_at lw_m1 45 rfl) rfl
theorem q385 : (Jvm.Cond.code ({ cls := "RewriteHouse", name := "cutWords", desc := "(I)V" } : Jvm.MethodName) prog_1_method_12_code (8 : Nat) (Option.none : Option Jvm.ClassFile.FieldType)) ∈ lw_all := lw_g (lw_at lw_m1 46 rfl) rfl
theorem q386 : (Jvm.Cond.methodLink "RewriteHouse" (94 : Nat) ({ cls := "RewriteHouse", name := "isBlank", desc := "(I)Z" } : Jvm.MethodName)) ∈ lw_all := lw_g (lw_at lw_m1 47 rfl) rfl
theorem q387 : (Jvm.Cond.static ({ cls := "RewriteHouse", name := "isBlank", desc := "(I)Z" } : Jvm.MethodName)) ∈ lw_all := lw_g (lw_at lw_m1 48 rfl) rfl
theorem q388 : (Jvm.Cond.code ({ cls := "RewriteHouse", name := "isBlank", desc := "(I)Z" } : Jvm.MethodName) prog_1_method_7_code (1 : Nat) (Option.some Jvm.ClassFile.FieldType.boolean)) ∈ lw_all := lw_g (lw_at lw_m1 49 rfl) rfl
theorem q389 : (Jvm.Cond.methodLink "RewriteHouse" (98 : Nat) ({ cls := "RewriteHouse", name := "isStar", desc := "(I)Z" } : Jvm.MethodName)) ∈ lw_all := lw_g (lw_at lw_m1 50 rfl) rfl
theorem q390 : (Jvm.Cond.privateMethod ({ cls := "RewriteHouse", name := "isStar", desc := "(I)Z" } : Jvm.MethodName)) ∈ lw_tbl := lw_at lw_m1 51 rfl
theorem q391 : (Jvm.Cond.instanceMethod ({ cls := "RewriteHouse", name := "isStar", desc := "(I)Z" } : Jvm.MethodName)) ∈ lw_all := lw_g (lw_at lw_m1 52 rfl) rfl
theorem q392 : (Jvm.Cond.code ({ cls := "RewriteHouse", name := "isStar", desc := "(I)Z" } : Jvm.MethodName) prog_1_method_8_code (2 : Nat) (Option.some Jvm.ClassFile.FieldType.boolean)) ∈ lw_all := lw_g (lw_at lw_m1 53 rfl) rfl
theorem q393 : (Jvm.Cond.methodLink "RewriteHouse" (101 : Nat) ({ cls := "RewriteHouse", name := "isSpecial", desc := "(I)Z" } : Jvm.MethodName)) ∈ lw_all := lw_g (lw_at lw_m1 54 rfl) rfl
theorem q394 : (Jvm.Cond.static ({ cls := "RewriteHouse", name := "isSpecial", desc := "(I)Z" } : Jvm.MethodName)) ∈ lw_all := lw_g (lw_at lw_m1 55 rfl) rfl
theorem q395 : (Jvm.Cond.code ({ cls := "RewriteHouse", name := "isSpecial", desc := "(I)Z" } : Jvm.MethodName) prog_1_method_6_code (1 : Nat) (Option.some Jvm.ClassFile.FieldType.boolean)) ∈ lw_all := lw_g (lw_at lw_m1 56 rfl) rfl
theorem q396 : (Jvm.Cond.methodLink "RewriteHouse" (104 : Nat) ({ cls := "RewriteHouse", name := "reservedOf", desc := "(II)I" } : Jvm.MethodName)) ∈ lw_all := lw_g (lw_at lw_m1 57 rfl) rfl
theorem q397 : (Jvm.Cond.privateMethod ({ cls := "RewriteHouse", name := "reservedOf", desc := "(II)I" } : Jvm.MethodName)) ∈ lw_tbl := lw_at lw_m1 58 rfl
theorem q398 : (Jvm.Cond.instanceMethod ({ cls := "RewriteHouse", name := "reservedOf", desc := "(II)I" } : Jvm.MethodName)) ∈ lw_all := lw_g (lw_at lw_m1 59 rfl) rfl
theorem q399 : (Jvm.Cond.code ({ cls := "RewriteHouse", name := "reservedOf", desc := "(II)I" } : Jvm.MethodName) prog_1_method_10_code (3 : Nat) (Option.some Jvm.ClassFile.FieldType.int)) ∈ lw_all := lw_g (lw_at lw_m1 60 rfl) rfl
theorem q400 : (Jvm.Cond.stringRef "RewriteHouse" (52 : Nat) ".") ∈ lw_tbl := lw_at lw_m1 61 rfl
theorem q401 : (Jvm.Cond.methodLink "RewriteHouse" (54 : Nat) ({ cls := "RewriteHouse", name := "isText", desc := "(IILjava/lang/String;)Z" } : Jvm.MethodName)) ∈ lw_all := lw_g (lw_at lw_m1 62 rfl) rfl
theorem q402 : (Jvm.Cond.privateMethod ({ cls := "RewriteHouse", name := "isText", desc := "(IILjava/lang/String;)Z" } : Jvm.MethodName)) ∈ lw_tbl := lw_at lw_m1 63 rfl
theorem q403 : (Jvm.Cond.instanceMethod ({ cls := "RewriteHouse", name := "isText", desc := "(IILjava/lang/String;)Z" } : Jvm.MethodName)) ∈ lw_all := lw_g (lw_at lw_m1 64 rfl) rfl
theorem q404 : (Jvm.Cond.code ({ cls := "RewriteHouse", name := "isText", desc := "(IILjava/lang/String;)Z" } : Jvm.MethodName) prog_1_method_9_code (6 : Nat) (Option.some Jvm.ClassFile.FieldType.boolean)) ∈ lw_all := lw_g (lw_at lw_m1 65 rfl) rfl
theorem q405 : (Jvm.Cond.methodLink "RewriteHouse" (42 : Nat) ({ cls := "java/lang/String", name := "length", desc := "()I" } : Jvm.MethodName)) ∈ lw_all := lw_g (lw_at lw_m1 66 rfl) rfl
theorem q415 : (Jvm.Cond.methodLink "RewriteHouse" (48 : Nat) ({ cls := "java/lang/String", name := "charAt", desc := "(I)C" } : Jvm.MethodName)) ∈ lw_all := lw_g (lw_at lw_m1 76 rfl) rfl
theorem q453 : (Jvm.Cond.stringRef "RewriteHouse" (58 : Nat) ":") ∈ lw_tbl := lw_at lw_m1 114 rfl
theorem q454 : (Jvm.Cond.stringRef "RewriteHouse" (60 : Nat) "->") ∈ lw_tbl := lw_at lw_m1 115 rfl
theorem q455 : (Jvm.Cond.stringRef "RewriteHouse" (62 : Nat) "=") ∈ lw_tbl := lw_at lw_m1 116 rfl
theorem q456 : (Jvm.Cond.stringRef "RewriteHouse" (64 : Nat) "=>") ∈ lw_tbl := lw_at lw_m1 117 rfl
theorem q457 : (Jvm.Cond.stringRef "RewriteHouse" (66 : Nat) ":=") ∈ lw_tbl := lw_at lw_m1 118 rfl
theorem q458 : (Jvm.Cond.stringRef "RewriteHouse" (68 : Nat) "if") ∈ lw_tbl := lw_at lw_m1 119 rfl
theorem q459 : (Jvm.Cond.stringRef "RewriteHouse" (70 : Nat) "/\\") ∈ lw_tbl := lw_at lw_m1 120 rfl
theorem q460 : (Jvm.Cond.methodLink "RewriteHouse" (120 : Nat) ({ cls := "RewriteHouse", name := "idOf", desc := "([BII)I" } : Jvm.MethodName)) ∈ lw_all := lw_g (lw_at lw_m1 121 rfl) rfl
theorem q461 : (Jvm.Cond.privateMethod ({ cls := "RewriteHouse", name := "idOf", desc := "([BII)I" } : Jvm.MethodName)) ∈ lw_tbl := lw_at lw_m1 122 rfl
theorem q462 : (Jvm.Cond.instanceMethod ({ cls := "RewriteHouse", name := "idOf", desc := "([BII)I" } : Jvm.MethodName)) ∈ lw_all := lw_g (lw_at lw_m1 123 rfl) rfl
theorem q463 : (Jvm.Cond.code ({ cls := "RewriteHouse", name := "idOf", desc := "([BII)I" } : Jvm.MethodName) prog_1_method_11_code (7 : Nat) (Option.some Jvm.ClassFile.FieldType.int)) ∈ lw_all := lw_g (lw_at lw_m1 124 rfl) rfl
theorem q464 : (Jvm.Cond.methodLink "RewriteHouse" (725 : Nat) ({ cls := "RewriteHouse", name := "readText", desc := "()Z" } : Jvm.MethodName)) ∈ lw_all := lw_g (lw_at lw_m1 125 rfl) rfl
theorem q465 : (Jvm.Cond.privateMethod ({ cls := "RewriteHouse", name := "readText", desc := "()Z" } : Jvm.MethodName)) ∈ lw_tbl := lw_at lw_m1 126 rfl
theorem q466 : (Jvm.Cond.instanceMethod ({ cls := "RewriteHouse", name := "readText", desc := "()Z" } : Jvm.MethodName)) ∈ lw_all := lw_g (lw_at lw_m1 127 rfl) rfl
theorem q467 : (Jvm.Cond.code ({ cls := "RewriteHouse", name := "readText", desc := "()Z" } : Jvm.MethodName) prog_1_method_24_code (2 : Nat) (Option.some Jvm.ClassFile.FieldType.boolean)) ∈ lw_all := lw_g (lw_at lw_m1 128 rfl) rfl
theorem q468 : (Jvm.Cond.methodLink "RewriteHouse" (213 : Nat) ({ cls := "RewriteHouse", name := "readStatement", desc := "()Z" } : Jvm.MethodName)) ∈ lw_all := lw_g (lw_at lw_m1 129 rfl) rfl
theorem q469 : (Jvm.Cond.privateMethod ({ cls := "RewriteHouse", name := "readStatement", desc := "()Z" } : Jvm.MethodName)) ∈ lw_tbl := lw_at lw_m1 130 rfl
theorem q470 : (Jvm.Cond.instanceMethod ({ cls := "RewriteHouse", name := "readStatement", desc := "()Z" } : Jvm.MethodName)) ∈ lw_all := lw_g (lw_at lw_m1 131 rfl) rfl
theorem q471 : (Jvm.Cond.code ({ cls := "RewriteHouse", name := "readStatement", desc := "()Z" } : Jvm.MethodName) prog_1_method_25_code (1 : Nat) (Option.some Jvm.ClassFile.FieldType.boolean)) ∈ lw_all := lw_g (lw_at lw_m1 132 rfl) rfl
theorem q472 : (Jvm.Cond.stringRef "RewriteHouse" (216 : Nat) "sort") ∈ lw_tbl := lw_at lw_m1 133 rfl
theorem q473 : (Jvm.Cond.methodLink "RewriteHouse" (218 : Nat) ({ cls := "RewriteHouse", name := "isWordText", desc := "(Ljava/lang/String;)Z" } : Jvm.MethodName)) ∈ lw_all := lw_g (lw_at lw_m1 134 rfl) rfl
theorem q474 : (Jvm.Cond.privateMethod ({ cls := "RewriteHouse", name := "isWordText", desc := "(Ljava/lang/String;)Z" } : Jvm.MethodName)) ∈ lw_tbl := lw_at lw_m1 135 rfl
theorem q475 : (Jvm.Cond.instanceMethod ({ cls := "RewriteHouse", name := "isWordText", desc := "(Ljava/lang/String;)Z" } : Jvm.MethodName)) ∈ lw_all := lw_g (lw_at lw_m1 136 rfl) rfl
theorem q476 : (Jvm.Cond.code ({ cls := "RewriteHouse", name := "isWordText", desc := "(Ljava/lang/String;)Z" } : Jvm.MethodName) prog_1_method_20_code (2 : Nat) (Option.some Jvm.ClassFile.FieldType.boolean)) ∈ lw_all := lw_g (lw_at lw_m1 137 rfl) rfl
theorem q477 : (Jvm.Cond.methodLink "RewriteHouse" (142 : Nat) ({ cls := "RewriteHouse", name := "isWord", desc := "()Z" } : Jvm.MethodName)) ∈ lw_all := lw_g (lw_at lw_m1 138 rfl) rfl
theorem q478 : (Jvm.Cond.privateMethod ({ cls := "RewriteHouse", name := "isWord", desc := "()Z" } : Jvm.MethodName)) ∈ lw_tbl := lw_at lw_m1 139 rfl
theorem q479 : (Jvm.Cond.instanceMethod ({ cls := "RewriteHouse", name := "isWord", desc := "()Z" } : Jvm.MethodName)) ∈ lw_all := lw_g (lw_at lw_m1 140 rfl) rfl
theorem q480 : (Jvm.Cond.code ({ cls := "RewriteHouse", name := "isWord", desc := "()Z" } : Jvm.MethodName) prog_1_method_19_code (1 : Nat) (Option.some Jvm.ClassFile.FieldType.boolean)) ∈ lw_all := lw_g (lw_at lw_m1 141 rfl) rfl
theorem q481 : (Jvm.Cond.methodLink "RewriteHouse" (138 : Nat) ({ cls := "RewriteHouse", name := "step", desc := "()Z" } : Jvm.MethodName)) ∈ lw_all := lw_g (lw_at lw_m1 142 rfl) rfl
theorem q482 : (Jvm.Cond.privateMethod ({ cls := "RewriteHouse", name := "step", desc := "()Z" } : Jvm.MethodName)) ∈ lw_tbl := lw_at lw_m1 143 rfl
theorem q483 : (Jvm.Cond.instanceMethod ({ cls := "RewriteHouse", name := "step", desc := "()Z" } : Jvm.MethodName)) ∈ lw_all := lw_g (lw_at lw_m1 144 rfl) rfl
theorem q484 : (Jvm.Cond.code ({ cls := "RewriteHouse", name := "step", desc := "()Z" } : Jvm.MethodName) prog_1_method_17_code (1 : Nat) (Option.some Jvm.ClassFile.FieldType.boolean)) ∈ lw_all := lw_g (lw_at lw_m1 145 rfl) rfl
theorem q485 : (Jvm.Cond.methodLink "RewriteHouse" (132 : Nat) ({ cls := "RewriteHouse", name := "wrong", desc := "(II)Z" } : Jvm.MethodName)) ∈ lw_all := lw_g (lw_at lw_m1 146 rfl) rfl
theorem q486 : (Jvm.Cond.privateMethod ({ cls := "RewriteHouse", name := "wrong", desc := "(II)Z" } : Jvm.MethodName)) ∈ lw_tbl := lw_at lw_m1 147 rfl
theorem q487 : (Jvm.Cond.instanceMethod ({ cls := "RewriteHouse", name := "wrong", desc := "(II)Z" } : Jvm.MethodName)) ∈ lw_all := lw_g (lw_at lw_m1 148 rfl) rfl
theorem q488 : (Jvm.Cond.code ({ cls := "RewriteHouse", name := "wrong", desc := "(II)Z" } : Jvm.MethodName) prog_1_method_14_code (3 : Nat) (Option.some Jvm.ClassFile.FieldType.boolean)) ∈ lw_all := lw_g (lw_at lw_m1 149 rfl) rfl
theorem q489 : (Jvm.Cond.methodLink "RewriteHouse" (124 : Nat) ({ cls := "RewriteHouse", name := "wrongAt", desc := "(II)Z" } : Jvm.MethodName)) ∈ lw_all := lw_g (lw_at lw_m1 150 rfl) rfl
theorem q490 : (Jvm.Cond.privateMethod ({ cls := "RewriteHouse", name := "wrongAt", desc := "(II)Z" } : Jvm.MethodName)) ∈ lw_tbl := lw_at lw_m1 151 rfl
theorem q491 : (Jvm.Cond.instanceMethod ({ cls := "RewriteHouse", name := "wrongAt", desc := "(II)Z" } : Jvm.MethodName)) ∈ lw_all := lw_g (lw_at lw_m1 152 rfl) rfl
theorem q492 : (Jvm.Cond.code ({ cls := "RewriteHouse", name := "wrongAt", desc := "(II)Z" } : Jvm.MethodName) prog_1_method_15_code (4 : Nat) (Option.some Jvm.ClassFile.FieldType.boolean)) ∈ lw_all := lw_g (lw_at lw_m1 153 rfl) rfl
theorem q493 : (Jvm.Cond.methodLink "RewriteHouse" (128 : Nat) ({ cls := "RewriteHouse", name := "lineOf", desc := "(I)I" } : Jvm.MethodName)) ∈ lw_all := lw_g (lw_at lw_m1 154 rfl) rfl
theorem q494 : (Jvm.Cond.privateMethod ({ cls := "RewriteHouse", name := "lineOf", desc := "(I)I" } : Jvm.MethodName)) ∈ lw_tbl := lw_at lw_m1 155 rfl
theorem q495 : (Jvm.Cond.instanceMethod ({ cls := "RewriteHouse", name := "lineOf", desc := "(I)I" } : Jvm.MethodName)) ∈ lw_all := lw_g (lw_at lw_m1 156 rfl) rfl
theorem q496 : (Jvm.Cond.code ({ cls := "RewriteHouse", name := "lineOf", desc := "(I)I" } : Jvm.MethodName) prog_1_method_13_code (4 : Nat) (Option.some Jvm.ClassFile.FieldType.int)) ∈ lw_all := lw_g (lw_at lw_m1 157 rfl) rfl
theorem q497 : (Jvm.Cond.methodLink "RewriteHouse" (222 : Nat) ({ cls := "RewriteHouse", name := "readSorts", desc := "()Z" } : Jvm.MethodName)) ∈ lw_all := lw_g (lw_at lw_m1 158 rfl) rfl
theorem q498 : (Jvm.Cond.privateMethod ({ cls := "RewriteHouse", name := "readSorts", desc := "()Z" } : Jvm.MethodName)) ∈ lw_tbl := lw_at lw_m1 159 rfl
theorem q499 : (Jvm.Cond.instanceMethod ({ cls := "RewriteHouse", name := "readSorts", desc := "()Z" } : Jvm.MethodName)) ∈ lw_all := lw_g (lw_at lw_m1 160 rfl) rfl
theorem q500 : (Jvm.Cond.code ({ cls := "RewriteHouse", name := "readSorts", desc := "()Z" } : Jvm.MethodName) prog_1_method_26_code (2 : Nat) (Option.some Jvm.ClassFile.FieldType.boolean)) ∈ lw_all := lw_g (lw_at lw_m1 161 rfl) rfl
theorem q501 : (Jvm.Cond.methodLink "RewriteHouse" (252 : Nat) ({ cls := "RewriteHouse", name := "expect", desc := "()Z" } : Jvm.MethodName)) ∈ lw_all := lw_g (lw_at lw_m1 162 rfl) rfl
theorem q502 : (Jvm.Cond.privateMethod ({ cls := "RewriteHouse", name := "expect", desc := "()Z" } : Jvm.MethodName)) ∈ lw_tbl := lw_at lw_m1 163 rfl
theorem q503 : (Jvm.Cond.instanceMethod ({ cls := "RewriteHouse", name := "expect", desc := "()Z" } : Jvm.MethodName)) ∈ lw_all := lw_g (lw_at lw_m1 164 rfl) rfl
theorem q504 : (Jvm.Cond.code ({ cls := "RewriteHouse", name := "expect", desc := "()Z" } : Jvm.MethodName) prog_1_method_22_code (1 : Nat) (Option.some Jvm.ClassFile.FieldType.boolean)) ∈ lw_all := lw_g (lw_at lw_m1 165 rfl) rfl
theorem q505 : (Jvm.Cond.methodLink "RewriteHouse" (135 : Nat) ({ cls := "RewriteHouse", name := "isReserved", desc := "(I)Z" } : Jvm.MethodName)) ∈ lw_all := lw_g (lw_at lw_m1 166 rfl) rfl
theorem q506 : (Jvm.Cond.privateMethod ({ cls := "RewriteHouse", name := "isReserved", desc := "(I)Z" } : Jvm.MethodName)) ∈ lw_tbl := lw_at lw_m1 167 rfl
theorem q507 : (Jvm.Cond.instanceMethod ({ cls := "RewriteHouse", name := "isReserved", desc := "(I)Z" } : Jvm.MethodName)) ∈ lw_all := lw_g (lw_at lw_m1 168 rfl) rfl
theorem q508 : (Jvm.Cond.code ({ cls := "RewriteHouse", name := "isReserved", desc := "(I)Z" } : Jvm.MethodName) prog_1_method_16_code (2 : Nat) (Option.some Jvm.ClassFile.FieldType.boolean)) ∈ lw_all := lw_g (lw_at lw_m1 169 rfl) rfl
theorem q509 : (Jvm.Cond.methodLink "RewriteHouse" (258 : Nat) ({ cls := "RewriteHouse", name := "take", desc := "(I)Z" } : Jvm.MethodName)) ∈ lw_all := lw_g (lw_at lw_m1 170 rfl) rfl
theorem q510 : (Jvm.Cond.privateMethod ({ cls := "RewriteHouse", name := "take", desc := "(I)Z" } : Jvm.MethodName)) ∈ lw_tbl := lw_at lw_m1 171 rfl
theorem q511 : (Jvm.Cond.instanceMethod ({ cls := "RewriteHouse", name := "take", desc := "(I)Z" } : Jvm.MethodName)) ∈ lw_all := lw_g (lw_at lw_m1 172 rfl) rfl
theorem q512 : (Jvm.Cond.code ({ cls := "RewriteHouse", name := "take", desc := "(I)Z" } : Jvm.MethodName) prog_1_method_18_code (2 : Nat) (Option.some Jvm.ClassFile.FieldType.boolean)) ∈ lw_all := lw_g (lw_at lw_m1 173 rfl) rfl
theorem q513 : (Jvm.Cond.stringRef "RewriteHouse" (225 : Nat) "subsort") ∈ lw_tbl := lw_at lw_m1 174 rfl
theorem q514 : (Jvm.Cond.methodLink "RewriteHouse" (227 : Nat) ({ cls := "RewriteHouse", name := "readLess", desc := "()Z" } : Jvm.MethodName)) ∈ lw_all := lw_g (lw_at lw_m1 175 rfl) rfl
theorem q515 : (Jvm.Cond.privateMethod ({ cls := "RewriteHouse", name := "readLess", desc := "()Z" } : Jvm.MethodName)) ∈ lw_tbl := lw_at lw_m1 176 rfl
theorem q516 : (Jvm.Cond.instanceMethod ({ cls := "RewriteHouse", name := "readLess", desc := "()Z" } : Jvm.MethodName)) ∈ lw_all := lw_g (lw_at lw_m1 177 rfl) rfl
theorem q517 : (Jvm.Cond.code ({ cls := "RewriteHouse", name := "readLess", desc := "()Z" } : Jvm.MethodName) prog_1_method_29_code (3 : Nat) (Option.some Jvm.ClassFile.FieldType.boolean)) ∈ lw_all := lw_g (lw_at lw_m1 178 rfl) rfl
theorem q518 : (Jvm.Cond.methodLink "RewriteHouse" (266 : Nat) ({ cls := "RewriteHouse", name := "readNames", desc := "()Z" } : Jvm.MethodName)) ∈ lw_all := lw_g (lw_at lw_m1 179 rfl) rfl
theorem q519 : (Jvm.Cond.privateMethod ({ cls := "RewriteHouse", name := "readNames", desc := "()Z" } : Jvm.MethodName)) ∈ lw_tbl := lw_at lw_m1 180 rfl
theorem q520 : (Jvm.Cond.instanceMethod ({ cls := "RewriteHouse", name := "readNames", desc := "()Z" } : Jvm.MethodName)) ∈ lw_all := lw_g (lw_at lw_m1 181 rfl) rfl
theorem q521 : (Jvm.Cond.code ({ cls := "RewriteHouse", name := "readNames", desc := "()Z" } : Jvm.MethodName) prog_1_method_28_code (1 : Nat) (Option.some Jvm.ClassFile.FieldType.boolean)) ∈ lw_all := lw_g (lw_at lw_m1 182 rfl) rfl
theorem q522 : (Jvm.Cond.methodLink "RewriteHouse" (263 : Nat) ({ cls := "RewriteHouse", name := "isLess", desc := "()Z" } : Jvm.MethodName)) ∈ lw_all := lw_g (lw_at lw_m1 183 rfl) rfl
theorem q523 : (Jvm.Cond.privateMethod ({ cls := "RewriteHouse", name := "isLess", desc := "()Z" } : Jvm.MethodName)) ∈ lw_tbl := lw_at lw_m1 184 rfl
theorem q524 : (Jvm.Cond.instanceMethod ({ cls := "RewriteHouse", name := "isLess", desc := "()Z" } : Jvm.MethodName)) ∈ lw_all := lw_g (lw_at lw_m1 185 rfl) rfl
theorem q525 : (Jvm.Cond.code ({ cls := "RewriteHouse", name := "isLess", desc := "()Z" } : Jvm.MethodName) prog_1_method_27_code (1 : Nat) (Option.some Jvm.ClassFile.FieldType.boolean)) ∈ lw_all := lw_g (lw_at lw_m1 186 rfl) rfl
theorem q526 : (Jvm.Cond.stringRef "RewriteHouse" (261 : Nat) "<") ∈ lw_tbl := lw_at lw_m1 187 rfl
theorem q527 : (Jvm.Cond.stringRef "RewriteHouse" (230 : Nat) "op") ∈ lw_tbl := lw_at lw_m1 188 rfl
theorem q528 : (Jvm.Cond.methodLink "RewriteHouse" (232 : Nat) ({ cls := "RewriteHouse", name := "readRow", desc := "()Z" } : Jvm.MethodName)) ∈ lw_all := lw_g (lw_at lw_m1 189 rfl) rfl
theorem q529 : (Jvm.Cond.privateMethod ({ cls := "RewriteHouse", name := "readRow", desc := "()Z" } : Jvm.MethodName)) ∈ lw_tbl := lw_at lw_m1 190 rfl
theorem q530 : (Jvm.Cond.instanceMethod ({ cls := "RewriteHouse", name := "readRow", desc := "()Z" } : Jvm.MethodName)) ∈ lw_all := lw_g (lw_at lw_m1 191 rfl) rfl
theorem q531 : (Jvm.Cond.code ({ cls := "RewriteHouse", name := "readRow", desc := "()Z" } : Jvm.MethodName) prog_1_method_30_code (2 : Nat) (Option.some Jvm.ClassFile.FieldType.boolean)) ∈ lw_all := lw_g (lw_at lw_m1 192 rfl) rfl
theorem q532 : (Jvm.Cond.methodLink "RewriteHouse" (296 : Nat) ({ cls := "RewriteHouse", name := "isSign", desc := "(I)Z" } : Jvm.MethodName)) ∈ lw_all := lw_g (lw_at lw_m1 193 rfl) rfl
theorem q533 : (Jvm.Cond.privateMethod ({ cls := "RewriteHouse", name := "isSign", desc := "(I)Z" } : Jvm.MethodName)) ∈ lw_tbl := lw_at lw_m1 194 rfl
theorem q534 : (Jvm.Cond.instanceMethod ({ cls := "RewriteHouse", name := "isSign", desc := "(I)Z" } : Jvm.MethodName)) ∈ lw_all := lw_g (lw_at lw_m1 195 rfl) rfl
theorem q535 : (Jvm.Cond.code ({ cls := "RewriteHouse", name := "isSign", desc := "(I)Z" } : Jvm.MethodName) prog_1_method_21_code (2 : Nat) (Option.some Jvm.ClassFile.FieldType.boolean)) ∈ lw_all := lw_g (lw_at lw_m1 196 rfl) rfl
theorem q536 : (Jvm.Cond.methodLink "RewriteHouse" (299 : Nat) ({ cls := "RewriteHouse", name := "readAttribute", desc := "(I)Z" } : Jvm.MethodName)) ∈ lw_all := lw_g (lw_at lw_m1 197 rfl) rfl
theorem q537 : (Jvm.Cond.privateMethod ({ cls := "RewriteHouse", name := "readAttribute", desc := "(I)Z" } : Jvm.MethodName)) ∈ lw_tbl := lw_at lw_m1 198 rfl
theorem q538 : (Jvm.Cond.instanceMethod ({ cls := "RewriteHouse", name := "readAttribute", desc := "(I)Z" } : Jvm.MethodName)) ∈ lw_all := lw_g (lw_at lw_m1 199 rfl) rfl
theorem q539 : (Jvm.Cond.code ({ cls := "RewriteHouse", name := "readAttribute", desc := "(I)Z" } : Jvm.MethodName) prog_1_method_33_code (4 : Nat) (Option.some Jvm.ClassFile.FieldType.boolean)) ∈ lw_all := lw_g (lw_at lw_m1 200 rfl) rfl
theorem q540 : (Jvm.Cond.stringRef "RewriteHouse" (302 : Nat) "assoc") ∈ lw_tbl := lw_at lw_m1 201 rfl
theorem q541 : (Jvm.Cond.stringRef "RewriteHouse" (304 : Nat) "comm") ∈ lw_tbl := lw_at lw_m1 202 rfl
theorem q542 : (Jvm.Cond.methodLink "RewriteHouse" (306 : Nat) ({ cls := "RewriteHouse", name := "mark", desc := "(II)V" } : Jvm.MethodName)) ∈ lw_all := lw_g (lw_at lw_m1 203 rfl) rfl
theorem q543 : (Jvm.Cond.privateMethod ({ cls := "RewriteHouse", name := "mark", desc := "(II)V" } : Jvm.MethodName)) ∈ lw_tbl := lw_at lw_m1 204 rfl
theorem q544 : (Jvm.Cond.instanceMethod ({ cls := "RewriteHouse", name := "mark", desc := "(II)V" } : Jvm.MethodName)) ∈ lw_all := lw_g (lw_at lw_m1 205 rfl) rfl
theorem q545 : (Jvm.Cond.code ({ cls := "RewriteHouse", name := "mark", desc := "(II)V" } : Jvm.MethodName) prog_1_method_31_code (3 : Nat) (Option.none : Option Jvm.ClassFile.FieldType)) ∈ lw_all := lw_g (lw_at lw_m1 206 rfl) rfl
theorem q546 : (Jvm.Cond.stringRef "RewriteHouse" (310 : Nat) "id") ∈ lw_tbl := lw_at lw_m1 207 rfl
theorem q547 : (Jvm.Cond.stringRef "RewriteHouse" (315 : Nat) "prec") ∈ lw_tbl := lw_at lw_m1 208 rfl
theorem q548 : (Jvm.Cond.methodLink "RewriteHouse" (317 : Nat) ({ cls := "RewriteHouse", name := "isDigit", desc := "(I)Z" } : Jvm.MethodName)) ∈ lw_all := lw_g (lw_at lw_m1 209 rfl) rfl
theorem q549 : (Jvm.Cond.static ({ cls := "RewriteHouse", name := "isDigit", desc := "(I)Z" } : Jvm.MethodName)) ∈ lw_all := lw_g (lw_at lw_m1 210 rfl) rfl
theorem q550 : (Jvm.Cond.code ({ cls := "RewriteHouse", name := "isDigit", desc := "(I)Z" } : Jvm.MethodName) prog_1_method_32_code (1 : Nat) (Option.some Jvm.ClassFile.FieldType.boolean)) ∈ lw_all := lw_g (lw_at lw_m1 211 rfl) rfl
theorem q551 : (Jvm.Cond.stringRef "RewriteHouse" (323 : Nat) "gather") ∈ lw_tbl := lw_at lw_m1 212 rfl
theorem q552 : (Jvm.Cond.stringRef "RewriteHouse" (328 : Nat) "&") ∈ lw_tbl := lw_at lw_m1 213 rfl
theorem q553 : (Jvm.Cond.stringRef "RewriteHouse" (330 : Nat) "e") ∈ lw_tbl := lw_at lw_m1 214 rfl
theorem q554 : (Jvm.Cond.stringRef "RewriteHouse" (332 : Nat) "E") ∈ lw_tbl := lw_at lw_m1 215 rfl
theorem q555 : (Jvm.Cond.stringRef "RewriteHouse" (235 : Nat) "var") ∈ lw_tbl := lw_at lw_m1 216 rfl
theorem q556 : (Jvm.Cond.methodLink "RewriteHouse" (237 : Nat) ({ cls := "RewriteHouse", name := "readVariables", desc := "()Z" } : Jvm.MethodName)) ∈ lw_all := lw_g (lw_at lw_m1 217 rfl) rfl
theorem q557 : (Jvm.Cond.privateMethod ({ cls := "RewriteHouse", name := "readVariables", desc := "()Z" } : Jvm.MethodName)) ∈ lw_tbl := lw_at lw_m1 218 rfl
theorem q558 : (Jvm.Cond.instanceMethod ({ cls := "RewriteHouse", name := "readVariables", desc := "()Z" } : Jvm.MethodName)) ∈ lw_all := lw_g (lw_at lw_m1 219 rfl) rfl
theorem q559 : (Jvm.Cond.code ({ cls := "RewriteHouse", name := "readVariables", desc := "()Z" } : Jvm.MethodName) prog_1_method_34_code (3 : Nat) (Option.some Jvm.ClassFile.FieldType.boolean)) ∈ lw_all := lw_g (lw_at lw_m1 220 rfl) rfl
theorem q560 : (Jvm.Cond.stringRef "RewriteHouse" (240 : Nat) "eq") ∈ lw_tbl := lw_at lw_m1 221 rfl
theorem q561 : (Jvm.Cond.stringRef "RewriteHouse" (242 : Nat) "oeq") ∈ lw_tbl := lw_at lw_m1 222 rfl
theorem q562 : (Jvm.Cond.methodLink "RewriteHouse" (244 : Nat) ({ cls := "RewriteHouse", name := "readEquation", desc := "()Z" } : Jvm.MethodName)) ∈ lw_all := lw_g (lw_at lw_m1 223 rfl) rfl
theorem q563 : (Jvm.Cond.privateMethod ({ cls := "RewriteHouse", name := "readEquation", desc := "()Z" } : Jvm.MethodName)) ∈ lw_tbl := lw_at lw_m1 224 rfl
theorem q564 : (Jvm.Cond.instanceMethod ({ cls := "RewriteHouse", name := "readEquation", desc := "()Z" } : Jvm.MethodName)) ∈ lw_all := lw_g (lw_at lw_m1 225 rfl) rfl
theorem q565 : (Jvm.Cond.code ({ cls := "RewriteHouse", name := "readEquation", desc := "()Z" } : Jvm.MethodName) prog_1_method_36_code (2 : Nat) (Option.some Jvm.ClassFile.FieldType.boolean)) ∈ lw_all := lw_g (lw_at lw_m1 226 rfl) rfl
theorem q566 : (Jvm.Cond.methodLink "RewriteHouse" (353 : Nat) ({ cls := "RewriteHouse", name := "readSides", desc := "(II)Z" } : Jvm.MethodName)) ∈ lw_all := lw_g (lw_at lw_m1 227 rfl) rfl
theorem q567 : (Jvm.Cond.privateMethod ({ cls := "RewriteHouse", name := "readSides", desc := "(II)Z" } : Jvm.MethodName)) ∈ lw_tbl := lw_at lw_m1 228 rfl
theorem q568 : (Jvm.Cond.instanceMethod ({ cls := "RewriteHouse", name := "readSides", desc := "(II)Z" } : Jvm.MethodName)) ∈ lw_all := lw_g (lw_at lw_m1 229 rfl) rfl
theorem q569 : (Jvm.Cond.code ({ cls := "RewriteHouse", name := "readSides", desc := "(II)Z" } : Jvm.MethodName) prog_1_method_38_code (3 : Nat) (Option.some Jvm.ClassFile.FieldType.boolean)) ∈ lw_all := lw_g (lw_at lw_m1 230 rfl) rfl
theorem q570 : (Jvm.Cond.methodLink "RewriteHouse" (362 : Nat) ({ cls := "RewriteHouse", name := "passTerm", desc := "()Z" } : Jvm.MethodName)) ∈ lw_all := lw_g (lw_at lw_m1 231 rfl) rfl
theorem q571 : (Jvm.Cond.privateMethod ({ cls := "RewriteHouse", name := "passTerm", desc := "()Z" } : Jvm.MethodName)) ∈ lw_tbl := lw_at lw_m1 232 rfl
theorem q572 : (Jvm.Cond.instanceMethod ({ cls := "RewriteHouse", name := "passTerm", desc := "()Z" } : Jvm.MethodName)) ∈ lw_all := lw_g (lw_at lw_m1 233 rfl) rfl
theorem q573 : (Jvm.Cond.code ({ cls := "RewriteHouse", name := "passTerm", desc := "()Z" } : Jvm.MethodName) prog_1_method_35_code (2 : Nat) (Option.some Jvm.ClassFile.FieldType.boolean)) ∈ lw_all := lw_g (lw_at lw_m1 234 rfl) rfl
theorem q574 : (Jvm.Cond.methodLink "RewriteHouse" (374 : Nat) ({ cls := "RewriteHouse", name := "readCondition", desc := "(I)Z" } : Jvm.MethodName)) ∈ lw_all := lw_g (lw_at lw_m1 235 rfl) rfl
theorem q575 : (Jvm.Cond.privateMethod ({ cls := "RewriteHouse", name := "readCondition", desc := "(I)Z" } : Jvm.MethodName)) ∈ lw_tbl := lw_at lw_m1 236 rfl
theorem q576 : (Jvm.Cond.instanceMethod ({ cls := "RewriteHouse", name := "readCondition", desc := "(I)Z" } : Jvm.MethodName)) ∈ lw_all := lw_g (lw_at lw_m1 237 rfl) rfl
theorem q577 : (Jvm.Cond.code ({ cls := "RewriteHouse", name := "readCondition", desc := "(I)Z" } : Jvm.MethodName) prog_1_method_39_code (3 : Nat) (Option.some Jvm.ClassFile.FieldType.boolean)) ∈ lw_all := lw_g (lw_at lw_m1 238 rfl) rfl
theorem q578 : (Jvm.Cond.stringRef "RewriteHouse" (247 : Nat) "rl") ∈ lw_tbl := lw_at lw_m1 239 rfl
theorem q579 : (Jvm.Cond.methodLink "RewriteHouse" (249 : Nat) ({ cls := "RewriteHouse", name := "readRule", desc := "()Z" } : Jvm.MethodName)) ∈ lw_all := lw_g (lw_at lw_m2 0 rfl) rfl
theorem q580 : (Jvm.Cond.privateMethod ({ cls := "RewriteHouse", name := "readRule", desc := "()Z" } : Jvm.MethodName)) ∈ lw_tbl := lw_at lw_m2 1 rfl
theorem q581 : (Jvm.Cond.instanceMethod ({ cls := "RewriteHouse", name := "readRule", desc := "()Z" } : Jvm.MethodName)) ∈ lw_all := lw_g (lw_at lw_m2 2 rfl) rfl
theorem q582 : (Jvm.Cond.code ({ cls := "RewriteHouse", name := "readRule", desc := "()Z" } : Jvm.MethodName) prog_1_method_37_code (2 : Nat) (Option.some Jvm.ClassFile.FieldType.boolean)) ∈ lw_all := lw_g (lw_at lw_m2 3 rfl) rfl
theorem q583 : (Jvm.Cond.methodLink "RewriteHouse" (728 : Nat) ({ cls := "RewriteHouse", name := "layDeclared", desc := "()V" } : Jvm.MethodName)) ∈ lw_all := lw_g (lw_at lw_m2 4 rfl) rfl
theorem q584 : (Jvm.Cond.privateMethod ({ cls := "RewriteHouse", name := "layDeclared", desc := "()V" } : Jvm.MethodName)) ∈ lw_tbl := lw_at lw_m2 5 rfl
theorem q585 : (Jvm.Cond.instanceMethod ({ cls := "RewriteHouse", name := "layDeclared", desc := "()V" } : Jvm.MethodName)) ∈ lw_all := lw_g (lw_at lw_m2 6 rfl) rfl
theorem q586 : (Jvm.Cond.code ({ cls := "RewriteHouse", name := "layDeclared", desc := "()V" } : Jvm.MethodName) prog_1_method_101_code (5 : Nat) (Option.none : Option Jvm.ClassFile.FieldType)) ∈ lw_all := lw_g (lw_at lw_m2 7 rfl) rfl
theorem q587 : (Jvm.Cond.methodLink "RewriteHouse" (734 : Nat) ({ cls := "RewriteHouse", name := "laySorts", desc := "()V" } : Jvm.MethodName)) ∈ lw_all := lw_g (lw_at lw_m2 8 rfl) rfl
theorem q588 : (Jvm.Cond.privateMethod ({ cls := "RewriteHouse", name := "laySorts", desc := "()V" } : Jvm.MethodName)) ∈ lw_tbl := lw_at lw_m2 9 rfl
theorem q589 : (Jvm.Cond.instanceMethod ({ cls := "RewriteHouse", name := "laySorts", desc := "()V" } : Jvm.MethodName)) ∈ lw_all := lw_g (lw_at lw_m2 10 rfl) rfl
theorem q590 : (Jvm.Cond.code ({ cls := "RewriteHouse", name := "laySorts", desc := "()V" } : Jvm.MethodName) prog_1_method_43_code (4 : Nat) (Option.none : Option Jvm.ClassFile.FieldType)) ∈ lw_all := lw_g (lw_at lw_m2 11 rfl) rfl
theorem q591 : (Jvm.Cond.methodLink "RewriteHouse" (395 : Nat) ({ cls := "RewriteHouse", name := "sortBy", desc := "(I)I" } : Jvm.MethodName)) ∈ lw_all := lw_g (lw_at lw_m2 12 rfl) rfl
theorem q592 : (Jvm.Cond.privateMethod ({ cls := "RewriteHouse", name := "sortBy", desc := "(I)I" } : Jvm.MethodName)) ∈ lw_tbl := lw_at lw_m2 13 rfl
theorem q593 : (Jvm.Cond.instanceMethod ({ cls := "RewriteHouse", name := "sortBy", desc := "(I)I" } : Jvm.MethodName)) ∈ lw_all := lw_g (lw_at lw_m2 14 rfl) rfl
theorem q594 : (Jvm.Cond.code ({ cls := "RewriteHouse", name := "sortBy", desc := "(I)I" } : Jvm.MethodName) prog_1_method_40_code (3 : Nat) (Option.some Jvm.ClassFile.FieldType.int)) ∈ lw_all := lw_g (lw_at lw_m2 15 rfl) rfl
theorem q595 : (Jvm.Cond.methodLink "RewriteHouse" (737 : Nat) ({ cls := "RewriteHouse", name := "layLess", desc := "(I)V" } : Jvm.MethodName)) ∈ lw_all := lw_g (lw_at lw_m2 16 rfl) rfl
theorem q596 : (Jvm.Cond.privateMethod ({ cls := "RewriteHouse", name := "layLess", desc := "(I)V" } : Jvm.MethodName)) ∈ lw_tbl := lw_at lw_m2 17 rfl
theorem q597 : (Jvm.Cond.instanceMethod ({ cls := "RewriteHouse", name := "layLess", desc := "(I)V" } : Jvm.MethodName)) ∈ lw_all := lw_g (lw_at lw_m2 18 rfl) rfl
theorem q598 : (Jvm.Cond.code ({ cls := "RewriteHouse", name := "layLess", desc := "(I)V" } : Jvm.MethodName) prog_1_method_45_code (7 : Nat) (Option.none : Option Jvm.ClassFile.FieldType)) ∈ lw_all := lw_g (lw_at lw_m2 19 rfl) rfl
theorem q599 : (Jvm.Cond.methodLink "RewriteHouse" (412 : Nat) ({ cls := "RewriteHouse", name := "sortAt", desc := "(I)I" } : Jvm.MethodName)) ∈ lw_all := lw_g (lw_at lw_m2 20 rfl) rfl
theorem q600 : (Jvm.Cond.privateMethod ({ cls := "RewriteHouse", name := "sortAt", desc := "(I)I" } : Jvm.MethodName)) ∈ lw_tbl := lw_at lw_m2 21 rfl
theorem q601 : (Jvm.Cond.instanceMethod ({ cls := "RewriteHouse", name := "sortAt", desc := "(I)I" } : Jvm.MethodName)) ∈ lw_all := lw_g (lw_at lw_m2 22 rfl) rfl
theorem q602 : (Jvm.Cond.code ({ cls := "RewriteHouse", name := "sortAt", desc := "(I)I" } : Jvm.MethodName) prog_1_method_41_code (4 : Nat) (Option.some Jvm.ClassFile.FieldType.int)) ∈ lw_all := lw_g (lw_at lw_m2 23 rfl) rfl
theorem q603 : (Jvm.Cond.methodLink "RewriteHouse" (415 : Nat) ({ cls := "RewriteHouse", name := "layBelow", desc := "(II)Z" } : Jvm.MethodName)) ∈ lw_all := lw_g (lw_at lw_m2 24 rfl) rfl
theorem q604 : (Jvm.Cond.privateMethod ({ cls := "RewriteHouse", name := "layBelow", desc := "(II)Z" } : Jvm.MethodName)) ∈ lw_tbl := lw_at lw_m2 25 rfl
theorem q605 : (Jvm.Cond.instanceMethod ({ cls := "RewriteHouse", name := "layBelow", desc := "(II)Z" } : Jvm.MethodName)) ∈ lw_all := lw_g (lw_at lw_m2 26 rfl) rfl
theorem q606 : (Jvm.Cond.code ({ cls := "RewriteHouse", name := "layBelow", desc := "(II)Z" } : Jvm.MethodName) prog_1_method_44_code (6 : Nat) (Option.some Jvm.ClassFile.FieldType.boolean)) ∈ lw_all := lw_g (lw_at lw_m2 27 rfl) rfl
theorem q607 : (Jvm.Cond.methodLink "RewriteHouse" (404 : Nat) ({ cls := "RewriteHouse", name := "isBelow", desc := "(II)Z" } : Jvm.MethodName)) ∈ lw_all := lw_g (lw_at lw_m2 28 rfl) rfl
theorem q608 : (Jvm.Cond.privateMethod ({ cls := "RewriteHouse", name := "isBelow", desc := "(II)Z" } : Jvm.MethodName)) ∈ lw_tbl := lw_at lw_m2 29 rfl
theorem q609 : (Jvm.Cond.instanceMethod ({ cls := "RewriteHouse", name := "isBelow", desc := "(II)Z" } : Jvm.MethodName)) ∈ lw_all := lw_g (lw_at lw_m2 30 rfl) rfl
theorem q610 : (Jvm.Cond.code ({ cls := "RewriteHouse", name := "isBelow", desc := "(II)Z" } : Jvm.MethodName) prog_1_method_42_code (3 : Nat) (Option.some Jvm.ClassFile.FieldType.boolean)) ∈ lw_all := lw_g (lw_at lw_m2 31 rfl) rfl
theorem q611 : (Jvm.Cond.methodLink "RewriteHouse" (407 : Nat) ({ cls := "java/lang/Math", name := "min", desc := "(II)I" } : Jvm.MethodName)) ∈ lw_all := lw_g (lw_at lw_m2 32 rfl) rfl
theorem q614 : (Jvm.Cond.methodLink "RewriteHouse" (740 : Nat) ({ cls := "RewriteHouse", name := "layKinds", desc := "()V" } : Jvm.MethodName)) ∈ lw_all := lw_g (lw_at lw_m2 35 rfl) rfl
theorem q615 : (Jvm.Cond.privateMethod ({ cls := "RewriteHouse", name := "layKinds", desc := "()V" } : Jvm.MethodName)) ∈ lw_tbl := lw_at lw_m2 36 rfl
theorem q616 : (Jvm.Cond.instanceMethod ({ cls := "RewriteHouse", name := "layKinds", desc := "()V" } : Jvm.MethodName)) ∈ lw_all := lw_g (lw_at lw_m2 37 rfl) rfl
theorem q617 : (Jvm.Cond.code ({ cls := "RewriteHouse", name := "layKinds", desc := "()V" } : Jvm.MethodName) prog_1_method_46_code (2 : Nat) (Option.none : Option Jvm.ClassFile.FieldType)) ∈ lw_all := lw_g (lw_at lw_m2 38 rfl) rfl
theorem q618 : (Jvm.Cond.methodLink "RewriteHouse" (743 : Nat) ({ cls := "RewriteHouse", name := "layVariables", desc := "()V" } : Jvm.MethodName)) ∈ lw_all := lw_g (lw_at lw_m2 39 rfl) rfl
theorem q619 : (Jvm.Cond.privateMethod ({ cls := "RewriteHouse", name := "layVariables", desc := "()V" } : Jvm.MethodName)) ∈ lw_tbl := lw_at lw_m2 40 rfl
theorem q620 : (Jvm.Cond.instanceMethod ({ cls := "RewriteHouse", name := "layVariables", desc := "()V" } : Jvm.MethodName)) ∈ lw_all := lw_g (lw_at lw_m2 41 rfl) rfl
theorem q621 : (Jvm.Cond.code ({ cls := "RewriteHouse", name := "layVariables", desc := "()V" } : Jvm.MethodName) prog_1_method_60_code (5 : Nat) (Option.none : Option Jvm.ClassFile.FieldType)) ∈ lw_all := lw_g (lw_at lw_m2 42 rfl) rfl
theorem q622 : (Jvm.Cond.methodLink "RewriteHouse" (746 : Nat) ({ cls := "RewriteHouse", name := "layRow", desc := "(I)V" } : Jvm.MethodName)) ∈ lw_all := lw_g (lw_at lw_m2 43 rfl) rfl
theorem q623 : (Jvm.Cond.privateMethod ({ cls := "RewriteHouse", name := "layRow", desc := "(I)V" } : Jvm.MethodName)) ∈ lw_tbl := lw_at lw_m2 44 rfl
theorem q624 : (Jvm.Cond.instanceMethod ({ cls := "RewriteHouse", name := "layRow", desc := "(I)V" } : Jvm.MethodName)) ∈ lw_all := lw_g (lw_at lw_m2 45 rfl) rfl
theorem q625 : (Jvm.Cond.code ({ cls := "RewriteHouse", name := "layRow", desc := "(I)V" } : Jvm.MethodName) prog_1_method_52_code (5 : Nat) (Option.none : Option Jvm.ClassFile.FieldType)) ∈ lw_all := lw_g (lw_at lw_m2 46 rfl) rfl
theorem q626 : (Jvm.Cond.methodLink "RewriteHouse" (442 : Nat) ({ cls := "RewriteHouse", name := "layForm", desc := "(I)Z" } : Jvm.MethodName)) ∈ lw_all := lw_g (lw_at lw_m2 47 rfl) rfl
theorem q627 : (Jvm.Cond.privateMethod ({ cls := "RewriteHouse", name := "layForm", desc := "(I)Z" } : Jvm.MethodName)) ∈ lw_tbl := lw_at lw_m2 48 rfl
theorem q628 : (Jvm.Cond.instanceMethod ({ cls := "RewriteHouse", name := "layForm", desc := "(I)Z" } : Jvm.MethodName)) ∈ lw_all := lw_g (lw_at lw_m2 49 rfl) rfl
theorem q629 : (Jvm.Cond.code ({ cls := "RewriteHouse", name := "layForm", desc := "(I)Z" } : Jvm.MethodName) prog_1_method_48_code (8 : Nat) (Option.some Jvm.ClassFile.FieldType.boolean)) ∈ lw_all := lw_g (lw_at lw_m2 50 rfl) rfl
theorem q630 : (Jvm.Cond.methodLink "RewriteHouse" (424 : Nat) ({ cls := "RewriteHouse", name := "addPart", desc := "(II)Z" } : Jvm.MethodName)) ∈ lw_all := lw_g (lw_at lw_m2 51 rfl) rfl
theorem q631 : (Jvm.Cond.privateMethod ({ cls := "RewriteHouse", name := "addPart", desc := "(II)Z" } : Jvm.MethodName)) ∈ lw_tbl := lw_at lw_m2 52 rfl
theorem q632 : (Jvm.Cond.instanceMethod ({ cls := "RewriteHouse", name := "addPart", desc := "(II)Z" } : Jvm.MethodName)) ∈ lw_all := lw_g (lw_at lw_m2 53 rfl) rfl
theorem q633 : (Jvm.Cond.code ({ cls := "RewriteHouse", name := "addPart", desc := "(II)Z" } : Jvm.MethodName) prog_1_method_47_code (3 : Nat) (Option.some Jvm.ClassFile.FieldType.boolean)) ∈ lw_all := lw_g (lw_at lw_m2 54 rfl) rfl
theorem q634 : (Jvm.Cond.methodLink "RewriteHouse" (427 : Nat) ({ cls := "RewriteHouse", name := "layPrefix", desc := "(II)Z" } : Jvm.MethodName)) ∈ lw_all := lw_g (lw_at lw_m2 55 rfl) rfl
theorem q635 : (Jvm.Cond.privateMethod ({ cls := "RewriteHouse", name := "layPrefix", desc := "(II)Z" } : Jvm.MethodName)) ∈ lw_tbl := lw_at lw_m2 56 rfl
theorem q636 : (Jvm.Cond.instanceMethod ({ cls := "RewriteHouse", name := "layPrefix", desc := "(II)Z" } : Jvm.MethodName)) ∈ lw_all := lw_g (lw_at lw_m2 57 rfl) rfl
theorem q637 : (Jvm.Cond.code ({ cls := "RewriteHouse", name := "layPrefix", desc := "(II)Z" } : Jvm.MethodName) prog_1_method_50_code (5 : Nat) (Option.some Jvm.ClassFile.FieldType.boolean)) ∈ lw_all := lw_g (lw_at lw_m2 58 rfl) rfl
theorem q638 : (Jvm.Cond.methodLink "RewriteHouse" (433 : Nat) ({ cls := "RewriteHouse", name := "signId", desc := "(I)I" } : Jvm.MethodName)) ∈ lw_all := lw_g (lw_at lw_m2 59 rfl) rfl
theorem q639 : (Jvm.Cond.privateMethod ({ cls := "RewriteHouse", name := "signId", desc := "(I)I" } : Jvm.MethodName)) ∈ lw_tbl := lw_at lw_m2 60 rfl
theorem q640 : (Jvm.Cond.instanceMethod ({ cls := "RewriteHouse", name := "signId", desc := "(I)I" } : Jvm.MethodName)) ∈ lw_all := lw_g (lw_at lw_m2 61 rfl) rfl
theorem q641 : (Jvm.Cond.code ({ cls := "RewriteHouse", name := "signId", desc := "(I)I" } : Jvm.MethodName) prog_1_method_49_code (2 : Nat) (Option.some Jvm.ClassFile.FieldType.int)) ∈ lw_all := lw_g (lw_at lw_m2 62 rfl) rfl
theorem q642 : (Jvm.Cond.methodLink "RewriteHouse" (749 : Nat) ({ cls := "RewriteHouse", name := "layOperators", desc := "()V" } : Jvm.MethodName)) ∈ lw_all := lw_g (lw_at lw_m2 63 rfl) rfl
theorem q643 : (Jvm.Cond.privateMethod ({ cls := "RewriteHouse", name := "layOperators", desc := "()V" } : Jvm.MethodName)) ∈ lw_tbl := lw_at lw_m2 64 rfl
theorem q644 : (Jvm.Cond.instanceMethod ({ cls := "RewriteHouse", name := "layOperators", desc := "()V" } : Jvm.MethodName)) ∈ lw_all := lw_g (lw_at lw_m2 65 rfl) rfl
theorem q645 : (Jvm.Cond.code ({ cls := "RewriteHouse", name := "layOperators", desc := "()V" } : Jvm.MethodName) prog_1_method_53_code (3 : Nat) (Option.none : Option Jvm.ClassFile.FieldType)) ∈ lw_all := lw_g (lw_at lw_m2 66 rfl) rfl
theorem q646 : (Jvm.Cond.methodLink "RewriteHouse" (454 : Nat) ({ cls := "RewriteHouse", name := "isSameForm", desc := "(II)Z" } : Jvm.MethodName)) ∈ lw_all := lw_g (lw_at lw_m2 67 rfl) rfl
theorem q647 : (Jvm.Cond.privateMethod ({ cls := "RewriteHouse", name := "isSameForm", desc := "(II)Z" } : Jvm.MethodName)) ∈ lw_tbl := lw_at lw_m2 68 rfl
theorem q648 : (Jvm.Cond.instanceMethod ({ cls := "RewriteHouse", name := "isSameForm", desc := "(II)Z" } : Jvm.MethodName)) ∈ lw_all := lw_g (lw_at lw_m2 69 rfl) rfl
theorem q649 : (Jvm.Cond.code ({ cls := "RewriteHouse", name := "isSameForm", desc := "(II)Z" } : Jvm.MethodName) prog_1_method_51_code (5 : Nat) (Option.some Jvm.ClassFile.FieldType.boolean)) ∈ lw_all := lw_g (lw_at lw_m2 70 rfl) rfl
theorem q650 : (Jvm.Cond.methodLink "RewriteHouse" (457 : Nat) ({ cls := "RewriteHouse", name := "isSameKinds", desc := "(II)Z" } : Jvm.MethodName)) ∈ lw_all := lw_g (lw_at lw_m2 71 rfl) rfl
theorem q651 : (Jvm.Cond.privateMethod ({ cls := "RewriteHouse", name := "isSameKinds", desc := "(II)Z" } : Jvm.MethodName)) ∈ lw_tbl := lw_at lw_m2 72 rfl
theorem q652 : (Jvm.Cond.instanceMethod ({ cls := "RewriteHouse", name := "isSameKinds", desc := "(II)Z" } : Jvm.MethodName)) ∈ lw_all := lw_g (lw_at lw_m2 73 rfl) rfl
theorem q653 : (Jvm.Cond.code ({ cls := "RewriteHouse", name := "isSameKinds", desc := "(II)Z" } : Jvm.MethodName) prog_1_method_54_code (5 : Nat) (Option.some Jvm.ClassFile.FieldType.boolean)) ∈ lw_all := lw_g (lw_at lw_m2 74 rfl) rfl
theorem q654 : (Jvm.Cond.methodLink "RewriteHouse" (463 : Nat) ({ cls := "RewriteHouse", name := "layFirst", desc := "(II)V" } : Jvm.MethodName)) ∈ lw_all := lw_g (lw_at lw_m2 75 rfl) rfl
theorem q655 : (Jvm.Cond.privateMethod ({ cls := "RewriteHouse", name := "layFirst", desc := "(II)V" } : Jvm.MethodName)) ∈ lw_tbl := lw_at lw_m2 76 rfl
theorem q656 : (Jvm.Cond.instanceMethod ({ cls := "RewriteHouse", name := "layFirst", desc := "(II)V" } : Jvm.MethodName)) ∈ lw_all := lw_g (lw_at lw_m2 77 rfl) rfl
theorem q657 : (Jvm.Cond.code ({ cls := "RewriteHouse", name := "layFirst", desc := "(II)V" } : Jvm.MethodName) prog_1_method_56_code (12 : Nat) (Option.none : Option Jvm.ClassFile.FieldType)) ∈ lw_all := lw_g (lw_at lw_m2 78 rfl) rfl
theorem q658 : (Jvm.Cond.methodLink "RewriteHouse" (473 : Nat) ({ cls := "RewriteHouse", name := "isEnd", desc := "(II)Z" } : Jvm.MethodName)) ∈ lw_all := lw_g (lw_at lw_m2 79 rfl) rfl
theorem q659 : (Jvm.Cond.privateMethod ({ cls := "RewriteHouse", name := "isEnd", desc := "(II)Z" } : Jvm.MethodName)) ∈ lw_tbl := lw_at lw_m2 80 rfl
theorem q660 : (Jvm.Cond.instanceMethod ({ cls := "RewriteHouse", name := "isEnd", desc := "(II)Z" } : Jvm.MethodName)) ∈ lw_all := lw_g (lw_at lw_m2 81 rfl) rfl
theorem q661 : (Jvm.Cond.code ({ cls := "RewriteHouse", name := "isEnd", desc := "(II)Z" } : Jvm.MethodName) prog_1_method_55_code (3 : Nat) (Option.some Jvm.ClassFile.FieldType.boolean)) ∈ lw_all := lw_g (lw_at lw_m2 82 rfl) rfl
theorem q662 : (Jvm.Cond.methodLink "RewriteHouse" (466 : Nat) ({ cls := "RewriteHouse", name := "checkLater", desc := "(II)V" } : Jvm.MethodName)) ∈ lw_all := lw_g (lw_at lw_m2 83 rfl) rfl
theorem q663 : (Jvm.Cond.privateMethod ({ cls := "RewriteHouse", name := "checkLater", desc := "(II)V" } : Jvm.MethodName)) ∈ lw_tbl := lw_at lw_m2 84 rfl
theorem q664 : (Jvm.Cond.instanceMethod ({ cls := "RewriteHouse", name := "checkLater", desc := "(II)V" } : Jvm.MethodName)) ∈ lw_all := lw_g (lw_at lw_m2 85 rfl) rfl
theorem q665 : (Jvm.Cond.code ({ cls := "RewriteHouse", name := "checkLater", desc := "(II)V" } : Jvm.MethodName) prog_1_method_58_code (7 : Nat) (Option.none : Option Jvm.ClassFile.FieldType)) ∈ lw_all := lw_g (lw_at lw_m2 86 rfl) rfl
theorem q666 : (Jvm.Cond.methodLink "RewriteHouse" (497 : Nat) ({ cls := "RewriteHouse", name := "isSameAttribute", desc := "(III)Z" } : Jvm.MethodName)) ∈ lw_all := lw_g (lw_at lw_m2 87 rfl) rfl
theorem q667 : (Jvm.Cond.privateMethod ({ cls := "RewriteHouse", name := "isSameAttribute", desc := "(III)Z" } : Jvm.MethodName)) ∈ lw_tbl := lw_at lw_m2 88 rfl
theorem q668 : (Jvm.Cond.instanceMethod ({ cls := "RewriteHouse", name := "isSameAttribute", desc := "(III)Z" } : Jvm.MethodName)) ∈ lw_all := lw_g (lw_at lw_m2 89 rfl) rfl
theorem q669 : (Jvm.Cond.code ({ cls := "RewriteHouse", name := "isSameAttribute", desc := "(III)Z" } : Jvm.MethodName) prog_1_method_57_code (4 : Nat) (Option.some Jvm.ClassFile.FieldType.boolean)) ∈ lw_all := lw_g (lw_at lw_m2 90 rfl) rfl
theorem q670 : (Jvm.Cond.methodLink "RewriteHouse" (469 : Nat) ({ cls := "RewriteHouse", name := "layUnit", desc := "(I)V" } : Jvm.MethodName)) ∈ lw_all := lw_g (lw_at lw_m2 91 rfl) rfl
theorem q671 : (Jvm.Cond.privateMethod ({ cls := "RewriteHouse", name := "layUnit", desc := "(I)V" } : Jvm.MethodName)) ∈ lw_tbl := lw_at lw_m2 92 rfl
theorem q672 : (Jvm.Cond.instanceMethod ({ cls := "RewriteHouse", name := "layUnit", desc := "(I)V" } : Jvm.MethodName)) ∈ lw_all := lw_g (lw_at lw_m2 93 rfl) rfl
theorem q673 : (Jvm.Cond.code ({ cls := "RewriteHouse", name := "layUnit", desc := "(I)V" } : Jvm.MethodName) prog_1_method_59_code (5 : Nat) (Option.none : Option Jvm.ClassFile.FieldType)) ∈ lw_all := lw_g (lw_at lw_m2 94 rfl) rfl
theorem q674 : (Jvm.Cond.methodLink "RewriteHouse" (731 : Nat) ({ cls := "RewriteHouse", name := "layStatement", desc := "(I)Z" } : Jvm.MethodName)) ∈ lw_all := lw_g (lw_at lw_m2 95 rfl) rfl
theorem q675 : (Jvm.Cond.privateMethod ({ cls := "RewriteHouse", name := "layStatement", desc := "(I)Z" } : Jvm.MethodName)) ∈ lw_tbl := lw_at lw_m2 96 rfl
theorem q676 : (Jvm.Cond.instanceMethod ({ cls := "RewriteHouse", name := "layStatement", desc := "(I)Z" } : Jvm.MethodName)) ∈ lw_all := lw_g (lw_at lw_m2 97 rfl) rfl
theorem q677 : (Jvm.Cond.code ({ cls := "RewriteHouse", name := "layStatement", desc := "(I)Z" } : Jvm.MethodName) prog_1_method_98_code (4 : Nat) (Option.some Jvm.ClassFile.FieldType.boolean)) ∈ lw_all := lw_g (lw_at lw_m2 98 rfl) rfl
theorem q678 : (Jvm.Cond.methodLink "RewriteHouse" (692 : Nat) ({ cls := "RewriteHouse", name := "readTerm", desc := "(III)I" } : Jvm.MethodName)) ∈ lw_all := lw_g (lw_at lw_m2 99 rfl) rfl
theorem q679 : (Jvm.Cond.privateMethod ({ cls := "RewriteHouse", name := "readTerm", desc := "(III)I" } : Jvm.MethodName)) ∈ lw_tbl := lw_at lw_m2 100 rfl
theorem q680 : (Jvm.Cond.instanceMethod ({ cls := "RewriteHouse", name := "readTerm", desc := "(III)I" } : Jvm.MethodName)) ∈ lw_all := lw_g (lw_at lw_m2 101 rfl) rfl
theorem q681 : (Jvm.Cond.codeWith ({ cls := "RewriteHouse", name := "readTerm", desc := "(III)I" } : Jvm.MethodName) prog_1_method_93_code (7 : Nat) (Option.some Jvm.ClassFile.FieldType.int) [((37 : Nat), (43 : Nat), (44 : Nat), (8 : Nat))]) ∈ lw_all := lw_g (lw_at lw_m2 102 rfl) rfl
theorem q682 : (Jvm.Cond.classLink "RewriteHouse" (8 : Nat) "RewriteHouse$Stop") ∈ lw_all := lw_g (lw_at lw_m2 103 rfl) rfl
theorem q683 : (Jvm.Cond.methodLink "RewriteHouse" (680 : Nat) ({ cls := "RewriteHouse", name := "readingOf", desc := "(III)I" } : Jvm.MethodName)) ∈ lw_all := lw_g (lw_at lw_m2 104 rfl) rfl
theorem q684 : (Jvm.Cond.privateMethod ({ cls := "RewriteHouse", name := "readingOf", desc := "(III)I" } : Jvm.MethodName)) ∈ lw_tbl := lw_at lw_m2 105 rfl
theorem q685 : (Jvm.Cond.instanceMethod ({ cls := "RewriteHouse", name := "readingOf", desc := "(III)I" } : Jvm.MethodName)) ∈ lw_all := lw_g (lw_at lw_m2 106 rfl) rfl
theorem q686 : (Jvm.Cond.code ({ cls := "RewriteHouse", name := "readingOf", desc := "(III)I" } : Jvm.MethodName) prog_1_method_67_code (6 : Nat) (Option.some Jvm.ClassFile.FieldType.int)) ∈ lw_all := lw_g (lw_at lw_m2 107 rfl) rfl
theorem q687 : (Jvm.Cond.methodLink "RewriteHouse" (559 : Nat) ({ cls := "RewriteHouse", name := "layReadings", desc := "(II)V" } : Jvm.MethodName)) ∈ lw_all := lw_g (lw_at lw_m2 108 rfl) rfl
theorem q688 : (Jvm.Cond.privateMethod ({ cls := "RewriteHouse", name := "layReadings", desc := "(II)V" } : Jvm.MethodName)) ∈ lw_tbl := lw_at lw_m2 109 rfl
theorem q689 : (Jvm.Cond.instanceMethod ({ cls := "RewriteHouse", name := "layReadings", desc := "(II)V" } : Jvm.MethodName)) ∈ lw_all := lw_g (lw_at lw_m2 110 rfl) rfl
theorem q690 : (Jvm.Cond.code ({ cls := "RewriteHouse", name := "layReadings", desc := "(II)V" } : Jvm.MethodName) prog_1_method_64_code (5 : Nat) (Option.none : Option Jvm.ClassFile.FieldType)) ∈ lw_all := lw_g (lw_at lw_m2 111 rfl) rfl
theorem q691 : (Jvm.Cond.methodLink "RewriteHouse" (553 : Nat) ({ cls := "RewriteHouse", name := "layCell", desc := "(II)V" } : Jvm.MethodName)) ∈ lw_all := lw_g (lw_at lw_m2 112 rfl) rfl
theorem q692 : (Jvm.Cond.privateMethod ({ cls := "RewriteHouse", name := "layCell", desc := "(II)V" } : Jvm.MethodName)) ∈ lw_tbl := lw_at lw_m2 113 rfl
theorem q693 : (Jvm.Cond.instanceMethod ({ cls := "RewriteHouse", name := "layCell", desc := "(II)V" } : Jvm.MethodName)) ∈ lw_all := lw_g (lw_at lw_m2 114 rfl) rfl
theorem q694 : (Jvm.Cond.code ({ cls := "RewriteHouse", name := "layCell", desc := "(II)V" } : Jvm.MethodName) prog_1_method_65_code (8 : Nat) (Option.none : Option Jvm.ClassFile.FieldType)) ∈ lw_all := lw_g (lw_at lw_m2 115 rfl) rfl
theorem q695 : (Jvm.Cond.methodLink "RewriteHouse" (547 : Nat) ({ cls := "RewriteHouse", name := "cellOf", desc := "(II)I" } : Jvm.MethodName)) ∈ lw_all := lw_g (lw_at lw_m2 116 rfl) rfl
theorem q696 : (Jvm.Cond.static ({ cls := "RewriteHouse", name := "cellOf", desc := "(II)I" } : Jvm.MethodName)) ∈ lw_all := lw_g (lw_at lw_m2 117 rfl) rfl
theorem q697 : (Jvm.Cond.code ({ cls := "RewriteHouse", name := "cellOf", desc := "(II)I" } : Jvm.MethodName) prog_1_method_62_code (2 : Nat) (Option.some Jvm.ClassFile.FieldType.int)) ∈ lw_all := lw_g (lw_at lw_m2 118 rfl) rfl
theorem q698 : (Jvm.Cond.methodLink "RewriteHouse" (533 : Nat) ({ cls := "RewriteHouse", name := "addReading", desc := "(IIIII)V" } : Jvm.MethodName)) ∈ lw_all := lw_g (lw_at lw_m2 119 rfl) rfl
theorem q699 : (Jvm.Cond.privateMethod ({ cls := "RewriteHouse", name := "addReading", desc := "(IIIII)V" } : Jvm.MethodName)) ∈ lw_tbl := lw_at lw_m2 120 rfl
theorem q700 : (Jvm.Cond.instanceMethod ({ cls := "RewriteHouse", name := "addReading", desc := "(IIIII)V" } : Jvm.MethodName)) ∈ lw_all := lw_g (lw_at lw_m2 121 rfl) rfl
theorem q701 : (Jvm.Cond.code ({ cls := "RewriteHouse", name := "addReading", desc := "(IIIII)V" } : Jvm.MethodName) prog_1_method_61_code (9 : Nat) (Option.none : Option Jvm.ClassFile.FieldType)) ∈ lw_all := lw_g (lw_at lw_m2 122 rfl) rfl
theorem q702 : (Jvm.Cond.methodLink "RewriteHouse" (556 : Nat) ({ cls := "RewriteHouse", name := "addBracket", desc := "(II)V" } : Jvm.MethodName)) ∈ lw_all := lw_g (lw_at lw_m2 123 rfl) rfl
theorem q703 : (Jvm.Cond.privateMethod ({ cls := "RewriteHouse", name := "addBracket", desc := "(II)V" } : Jvm.MethodName)) ∈ lw_tbl := lw_at lw_m2 124 rfl
theorem q704 : (Jvm.Cond.instanceMethod ({ cls := "RewriteHouse", name := "addBracket", desc := "(II)V" } : Jvm.MethodName)) ∈ lw_all := lw_g (lw_at lw_m2 125 rfl) rfl
theorem q705 : (Jvm.Cond.code ({ cls := "RewriteHouse", name := "addBracket", desc := "(II)V" } : Jvm.MethodName) prog_1_method_66_code (4 : Nat) (Option.none : Option Jvm.ClassFile.FieldType)) ∈ lw_all := lw_g (lw_at lw_m2 126 rfl) rfl
theorem q706 : (Jvm.Cond.methodLink "RewriteHouse" (540 : Nat) ({ cls := "RewriteHouse", name := "fit", desc := "(IIIIII)V" } : Jvm.MethodName)) ∈ lw_all := lw_g (lw_at lw_m2 127 rfl) rfl
theorem q707 : (Jvm.Cond.privateMethod ({ cls := "RewriteHouse", name := "fit", desc := "(IIIIII)V" } : Jvm.MethodName)) ∈ lw_tbl := lw_at lw_m2 128 rfl
theorem q708 : (Jvm.Cond.instanceMethod ({ cls := "RewriteHouse", name := "fit", desc := "(IIIIII)V" } : Jvm.MethodName)) ∈ lw_all := lw_g (lw_at lw_m2 129 rfl) rfl
theorem q709 : (Jvm.Cond.code ({ cls := "RewriteHouse", name := "fit", desc := "(IIIIII)V" } : Jvm.MethodName) prog_1_method_63_code (15 : Nat) (Option.none : Option Jvm.ClassFile.FieldType)) ∈ lw_all := lw_g (lw_at lw_m2 130 rfl) rfl
theorem q710 : (Jvm.Cond.methodLink "RewriteHouse" (544 : Nat) ({ cls := "java/lang/Math", name := "max", desc := "(II)I" } : Jvm.MethodName)) ∈ lw_all := lw_g (lw_at lw_m2 131 rfl) rfl
theorem q713 : (Jvm.Cond.methodLink "RewriteHouse" (652 : Nat) ({ cls := "RewriteHouse", name := "termOf", desc := "(I)I" } : Jvm.MethodName)) ∈ lw_all := lw_g (lw_at lw_m2 134 rfl) rfl
theorem q714 : (Jvm.Cond.privateMethod ({ cls := "RewriteHouse", name := "termOf", desc := "(I)I" } : Jvm.MethodName)) ∈ lw_tbl := lw_at lw_m2 135 rfl
theorem q715 : (Jvm.Cond.instanceMethod ({ cls := "RewriteHouse", name := "termOf", desc := "(I)I" } : Jvm.MethodName)) ∈ lw_all := lw_g (lw_at lw_m2 136 rfl) rfl
theorem q716 : (Jvm.Cond.code ({ cls := "RewriteHouse", name := "termOf", desc := "(I)I" } : Jvm.MethodName) prog_1_method_85_code (6 : Nat) (Option.some Jvm.ClassFile.FieldType.int)) ∈ lw_all := lw_g (lw_at lw_m2 137 rfl) rfl
theorem q717 : (Jvm.Cond.methodLink "RewriteHouse" (649 : Nat) ({ cls := "RewriteHouse", name := "variableNode", desc := "(I)I" } : Jvm.MethodName)) ∈ lw_all := lw_g (lw_at lw_m2 138 rfl) rfl
theorem q718 : (Jvm.Cond.privateMethod ({ cls := "RewriteHouse", name := "variableNode", desc := "(I)I" } : Jvm.MethodName)) ∈ lw_tbl := lw_at lw_m2 139 rfl
theorem q719 : (Jvm.Cond.instanceMethod ({ cls := "RewriteHouse", name := "variableNode", desc := "(I)I" } : Jvm.MethodName)) ∈ lw_all := lw_g (lw_at lw_m2 140 rfl) rfl
theorem q720 : (Jvm.Cond.code ({ cls := "RewriteHouse", name := "variableNode", desc := "(I)I" } : Jvm.MethodName) prog_1_method_73_code (2 : Nat) (Option.some Jvm.ClassFile.FieldType.int)) ∈ lw_all := lw_g (lw_at lw_m2 141 rfl) rfl
theorem q721 : (Jvm.Cond.methodLink "RewriteHouse" (614 : Nat) ({ cls := "RewriteHouse", name := "nodeOf", desc := "(III)I" } : Jvm.MethodName)) ∈ lw_all := lw_g (lw_at lw_m2 142 rfl) rfl
theorem q722 : (Jvm.Cond.privateMethod ({ cls := "RewriteHouse", name := "nodeOf", desc := "(III)I" } : Jvm.MethodName)) ∈ lw_tbl := lw_at lw_m2 143 rfl
theorem q723 : (Jvm.Cond.instanceMethod ({ cls := "RewriteHouse", name := "nodeOf", desc := "(III)I" } : Jvm.MethodName)) ∈ lw_all := lw_g (lw_at lw_m2 144 rfl) rfl
theorem q724 : (Jvm.Cond.code ({ cls := "RewriteHouse", name := "nodeOf", desc := "(III)I" } : Jvm.MethodName) prog_1_method_70_code (8 : Nat) (Option.some Jvm.ClassFile.FieldType.int)) ∈ lw_all := lw_g (lw_at lw_m2 145 rfl) rfl
theorem q725 : (Jvm.Cond.methodLink "RewriteHouse" (571 : Nat) ({ cls := "RewriteHouse", name := "slotOf", desc := "(III)I" } : Jvm.MethodName)) ∈ lw_all := lw_g (lw_at lw_m2 146 rfl) rfl
theorem q726 : (Jvm.Cond.privateMethod ({ cls := "RewriteHouse", name := "slotOf", desc := "(III)I" } : Jvm.MethodName)) ∈ lw_tbl := lw_at lw_m2 147 rfl
theorem q727 : (Jvm.Cond.instanceMethod ({ cls := "RewriteHouse", name := "slotOf", desc := "(III)I" } : Jvm.MethodName)) ∈ lw_all := lw_g (lw_at lw_m2 148 rfl) rfl
theorem q728 : (Jvm.Cond.code ({ cls := "RewriteHouse", name := "slotOf", desc := "(III)I" } : Jvm.MethodName) prog_1_method_69_code (6 : Nat) (Option.some Jvm.ClassFile.FieldType.int)) ∈ lw_all := lw_g (lw_at lw_m2 149 rfl) rfl
theorem q729 : (Jvm.Cond.constant "RewriteHouse" (566 : Nat) (1000003 : Int32)) ∈ lw_all := lw_g (lw_at lw_m2 150 rfl) rfl
theorem q730 : (Jvm.Cond.constant "RewriteHouse" (570 : Nat) (131071 : Int32)) ∈ lw_all := lw_g (lw_at lw_m2 151 rfl) rfl
theorem q731 : (Jvm.Cond.constant "RewriteHouse" (593 : Nat) (200000 : Int32)) ∈ lw_all := lw_g (lw_at lw_m2 152 rfl) rfl
theorem q732 : (Jvm.Cond.constant "RewriteHouse" (594 : Nat) (600000 : Int32)) ∈ lw_all := lw_g (lw_at lw_m2 153 rfl) rfl
theorem q733 : (Jvm.Cond.methodLink "RewriteHouse" (595 : Nat) ({ cls := "RewriteHouse", name := "stop", desc := "(I)LRewriteHouse$Stop;" } : Jvm.MethodName)) ∈ lw_all := lw_g (lw_at lw_m2 154 rfl) rfl
theorem q734 : (Jvm.Cond.privateMethod ({ cls := "RewriteHouse", name := "stop", desc := "(I)LRewriteHouse$Stop;" } : Jvm.MethodName)) ∈ lw_tbl := lw_at lw_m2 155 rfl
theorem q735 : (Jvm.Cond.instanceMethod ({ cls := "RewriteHouse", name := "stop", desc := "(I)LRewriteHouse$Stop;" } : Jvm.MethodName)) ∈ lw_all := lw_g (lw_at lw_m2 156 rfl) rfl
theorem q736 : (Jvm.Cond.code ({ cls := "RewriteHouse", name := "stop", desc := "(I)LRewriteHouse$Stop;" } : Jvm.MethodName) prog_1_method_1_code (2 : Nat) (Option.some (Jvm.ClassFile.FieldType.object "RewriteHouse$Stop"))) ∈ lw_all := lw_g (lw_at lw_m2 157 rfl) rfl
theorem q737 : (Jvm.Cond.methodLink "RewriteHouse" (605 : Nat) ({ cls := "RewriteHouse", name := "sortOfVariable", desc := "(I)I" } : Jvm.MethodName)) ∈ lw_all := lw_g (lw_at lw_m2 158 rfl) rfl
theorem q738 : (Jvm.Cond.privateMethod ({ cls := "RewriteHouse", name := "sortOfVariable", desc := "(I)I" } : Jvm.MethodName)) ∈ lw_tbl := lw_at lw_m2 159 rfl
theorem q739 : (Jvm.Cond.instanceMethod ({ cls := "RewriteHouse", name := "sortOfVariable", desc := "(I)I" } : Jvm.MethodName)) ∈ lw_all := lw_g (lw_at lw_m2 160 rfl) rfl
theorem q740 : (Jvm.Cond.code ({ cls := "RewriteHouse", name := "sortOfVariable", desc := "(I)I" } : Jvm.MethodName) prog_1_method_71_code (2 : Nat) (Option.some Jvm.ClassFile.FieldType.int)) ∈ lw_all := lw_g (lw_at lw_m2 161 rfl) rfl
theorem q741 : (Jvm.Cond.methodLink "RewriteHouse" (608 : Nat) ({ cls := "RewriteHouse", name := "leastOf", desc := "(III)I" } : Jvm.MethodName)) ∈ lw_all := lw_g (lw_at lw_m2 162 rfl) rfl
theorem q742 : (Jvm.Cond.privateMethod ({ cls := "RewriteHouse", name := "leastOf", desc := "(III)I" } : Jvm.MethodName)) ∈ lw_tbl := lw_at lw_m2 163 rfl
theorem q743 : (Jvm.Cond.instanceMethod ({ cls := "RewriteHouse", name := "leastOf", desc := "(III)I" } : Jvm.MethodName)) ∈ lw_all := lw_g (lw_at lw_m2 164 rfl) rfl
theorem q744 : (Jvm.Cond.code ({ cls := "RewriteHouse", name := "leastOf", desc := "(III)I" } : Jvm.MethodName) prog_1_method_79_code (6 : Nat) (Option.some Jvm.ClassFile.FieldType.int)) ∈ lw_all := lw_g (lw_at lw_m2 165 rfl) rfl
theorem q745 : (Jvm.Cond.methodLink "RewriteHouse" (621 : Nat) ({ cls := "RewriteHouse", name := "at", desc := "(II)I" } : Jvm.MethodName)) ∈ lw_all := lw_g (lw_at lw_m2 166 rfl) rfl
theorem q746 : (Jvm.Cond.privateMethod ({ cls := "RewriteHouse", name := "at", desc := "(II)I" } : Jvm.MethodName)) ∈ lw_tbl := lw_at lw_m2 167 rfl
theorem q747 : (Jvm.Cond.instanceMethod ({ cls := "RewriteHouse", name := "at", desc := "(II)I" } : Jvm.MethodName)) ∈ lw_all := lw_g (lw_at lw_m2 168 rfl) rfl
theorem q748 : (Jvm.Cond.code ({ cls := "RewriteHouse", name := "at", desc := "(II)I" } : Jvm.MethodName) prog_1_method_75_code (3 : Nat) (Option.some Jvm.ClassFile.FieldType.int)) ∈ lw_all := lw_g (lw_at lw_m2 169 rfl) rfl
theorem q749 : (Jvm.Cond.methodLink "RewriteHouse" (627 : Nat) ({ cls := "RewriteHouse", name := "leastBy", desc := "(I[II)I" } : Jvm.MethodName)) ∈ lw_all := lw_g (lw_at lw_m2 170 rfl) rfl
theorem q750 : (Jvm.Cond.privateMethod ({ cls := "RewriteHouse", name := "leastBy", desc := "(I[II)I" } : Jvm.MethodName)) ∈ lw_tbl := lw_at lw_m2 171 rfl
theorem q751 : (Jvm.Cond.instanceMethod ({ cls := "RewriteHouse", name := "leastBy", desc := "(I[II)I" } : Jvm.MethodName)) ∈ lw_all := lw_g (lw_at lw_m2 172 rfl) rfl
theorem q752 : (Jvm.Cond.code ({ cls := "RewriteHouse", name := "leastBy", desc := "(I[II)I" } : Jvm.MethodName) prog_1_method_77_code (7 : Nat) (Option.some Jvm.ClassFile.FieldType.int)) ∈ lw_all := lw_g (lw_at lw_m2 173 rfl) rfl
theorem q753 : (Jvm.Cond.methodLink "RewriteHouse" (617 : Nat) ({ cls := "RewriteHouse", name := "isRowAbove", desc := "(I[IIZ)Z" } : Jvm.MethodName)) ∈ lw_all := lw_g (lw_at lw_m2 174 rfl) rfl
theorem q754 : (Jvm.Cond.privateMethod ({ cls := "RewriteHouse", name := "isRowAbove", desc := "(I[IIZ)Z" } : Jvm.MethodName)) ∈ lw_tbl := lw_at lw_m2 175 rfl
theorem q755 : (Jvm.Cond.instanceMethod ({ cls := "RewriteHouse", name := "isRowAbove", desc := "(I[IIZ)Z" } : Jvm.MethodName)) ∈ lw_all := lw_g (lw_at lw_m2 176 rfl) rfl
theorem q756 : (Jvm.Cond.code ({ cls := "RewriteHouse", name := "isRowAbove", desc := "(I[IIZ)Z" } : Jvm.MethodName) prog_1_method_78_code (7 : Nat) (Option.some Jvm.ClassFile.FieldType.boolean)) ∈ lw_all := lw_g (lw_at lw_m2 177 rfl) rfl
theorem q757 : (Jvm.Cond.methodLink "RewriteHouse" (643 : Nat) ({ cls := "RewriteHouse", name := "push", desc := "(I)V" } : Jvm.MethodName)) ∈ lw_all := lw_g (lw_at lw_m2 178 rfl) rfl
theorem q758 : (Jvm.Cond.privateMethod ({ cls := "RewriteHouse", name := "push", desc := "(I)V" } : Jvm.MethodName)) ∈ lw_tbl := lw_at lw_m2 179 rfl
theorem q759 : (Jvm.Cond.instanceMethod ({ cls := "RewriteHouse", name := "push", desc := "(I)V" } : Jvm.MethodName)) ∈ lw_all := lw_g (lw_at lw_m2 180 rfl) rfl
theorem q760 : (Jvm.Cond.code ({ cls := "RewriteHouse", name := "push", desc := "(I)V" } : Jvm.MethodName) prog_1_method_76_code (2 : Nat) (Option.none : Option Jvm.ClassFile.FieldType)) ∈ lw_all := lw_g (lw_at lw_m2 181 rfl) rfl
theorem q761 : (Jvm.Cond.methodLink "RewriteHouse" (646 : Nat) ({ cls := "RewriteHouse", name := "make", desc := "(II)I" } : Jvm.MethodName)) ∈ lw_all := lw_g (lw_at lw_m2 182 rfl) rfl
theorem q762 : (Jvm.Cond.privateMethod ({ cls := "RewriteHouse", name := "make", desc := "(II)I" } : Jvm.MethodName)) ∈ lw_tbl := lw_at lw_m2 183 rfl
theorem q763 : (Jvm.Cond.instanceMethod ({ cls := "RewriteHouse", name := "make", desc := "(II)I" } : Jvm.MethodName)) ∈ lw_all := lw_g (lw_at lw_m2 184 rfl) rfl
theorem q764 : (Jvm.Cond.code ({ cls := "RewriteHouse", name := "make", desc := "(II)I" } : Jvm.MethodName) prog_1_method_81_code (7 : Nat) (Option.some Jvm.ClassFile.FieldType.int)) ∈ lw_all := lw_g (lw_at lw_m2 185 rfl) rfl
theorem q765 : (Jvm.Cond.methodLink "RewriteHouse" (634 : Nat) ({ cls := "RewriteHouse", name := "flatten", desc := "(II)I" } : Jvm.MethodName)) ∈ lw_all := lw_g (lw_at lw_m2 186 rfl) rfl
theorem q766 : (Jvm.Cond.privateMethod ({ cls := "RewriteHouse", name := "flatten", desc := "(II)I" } : Jvm.MethodName)) ∈ lw_tbl := lw_at lw_m2 187 rfl
theorem q767 : (Jvm.Cond.instanceMethod ({ cls := "RewriteHouse", name := "flatten", desc := "(II)I" } : Jvm.MethodName)) ∈ lw_all := lw_g (lw_at lw_m2 188 rfl) rfl
theorem q768 : (Jvm.Cond.code ({ cls := "RewriteHouse", name := "flatten", desc := "(II)I" } : Jvm.MethodName) prog_1_method_82_code (7 : Nat) (Option.some Jvm.ClassFile.FieldType.int)) ∈ lw_all := lw_g (lw_at lw_m2 189 rfl) rfl
theorem q769 : (Jvm.Cond.methodLink "RewriteHouse" (637 : Nat) ({ cls := "RewriteHouse", name := "unitNode", desc := "(I)I" } : Jvm.MethodName)) ∈ lw_all := lw_g (lw_at lw_m2 190 rfl) rfl
theorem q770 : (Jvm.Cond.privateMethod ({ cls := "RewriteHouse", name := "unitNode", desc := "(I)I" } : Jvm.MethodName)) ∈ lw_tbl := lw_at lw_m2 191 rfl
theorem q771 : (Jvm.Cond.instanceMethod ({ cls := "RewriteHouse", name := "unitNode", desc := "(I)I" } : Jvm.MethodName)) ∈ lw_all := lw_g (lw_at lw_m2 192 rfl) rfl
theorem q772 : (Jvm.Cond.code ({ cls := "RewriteHouse", name := "unitNode", desc := "(I)I" } : Jvm.MethodName) prog_1_method_74_code (2 : Nat) (Option.some Jvm.ClassFile.FieldType.int)) ∈ lw_all := lw_g (lw_at lw_m2 193 rfl) rfl
theorem q773 : (Jvm.Cond.methodLink "RewriteHouse" (640 : Nat) ({ cls := "RewriteHouse", name := "arrange", desc := "(II)V" } : Jvm.MethodName)) ∈ lw_all := lw_g (lw_at lw_m2 194 rfl) rfl
theorem q774 : (Jvm.Cond.privateMethod ({ cls := "RewriteHouse", name := "arrange", desc := "(II)V" } : Jvm.MethodName)) ∈ lw_tbl := lw_at lw_m2 195 rfl
theorem q775 : (Jvm.Cond.instanceMethod ({ cls := "RewriteHouse", name := "arrange", desc := "(II)V" } : Jvm.MethodName)) ∈ lw_all := lw_g (lw_at lw_m2 196 rfl) rfl
theorem q776 : (Jvm.Cond.code ({ cls := "RewriteHouse", name := "arrange", desc := "(II)V" } : Jvm.MethodName) prog_1_method_83_code (6 : Nat) (Option.none : Option Jvm.ClassFile.FieldType)) ∈ lw_all := lw_g (lw_at lw_m2 197 rfl) rfl
theorem q777 : (Jvm.Cond.methodLink "RewriteHouse" (631 : Nat) ({ cls := "RewriteHouse", name := "compare", desc := "(II)I" } : Jvm.MethodName)) ∈ lw_all := lw_g (lw_at lw_m2 198 rfl) rfl
theorem q778 : (Jvm.Cond.privateMethod ({ cls := "RewriteHouse", name := "compare", desc := "(II)I" } : Jvm.MethodName)) ∈ lw_tbl := lw_at lw_m2 199 rfl
theorem q779 : (Jvm.Cond.instanceMethod ({ cls := "RewriteHouse", name := "compare", desc := "(II)I" } : Jvm.MethodName)) ∈ lw_all := lw_g (lw_at lw_m2 200 rfl) rfl
theorem q780 : (Jvm.Cond.code ({ cls := "RewriteHouse", name := "compare", desc := "(II)I" } : Jvm.MethodName) prog_1_method_80_code (7 : Nat) (Option.some Jvm.ClassFile.FieldType.int)) ∈ lw_all := lw_g (lw_at lw_m2 201 rfl) rfl
theorem q781 : (Jvm.Cond.methodLink "RewriteHouse" (686 : Nat) ({ cls := "RewriteHouse", name := "know", desc := "(I)V" } : Jvm.MethodName)) ∈ lw_all := lw_g (lw_at lw_m2 202 rfl) rfl
theorem q782 : (Jvm.Cond.privateMethod ({ cls := "RewriteHouse", name := "know", desc := "(I)V" } : Jvm.MethodName)) ∈ lw_tbl := lw_at lw_m2 203 rfl
theorem q783 : (Jvm.Cond.instanceMethod ({ cls := "RewriteHouse", name := "know", desc := "(I)V" } : Jvm.MethodName)) ∈ lw_all := lw_g (lw_at lw_m2 204 rfl) rfl
theorem q784 : (Jvm.Cond.code ({ cls := "RewriteHouse", name := "know", desc := "(I)V" } : Jvm.MethodName) prog_1_method_95_code (3 : Nat) (Option.none : Option Jvm.ClassFile.FieldType)) ∈ lw_all := lw_g (lw_at lw_m2 205 rfl) rfl
theorem q785 : (Jvm.Cond.methodLink "RewriteHouse" (698 : Nat) ({ cls := "RewriteHouse", name := "layCondition", desc := "(I)Z" } : Jvm.MethodName)) ∈ lw_all := lw_g (lw_at lw_m2 206 rfl) rfl
theorem q786 : (Jvm.Cond.privateMethod ({ cls := "RewriteHouse", name := "layCondition", desc := "(I)Z" } : Jvm.MethodName)) ∈ lw_tbl := lw_at lw_m2 207 rfl
theorem q787 : (Jvm.Cond.instanceMethod ({ cls := "RewriteHouse", name := "layCondition", desc := "(I)Z" } : Jvm.MethodName)) ∈ lw_all := lw_g (lw_at lw_m2 208 rfl) rfl
theorem q788 : (Jvm.Cond.code ({ cls := "RewriteHouse", name := "layCondition", desc := "(I)Z" } : Jvm.MethodName) prog_1_method_99_code (5 : Nat) (Option.some Jvm.ClassFile.FieldType.boolean)) ∈ lw_all := lw_g (lw_at lw_m2 209 rfl) rfl
theorem q789 : (Jvm.Cond.methodLink "RewriteHouse" (707 : Nat) ({ cls := "RewriteHouse", name := "needs", desc := "(II)Z" } : Jvm.MethodName)) ∈ lw_all := lw_g (lw_at lw_m2 210 rfl) rfl
theorem q790 : (Jvm.Cond.privateMethod ({ cls := "RewriteHouse", name := "needs", desc := "(II)Z" } : Jvm.MethodName)) ∈ lw_tbl := lw_at lw_m2 211 rfl
theorem q791 : (Jvm.Cond.instanceMethod ({ cls := "RewriteHouse", name := "needs", desc := "(II)Z" } : Jvm.MethodName)) ∈ lw_all := lw_g (lw_at lw_m2 212 rfl) rfl
theorem q792 : (Jvm.Cond.code ({ cls := "RewriteHouse", name := "needs", desc := "(II)Z" } : Jvm.MethodName) prog_1_method_97_code (3 : Nat) (Option.some Jvm.ClassFile.FieldType.boolean)) ∈ lw_all := lw_g (lw_at lw_m2 213 rfl) rfl
theorem q793 : (Jvm.Cond.methodLink "RewriteHouse" (689 : Nat) ({ cls := "RewriteHouse", name := "hasUnknown", desc := "(I)Z" } : Jvm.MethodName)) ∈ lw_all := lw_g (lw_at lw_m2 214 rfl) rfl
theorem q794 : (Jvm.Cond.privateMethod ({ cls := "RewriteHouse", name := "hasUnknown", desc := "(I)Z" } : Jvm.MethodName)) ∈ lw_tbl := lw_at lw_m2 215 rfl
theorem q795 : (Jvm.Cond.instanceMethod ({ cls := "RewriteHouse", name := "hasUnknown", desc := "(I)Z" } : Jvm.MethodName)) ∈ lw_all := lw_g (lw_at lw_m2 216 rfl) rfl
theorem q796 : (Jvm.Cond.code ({ cls := "RewriteHouse", name := "hasUnknown", desc := "(I)Z" } : Jvm.MethodName) prog_1_method_96_code (4 : Nat) (Option.some Jvm.ClassFile.FieldType.boolean)) ∈ lw_all := lw_g (lw_at lw_m2 217 rfl) rfl
theorem q797 : (Jvm.Cond.methodLink "RewriteHouse" (701 : Nat) ({ cls := "RewriteHouse", name := "kindAt", desc := "(I)I" } : Jvm.MethodName)) ∈ lw_all := lw_g (lw_at lw_m2 218 rfl) rfl
theorem q798 : (Jvm.Cond.privateMethod ({ cls := "RewriteHouse", name := "kindAt", desc := "(I)I" } : Jvm.MethodName)) ∈ lw_tbl := lw_at lw_m2 219 rfl
theorem q799 : (Jvm.Cond.instanceMethod ({ cls := "RewriteHouse", name := "kindAt", desc := "(I)I" } : Jvm.MethodName)) ∈ lw_all := lw_g (lw_at lw_m2 220 rfl) rfl
theorem q800 : (Jvm.Cond.code ({ cls := "RewriteHouse", name := "kindAt", desc := "(I)I" } : Jvm.MethodName) prog_1_method_94_code (2 : Nat) (Option.some Jvm.ClassFile.FieldType.int)) ∈ lw_all := lw_g (lw_at lw_m2 221 rfl) rfl
theorem q803 : (Jvm.Cond.instanceMethod ({ cls := "RewriteHouse", name := "term", desc := "()I" } : Jvm.MethodName)) ∈ lw_all := lw_g (lw_at lw_m2 224 rfl) rfl
theorem q804 : (Jvm.Cond.selects "RewriteHouse" ({ cls := "RewriteHouse", name := "term", desc := "()I" } : Jvm.MethodName) ({ cls := "RewriteHouse", name := "term", desc := "()I" } : Jvm.MethodName)) ∈ lw_all := lw_g (lw_at lw_m2 225 rfl) rfl
theorem q805 : (Jvm.Cond.code ({ cls := "RewriteHouse", name := "term", desc := "()I" } : Jvm.MethodName) prog_1_method_151_code (5 : Nat) (Option.some Jvm.ClassFile.FieldType.int)) ∈ lw_all := lw_g (lw_at lw_m2 226 rfl) rfl
theorem q806 : (Jvm.Cond.methodLink "RewriteHouse" (1015 : Nat) ({ cls := "RewriteHouse", name := "begin", desc := "()V" } : Jvm.MethodName)) ∈ lw_all := lw_g (lw_at lw_m2 227 rfl) rfl
theorem q807 : (Jvm.Cond.privateMethod ({ cls := "RewriteHouse", name := "begin", desc := "()V" } : Jvm.MethodName)) ∈ lw_tbl := lw_at lw_m2 228 rfl
theorem q808 : (Jvm.Cond.instanceMethod ({ cls := "RewriteHouse", name := "begin", desc := "()V" } : Jvm.MethodName)) ∈ lw_all := lw_g (lw_at lw_m2 229 rfl) rfl
theorem q809 : (Jvm.Cond.code ({ cls := "RewriteHouse", name := "begin", desc := "()V" } : Jvm.MethodName) prog_1_method_149_code (1 : Nat) (Option.none : Option Jvm.ClassFile.FieldType)) ∈ lw_all := lw_g (lw_at lw_m2 230 rfl) rfl
theorem q810 : (Jvm.Cond.methodLink "RewriteHouse" (1010 : Nat) ({ cls := "RewriteHouse", name := "dropNodes", desc := "()V" } : Jvm.MethodName)) ∈ lw_all := lw_g (lw_at lw_m2 231 rfl) rfl
theorem q811 : (Jvm.Cond.privateMethod ({ cls := "RewriteHouse", name := "dropNodes", desc := "()V" } : Jvm.MethodName)) ∈ lw_tbl := lw_at lw_m2 232 rfl
theorem q812 : (Jvm.Cond.instanceMethod ({ cls := "RewriteHouse", name := "dropNodes", desc := "()V" } : Jvm.MethodName)) ∈ lw_all := lw_g (lw_at lw_m2 233 rfl) rfl
theorem q813 : (Jvm.Cond.code ({ cls := "RewriteHouse", name := "dropNodes", desc := "()V" } : Jvm.MethodName) prog_1_method_72_code (3 : Nat) (Option.none : Option Jvm.ClassFile.FieldType)) ∈ lw_all := lw_g (lw_at lw_m2 234 rfl) rfl
theorem q814 : (Jvm.Cond.constantLong "RewriteHouse" (1013 : Nat) (300000 : Int64)) ∈ lw_all := lw_g (lw_at lw_m2 235 rfl) rfl
theorem q815 : (Jvm.Cond.methodLink "RewriteHouse" (938 : Nat) ({ cls := "RewriteHouse", name := "unbind", desc := "()V" } : Jvm.MethodName)) ∈ lw_all := lw_g (lw_at lw_m2 236 rfl) rfl
theorem q816 : (Jvm.Cond.privateMethod ({ cls := "RewriteHouse", name := "unbind", desc := "()V" } : Jvm.MethodName)) ∈ lw_tbl := lw_at lw_m2 237 rfl
theorem q817 : (Jvm.Cond.instanceMethod ({ cls := "RewriteHouse", name := "unbind", desc := "()V" } : Jvm.MethodName)) ∈ lw_all := lw_g (lw_at lw_m2 238 rfl) rfl
theorem q818 : (Jvm.Cond.code ({ cls := "RewriteHouse", name := "unbind", desc := "()V" } : Jvm.MethodName) prog_1_method_128_code (2 : Nat) (Option.none : Option Jvm.ClassFile.FieldType)) ∈ lw_all := lw_g (lw_at lw_m2 239 rfl) rfl
theorem q819 : (Jvm.Cond.methodLink "RewriteHouse" (1018 : Nat) ({ cls := "RewriteHouse", name := "madeOf", desc := "(I)I" } : Jvm.MethodName)) ∈ lw_all := lw_g (lw_at lw_m3 0 rfl) rfl
theorem q820 : (Jvm.Cond.privateMethod ({ cls := "RewriteHouse", name := "madeOf", desc := "(I)I" } : Jvm.MethodName)) ∈ lw_tbl := lw_at lw_m3 1 rfl
theorem q821 : (Jvm.Cond.instanceMethod ({ cls := "RewriteHouse", name := "madeOf", desc := "(I)I" } : Jvm.MethodName)) ∈ lw_all := lw_g (lw_at lw_m3 2 rfl) rfl
theorem q822 : (Jvm.Cond.codeWith ({ cls := "RewriteHouse", name := "madeOf", desc := "(I)I" } : Jvm.MethodName) prog_1_method_152_code (3 : Nat) (Option.some Jvm.ClassFile.FieldType.int) [((0 : Nat), (5 : Nat), (6 : Nat), (8 : Nat))]) ∈ lw_all := lw_g (lw_at lw_m3 3 rfl) rfl
theorem q823 : (Jvm.Cond.methodLink "RewriteHouse" (1021 : Nat) ({ cls := "RewriteHouse", name := "newHandle", desc := "(I)I" } : Jvm.MethodName)) ∈ lw_all := lw_g (lw_at lw_m3 4 rfl) rfl
theorem q824 : (Jvm.Cond.privateMethod ({ cls := "RewriteHouse", name := "newHandle", desc := "(I)I" } : Jvm.MethodName)) ∈ lw_tbl := lw_at lw_m3 5 rfl
theorem q825 : (Jvm.Cond.instanceMethod ({ cls := "RewriteHouse", name := "newHandle", desc := "(I)I" } : Jvm.MethodName)) ∈ lw_all := lw_g (lw_at lw_m3 6 rfl) rfl
theorem q826 : (Jvm.Cond.code ({ cls := "RewriteHouse", name := "newHandle", desc := "(I)I" } : Jvm.MethodName) prog_1_method_90_code (2 : Nat) (Option.some Jvm.ClassFile.FieldType.int)) ∈ lw_all := lw_g (lw_at lw_m3 7 rfl) rfl
theorem q827 : (Jvm.Cond.methodLink "RewriteHouse" (672 : Nat) ({ cls := "RewriteHouse", name := "saveTo", desc := "(I[II)V" } : Jvm.MethodName)) ∈ lw_all := lw_g (lw_at lw_m3 8 rfl) rfl
theorem q828 : (Jvm.Cond.privateMethod ({ cls := "RewriteHouse", name := "saveTo", desc := "(I[II)V" } : Jvm.MethodName)) ∈ lw_tbl := lw_at lw_m3 9 rfl
theorem q829 : (Jvm.Cond.instanceMethod ({ cls := "RewriteHouse", name := "saveTo", desc := "(I[II)V" } : Jvm.MethodName)) ∈ lw_all := lw_g (lw_at lw_m3 10 rfl) rfl
theorem q830 : (Jvm.Cond.code ({ cls := "RewriteHouse", name := "saveTo", desc := "(I[II)V" } : Jvm.MethodName) prog_1_method_87_code (4 : Nat) (Option.none : Option Jvm.ClassFile.FieldType)) ∈ lw_all := lw_g (lw_at lw_m3 11 rfl) rfl
theorem q831 : (Jvm.Cond.methodLink "RewriteHouse" (658 : Nat) ({ cls := "RewriteHouse", name := "save", desc := "(I[I)V" } : Jvm.MethodName)) ∈ lw_all := lw_g (lw_at lw_m3 12 rfl) rfl
theorem q832 : (Jvm.Cond.privateMethod ({ cls := "RewriteHouse", name := "save", desc := "(I[I)V" } : Jvm.MethodName)) ∈ lw_tbl := lw_at lw_m3 13 rfl
theorem q833 : (Jvm.Cond.instanceMethod ({ cls := "RewriteHouse", name := "save", desc := "(I[I)V" } : Jvm.MethodName)) ∈ lw_all := lw_g (lw_at lw_m3 14 rfl) rfl
theorem q834 : (Jvm.Cond.code ({ cls := "RewriteHouse", name := "save", desc := "(I[I)V" } : Jvm.MethodName) prog_1_method_86_code (4 : Nat) (Option.none : Option Jvm.ClassFile.FieldType)) ∈ lw_all := lw_g (lw_at lw_m3 15 rfl) rfl
theorem q836 : (Jvm.Cond.instanceMethod ({ cls := "RewriteHouse", name := "fault", desc := "(I)I" } : Jvm.MethodName)) ∈ lw_all := lw_g (lw_at lw_m3 17 rfl) rfl
theorem q837 : (Jvm.Cond.selects "RewriteHouse" ({ cls := "RewriteHouse", name := "fault", desc := "(I)I" } : Jvm.MethodName) ({ cls := "RewriteHouse", name := "fault", desc := "(I)I" } : Jvm.MethodName)) ∈ lw_all := lw_g (lw_at lw_m3 18 rfl) rfl
theorem q838 : (Jvm.Cond.code ({ cls := "RewriteHouse", name := "fault", desc := "(I)I" } : Jvm.MethodName) prog_1_method_153_code (2 : Nat) (Option.some Jvm.ClassFile.FieldType.int)) ∈ lw_all := lw_g (lw_at lw_m3 19 rfl) rfl
theorem q840 : (Jvm.Cond.instanceMethod ({ cls := "RewriteHouse", name := "count", desc := "(I)I" } : Jvm.MethodName)) ∈ lw_all := lw_g (lw_at lw_m3 21 rfl) rfl
theorem q841 : (Jvm.Cond.selects "RewriteHouse" ({ cls := "RewriteHouse", name := "count", desc := "(I)I" } : Jvm.MethodName) ({ cls := "RewriteHouse", name := "count", desc := "(I)I" } : Jvm.MethodName)) ∈ lw_all := lw_g (lw_at lw_m3 22 rfl) rfl
theorem q842 : (Jvm.Cond.code ({ cls := "RewriteHouse", name := "count", desc := "(I)I" } : Jvm.MethodName) prog_1_method_154_code (2 : Nat) (Option.some Jvm.ClassFile.FieldType.int)) ∈ lw_all := lw_g (lw_at lw_m3 23 rfl) rfl
theorem q844 : (Jvm.Cond.instanceMethod ({ cls := "RewriteHouse", name := "about", desc := "(II)I" } : Jvm.MethodName)) ∈ lw_all := lw_g (lw_at lw_m3 25 rfl) rfl
theorem q845 : (Jvm.Cond.selects "RewriteHouse" ({ cls := "RewriteHouse", name := "about", desc := "(II)I" } : Jvm.MethodName) ({ cls := "RewriteHouse", name := "about", desc := "(II)I" } : Jvm.MethodName)) ∈ lw_all := lw_g (lw_at lw_m3 26 rfl) rfl
theorem q846 : (Jvm.Cond.code ({ cls := "RewriteHouse", name := "about", desc := "(II)I" } : Jvm.MethodName) prog_1_method_155_code (4 : Nat) (Option.some Jvm.ClassFile.FieldType.int)) ∈ lw_all := lw_g (lw_at lw_m3 27 rfl) rfl
theorem q847 : (Jvm.Cond.methodLink "RewriteHouse" (1024 : Nat) ({ cls := "RewriteHouse", name := "isHandle", desc := "(I)Z" } : Jvm.MethodName)) ∈ lw_all := lw_g (lw_at lw_m3 28 rfl) rfl
theorem q848 : (Jvm.Cond.privateMethod ({ cls := "RewriteHouse", name := "isHandle", desc := "(I)Z" } : Jvm.MethodName)) ∈ lw_tbl := lw_at lw_m3 29 rfl
theorem q849 : (Jvm.Cond.instanceMethod ({ cls := "RewriteHouse", name := "isHandle", desc := "(I)Z" } : Jvm.MethodName)) ∈ lw_all := lw_g (lw_at lw_m3 30 rfl) rfl
theorem q850 : (Jvm.Cond.code ({ cls := "RewriteHouse", name := "isHandle", desc := "(I)Z" } : Jvm.MethodName) prog_1_method_92_code (2 : Nat) (Option.some Jvm.ClassFile.FieldType.boolean)) ∈ lw_all := lw_g (lw_at lw_m3 31 rfl) rfl
theorem q851 : (Jvm.Cond.methodLink "RewriteHouse" (1027 : Nat) ({ cls := "RewriteHouse", name := "termAt", desc := "(I)I" } : Jvm.MethodName)) ∈ lw_all := lw_g (lw_at lw_m3 32 rfl) rfl
theorem q852 : (Jvm.Cond.privateMethod ({ cls := "RewriteHouse", name := "termAt", desc := "(I)I" } : Jvm.MethodName)) ∈ lw_tbl := lw_at lw_m3 33 rfl
theorem q853 : (Jvm.Cond.instanceMethod ({ cls := "RewriteHouse", name := "termAt", desc := "(I)I" } : Jvm.MethodName)) ∈ lw_all := lw_g (lw_at lw_m3 34 rfl) rfl
theorem q854 : (Jvm.Cond.code ({ cls := "RewriteHouse", name := "termAt", desc := "(I)I" } : Jvm.MethodName) prog_1_method_91_code (2 : Nat) (Option.some Jvm.ClassFile.FieldType.int)) ∈ lw_all := lw_g (lw_at lw_m3 35 rfl) rfl
theorem q855 : (Jvm.Cond.methodLink "RewriteHouse" (676 : Nat) ({ cls := "RewriteHouse", name := "loadFrom", desc := "([II)I" } : Jvm.MethodName)) ∈ lw_all := lw_g (lw_at lw_m3 36 rfl) rfl
theorem q856 : (Jvm.Cond.privateMethod ({ cls := "RewriteHouse", name := "loadFrom", desc := "([II)I" } : Jvm.MethodName)) ∈ lw_tbl := lw_at lw_m3 37 rfl
theorem q857 : (Jvm.Cond.instanceMethod ({ cls := "RewriteHouse", name := "loadFrom", desc := "([II)I" } : Jvm.MethodName)) ∈ lw_all := lw_g (lw_at lw_m3 38 rfl) rfl
theorem q858 : (Jvm.Cond.code ({ cls := "RewriteHouse", name := "loadFrom", desc := "([II)I" } : Jvm.MethodName) prog_1_method_89_code (3 : Nat) (Option.some Jvm.ClassFile.FieldType.int)) ∈ lw_all := lw_g (lw_at lw_m3 39 rfl) rfl
theorem q859 : (Jvm.Cond.methodLink "RewriteHouse" (665 : Nat) ({ cls := "RewriteHouse", name := "load", desc := "([I)I" } : Jvm.MethodName)) ∈ lw_all := lw_g (lw_at lw_m3 40 rfl) rfl
theorem q860 : (Jvm.Cond.privateMethod ({ cls := "RewriteHouse", name := "load", desc := "([I)I" } : Jvm.MethodName)) ∈ lw_tbl := lw_at lw_m3 41 rfl
theorem q861 : (Jvm.Cond.instanceMethod ({ cls := "RewriteHouse", name := "load", desc := "([I)I" } : Jvm.MethodName)) ∈ lw_all := lw_g (lw_at lw_m3 42 rfl) rfl
theorem q862 : (Jvm.Cond.code ({ cls := "RewriteHouse", name := "load", desc := "([I)I" } : Jvm.MethodName) prog_1_method_88_code (7 : Nat) (Option.some Jvm.ClassFile.FieldType.int)) ∈ lw_all := lw_g (lw_at lw_m3 43 rfl) rfl
theorem q864 : (Jvm.Cond.instanceMethod ({ cls := "RewriteHouse", name := "part", desc := "(II)I" } : Jvm.MethodName)) ∈ lw_all := lw_g (lw_at lw_m3 45 rfl) rfl
theorem q865 : (Jvm.Cond.selects "RewriteHouse" ({ cls := "RewriteHouse", name := "part", desc := "(II)I" } : Jvm.MethodName) ({ cls := "RewriteHouse", name := "part", desc := "(II)I" } : Jvm.MethodName)) ∈ lw_all := lw_g (lw_at lw_m3 46 rfl) rfl
theorem q866 : (Jvm.Cond.code ({ cls := "RewriteHouse", name := "part", desc := "(II)I" } : Jvm.MethodName) prog_1_method_156_code (4 : Nat) (Option.some Jvm.ClassFile.FieldType.int)) ∈ lw_all := lw_g (lw_at lw_m3 47 rfl) rfl
theorem q868 : (Jvm.Cond.instanceMethod ({ cls := "RewriteHouse", name := "order", desc := "(II)I" } : Jvm.MethodName)) ∈ lw_all := lw_g (lw_at lw_m3 49 rfl) rfl
theorem q869 : (Jvm.Cond.selects "RewriteHouse" ({ cls := "RewriteHouse", name := "order", desc := "(II)I" } : Jvm.MethodName) ({ cls := "RewriteHouse", name := "order", desc := "(II)I" } : Jvm.MethodName)) ∈ lw_all := lw_g (lw_at lw_m3 50 rfl) rfl
theorem q870 : (Jvm.Cond.code ({ cls := "RewriteHouse", name := "order", desc := "(II)I" } : Jvm.MethodName) prog_1_method_157_code (3 : Nat) (Option.some Jvm.ClassFile.FieldType.int)) ∈ lw_all := lw_g (lw_at lw_m3 51 rfl) rfl
theorem q872 : (Jvm.Cond.instanceMethod ({ cls := "RewriteHouse", name := "forget", desc := "()I" } : Jvm.MethodName)) ∈ lw_all := lw_g (lw_at lw_m3 53 rfl) rfl
theorem q873 : (Jvm.Cond.selects "RewriteHouse" ({ cls := "RewriteHouse", name := "forget", desc := "()I" } : Jvm.MethodName) ({ cls := "RewriteHouse", name := "forget", desc := "()I" } : Jvm.MethodName)) ∈ lw_all := lw_g (lw_at lw_m3 54 rfl) rfl
theorem q874 : (Jvm.Cond.code ({ cls := "RewriteHouse", name := "forget", desc := "()I" } : Jvm.MethodName) prog_1_method_158_code (2 : Nat) (Option.some Jvm.ClassFile.FieldType.int)) ∈ lw_all := lw_g (lw_at lw_m3 55 rfl) rfl
theorem q876 : (Jvm.Cond.instanceMethod ({ cls := "RewriteHouse", name := "print", desc := "(II)I" } : Jvm.MethodName)) ∈ lw_all := lw_g (lw_at lw_m3 57 rfl) rfl
theorem q877 : (Jvm.Cond.selects "RewriteHouse" ({ cls := "RewriteHouse", name := "print", desc := "(II)I" } : Jvm.MethodName) ({ cls := "RewriteHouse", name := "print", desc := "(II)I" } : Jvm.MethodName)) ∈ lw_all := lw_g (lw_at lw_m3 58 rfl) rfl
theorem q878 : (Jvm.Cond.code ({ cls := "RewriteHouse", name := "print", desc := "(II)I" } : Jvm.MethodName) prog_1_method_163_code (4 : Nat) (Option.some Jvm.ClassFile.FieldType.int)) ∈ lw_all := lw_g (lw_at lw_m3 59 rfl) rfl
theorem q879 : (Jvm.Cond.methodLink "RewriteHouse" (1048 : Nat) ({ cls := "RewriteHouse", name := "printTerm", desc := "(III)V" } : Jvm.MethodName)) ∈ lw_all := lw_g (lw_at lw_m3 60 rfl) rfl
theorem q880 : (Jvm.Cond.privateMethod ({ cls := "RewriteHouse", name := "printTerm", desc := "(III)V" } : Jvm.MethodName)) ∈ lw_tbl := lw_at lw_m3 61 rfl
theorem q881 : (Jvm.Cond.instanceMethod ({ cls := "RewriteHouse", name := "printTerm", desc := "(III)V" } : Jvm.MethodName)) ∈ lw_all := lw_g (lw_at lw_m3 62 rfl) rfl
theorem q882 : (Jvm.Cond.code ({ cls := "RewriteHouse", name := "printTerm", desc := "(III)V" } : Jvm.MethodName) prog_1_method_162_code (12 : Nat) (Option.none : Option Jvm.ClassFile.FieldType)) ∈ lw_all := lw_g (lw_at lw_m3 63 rfl) rfl
theorem q883 : (Jvm.Cond.methodLink "RewriteHouse" (1042 : Nat) ({ cls := "RewriteHouse", name := "printWord", desc := "(I)V" } : Jvm.MethodName)) ∈ lw_all := lw_g (lw_at lw_m3 64 rfl) rfl
theorem q884 : (Jvm.Cond.privateMethod ({ cls := "RewriteHouse", name := "printWord", desc := "(I)V" } : Jvm.MethodName)) ∈ lw_tbl := lw_at lw_m3 65 rfl
theorem q885 : (Jvm.Cond.instanceMethod ({ cls := "RewriteHouse", name := "printWord", desc := "(I)V" } : Jvm.MethodName)) ∈ lw_all := lw_g (lw_at lw_m3 66 rfl) rfl
theorem q886 : (Jvm.Cond.code ({ cls := "RewriteHouse", name := "printWord", desc := "(I)V" } : Jvm.MethodName) prog_1_method_160_code (3 : Nat) (Option.none : Option Jvm.ClassFile.FieldType)) ∈ lw_all := lw_g (lw_at lw_m3 67 rfl) rfl
theorem q887 : (Jvm.Cond.methodLink "RewriteHouse" (1039 : Nat) ({ cls := "RewriteHouse", name := "printByte", desc := "(I)V" } : Jvm.MethodName)) ∈ lw_all := lw_g (lw_at lw_m3 68 rfl) rfl
theorem q888 : (Jvm.Cond.privateMethod ({ cls := "RewriteHouse", name := "printByte", desc := "(I)V" } : Jvm.MethodName)) ∈ lw_tbl := lw_at lw_m3 69 rfl
theorem q889 : (Jvm.Cond.instanceMethod ({ cls := "RewriteHouse", name := "printByte", desc := "(I)V" } : Jvm.MethodName)) ∈ lw_all := lw_g (lw_at lw_m3 70 rfl) rfl
theorem q890 : (Jvm.Cond.code ({ cls := "RewriteHouse", name := "printByte", desc := "(I)V" } : Jvm.MethodName) prog_1_method_159_code (2 : Nat) (Option.none : Option Jvm.ClassFile.FieldType)) ∈ lw_all := lw_g (lw_at lw_m3 71 rfl) rfl
theorem q891 : (Jvm.Cond.methodLink "RewriteHouse" (1045 : Nat) ({ cls := "RewriteHouse", name := "printSign", desc := "(I)V" } : Jvm.MethodName)) ∈ lw_all := lw_g (lw_at lw_m3 72 rfl) rfl
theorem q892 : (Jvm.Cond.privateMethod ({ cls := "RewriteHouse", name := "printSign", desc := "(I)V" } : Jvm.MethodName)) ∈ lw_tbl := lw_at lw_m3 73 rfl
theorem q893 : (Jvm.Cond.instanceMethod ({ cls := "RewriteHouse", name := "printSign", desc := "(I)V" } : Jvm.MethodName)) ∈ lw_all := lw_g (lw_at lw_m3 74 rfl) rfl
theorem q894 : (Jvm.Cond.code ({ cls := "RewriteHouse", name := "printSign", desc := "(I)V" } : Jvm.MethodName) prog_1_method_161_code (2 : Nat) (Option.none : Option Jvm.ClassFile.FieldType)) ∈ lw_all := lw_g (lw_at lw_m3 75 rfl) rfl
theorem q896 : (Jvm.Cond.instanceMethod ({ cls := "RewriteHouse", name := "below", desc := "(II)I" } : Jvm.MethodName)) ∈ lw_all := lw_g (lw_at lw_m3 77 rfl) rfl
theorem q897 : (Jvm.Cond.selects "RewriteHouse" ({ cls := "RewriteHouse", name := "below", desc := "(II)I" } : Jvm.MethodName) ({ cls := "RewriteHouse", name := "below", desc := "(II)I" } : Jvm.MethodName)) ∈ lw_all := lw_g (lw_at lw_m3 78 rfl) rfl
theorem q898 : (Jvm.Cond.code ({ cls := "RewriteHouse", name := "below", desc := "(II)I" } : Jvm.MethodName) prog_1_method_165_code (3 : Nat) (Option.some Jvm.ClassFile.FieldType.int)) ∈ lw_all := lw_g (lw_at lw_m3 79 rfl) rfl
theorem q899 : (Jvm.Cond.methodLink "RewriteHouse" (1051 : Nat) ({ cls := "RewriteHouse", name := "isSort", desc := "(I)Z" } : Jvm.MethodName)) ∈ lw_all := lw_g (lw_at lw_m3 80 rfl) rfl
theorem q900 : (Jvm.Cond.privateMethod ({ cls := "RewriteHouse", name := "isSort", desc := "(I)Z" } : Jvm.MethodName)) ∈ lw_tbl := lw_at lw_m3 81 rfl
theorem q901 : (Jvm.Cond.instanceMethod ({ cls := "RewriteHouse", name := "isSort", desc := "(I)Z" } : Jvm.MethodName)) ∈ lw_all := lw_g (lw_at lw_m3 82 rfl) rfl
theorem q902 : (Jvm.Cond.code ({ cls := "RewriteHouse", name := "isSort", desc := "(I)Z" } : Jvm.MethodName) prog_1_method_164_code (2 : Nat) (Option.some Jvm.ClassFile.FieldType.boolean)) ∈ lw_all := lw_g (lw_at lw_m3 83 rfl) rfl
theorem q904 : (Jvm.Cond.instanceMethod ({ cls := "RewriteHouse", name := "kind", desc := "(I)I" } : Jvm.MethodName)) ∈ lw_all := lw_g (lw_at lw_m3 85 rfl) rfl
theorem q905 : (Jvm.Cond.selects "RewriteHouse" ({ cls := "RewriteHouse", name := "kind", desc := "(I)I" } : Jvm.MethodName) ({ cls := "RewriteHouse", name := "kind", desc := "(I)I" } : Jvm.MethodName)) ∈ lw_all := lw_g (lw_at lw_m3 86 rfl) rfl
theorem q906 : (Jvm.Cond.code ({ cls := "RewriteHouse", name := "kind", desc := "(I)I" } : Jvm.MethodName) prog_1_method_166_code (2 : Nat) (Option.some Jvm.ClassFile.FieldType.int)) ∈ lw_all := lw_g (lw_at lw_m3 87 rfl) rfl
theorem q908 : (Jvm.Cond.instanceMethod ({ cls := "RewriteHouse", name := "operator", desc := "(II)I" } : Jvm.MethodName)) ∈ lw_all := lw_g (lw_at lw_m3 89 rfl) rfl
theorem q909 : (Jvm.Cond.selects "RewriteHouse" ({ cls := "RewriteHouse", name := "operator", desc := "(II)I" } : Jvm.MethodName) ({ cls := "RewriteHouse", name := "operator", desc := "(II)I" } : Jvm.MethodName)) ∈ lw_all := lw_g (lw_at lw_m3 90 rfl) rfl
theorem q910 : (Jvm.Cond.code ({ cls := "RewriteHouse", name := "operator", desc := "(II)I" } : Jvm.MethodName) prog_1_method_167_code (3 : Nat) (Option.some Jvm.ClassFile.FieldType.int)) ∈ lw_all := lw_g (lw_at lw_m3 91 rfl) rfl
theorem q911 : (Jvm.Cond.methodLink "RewriteHouse" (1054 : Nat) ({ cls := "RewriteHouse", name := "rowsOf", desc := "(I)I" } : Jvm.MethodName)) ∈ lw_all := lw_g (lw_at lw_m3 92 rfl) rfl
theorem q912 : (Jvm.Cond.privateMethod ({ cls := "RewriteHouse", name := "rowsOf", desc := "(I)I" } : Jvm.MethodName)) ∈ lw_tbl := lw_at lw_m3 93 rfl
theorem q913 : (Jvm.Cond.instanceMethod ({ cls := "RewriteHouse", name := "rowsOf", desc := "(I)I" } : Jvm.MethodName)) ∈ lw_all := lw_g (lw_at lw_m3 94 rfl) rfl
theorem q914 : (Jvm.Cond.code ({ cls := "RewriteHouse", name := "rowsOf", desc := "(I)I" } : Jvm.MethodName) prog_1_method_168_code (4 : Nat) (Option.some Jvm.ClassFile.FieldType.int)) ∈ lw_all := lw_g (lw_at lw_m3 95 rfl) rfl
theorem q916 : (Jvm.Cond.instanceMethod ({ cls := "RewriteHouse", name := "match", desc := "(IIZ)I" } : Jvm.MethodName)) ∈ lw_all := lw_g (lw_at lw_m3 97 rfl) rfl
theorem q917 : (Jvm.Cond.selects "RewriteHouse" ({ cls := "RewriteHouse", name := "match", desc := "(IIZ)I" } : Jvm.MethodName) ({ cls := "RewriteHouse", name := "match", desc := "(IIZ)I" } : Jvm.MethodName)) ∈ lw_all := lw_g (lw_at lw_m3 98 rfl) rfl
theorem q918 : (Jvm.Cond.codeWith ({ cls := "RewriteHouse", name := "match", desc := "(IIZ)I" } : Jvm.MethodName) prog_1_method_169_code (7 : Nat) (Option.some Jvm.ClassFile.FieldType.int) [((53 : Nat), (105 : Nat), (106 : Nat), (8 : Nat))]) ∈ lw_all := lw_g (lw_at lw_m3 99 rfl) rfl
theorem q919 : (Jvm.Cond.methodLink "RewriteHouse" (941 : Nat) ({ cls := "RewriteHouse", name := "matchers", desc := "(IIZ)I" } : Jvm.MethodName)) ∈ lw_all := lw_g (lw_at lw_m3 100 rfl) rfl
theorem q920 : (Jvm.Cond.privateMethod ({ cls := "RewriteHouse", name := "matchers", desc := "(IIZ)I" } : Jvm.MethodName)) ∈ lw_tbl := lw_at lw_m3 101 rfl
theorem q921 : (Jvm.Cond.instanceMethod ({ cls := "RewriteHouse", name := "matchers", desc := "(IIZ)I" } : Jvm.MethodName)) ∈ lw_all := lw_g (lw_at lw_m3 102 rfl) rfl
theorem q922 : (Jvm.Cond.code ({ cls := "RewriteHouse", name := "matchers", desc := "(IIZ)I" } : Jvm.MethodName) prog_1_method_121_code (5 : Nat) (Option.some Jvm.ClassFile.FieldType.int)) ∈ lw_all := lw_g (lw_at lw_m3 103 rfl) rfl
theorem q923 : (Jvm.Cond.methodLink "RewriteHouse" (755 : Nat) ({ cls := "RewriteHouse", name := "isWide", desc := "(II)Z" } : Jvm.MethodName)) ∈ lw_all := lw_g (lw_at lw_m3 104 rfl) rfl
theorem q924 : (Jvm.Cond.privateMethod ({ cls := "RewriteHouse", name := "isWide", desc := "(II)Z" } : Jvm.MethodName)) ∈ lw_tbl := lw_at lw_m3 105 rfl
theorem q925 : (Jvm.Cond.instanceMethod ({ cls := "RewriteHouse", name := "isWide", desc := "(II)Z" } : Jvm.MethodName)) ∈ lw_all := lw_g (lw_at lw_m3 106 rfl) rfl
theorem q926 : (Jvm.Cond.code ({ cls := "RewriteHouse", name := "isWide", desc := "(II)Z" } : Jvm.MethodName) prog_1_method_103_code (4 : Nat) (Option.some Jvm.ClassFile.FieldType.boolean)) ∈ lw_all := lw_g (lw_at lw_m3 107 rfl) rfl
theorem q927 : (Jvm.Cond.methodLink "RewriteHouse" (752 : Nat) ({ cls := "RewriteHouse", name := "hasAssoc", desc := "(II)Z" } : Jvm.MethodName)) ∈ lw_all := lw_g (lw_at lw_m3 108 rfl) rfl
theorem q928 : (Jvm.Cond.privateMethod ({ cls := "RewriteHouse", name := "hasAssoc", desc := "(II)Z" } : Jvm.MethodName)) ∈ lw_tbl := lw_at lw_m3 109 rfl
theorem q929 : (Jvm.Cond.instanceMethod ({ cls := "RewriteHouse", name := "hasAssoc", desc := "(II)Z" } : Jvm.MethodName)) ∈ lw_all := lw_g (lw_at lw_m3 110 rfl) rfl
theorem q930 : (Jvm.Cond.code ({ cls := "RewriteHouse", name := "hasAssoc", desc := "(II)Z" } : Jvm.MethodName) prog_1_method_102_code (5 : Nat) (Option.some Jvm.ClassFile.FieldType.boolean)) ∈ lw_all := lw_g (lw_at lw_m3 111 rfl) rfl
theorem q931 : (Jvm.Cond.constantLong "RewriteHouse" (767 : Nat) (3000001 : Int64)) ∈ lw_all := lw_g (lw_at lw_m3 112 rfl) rfl
theorem q932 : (Jvm.Cond.methodLink "RewriteHouse" (772 : Nat) ({ cls := "RewriteHouse", name := "deals", desc := "(II)J" } : Jvm.MethodName)) ∈ lw_all := lw_g (lw_at lw_m3 113 rfl) rfl
theorem q933 : (Jvm.Cond.privateMethod ({ cls := "RewriteHouse", name := "deals", desc := "(II)J" } : Jvm.MethodName)) ∈ lw_tbl := lw_at lw_m3 114 rfl
theorem q934 : (Jvm.Cond.instanceMethod ({ cls := "RewriteHouse", name := "deals", desc := "(II)J" } : Jvm.MethodName)) ∈ lw_all := lw_g (lw_at lw_m3 115 rfl) rfl
theorem q935 : (Jvm.Cond.code ({ cls := "RewriteHouse", name := "deals", desc := "(II)J" } : Jvm.MethodName) prog_1_method_106_code (7 : Nat) (Option.some Jvm.ClassFile.FieldType.long)) ∈ lw_all := lw_g (lw_at lw_m3 116 rfl) rfl
theorem q936 : (Jvm.Cond.methodLink "RewriteHouse" (758 : Nat) ({ cls := "RewriteHouse", name := "longest", desc := "(II)I" } : Jvm.MethodName)) ∈ lw_all := lw_g (lw_at lw_m3 117 rfl) rfl
theorem q937 : (Jvm.Cond.privateMethod ({ cls := "RewriteHouse", name := "longest", desc := "(II)I" } : Jvm.MethodName)) ∈ lw_tbl := lw_at lw_m3 118 rfl
theorem q938 : (Jvm.Cond.instanceMethod ({ cls := "RewriteHouse", name := "longest", desc := "(II)I" } : Jvm.MethodName)) ∈ lw_all := lw_g (lw_at lw_m3 119 rfl) rfl
theorem q939 : (Jvm.Cond.code ({ cls := "RewriteHouse", name := "longest", desc := "(II)I" } : Jvm.MethodName) prog_1_method_104_code (5 : Nat) (Option.some Jvm.ClassFile.FieldType.int)) ∈ lw_all := lw_g (lw_at lw_m3 120 rfl) rfl
theorem q940 : (Jvm.Cond.methodLink "RewriteHouse" (761 : Nat) ({ cls := "RewriteHouse", name := "waysToDeal", desc := "(IIZ)J" } : Jvm.MethodName)) ∈ lw_all := lw_g (lw_at lw_m3 121 rfl) rfl
theorem q941 : (Jvm.Cond.static ({ cls := "RewriteHouse", name := "waysToDeal", desc := "(IIZ)J" } : Jvm.MethodName)) ∈ lw_all := lw_g (lw_at lw_m3 122 rfl) rfl
theorem q942 : (Jvm.Cond.code ({ cls := "RewriteHouse", name := "waysToDeal", desc := "(IIZ)J" } : Jvm.MethodName) prog_1_method_105_code (6 : Nat) (Option.some Jvm.ClassFile.FieldType.long)) ∈ lw_all := lw_g (lw_at lw_m3 123 rfl) rfl
theorem q943 : (Jvm.Cond.constantLong "RewriteHouse" (765 : Nat) (2 : Int64)) ∈ lw_all := lw_g (lw_at lw_m3 124 rfl) rfl
theorem q944 : (Jvm.Cond.methodLink "RewriteHouse" (769 : Nat) ({ cls := "java/lang/Math", name := "min", desc := "(JJ)J" } : Jvm.MethodName)) ∈ lw_all := lw_g (lw_at lw_m3 125 rfl) rfl
theorem q947 : (Jvm.Cond.methodLink "RewriteHouse" (883 : Nat) ({ cls := "RewriteHouse", name := "matchBag", desc := "(III)V" } : Jvm.MethodName)) ∈ lw_all := lw_g (lw_at lw_m3 128 rfl) rfl
theorem q948 : (Jvm.Cond.privateMethod ({ cls := "RewriteHouse", name := "matchBag", desc := "(III)V" } : Jvm.MethodName)) ∈ lw_tbl := lw_at lw_m3 129 rfl
theorem q949 : (Jvm.Cond.instanceMethod ({ cls := "RewriteHouse", name := "matchBag", desc := "(III)V" } : Jvm.MethodName)) ∈ lw_all := lw_g (lw_at lw_m3 130 rfl) rfl
theorem q950 : (Jvm.Cond.code ({ cls := "RewriteHouse", name := "matchBag", desc := "(III)V" } : Jvm.MethodName) prog_1_method_123_code (5 : Nat) (Option.none : Option Jvm.ClassFile.FieldType)) ∈ lw_all := lw_g (lw_at lw_m3 131 rfl) rfl
theorem q951 : (Jvm.Cond.methodLink "RewriteHouse" (892 : Nat) ({ cls := "RewriteHouse", name := "some", desc := "(III)I" } : Jvm.MethodName)) ∈ lw_all := lw_g (lw_at lw_m3 132 rfl) rfl
theorem q952 : (Jvm.Cond.privateMethod ({ cls := "RewriteHouse", name := "some", desc := "(III)I" } : Jvm.MethodName)) ∈ lw_tbl := lw_at lw_m3 133 rfl
theorem q953 : (Jvm.Cond.instanceMethod ({ cls := "RewriteHouse", name := "some", desc := "(III)I" } : Jvm.MethodName)) ∈ lw_all := lw_g (lw_at lw_m3 134 rfl) rfl
theorem q954 : (Jvm.Cond.code ({ cls := "RewriteHouse", name := "some", desc := "(III)I" } : Jvm.MethodName) prog_1_method_124_code (6 : Nat) (Option.some Jvm.ClassFile.FieldType.int)) ∈ lw_all := lw_g (lw_at lw_m3 135 rfl) rfl
theorem q955 : (Jvm.Cond.methodLink "RewriteHouse" (843 : Nat) ({ cls := "RewriteHouse", name := "makeSome", desc := "(II)I" } : Jvm.MethodName)) ∈ lw_all := lw_g (lw_at lw_m3 136 rfl) rfl
theorem q956 : (Jvm.Cond.privateMethod ({ cls := "RewriteHouse", name := "makeSome", desc := "(II)I" } : Jvm.MethodName)) ∈ lw_tbl := lw_at lw_m3 137 rfl
theorem q957 : (Jvm.Cond.instanceMethod ({ cls := "RewriteHouse", name := "makeSome", desc := "(II)I" } : Jvm.MethodName)) ∈ lw_all := lw_g (lw_at lw_m3 138 rfl) rfl
theorem q958 : (Jvm.Cond.code ({ cls := "RewriteHouse", name := "makeSome", desc := "(II)I" } : Jvm.MethodName) prog_1_method_84_code (5 : Nat) (Option.some Jvm.ClassFile.FieldType.int)) ∈ lw_all := lw_g (lw_at lw_m3 139 rfl) rfl
theorem q959 : (Jvm.Cond.methodLink "RewriteHouse" (895 : Nat) ({ cls := "RewriteHouse", name := "matchPart", desc := "(II)V" } : Jvm.MethodName)) ∈ lw_all := lw_g (lw_at lw_m3 140 rfl) rfl
theorem q960 : (Jvm.Cond.privateMethod ({ cls := "RewriteHouse", name := "matchPart", desc := "(II)V" } : Jvm.MethodName)) ∈ lw_tbl := lw_at lw_m3 141 rfl
theorem q961 : (Jvm.Cond.instanceMethod ({ cls := "RewriteHouse", name := "matchPart", desc := "(II)V" } : Jvm.MethodName)) ∈ lw_all := lw_g (lw_at lw_m3 142 rfl) rfl
theorem q962 : (Jvm.Cond.code ({ cls := "RewriteHouse", name := "matchPart", desc := "(II)V" } : Jvm.MethodName) prog_1_method_122_code (3 : Nat) (Option.none : Option Jvm.ClassFile.FieldType)) ∈ lw_all := lw_g (lw_at lw_m3 143 rfl) rfl
theorem q963 : (Jvm.Cond.methodLink "RewriteHouse" (801 : Nat) ({ cls := "RewriteHouse", name := "goal", desc := "(II)V" } : Jvm.MethodName)) ∈ lw_all := lw_g (lw_at lw_m3 144 rfl) rfl
theorem q964 : (Jvm.Cond.privateMethod ({ cls := "RewriteHouse", name := "goal", desc := "(II)V" } : Jvm.MethodName)) ∈ lw_tbl := lw_at lw_m3 145 rfl
theorem q965 : (Jvm.Cond.instanceMethod ({ cls := "RewriteHouse", name := "goal", desc := "(II)V" } : Jvm.MethodName)) ∈ lw_all := lw_g (lw_at lw_m3 146 rfl) rfl
theorem q966 : (Jvm.Cond.code ({ cls := "RewriteHouse", name := "goal", desc := "(II)V" } : Jvm.MethodName) prog_1_method_107_code (3 : Nat) (Option.none : Option Jvm.ClassFile.FieldType)) ∈ lw_all := lw_g (lw_at lw_m3 147 rfl) rfl
theorem q967 : (Jvm.Cond.methodLink "RewriteHouse" (804 : Nat) ({ cls := "RewriteHouse", name := "solve", desc := "()V" } : Jvm.MethodName)) ∈ lw_all := lw_g (lw_at lw_m3 148 rfl) rfl
theorem q968 : (Jvm.Cond.privateMethod ({ cls := "RewriteHouse", name := "solve", desc := "()V" } : Jvm.MethodName)) ∈ lw_tbl := lw_at lw_m3 149 rfl
theorem q969 : (Jvm.Cond.instanceMethod ({ cls := "RewriteHouse", name := "solve", desc := "()V" } : Jvm.MethodName)) ∈ lw_all := lw_g (lw_at lw_m3 150 rfl) rfl
theorem q970 : (Jvm.Cond.code ({ cls := "RewriteHouse", name := "solve", desc := "()V" } : Jvm.MethodName) prog_1_method_108_code (6 : Nat) (Option.none : Option Jvm.ClassFile.FieldType)) ∈ lw_all := lw_g (lw_at lw_m3 151 rfl) rfl
theorem q971 : (Jvm.Cond.methodLink "RewriteHouse" (785 : Nat) ({ cls := "RewriteHouse", name := "list", desc := "()V" } : Jvm.MethodName)) ∈ lw_all := lw_g (lw_at lw_m3 152 rfl) rfl
theorem q972 : (Jvm.Cond.privateMethod ({ cls := "RewriteHouse", name := "list", desc := "()V" } : Jvm.MethodName)) ∈ lw_tbl := lw_at lw_m3 153 rfl
theorem q973 : (Jvm.Cond.instanceMethod ({ cls := "RewriteHouse", name := "list", desc := "()V" } : Jvm.MethodName)) ∈ lw_all := lw_g (lw_at lw_m3 154 rfl) rfl
theorem q974 : (Jvm.Cond.code ({ cls := "RewriteHouse", name := "list", desc := "()V" } : Jvm.MethodName) prog_1_method_116_code (6 : Nat) (Option.none : Option Jvm.ClassFile.FieldType)) ∈ lw_all := lw_g (lw_at lw_m3 155 rfl) rfl
theorem q975 : (Jvm.Cond.methodLink "RewriteHouse" (861 : Nat) ({ cls := "RewriteHouse", name := "compareMatchers", desc := "(II)I" } : Jvm.MethodName)) ∈ lw_all := lw_g (lw_at lw_m3 156 rfl) rfl
theorem q976 : (Jvm.Cond.privateMethod ({ cls := "RewriteHouse", name := "compareMatchers", desc := "(II)I" } : Jvm.MethodName)) ∈ lw_tbl := lw_at lw_m3 157 rfl
theorem q977 : (Jvm.Cond.instanceMethod ({ cls := "RewriteHouse", name := "compareMatchers", desc := "(II)I" } : Jvm.MethodName)) ∈ lw_all := lw_g (lw_at lw_m3 158 rfl) rfl
theorem q978 : (Jvm.Cond.code ({ cls := "RewriteHouse", name := "compareMatchers", desc := "(II)I" } : Jvm.MethodName) prog_1_method_117_code (7 : Nat) (Option.some Jvm.ClassFile.FieldType.int)) ∈ lw_all := lw_g (lw_at lw_m3 159 rfl) rfl
theorem q979 : (Jvm.Cond.methodLink "RewriteHouse" (864 : Nat) ({ cls := "RewriteHouse", name := "compareRest", desc := "(II)I" } : Jvm.MethodName)) ∈ lw_all := lw_g (lw_at lw_m3 160 rfl) rfl
theorem q980 : (Jvm.Cond.privateMethod ({ cls := "RewriteHouse", name := "compareRest", desc := "(II)I" } : Jvm.MethodName)) ∈ lw_tbl := lw_at lw_m3 161 rfl
theorem q981 : (Jvm.Cond.instanceMethod ({ cls := "RewriteHouse", name := "compareRest", desc := "(II)I" } : Jvm.MethodName)) ∈ lw_all := lw_g (lw_at lw_m3 162 rfl) rfl
theorem q982 : (Jvm.Cond.code ({ cls := "RewriteHouse", name := "compareRest", desc := "(II)I" } : Jvm.MethodName) prog_1_method_120_code (6 : Nat) (Option.some Jvm.ClassFile.FieldType.int)) ∈ lw_all := lw_g (lw_at lw_m3 163 rfl) rfl
theorem q983 : (Jvm.Cond.methodLink "RewriteHouse" (870 : Nat) ({ cls := "RewriteHouse", name := "restMany", desc := "(I)I" } : Jvm.MethodName)) ∈ lw_all := lw_g (lw_at lw_m3 164 rfl) rfl
theorem q984 : (Jvm.Cond.privateMethod ({ cls := "RewriteHouse", name := "restMany", desc := "(I)I" } : Jvm.MethodName)) ∈ lw_tbl := lw_at lw_m3 165 rfl
theorem q985 : (Jvm.Cond.instanceMethod ({ cls := "RewriteHouse", name := "restMany", desc := "(I)I" } : Jvm.MethodName)) ∈ lw_all := lw_g (lw_at lw_m3 166 rfl) rfl
theorem q986 : (Jvm.Cond.code ({ cls := "RewriteHouse", name := "restMany", desc := "(I)I" } : Jvm.MethodName) prog_1_method_118_code (2 : Nat) (Option.some Jvm.ClassFile.FieldType.int)) ∈ lw_all := lw_g (lw_at lw_m3 167 rfl) rfl
theorem q987 : (Jvm.Cond.methodLink "RewriteHouse" (873 : Nat) ({ cls := "RewriteHouse", name := "restAt", desc := "(II)I" } : Jvm.MethodName)) ∈ lw_all := lw_g (lw_at lw_m3 168 rfl) rfl
theorem q988 : (Jvm.Cond.privateMethod ({ cls := "RewriteHouse", name := "restAt", desc := "(II)I" } : Jvm.MethodName)) ∈ lw_tbl := lw_at lw_m3 169 rfl
theorem q989 : (Jvm.Cond.instanceMethod ({ cls := "RewriteHouse", name := "restAt", desc := "(II)I" } : Jvm.MethodName)) ∈ lw_all := lw_g (lw_at lw_m3 170 rfl) rfl
theorem q990 : (Jvm.Cond.code ({ cls := "RewriteHouse", name := "restAt", desc := "(II)I" } : Jvm.MethodName) prog_1_method_119_code (3 : Nat) (Option.some Jvm.ClassFile.FieldType.int)) ∈ lw_all := lw_g (lw_at lw_m3 171 rfl) rfl
theorem q991 : (Jvm.Cond.methodLink "RewriteHouse" (788 : Nat) ({ cls := "RewriteHouse", name := "share", desc := "(III)V" } : Jvm.MethodName)) ∈ lw_all := lw_g (lw_at lw_m3 172 rfl) rfl
theorem q992 : (Jvm.Cond.privateMethod ({ cls := "RewriteHouse", name := "share", desc := "(III)V" } : Jvm.MethodName)) ∈ lw_tbl := lw_at lw_m3 173 rfl
theorem q993 : (Jvm.Cond.instanceMethod ({ cls := "RewriteHouse", name := "share", desc := "(III)V" } : Jvm.MethodName)) ∈ lw_all := lw_g (lw_at lw_m3 174 rfl) rfl
theorem q994 : (Jvm.Cond.code ({ cls := "RewriteHouse", name := "share", desc := "(III)V" } : Jvm.MethodName) prog_1_method_114_code (9 : Nat) (Option.none : Option Jvm.ClassFile.FieldType)) ∈ lw_all := lw_g (lw_at lw_m3 175 rfl) rfl
theorem q995 : (Jvm.Cond.methodLink "RewriteHouse" (834 : Nat) ({ cls := "RewriteHouse", name := "shareOne", desc := "(IIII)V" } : Jvm.MethodName)) ∈ lw_all := lw_g (lw_at lw_m3 176 rfl) rfl
theorem q996 : (Jvm.Cond.privateMethod ({ cls := "RewriteHouse", name := "shareOne", desc := "(IIII)V" } : Jvm.MethodName)) ∈ lw_tbl := lw_at lw_m3 177 rfl
theorem q997 : (Jvm.Cond.instanceMethod ({ cls := "RewriteHouse", name := "shareOne", desc := "(IIII)V" } : Jvm.MethodName)) ∈ lw_all := lw_g (lw_at lw_m3 178 rfl) rfl
theorem q998 : (Jvm.Cond.code ({ cls := "RewriteHouse", name := "shareOne", desc := "(IIII)V" } : Jvm.MethodName) prog_1_method_115_code (10 : Nat) (Option.none : Option Jvm.ClassFile.FieldType)) ∈ lw_all := lw_g (lw_at lw_m3 179 rfl) rfl
theorem q999 : (Jvm.Cond.methodLink "RewriteHouse" (819 : Nat) ({ cls := "RewriteHouse", name := "newShare", desc := "(III)I" } : Jvm.MethodName)) ∈ lw_all := lw_g (lw_at lw_m3 180 rfl) rfl
theorem q1000 : (Jvm.Cond.privateMethod ({ cls := "RewriteHouse", name := "newShare", desc := "(III)I" } : Jvm.MethodName)) ∈ lw_tbl := lw_at lw_m3 181 rfl
theorem q1001 : (Jvm.Cond.instanceMethod ({ cls := "RewriteHouse", name := "newShare", desc := "(III)I" } : Jvm.MethodName)) ∈ lw_all := lw_g (lw_at lw_m3 182 rfl) rfl
theorem q1002 : (Jvm.Cond.code ({ cls := "RewriteHouse", name := "newShare", desc := "(III)I" } : Jvm.MethodName) prog_1_method_113_code (4 : Nat) (Option.some Jvm.ClassFile.FieldType.int)) ∈ lw_all := lw_g (lw_at lw_m3 183 rfl) rfl
theorem q1003 : (Jvm.Cond.methodLink "RewriteHouse" (838 : Nat) ({ cls := "java/lang/Integer", name := "bitCount", desc := "(I)I" } : Jvm.MethodName)) ∈ lw_all := lw_g (lw_at lw_m3 184 rfl) rfl
theorem q1009 : (Jvm.Cond.methodLink "RewriteHouse" (792 : Nat) ({ cls := "RewriteHouse", name := "solveVariable", desc := "(II)V" } : Jvm.MethodName)) ∈ lw_all := lw_g (lw_at lw_m3 190 rfl) rfl
theorem q1010 : (Jvm.Cond.privateMethod ({ cls := "RewriteHouse", name := "solveVariable", desc := "(II)V" } : Jvm.MethodName)) ∈ lw_tbl := lw_at lw_m3 191 rfl
theorem q1011 : (Jvm.Cond.instanceMethod ({ cls := "RewriteHouse", name := "solveVariable", desc := "(II)V" } : Jvm.MethodName)) ∈ lw_all := lw_g (lw_at lw_m3 192 rfl) rfl
theorem q1012 : (Jvm.Cond.code ({ cls := "RewriteHouse", name := "solveVariable", desc := "(II)V" } : Jvm.MethodName) prog_1_method_109_code (3 : Nat) (Option.none : Option Jvm.ClassFile.FieldType)) ∈ lw_all := lw_g (lw_at lw_m3 193 rfl) rfl
theorem q1013 : (Jvm.Cond.methodLink "RewriteHouse" (795 : Nat) ({ cls := "RewriteHouse", name := "solveAssoc", desc := "(III)V" } : Jvm.MethodName)) ∈ lw_all := lw_g (lw_at lw_m3 194 rfl) rfl
theorem q1014 : (Jvm.Cond.privateMethod ({ cls := "RewriteHouse", name := "solveAssoc", desc := "(III)V" } : Jvm.MethodName)) ∈ lw_tbl := lw_at lw_m3 195 rfl
theorem q1015 : (Jvm.Cond.instanceMethod ({ cls := "RewriteHouse", name := "solveAssoc", desc := "(III)V" } : Jvm.MethodName)) ∈ lw_all := lw_g (lw_at lw_m3 196 rfl) rfl
theorem q1016 : (Jvm.Cond.code ({ cls := "RewriteHouse", name := "solveAssoc", desc := "(III)V" } : Jvm.MethodName) prog_1_method_112_code (6 : Nat) (Option.none : Option Jvm.ClassFile.FieldType)) ∈ lw_all := lw_g (lw_at lw_m3 197 rfl) rfl
theorem q1017 : (Jvm.Cond.methodLink "RewriteHouse" (798 : Nat) ({ cls := "RewriteHouse", name := "solveTwo", desc := "(III)V" } : Jvm.MethodName)) ∈ lw_all := lw_g (lw_at lw_m3 198 rfl) rfl
theorem q1018 : (Jvm.Cond.privateMethod ({ cls := "RewriteHouse", name := "solveTwo", desc := "(III)V" } : Jvm.MethodName)) ∈ lw_tbl := lw_at lw_m3 199 rfl
theorem q1019 : (Jvm.Cond.instanceMethod ({ cls := "RewriteHouse", name := "solveTwo", desc := "(III)V" } : Jvm.MethodName)) ∈ lw_all := lw_g (lw_at lw_m3 200 rfl) rfl
theorem q1020 : (Jvm.Cond.code ({ cls := "RewriteHouse", name := "solveTwo", desc := "(III)V" } : Jvm.MethodName) prog_1_method_111_code (4 : Nat) (Option.none : Option Jvm.ClassFile.FieldType)) ∈ lw_all := lw_g (lw_at lw_m3 201 rfl) rfl
theorem q1021 : (Jvm.Cond.methodLink "RewriteHouse" (810 : Nat) ({ cls := "RewriteHouse", name := "solvePair", desc := "(III)V" } : Jvm.MethodName)) ∈ lw_all := lw_g (lw_at lw_m3 202 rfl) rfl
theorem q1022 : (Jvm.Cond.privateMethod ({ cls := "RewriteHouse", name := "solvePair", desc := "(III)V" } : Jvm.MethodName)) ∈ lw_tbl := lw_at lw_m3 203 rfl
theorem q1023 : (Jvm.Cond.instanceMethod ({ cls := "RewriteHouse", name := "solvePair", desc := "(III)V" } : Jvm.MethodName)) ∈ lw_all := lw_g (lw_at lw_m3 204 rfl) rfl
theorem q1024 : (Jvm.Cond.code ({ cls := "RewriteHouse", name := "solvePair", desc := "(III)V" } : Jvm.MethodName) prog_1_method_110_code (5 : Nat) (Option.none : Option Jvm.ClassFile.FieldType)) ∈ lw_all := lw_g (lw_at lw_m3 205 rfl) rfl
theorem q1025 : (Jvm.Cond.methodLink "RewriteHouse" (886 : Nat) ({ cls := "RewriteHouse", name := "matchRow", desc := "(III)V" } : Jvm.MethodName)) ∈ lw_all := lw_g (lw_at lw_m3 206 rfl) rfl
theorem q1026 : (Jvm.Cond.privateMethod ({ cls := "RewriteHouse", name := "matchRow", desc := "(III)V" } : Jvm.MethodName)) ∈ lw_tbl := lw_at lw_m3 207 rfl
theorem q1027 : (Jvm.Cond.instanceMethod ({ cls := "RewriteHouse", name := "matchRow", desc := "(III)V" } : Jvm.MethodName)) ∈ lw_all := lw_g (lw_at lw_m3 208 rfl) rfl
theorem q1028 : (Jvm.Cond.code ({ cls := "RewriteHouse", name := "matchRow", desc := "(III)V" } : Jvm.MethodName) prog_1_method_126_code (6 : Nat) (Option.none : Option Jvm.ClassFile.FieldType)) ∈ lw_all := lw_g (lw_at lw_m3 209 rfl) rfl
theorem q1029 : (Jvm.Cond.methodLink "RewriteHouse" (898 : Nat) ({ cls := "RewriteHouse", name := "span", desc := "(IIII)I" } : Jvm.MethodName)) ∈ lw_all := lw_g (lw_at lw_m3 210 rfl) rfl
theorem q1030 : (Jvm.Cond.privateMethod ({ cls := "RewriteHouse", name := "span", desc := "(IIII)I" } : Jvm.MethodName)) ∈ lw_tbl := lw_at lw_m3 211 rfl
theorem q1031 : (Jvm.Cond.instanceMethod ({ cls := "RewriteHouse", name := "span", desc := "(IIII)I" } : Jvm.MethodName)) ∈ lw_all := lw_g (lw_at lw_m3 212 rfl) rfl
theorem q1032 : (Jvm.Cond.code ({ cls := "RewriteHouse", name := "span", desc := "(IIII)I" } : Jvm.MethodName) prog_1_method_125_code (5 : Nat) (Option.some Jvm.ClassFile.FieldType.int)) ∈ lw_all := lw_g (lw_at lw_m3 213 rfl) rfl
theorem q1033 : (Jvm.Cond.methodLink "RewriteHouse" (1063 : Nat) ({ cls := "RewriteHouse", name := "stopped", desc := "(LRewriteHouse$Stop;)I" } : Jvm.MethodName)) ∈ lw_all := lw_g (lw_at lw_m3 214 rfl) rfl
theorem q1034 : (Jvm.Cond.privateMethod ({ cls := "RewriteHouse", name := "stopped", desc := "(LRewriteHouse$Stop;)I" } : Jvm.MethodName)) ∈ lw_tbl := lw_at lw_m3 215 rfl
theorem q1035 : (Jvm.Cond.instanceMethod ({ cls := "RewriteHouse", name := "stopped", desc := "(LRewriteHouse$Stop;)I" } : Jvm.MethodName)) ∈ lw_all := lw_g (lw_at lw_m3 216 rfl) rfl
theorem q1036 : (Jvm.Cond.code ({ cls := "RewriteHouse", name := "stopped", desc := "(LRewriteHouse$Stop;)I" } : Jvm.MethodName) prog_1_method_150_code (2 : Nat) (Option.some Jvm.ClassFile.FieldType.int)) ∈ lw_all := lw_g (lw_at lw_m3 217 rfl) rfl
theorem q1038 : (Jvm.Cond.instanceMethod ({ cls := "RewriteHouse", name := "bound", desc := "(II)I" } : Jvm.MethodName)) ∈ lw_all := lw_g (lw_at lw_m3 219 rfl) rfl
theorem q1039 : (Jvm.Cond.selects "RewriteHouse" ({ cls := "RewriteHouse", name := "bound", desc := "(II)I" } : Jvm.MethodName) ({ cls := "RewriteHouse", name := "bound", desc := "(II)I" } : Jvm.MethodName)) ∈ lw_all := lw_g (lw_at lw_m3 220 rfl) rfl
theorem q1040 : (Jvm.Cond.code ({ cls := "RewriteHouse", name := "bound", desc := "(II)I" } : Jvm.MethodName) prog_1_method_170_code (7 : Nat) (Option.some Jvm.ClassFile.FieldType.int)) ∈ lw_all := lw_g (lw_at lw_m3 221 rfl) rfl
theorem q1042 : (Jvm.Cond.instanceMethod ({ cls := "RewriteHouse", name := "reduce", desc := "(I)I" } : Jvm.MethodName)) ∈ lw_all := lw_g (lw_at lw_m3 223 rfl) rfl
theorem q1043 : (Jvm.Cond.selects "RewriteHouse" ({ cls := "RewriteHouse", name := "reduce", desc := "(I)I" } : Jvm.MethodName) ({ cls := "RewriteHouse", name := "reduce", desc := "(I)I" } : Jvm.MethodName)) ∈ lw_all := lw_g (lw_at lw_m3 224 rfl) rfl
theorem q1044 : (Jvm.Cond.codeWith ({ cls := "RewriteHouse", name := "reduce", desc := "(I)I" } : Jvm.MethodName) prog_1_method_172_code (3 : Nat) (Option.some Jvm.ClassFile.FieldType.int) [((27 : Nat), (46 : Nat), (47 : Nat), (8 : Nat))]) ∈ lw_all := lw_g (lw_at lw_m3 225 rfl) rfl
theorem q1045 : (Jvm.Cond.methodLink "RewriteHouse" (923 : Nat) ({ cls := "RewriteHouse", name := "toRest", desc := "(I)I" } : Jvm.MethodName)) ∈ lw_all := lw_g (lw_at lw_m3 226 rfl) rfl
theorem q1046 : (Jvm.Cond.privateMethod ({ cls := "RewriteHouse", name := "toRest", desc := "(I)I" } : Jvm.MethodName)) ∈ lw_tbl := lw_at lw_m3 227 rfl
theorem q1047 : (Jvm.Cond.instanceMethod ({ cls := "RewriteHouse", name := "toRest", desc := "(I)I" } : Jvm.MethodName)) ∈ lw_all := lw_g (lw_at lw_m3 228 rfl) rfl
theorem q1048 : (Jvm.Cond.code ({ cls := "RewriteHouse", name := "toRest", desc := "(I)I" } : Jvm.MethodName) prog_1_method_130_code (7 : Nat) (Option.some Jvm.ClassFile.FieldType.int)) ∈ lw_all := lw_g (lw_at lw_m3 229 rfl) rfl
theorem q1049 : (Jvm.Cond.methodLink "RewriteHouse" (905 : Nat) ({ cls := "RewriteHouse", name := "came", desc := "(I)I" } : Jvm.MethodName)) ∈ lw_all := lw_g (lw_at lw_m3 230 rfl) rfl
theorem q1050 : (Jvm.Cond.privateMethod ({ cls := "RewriteHouse", name := "came", desc := "(I)I" } : Jvm.MethodName)) ∈ lw_tbl := lw_at lw_m3 231 rfl
theorem q1051 : (Jvm.Cond.instanceMethod ({ cls := "RewriteHouse", name := "came", desc := "(I)I" } : Jvm.MethodName)) ∈ lw_all := lw_g (lw_at lw_m3 232 rfl) rfl
theorem q1052 : (Jvm.Cond.code ({ cls := "RewriteHouse", name := "came", desc := "(I)I" } : Jvm.MethodName) prog_1_method_131_code (2 : Nat) (Option.some Jvm.ClassFile.FieldType.int)) ∈ lw_all := lw_g (lw_at lw_m3 233 rfl) rfl
theorem q1053 : (Jvm.Cond.methodLink "RewriteHouse" (917 : Nat) ({ cls := "RewriteHouse", name := "reduceRow", desc := "(I)I" } : Jvm.MethodName)) ∈ lw_all := lw_g (lw_at lw_m3 234 rfl) rfl
theorem q1054 : (Jvm.Cond.privateMethod ({ cls := "RewriteHouse", name := "reduceRow", desc := "(I)I" } : Jvm.MethodName)) ∈ lw_tbl := lw_at lw_m3 235 rfl
theorem q1055 : (Jvm.Cond.instanceMethod ({ cls := "RewriteHouse", name := "reduceRow", desc := "(I)I" } : Jvm.MethodName)) ∈ lw_all := lw_g (lw_at lw_m3 236 rfl) rfl
theorem q1056 : (Jvm.Cond.code ({ cls := "RewriteHouse", name := "reduceRow", desc := "(I)I" } : Jvm.MethodName) prog_1_method_132_code (6 : Nat) (Option.some Jvm.ClassFile.FieldType.int)) ∈ lw_all := lw_g (lw_at lw_m3 237 rfl) rfl
theorem q1057 : (Jvm.Cond.methodLink "RewriteHouse" (920 : Nat) ({ cls := "RewriteHouse", name := "tryEquations", desc := "(I)I" } : Jvm.MethodName)) ∈ lw_all := lw_g (lw_at lw_m3 238 rfl) rfl
theorem q1058 : (Jvm.Cond.privateMethod ({ cls := "RewriteHouse", name := "tryEquations", desc := "(I)I" } : Jvm.MethodName)) ∈ lw_tbl := lw_at lw_m3 239 rfl
theorem q1059 : (Jvm.Cond.instanceMethod ({ cls := "RewriteHouse", name := "tryEquations", desc := "(I)I" } : Jvm.MethodName)) ∈ lw_all := lw_g (lw_at lw_m4 0 rfl) rfl
theorem q1060 : (Jvm.Cond.code ({ cls := "RewriteHouse", name := "tryEquations", desc := "(I)I" } : Jvm.MethodName) prog_1_method_135_code (5 : Nat) (Option.some Jvm.ClassFile.FieldType.int)) ∈ lw_all := lw_g (lw_at lw_m4 1 rfl) rfl
theorem q1061 : (Jvm.Cond.methodLink "RewriteHouse" (932 : Nat) ({ cls := "RewriteHouse", name := "tryOne", desc := "(II)I" } : Jvm.MethodName)) ∈ lw_all := lw_g (lw_at lw_m4 2 rfl) rfl
theorem q1062 : (Jvm.Cond.privateMethod ({ cls := "RewriteHouse", name := "tryOne", desc := "(II)I" } : Jvm.MethodName)) ∈ lw_tbl := lw_at lw_m4 3 rfl
theorem q1063 : (Jvm.Cond.instanceMethod ({ cls := "RewriteHouse", name := "tryOne", desc := "(II)I" } : Jvm.MethodName)) ∈ lw_all := lw_g (lw_at lw_m4 4 rfl) rfl
theorem q1064 : (Jvm.Cond.code ({ cls := "RewriteHouse", name := "tryOne", desc := "(II)I" } : Jvm.MethodName) prog_1_method_136_code (8 : Nat) (Option.some Jvm.ClassFile.FieldType.int)) ∈ lw_all := lw_g (lw_at lw_m4 5 rfl) rfl
theorem q1065 : (Jvm.Cond.methodLink "RewriteHouse" (945 : Nat) ({ cls := "RewriteHouse", name := "takeRow", desc := "(I)V" } : Jvm.MethodName)) ∈ lw_all := lw_g (lw_at lw_m4 6 rfl) rfl
theorem q1066 : (Jvm.Cond.privateMethod ({ cls := "RewriteHouse", name := "takeRow", desc := "(I)V" } : Jvm.MethodName)) ∈ lw_tbl := lw_at lw_m4 7 rfl
theorem q1067 : (Jvm.Cond.instanceMethod ({ cls := "RewriteHouse", name := "takeRow", desc := "(I)V" } : Jvm.MethodName)) ∈ lw_all := lw_g (lw_at lw_m4 8 rfl) rfl
theorem q1068 : (Jvm.Cond.code ({ cls := "RewriteHouse", name := "takeRow", desc := "(I)V" } : Jvm.MethodName) prog_1_method_127_code (3 : Nat) (Option.none : Option Jvm.ClassFile.FieldType)) ∈ lw_all := lw_g (lw_at lw_m4 9 rfl) rfl
theorem q1069 : (Jvm.Cond.methodLink "RewriteHouse" (948 : Nat) ({ cls := "RewriteHouse", name := "holds", desc := "(II)Z" } : Jvm.MethodName)) ∈ lw_all := lw_g (lw_at lw_m4 10 rfl) rfl
theorem q1070 : (Jvm.Cond.privateMethod ({ cls := "RewriteHouse", name := "holds", desc := "(II)Z" } : Jvm.MethodName)) ∈ lw_tbl := lw_at lw_m4 11 rfl
theorem q1071 : (Jvm.Cond.instanceMethod ({ cls := "RewriteHouse", name := "holds", desc := "(II)Z" } : Jvm.MethodName)) ∈ lw_all := lw_g (lw_at lw_m4 12 rfl) rfl
theorem q1072 : (Jvm.Cond.code ({ cls := "RewriteHouse", name := "holds", desc := "(II)Z" } : Jvm.MethodName) prog_1_method_138_code (8 : Nat) (Option.some Jvm.ClassFile.FieldType.boolean)) ∈ lw_all := lw_g (lw_at lw_m4 13 rfl) rfl
theorem q1073 : (Jvm.Cond.methodLink "RewriteHouse" (957 : Nat) ({ cls := "RewriteHouse", name := "isTrue", desc := "(I)Z" } : Jvm.MethodName)) ∈ lw_all := lw_g (lw_at lw_m4 14 rfl) rfl
theorem q1074 : (Jvm.Cond.privateMethod ({ cls := "RewriteHouse", name := "isTrue", desc := "(I)Z" } : Jvm.MethodName)) ∈ lw_tbl := lw_at lw_m4 15 rfl
theorem q1075 : (Jvm.Cond.instanceMethod ({ cls := "RewriteHouse", name := "isTrue", desc := "(I)Z" } : Jvm.MethodName)) ∈ lw_all := lw_g (lw_at lw_m4 16 rfl) rfl
theorem q1076 : (Jvm.Cond.code ({ cls := "RewriteHouse", name := "isTrue", desc := "(I)Z" } : Jvm.MethodName) prog_1_method_142_code (3 : Nat) (Option.some Jvm.ClassFile.FieldType.boolean)) ∈ lw_all := lw_g (lw_at lw_m4 17 rfl) rfl
theorem q1077 : (Jvm.Cond.methodLink "RewriteHouse" (975 : Nat) ({ cls := "RewriteHouse", name := "reduced", desc := "(I)I" } : Jvm.MethodName)) ∈ lw_all := lw_g (lw_at lw_m4 18 rfl) rfl
theorem q1078 : (Jvm.Cond.privateMethod ({ cls := "RewriteHouse", name := "reduced", desc := "(I)I" } : Jvm.MethodName)) ∈ lw_tbl := lw_at lw_m4 19 rfl
theorem q1079 : (Jvm.Cond.instanceMethod ({ cls := "RewriteHouse", name := "reduced", desc := "(I)I" } : Jvm.MethodName)) ∈ lw_all := lw_g (lw_at lw_m4 20 rfl) rfl
theorem q1080 : (Jvm.Cond.code ({ cls := "RewriteHouse", name := "reduced", desc := "(I)I" } : Jvm.MethodName) prog_1_method_141_code (5 : Nat) (Option.some Jvm.ClassFile.FieldType.int)) ∈ lw_all := lw_g (lw_at lw_m4 21 rfl) rfl
theorem q1081 : (Jvm.Cond.methodLink "RewriteHouse" (951 : Nat) ({ cls := "RewriteHouse", name := "countFilled", desc := "(I)V" } : Jvm.MethodName)) ∈ lw_all := lw_g (lw_at lw_m4 22 rfl) rfl
theorem q1082 : (Jvm.Cond.privateMethod ({ cls := "RewriteHouse", name := "countFilled", desc := "(I)V" } : Jvm.MethodName)) ∈ lw_tbl := lw_at lw_m4 23 rfl
theorem q1083 : (Jvm.Cond.instanceMethod ({ cls := "RewriteHouse", name := "countFilled", desc := "(I)V" } : Jvm.MethodName)) ∈ lw_all := lw_g (lw_at lw_m4 24 rfl) rfl
theorem q1084 : (Jvm.Cond.code ({ cls := "RewriteHouse", name := "countFilled", desc := "(I)V" } : Jvm.MethodName) prog_1_method_133_code (2 : Nat) (Option.none : Option Jvm.ClassFile.FieldType)) ∈ lw_all := lw_g (lw_at lw_m4 25 rfl) rfl
theorem q1085 : (Jvm.Cond.methodLink "RewriteHouse" (902 : Nat) ({ cls := "RewriteHouse", name := "filled", desc := "(I)I" } : Jvm.MethodName)) ∈ lw_all := lw_g (lw_at lw_m4 26 rfl) rfl
theorem q1086 : (Jvm.Cond.privateMethod ({ cls := "RewriteHouse", name := "filled", desc := "(I)I" } : Jvm.MethodName)) ∈ lw_tbl := lw_at lw_m4 27 rfl
theorem q1087 : (Jvm.Cond.instanceMethod ({ cls := "RewriteHouse", name := "filled", desc := "(I)I" } : Jvm.MethodName)) ∈ lw_all := lw_g (lw_at lw_m4 28 rfl) rfl
theorem q1088 : (Jvm.Cond.code ({ cls := "RewriteHouse", name := "filled", desc := "(I)I" } : Jvm.MethodName) prog_1_method_129_code (5 : Nat) (Option.some Jvm.ClassFile.FieldType.int)) ∈ lw_all := lw_g (lw_at lw_m4 29 rfl) rfl
theorem q1089 : (Jvm.Cond.methodLink "RewriteHouse" (969 : Nat) ({ cls := "RewriteHouse", name := "keepBound", desc := "()V" } : Jvm.MethodName)) ∈ lw_all := lw_g (lw_at lw_m4 30 rfl) rfl
theorem q1090 : (Jvm.Cond.privateMethod ({ cls := "RewriteHouse", name := "keepBound", desc := "()V" } : Jvm.MethodName)) ∈ lw_tbl := lw_at lw_m4 31 rfl
theorem q1091 : (Jvm.Cond.instanceMethod ({ cls := "RewriteHouse", name := "keepBound", desc := "()V" } : Jvm.MethodName)) ∈ lw_all := lw_g (lw_at lw_m4 32 rfl) rfl
theorem q1092 : (Jvm.Cond.code ({ cls := "RewriteHouse", name := "keepBound", desc := "()V" } : Jvm.MethodName) prog_1_method_139_code (2 : Nat) (Option.none : Option Jvm.ClassFile.FieldType)) ∈ lw_all := lw_g (lw_at lw_m4 33 rfl) rfl
theorem q1093 : (Jvm.Cond.methodLink "RewriteHouse" (972 : Nat) ({ cls := "RewriteHouse", name := "takeBound", desc := "()V" } : Jvm.MethodName)) ∈ lw_all := lw_g (lw_at lw_m4 34 rfl) rfl
theorem q1094 : (Jvm.Cond.privateMethod ({ cls := "RewriteHouse", name := "takeBound", desc := "()V" } : Jvm.MethodName)) ∈ lw_tbl := lw_at lw_m4 35 rfl
theorem q1095 : (Jvm.Cond.instanceMethod ({ cls := "RewriteHouse", name := "takeBound", desc := "()V" } : Jvm.MethodName)) ∈ lw_all := lw_g (lw_at lw_m4 36 rfl) rfl
theorem q1096 : (Jvm.Cond.code ({ cls := "RewriteHouse", name := "takeBound", desc := "()V" } : Jvm.MethodName) prog_1_method_140_code (2 : Nat) (Option.none : Option Jvm.ClassFile.FieldType)) ∈ lw_all := lw_g (lw_at lw_m4 37 rfl) rfl
theorem q1097 : (Jvm.Cond.methodLink "RewriteHouse" (960 : Nat) ({ cls := "RewriteHouse", name := "matchCondition", desc := "(I)I" } : Jvm.MethodName)) ∈ lw_all := lw_g (lw_at lw_m4 38 rfl) rfl
theorem q1098 : (Jvm.Cond.privateMethod ({ cls := "RewriteHouse", name := "matchCondition", desc := "(I)I" } : Jvm.MethodName)) ∈ lw_tbl := lw_at lw_m4 39 rfl
theorem q1099 : (Jvm.Cond.instanceMethod ({ cls := "RewriteHouse", name := "matchCondition", desc := "(I)I" } : Jvm.MethodName)) ∈ lw_all := lw_g (lw_at lw_m4 40 rfl) rfl
theorem q1100 : (Jvm.Cond.code ({ cls := "RewriteHouse", name := "matchCondition", desc := "(I)I" } : Jvm.MethodName) prog_1_method_143_code (3 : Nat) (Option.some Jvm.ClassFile.FieldType.int)) ∈ lw_all := lw_g (lw_at lw_m4 41 rfl) rfl
theorem q1101 : (Jvm.Cond.methodLink "RewriteHouse" (954 : Nat) ({ cls := "RewriteHouse", name := "beside", desc := "(IIII)I" } : Jvm.MethodName)) ∈ lw_all := lw_g (lw_at lw_m4 42 rfl) rfl
theorem q1102 : (Jvm.Cond.privateMethod ({ cls := "RewriteHouse", name := "beside", desc := "(IIII)I" } : Jvm.MethodName)) ∈ lw_tbl := lw_at lw_m4 43 rfl
theorem q1103 : (Jvm.Cond.instanceMethod ({ cls := "RewriteHouse", name := "beside", desc := "(IIII)I" } : Jvm.MethodName)) ∈ lw_all := lw_g (lw_at lw_m4 44 rfl) rfl
theorem q1104 : (Jvm.Cond.code ({ cls := "RewriteHouse", name := "beside", desc := "(IIII)I" } : Jvm.MethodName) prog_1_method_137_code (6 : Nat) (Option.some Jvm.ClassFile.FieldType.int)) ∈ lw_all := lw_g (lw_at lw_m4 45 rfl) rfl
theorem q1105 : (Jvm.Cond.methodLink "RewriteHouse" (935 : Nat) ({ cls := "RewriteHouse", name := "countStep", desc := "()V" } : Jvm.MethodName)) ∈ lw_all := lw_g (lw_at lw_m4 46 rfl) rfl
theorem q1106 : (Jvm.Cond.privateMethod ({ cls := "RewriteHouse", name := "countStep", desc := "()V" } : Jvm.MethodName)) ∈ lw_tbl := lw_at lw_m4 47 rfl
theorem q1107 : (Jvm.Cond.instanceMethod ({ cls := "RewriteHouse", name := "countStep", desc := "()V" } : Jvm.MethodName)) ∈ lw_all := lw_g (lw_at lw_m4 48 rfl) rfl
theorem q1108 : (Jvm.Cond.code ({ cls := "RewriteHouse", name := "countStep", desc := "()V" } : Jvm.MethodName) prog_1_method_134_code (1 : Nat) (Option.none : Option Jvm.ClassFile.FieldType)) ∈ lw_all := lw_g (lw_at lw_m4 49 rfl) rfl
theorem q1109 : (Jvm.Cond.methodLink "RewriteHouse" (1067 : Nat) ({ cls := "RewriteHouse", name := "tellSteps", desc := "()V" } : Jvm.MethodName)) ∈ lw_all := lw_g (lw_at lw_m4 50 rfl) rfl
theorem q1110 : (Jvm.Cond.privateMethod ({ cls := "RewriteHouse", name := "tellSteps", desc := "()V" } : Jvm.MethodName)) ∈ lw_tbl := lw_at lw_m4 51 rfl
theorem q1111 : (Jvm.Cond.instanceMethod ({ cls := "RewriteHouse", name := "tellSteps", desc := "()V" } : Jvm.MethodName)) ∈ lw_all := lw_g (lw_at lw_m4 52 rfl) rfl
theorem q1112 : (Jvm.Cond.code ({ cls := "RewriteHouse", name := "tellSteps", desc := "()V" } : Jvm.MethodName) prog_1_method_171_code (1 : Nat) (Option.none : Option Jvm.ClassFile.FieldType)) ∈ lw_all := lw_g (lw_at lw_m4 53 rfl) rfl
theorem q1114 : (Jvm.Cond.instanceMethod ({ cls := "RewriteHouse", name := "steps", desc := "(I)I" } : Jvm.MethodName)) ∈ lw_all := lw_g (lw_at lw_m4 55 rfl) rfl
theorem q1115 : (Jvm.Cond.selects "RewriteHouse" ({ cls := "RewriteHouse", name := "steps", desc := "(I)I" } : Jvm.MethodName) ({ cls := "RewriteHouse", name := "steps", desc := "(I)I" } : Jvm.MethodName)) ∈ lw_all := lw_g (lw_at lw_m4 56 rfl) rfl
theorem q1116 : (Jvm.Cond.codeWith ({ cls := "RewriteHouse", name := "steps", desc := "(I)I" } : Jvm.MethodName) prog_1_method_174_code (3 : Nat) (Option.some Jvm.ClassFile.FieldType.int) [((14 : Nat), (97 : Nat), (98 : Nat), (8 : Nat))]) ∈ lw_all := lw_g (lw_at lw_m4 57 rfl) rfl
theorem q1117 : (Jvm.Cond.methodLink "RewriteHouse" (1070 : Nat) ({ cls := "RewriteHouse", name := "rulesOf", desc := "(II)V" } : Jvm.MethodName)) ∈ lw_all := lw_g (lw_at lw_m4 58 rfl) rfl
theorem q1118 : (Jvm.Cond.privateMethod ({ cls := "RewriteHouse", name := "rulesOf", desc := "(II)V" } : Jvm.MethodName)) ∈ lw_tbl := lw_at lw_m4 59 rfl
theorem q1119 : (Jvm.Cond.instanceMethod ({ cls := "RewriteHouse", name := "rulesOf", desc := "(II)V" } : Jvm.MethodName)) ∈ lw_all := lw_g (lw_at lw_m4 60 rfl) rfl
theorem q1120 : (Jvm.Cond.code ({ cls := "RewriteHouse", name := "rulesOf", desc := "(II)V" } : Jvm.MethodName) prog_1_method_144_code (3 : Nat) (Option.none : Option Jvm.ClassFile.FieldType)) ∈ lw_all := lw_g (lw_at lw_m4 61 rfl) rfl
theorem q1121 : (Jvm.Cond.methodLink "RewriteHouse" (987 : Nat) ({ cls := "RewriteHouse", name := "rulesAt", desc := "(I)V" } : Jvm.MethodName)) ∈ lw_all := lw_g (lw_at lw_m4 62 rfl) rfl
theorem q1122 : (Jvm.Cond.privateMethod ({ cls := "RewriteHouse", name := "rulesAt", desc := "(I)V" } : Jvm.MethodName)) ∈ lw_tbl := lw_at lw_m4 63 rfl
theorem q1123 : (Jvm.Cond.instanceMethod ({ cls := "RewriteHouse", name := "rulesAt", desc := "(I)V" } : Jvm.MethodName)) ∈ lw_all := lw_g (lw_at lw_m4 64 rfl) rfl
theorem q1124 : (Jvm.Cond.code ({ cls := "RewriteHouse", name := "rulesAt", desc := "(I)V" } : Jvm.MethodName) prog_1_method_145_code (4 : Nat) (Option.none : Option Jvm.ClassFile.FieldType)) ∈ lw_all := lw_g (lw_at lw_m4 65 rfl) rfl
theorem q1125 : (Jvm.Cond.methodLink "RewriteHouse" (990 : Nat) ({ cls := "RewriteHouse", name := "applyRule", desc := "(II)V" } : Jvm.MethodName)) ∈ lw_all := lw_g (lw_at lw_m4 66 rfl) rfl
theorem q1126 : (Jvm.Cond.privateMethod ({ cls := "RewriteHouse", name := "applyRule", desc := "(II)V" } : Jvm.MethodName)) ∈ lw_tbl := lw_at lw_m4 67 rfl
theorem q1127 : (Jvm.Cond.instanceMethod ({ cls := "RewriteHouse", name := "applyRule", desc := "(II)V" } : Jvm.MethodName)) ∈ lw_all := lw_g (lw_at lw_m4 68 rfl) rfl
theorem q1128 : (Jvm.Cond.code ({ cls := "RewriteHouse", name := "applyRule", desc := "(II)V" } : Jvm.MethodName) prog_1_method_146_code (6 : Nat) (Option.none : Option Jvm.ClassFile.FieldType)) ∈ lw_all := lw_g (lw_at lw_m4 69 rfl) rfl
theorem q1129 : (Jvm.Cond.methodLink "RewriteHouse" (999 : Nat) ({ cls := "RewriteHouse", name := "allWays", desc := "(III)V" } : Jvm.MethodName)) ∈ lw_all := lw_g (lw_at lw_m4 70 rfl) rfl
theorem q1130 : (Jvm.Cond.privateMethod ({ cls := "RewriteHouse", name := "allWays", desc := "(III)V" } : Jvm.MethodName)) ∈ lw_tbl := lw_at lw_m4 71 rfl
theorem q1131 : (Jvm.Cond.instanceMethod ({ cls := "RewriteHouse", name := "allWays", desc := "(III)V" } : Jvm.MethodName)) ∈ lw_all := lw_g (lw_at lw_m4 72 rfl) rfl
theorem q1132 : (Jvm.Cond.code ({ cls := "RewriteHouse", name := "allWays", desc := "(III)V" } : Jvm.MethodName) prog_1_method_147_code (8 : Nat) (Option.none : Option Jvm.ClassFile.FieldType)) ∈ lw_all := lw_g (lw_at lw_m4 73 rfl) rfl
theorem q1133 : (Jvm.Cond.methodLink "RewriteHouse" (1002 : Nat) ({ cls := "RewriteHouse", name := "found", desc := "(II)V" } : Jvm.MethodName)) ∈ lw_all := lw_g (lw_at lw_m4 74 rfl) rfl
theorem q1134 : (Jvm.Cond.privateMethod ({ cls := "RewriteHouse", name := "found", desc := "(II)V" } : Jvm.MethodName)) ∈ lw_tbl := lw_at lw_m4 75 rfl
theorem q1135 : (Jvm.Cond.instanceMethod ({ cls := "RewriteHouse", name := "found", desc := "(II)V" } : Jvm.MethodName)) ∈ lw_all := lw_g (lw_at lw_m4 76 rfl) rfl
theorem q1136 : (Jvm.Cond.code ({ cls := "RewriteHouse", name := "found", desc := "(II)V" } : Jvm.MethodName) prog_1_method_148_code (7 : Nat) (Option.none : Option Jvm.ClassFile.FieldType)) ∈ lw_all := lw_g (lw_at lw_m4 77 rfl) rfl
theorem q1137 : (Jvm.Cond.methodLink "RewriteHouse" (1079 : Nat) ({ cls := "RewriteHouse", name := "keepResults", desc := "(II)V" } : Jvm.MethodName)) ∈ lw_all := lw_g (lw_at lw_m4 78 rfl) rfl
theorem q1138 : (Jvm.Cond.privateMethod ({ cls := "RewriteHouse", name := "keepResults", desc := "(II)V" } : Jvm.MethodName)) ∈ lw_tbl := lw_at lw_m4 79 rfl
theorem q1139 : (Jvm.Cond.instanceMethod ({ cls := "RewriteHouse", name := "keepResults", desc := "(II)V" } : Jvm.MethodName)) ∈ lw_all := lw_g (lw_at lw_m4 80 rfl) rfl
theorem q1140 : (Jvm.Cond.code ({ cls := "RewriteHouse", name := "keepResults", desc := "(II)V" } : Jvm.MethodName) prog_1_method_173_code (3 : Nat) (Option.none : Option Jvm.ClassFile.FieldType)) ∈ lw_all := lw_g (lw_at lw_m4 81 rfl) rfl
theorem q1142 : (Jvm.Cond.instanceMethod ({ cls := "RewriteHouse", name := "result", desc := "(I)I" } : Jvm.MethodName)) ∈ lw_all := lw_g (lw_at lw_m4 83 rfl) rfl
theorem q1143 : (Jvm.Cond.selects "RewriteHouse" ({ cls := "RewriteHouse", name := "result", desc := "(I)I" } : Jvm.MethodName) ({ cls := "RewriteHouse", name := "result", desc := "(I)I" } : Jvm.MethodName)) ∈ lw_all := lw_g (lw_at lw_m4 84 rfl) rfl
theorem q1144 : (Jvm.Cond.code ({ cls := "RewriteHouse", name := "result", desc := "(I)I" } : Jvm.MethodName) prog_1_method_175_code (2 : Nat) (Option.some Jvm.ClassFile.FieldType.int)) ∈ lw_all := lw_g (lw_at lw_m4 85 rfl) rfl
theorem q1146 : (Jvm.Cond.instanceMethod ({ cls := "RewriteHouse", name := "way", desc := "(II)I" } : Jvm.MethodName)) ∈ lw_all := lw_g (lw_at lw_m4 87 rfl) rfl
theorem q1147 : (Jvm.Cond.selects "RewriteHouse" ({ cls := "RewriteHouse", name := "way", desc := "(II)I" } : Jvm.MethodName) ({ cls := "RewriteHouse", name := "way", desc := "(II)I" } : Jvm.MethodName)) ∈ lw_all := lw_g (lw_at lw_m4 88 rfl) rfl
theorem q1148 : (Jvm.Cond.code ({ cls := "RewriteHouse", name := "way", desc := "(II)I" } : Jvm.MethodName) prog_1_method_176_code (3 : Nat) (Option.some Jvm.ClassFile.FieldType.int)) ∈ lw_all := lw_g (lw_at lw_m4 89 rfl) rfl
theorem q1150 : (Jvm.Cond.instanceMethod ({ cls := "RewriteHouse", name := "states", desc := "(I)I" } : Jvm.MethodName)) ∈ lw_all := lw_g (lw_at lw_m4 91 rfl) rfl
theorem q1151 : (Jvm.Cond.selects "RewriteHouse" ({ cls := "RewriteHouse", name := "states", desc := "(I)I" } : Jvm.MethodName) ({ cls := "RewriteHouse", name := "states", desc := "(I)I" } : Jvm.MethodName)) ∈ lw_all := lw_g (lw_at lw_m4 92 rfl) rfl
theorem q1152 : (Jvm.Cond.codeWith ({ cls := "RewriteHouse", name := "states", desc := "(I)I" } : Jvm.MethodName) prog_1_method_177_code (4 : Nat) (Option.some Jvm.ClassFile.FieldType.int) [((14 : Nat), (160 : Nat), (161 : Nat), (8 : Nat))]) ∈ lw_all := lw_g (lw_at lw_m4 93 rfl) rfl
theorem q1153 : (Jvm.Cond.methodLink "RewriteHouse" (1094 : Nat) ({ cls := "RewriteHouse", name := "findStates", desc := "(I)I" } : Jvm.MethodName)) ∈ lw_all := lw_g (lw_at lw_m4 94 rfl) rfl
theorem q1154 : (Jvm.Cond.privateMethod ({ cls := "RewriteHouse", name := "findStates", desc := "(I)I" } : Jvm.MethodName)) ∈ lw_tbl := lw_at lw_m4 95 rfl
theorem q1155 : (Jvm.Cond.instanceMethod ({ cls := "RewriteHouse", name := "findStates", desc := "(I)I" } : Jvm.MethodName)) ∈ lw_all := lw_g (lw_at lw_m4 96 rfl) rfl
theorem q1156 : (Jvm.Cond.code ({ cls := "RewriteHouse", name := "findStates", desc := "(I)I" } : Jvm.MethodName) prog_1_method_178_code (7 : Nat) (Option.some Jvm.ClassFile.FieldType.int)) ∈ lw_all := lw_g (lw_at lw_m4 97 rfl) rfl
theorem q1158 : (Jvm.Cond.instanceMethod ({ cls := "RewriteHouse", name := "search", desc := "(II)I" } : Jvm.MethodName)) ∈ lw_all := lw_g (lw_at lw_m4 99 rfl) rfl
theorem q1159 : (Jvm.Cond.selects "RewriteHouse" ({ cls := "RewriteHouse", name := "search", desc := "(II)I" } : Jvm.MethodName) ({ cls := "RewriteHouse", name := "search", desc := "(II)I" } : Jvm.MethodName)) ∈ lw_all := lw_g (lw_at lw_m4 100 rfl) rfl
theorem q1160 : (Jvm.Cond.codeWith ({ cls := "RewriteHouse", name := "search", desc := "(II)I" } : Jvm.MethodName) prog_1_method_180_code (5 : Nat) (Option.some Jvm.ClassFile.FieldType.int) [((36 : Nat), (66 : Nat), (76 : Nat), (8 : Nat)), ((67 : Nat), (75 : Nat), (76 : Nat), (8 : Nat))]) ∈ lw_all := lw_g (lw_at lw_m4 101 rfl) rfl
theorem q1161 : (Jvm.Cond.methodLink "RewriteHouse" (1118 : Nat) ({ cls := "RewriteHouse", name := "isPattern", desc := "(II)Z" } : Jvm.MethodName)) ∈ lw_all := lw_g (lw_at lw_m4 102 rfl) rfl
theorem q1162 : (Jvm.Cond.privateMethod ({ cls := "RewriteHouse", name := "isPattern", desc := "(II)Z" } : Jvm.MethodName)) ∈ lw_tbl := lw_at lw_m4 103 rfl
theorem q1163 : (Jvm.Cond.instanceMethod ({ cls := "RewriteHouse", name := "isPattern", desc := "(II)Z" } : Jvm.MethodName)) ∈ lw_all := lw_g (lw_at lw_m4 104 rfl) rfl
theorem q1164 : (Jvm.Cond.code ({ cls := "RewriteHouse", name := "isPattern", desc := "(II)Z" } : Jvm.MethodName) prog_1_method_179_code (4 : Nat) (Option.some Jvm.ClassFile.FieldType.boolean)) ∈ lw_all := lw_g (lw_at lw_m4 105 rfl) rfl
theorem q1166 : (Jvm.Cond.instanceMethod ({ cls := "RewriteHouse", name := "law", desc := "(III)I" } : Jvm.MethodName)) ∈ lw_all := lw_g (lw_at lw_m4 107 rfl) rfl
theorem q1167 : (Jvm.Cond.selects "RewriteHouse" ({ cls := "RewriteHouse", name := "law", desc := "(III)I" } : Jvm.MethodName) ({ cls := "RewriteHouse", name := "law", desc := "(III)I" } : Jvm.MethodName)) ∈ lw_all := lw_g (lw_at lw_m4 108 rfl) rfl
theorem q1168 : (Jvm.Cond.codeWith ({ cls := "RewriteHouse", name := "law", desc := "(III)I" } : Jvm.MethodName) prog_1_method_181_code (7 : Nat) (Option.some Jvm.ClassFile.FieldType.int) [((44 : Nat), (138 : Nat), (141 : Nat), (8 : Nat))]) ∈ lw_all := lw_g (lw_at lw_m4 109 rfl) rfl
theorem q1169 : (Jvm.Cond.methodLink "RewriteHouse" (1127 : Nat) ({ cls := "RewriteHouse", name := "escapes", desc := "(I[Z)Z" } : Jvm.MethodName)) ∈ lw_all := lw_g (lw_at lw_m4 110 rfl) rfl
theorem q1170 : (Jvm.Cond.privateMethod ({ cls := "RewriteHouse", name := "escapes", desc := "(I[Z)Z" } : Jvm.MethodName)) ∈ lw_tbl := lw_at lw_m4 111 rfl
theorem q1171 : (Jvm.Cond.instanceMethod ({ cls := "RewriteHouse", name := "escapes", desc := "(I[Z)Z" } : Jvm.MethodName)) ∈ lw_all := lw_g (lw_at lw_m4 112 rfl) rfl
theorem q1172 : (Jvm.Cond.code ({ cls := "RewriteHouse", name := "escapes", desc := "(I[Z)Z" } : Jvm.MethodName) prog_1_method_182_code (6 : Nat) (Option.some Jvm.ClassFile.FieldType.boolean)) ∈ lw_all := lw_g (lw_at lw_m4 113 rfl) rfl
theorem q1174 : (Jvm.Cond.instanceMethod ({ cls := "RewriteHouse", name := "strategy", desc := "(I)I" } : Jvm.MethodName)) ∈ lw_all := lw_g (lw_at lw_m4 115 rfl) rfl
theorem q1175 : (Jvm.Cond.selects "RewriteHouse" ({ cls := "RewriteHouse", name := "strategy", desc := "(I)I" } : Jvm.MethodName) ({ cls := "RewriteHouse", name := "strategy", desc := "(I)I" } : Jvm.MethodName)) ∈ lw_all := lw_g (lw_at lw_m4 116 rfl) rfl
theorem q1176 : (Jvm.Cond.codeWith ({ cls := "RewriteHouse", name := "strategy", desc := "(I)I" } : Jvm.MethodName) prog_1_method_195_code (5 : Nat) (Option.some Jvm.ClassFile.FieldType.int) [((84 : Nat), (151 : Nat), (152 : Nat), (8 : Nat))]) ∈ lw_all := lw_g (lw_at lw_m4 117 rfl) rfl
theorem q1177 : (Jvm.Cond.methodLink "RewriteHouse" (1186 : Nat) ({ cls := "RewriteHouse", name := "readChoice", desc := "()I" } : Jvm.MethodName)) ∈ lw_all := lw_g (lw_at lw_m4 118 rfl) rfl
theorem q1178 : (Jvm.Cond.privateMethod ({ cls := "RewriteHouse", name := "readChoice", desc := "()I" } : Jvm.MethodName)) ∈ lw_tbl := lw_at lw_m4 119 rfl
theorem q1179 : (Jvm.Cond.instanceMethod ({ cls := "RewriteHouse", name := "readChoice", desc := "()I" } : Jvm.MethodName)) ∈ lw_all := lw_g (lw_at lw_m4 120 rfl) rfl
theorem q1180 : (Jvm.Cond.code ({ cls := "RewriteHouse", name := "readChoice", desc := "()I" } : Jvm.MethodName) prog_1_method_184_code (3 : Nat) (Option.some Jvm.ClassFile.FieldType.int)) ∈ lw_all := lw_g (lw_at lw_m4 121 rfl) rfl
theorem q1181 : (Jvm.Cond.methodLink "RewriteHouse" (1151 : Nat) ({ cls := "RewriteHouse", name := "readThen", desc := "()I" } : Jvm.MethodName)) ∈ lw_all := lw_g (lw_at lw_m4 122 rfl) rfl
theorem q1182 : (Jvm.Cond.privateMethod ({ cls := "RewriteHouse", name := "readThen", desc := "()I" } : Jvm.MethodName)) ∈ lw_tbl := lw_at lw_m4 123 rfl
theorem q1183 : (Jvm.Cond.instanceMethod ({ cls := "RewriteHouse", name := "readThen", desc := "()I" } : Jvm.MethodName)) ∈ lw_all := lw_g (lw_at lw_m4 124 rfl) rfl
theorem q1184 : (Jvm.Cond.code ({ cls := "RewriteHouse", name := "readThen", desc := "()I" } : Jvm.MethodName) prog_1_method_185_code (3 : Nat) (Option.some Jvm.ClassFile.FieldType.int)) ∈ lw_all := lw_g (lw_at lw_m4 125 rfl) rfl
theorem q1185 : (Jvm.Cond.methodLink "RewriteHouse" (1159 : Nat) ({ cls := "RewriteHouse", name := "readMany", desc := "()I" } : Jvm.MethodName)) ∈ lw_all := lw_g (lw_at lw_m4 126 rfl) rfl
theorem q1186 : (Jvm.Cond.privateMethod ({ cls := "RewriteHouse", name := "readMany", desc := "()I" } : Jvm.MethodName)) ∈ lw_tbl := lw_at lw_m4 127 rfl
theorem q1187 : (Jvm.Cond.instanceMethod ({ cls := "RewriteHouse", name := "readMany", desc := "()I" } : Jvm.MethodName)) ∈ lw_all := lw_g (lw_at lw_m4 128 rfl) rfl
theorem q1188 : (Jvm.Cond.code ({ cls := "RewriteHouse", name := "readMany", desc := "()I" } : Jvm.MethodName) prog_1_method_186_code (2 : Nat) (Option.some Jvm.ClassFile.FieldType.int)) ∈ lw_all := lw_g (lw_at lw_m4 129 rfl) rfl
theorem q1189 : (Jvm.Cond.methodLink "RewriteHouse" (1164 : Nat) ({ cls := "RewriteHouse", name := "readOne", desc := "()I" } : Jvm.MethodName)) ∈ lw_all := lw_g (lw_at lw_m4 130 rfl) rfl
theorem q1190 : (Jvm.Cond.privateMethod ({ cls := "RewriteHouse", name := "readOne", desc := "()I" } : Jvm.MethodName)) ∈ lw_tbl := lw_at lw_m4 131 rfl
theorem q1191 : (Jvm.Cond.instanceMethod ({ cls := "RewriteHouse", name := "readOne", desc := "()I" } : Jvm.MethodName)) ∈ lw_all := lw_g (lw_at lw_m4 132 rfl) rfl
theorem q1192 : (Jvm.Cond.code ({ cls := "RewriteHouse", name := "readOne", desc := "()I" } : Jvm.MethodName) prog_1_method_188_code (3 : Nat) (Option.some Jvm.ClassFile.FieldType.int)) ∈ lw_all := lw_g (lw_at lw_m4 133 rfl) rfl
theorem q1193 : (Jvm.Cond.methodLink "RewriteHouse" (1171 : Nat) ({ cls := "RewriteHouse", name := "readBracket", desc := "()I" } : Jvm.MethodName)) ∈ lw_all := lw_g (lw_at lw_m4 134 rfl) rfl
theorem q1194 : (Jvm.Cond.privateMethod ({ cls := "RewriteHouse", name := "readBracket", desc := "()I" } : Jvm.MethodName)) ∈ lw_tbl := lw_at lw_m4 135 rfl
theorem q1195 : (Jvm.Cond.instanceMethod ({ cls := "RewriteHouse", name := "readBracket", desc := "()I" } : Jvm.MethodName)) ∈ lw_all := lw_g (lw_at lw_m4 136 rfl) rfl
theorem q1196 : (Jvm.Cond.code ({ cls := "RewriteHouse", name := "readBracket", desc := "()I" } : Jvm.MethodName) prog_1_method_189_code (2 : Nat) (Option.some Jvm.ClassFile.FieldType.int)) ∈ lw_all := lw_g (lw_at lw_m4 137 rfl) rfl
theorem q1197 : (Jvm.Cond.methodLink "RewriteHouse" (1183 : Nat) ({ cls := "RewriteHouse", name := "bad", desc := "()I" } : Jvm.MethodName)) ∈ lw_all := lw_g (lw_at lw_m4 138 rfl) rfl
theorem q1198 : (Jvm.Cond.privateMethod ({ cls := "RewriteHouse", name := "bad", desc := "()I" } : Jvm.MethodName)) ∈ lw_tbl := lw_at lw_m4 139 rfl
theorem q1199 : (Jvm.Cond.instanceMethod ({ cls := "RewriteHouse", name := "bad", desc := "()I" } : Jvm.MethodName)) ∈ lw_all := lw_g (lw_at lw_m4 140 rfl) rfl
theorem q1200 : (Jvm.Cond.code ({ cls := "RewriteHouse", name := "bad", desc := "()I" } : Jvm.MethodName) prog_1_method_187_code (2 : Nat) (Option.some Jvm.ClassFile.FieldType.int)) ∈ lw_all := lw_g (lw_at lw_m4 141 rfl) rfl
theorem q1201 : (Jvm.Cond.stringRef "RewriteHouse" (1174 : Nat) "idle") ∈ lw_tbl := lw_at lw_m4 142 rfl
theorem q1202 : (Jvm.Cond.stringRef "RewriteHouse" (1176 : Nat) "fail") ∈ lw_tbl := lw_at lw_m4 143 rfl
theorem q1203 : (Jvm.Cond.stringRef "RewriteHouse" (1178 : Nat) "all") ∈ lw_tbl := lw_at lw_m4 144 rfl
theorem q1204 : (Jvm.Cond.methodLink "RewriteHouse" (1156 : Nat) ({ cls := "RewriteHouse", name := "zNode", desc := "(III)I" } : Jvm.MethodName)) ∈ lw_all := lw_g (lw_at lw_m4 145 rfl) rfl
theorem q1205 : (Jvm.Cond.privateMethod ({ cls := "RewriteHouse", name := "zNode", desc := "(III)I" } : Jvm.MethodName)) ∈ lw_tbl := lw_at lw_m4 146 rfl
theorem q1206 : (Jvm.Cond.instanceMethod ({ cls := "RewriteHouse", name := "zNode", desc := "(III)I" } : Jvm.MethodName)) ∈ lw_all := lw_g (lw_at lw_m4 147 rfl) rfl
theorem q1207 : (Jvm.Cond.code ({ cls := "RewriteHouse", name := "zNode", desc := "(III)I" } : Jvm.MethodName) prog_1_method_183_code (4 : Nat) (Option.some Jvm.ClassFile.FieldType.int)) ∈ lw_all := lw_g (lw_at lw_m4 148 rfl) rfl
theorem q1208 : (Jvm.Cond.stringRef "RewriteHouse" (1180 : Nat) "not") ∈ lw_tbl := lw_at lw_m4 149 rfl
theorem q1209 : (Jvm.Cond.stringRef "RewriteHouse" (1182 : Nat) "one") ∈ lw_tbl := lw_at lw_m4 150 rfl
theorem q1210 : (Jvm.Cond.stringRef "RewriteHouse" (1167 : Nat) "*") ∈ lw_tbl := lw_at lw_m4 151 rfl
theorem q1211 : (Jvm.Cond.stringRef "RewriteHouse" (1169 : Nat) "!") ∈ lw_tbl := lw_at lw_m4 152 rfl
theorem q1212 : (Jvm.Cond.stringRef "RewriteHouse" (1162 : Nat) ";") ∈ lw_tbl := lw_at lw_m4 153 rfl
theorem q1213 : (Jvm.Cond.stringRef "RewriteHouse" (1154 : Nat) "|") ∈ lw_tbl := lw_at lw_m4 154 rfl
theorem q1214 : (Jvm.Cond.methodLink "RewriteHouse" (1195 : Nat) ({ cls := "RewriteHouse", name := "answers", desc := "(III)I" } : Jvm.MethodName)) ∈ lw_all := lw_g (lw_at lw_m4 155 rfl) rfl
theorem q1215 : (Jvm.Cond.privateMethod ({ cls := "RewriteHouse", name := "answers", desc := "(III)I" } : Jvm.MethodName)) ∈ lw_tbl := lw_at lw_m4 156 rfl
theorem q1216 : (Jvm.Cond.instanceMethod ({ cls := "RewriteHouse", name := "answers", desc := "(III)I" } : Jvm.MethodName)) ∈ lw_all := lw_g (lw_at lw_m4 157 rfl) rfl
theorem q1217 : (Jvm.Cond.code ({ cls := "RewriteHouse", name := "answers", desc := "(III)I" } : Jvm.MethodName) prog_1_method_191_code (6 : Nat) (Option.some Jvm.ClassFile.FieldType.int)) ∈ lw_all := lw_g (lw_at lw_m4 158 rfl) rfl
theorem q1218 : (Jvm.Cond.methodLink "RewriteHouse" (1192 : Nat) ({ cls := "RewriteHouse", name := "addAnswer", desc := "(III)I" } : Jvm.MethodName)) ∈ lw_all := lw_g (lw_at lw_m4 159 rfl) rfl
theorem q1219 : (Jvm.Cond.privateMethod ({ cls := "RewriteHouse", name := "addAnswer", desc := "(III)I" } : Jvm.MethodName)) ∈ lw_tbl := lw_at lw_m4 160 rfl
theorem q1220 : (Jvm.Cond.instanceMethod ({ cls := "RewriteHouse", name := "addAnswer", desc := "(III)I" } : Jvm.MethodName)) ∈ lw_all := lw_g (lw_at lw_m4 161 rfl) rfl
theorem q1221 : (Jvm.Cond.code ({ cls := "RewriteHouse", name := "addAnswer", desc := "(III)I" } : Jvm.MethodName) prog_1_method_190_code (5 : Nat) (Option.some Jvm.ClassFile.FieldType.int)) ∈ lw_all := lw_g (lw_at lw_m4 162 rfl) rfl
theorem q1222 : (Jvm.Cond.methodLink "RewriteHouse" (1198 : Nat) ({ cls := "RewriteHouse", name := "join", desc := "(III)I" } : Jvm.MethodName)) ∈ lw_all := lw_g (lw_at lw_m4 163 rfl) rfl
theorem q1223 : (Jvm.Cond.privateMethod ({ cls := "RewriteHouse", name := "join", desc := "(III)I" } : Jvm.MethodName)) ∈ lw_tbl := lw_at lw_m4 164 rfl
theorem q1224 : (Jvm.Cond.instanceMethod ({ cls := "RewriteHouse", name := "join", desc := "(III)I" } : Jvm.MethodName)) ∈ lw_all := lw_g (lw_at lw_m4 165 rfl) rfl
theorem q1225 : (Jvm.Cond.code ({ cls := "RewriteHouse", name := "join", desc := "(III)I" } : Jvm.MethodName) prog_1_method_192_code (6 : Nat) (Option.some Jvm.ClassFile.FieldType.int)) ∈ lw_all := lw_g (lw_at lw_m4 166 rfl) rfl
theorem q1226 : (Jvm.Cond.methodLink "RewriteHouse" (1201 : Nat) ({ cls := "RewriteHouse", name := "answersThen", desc := "(III)I" } : Jvm.MethodName)) ∈ lw_all := lw_g (lw_at lw_m4 167 rfl) rfl
theorem q1227 : (Jvm.Cond.privateMethod ({ cls := "RewriteHouse", name := "answersThen", desc := "(III)I" } : Jvm.MethodName)) ∈ lw_tbl := lw_at lw_m4 168 rfl
theorem q1228 : (Jvm.Cond.instanceMethod ({ cls := "RewriteHouse", name := "answersThen", desc := "(III)I" } : Jvm.MethodName)) ∈ lw_all := lw_g (lw_at lw_m4 169 rfl) rfl
theorem q1229 : (Jvm.Cond.code ({ cls := "RewriteHouse", name := "answersThen", desc := "(III)I" } : Jvm.MethodName) prog_1_method_193_code (11 : Nat) (Option.some Jvm.ClassFile.FieldType.int)) ∈ lw_all := lw_g (lw_at lw_m4 170 rfl) rfl
theorem q1230 : (Jvm.Cond.methodLink "RewriteHouse" (1204 : Nat) ({ cls := "RewriteHouse", name := "answersMany", desc := "(III)I" } : Jvm.MethodName)) ∈ lw_all := lw_g (lw_at lw_m4 171 rfl) rfl
theorem q1231 : (Jvm.Cond.privateMethod ({ cls := "RewriteHouse", name := "answersMany", desc := "(III)I" } : Jvm.MethodName)) ∈ lw_tbl := lw_at lw_m4 172 rfl
theorem q1232 : (Jvm.Cond.instanceMethod ({ cls := "RewriteHouse", name := "answersMany", desc := "(III)I" } : Jvm.MethodName)) ∈ lw_all := lw_g (lw_at lw_m4 173 rfl) rfl
theorem q1233 : (Jvm.Cond.code ({ cls := "RewriteHouse", name := "answersMany", desc := "(III)I" } : Jvm.MethodName) prog_1_method_194_code (12 : Nat) (Option.some Jvm.ClassFile.FieldType.int)) ∈ lw_all := lw_g (lw_at lw_m4 174 rfl) rfl
theorem q1235 : (Jvm.Cond.instanceMethod ({ cls := "RewriteHouse", name := "check", desc := "(I)I" } : Jvm.MethodName)) ∈ lw_all := lw_g (lw_at lw_m4 176 rfl) rfl
theorem q1236 : (Jvm.Cond.selects "RewriteHouse" ({ cls := "RewriteHouse", name := "check", desc := "(I)I" } : Jvm.MethodName) ({ cls := "RewriteHouse", name := "check", desc := "(I)I" } : Jvm.MethodName)) ∈ lw_all := lw_g (lw_at lw_m4 177 rfl) rfl
theorem q1237 : (Jvm.Cond.code ({ cls := "RewriteHouse", name := "check", desc := "(I)I" } : Jvm.MethodName) prog_1_method_210_code (2 : Nat) (Option.some Jvm.ClassFile.FieldType.int)) ∈ lw_all := lw_g (lw_at lw_m4 178 rfl) rfl
theorem q1238 : (Jvm.Cond.methodLink "RewriteHouse" (1261 : Nat) ({ cls := "RewriteHouse", name := "allOneLeast", desc := "()Z" } : Jvm.MethodName)) ∈ lw_all := lw_g (lw_at lw_m4 179 rfl) rfl
theorem q1239 : (Jvm.Cond.privateMethod ({ cls := "RewriteHouse", name := "allOneLeast", desc := "()Z" } : Jvm.MethodName)) ∈ lw_tbl := lw_at lw_m4 180 rfl
theorem q1240 : (Jvm.Cond.instanceMethod ({ cls := "RewriteHouse", name := "allOneLeast", desc := "()Z" } : Jvm.MethodName)) ∈ lw_all := lw_g (lw_at lw_m4 181 rfl) rfl
theorem q1241 : (Jvm.Cond.code ({ cls := "RewriteHouse", name := "allOneLeast", desc := "()Z" } : Jvm.MethodName) prog_1_method_201_code (2 : Nat) (Option.some Jvm.ClassFile.FieldType.boolean)) ∈ lw_all := lw_g (lw_at lw_m4 182 rfl) rfl
theorem q1242 : (Jvm.Cond.methodLink "RewriteHouse" (1225 : Nat) ({ cls := "RewriteHouse", name := "isOneLeast", desc := "(I)Z" } : Jvm.MethodName)) ∈ lw_all := lw_g (lw_at lw_m4 183 rfl) rfl
theorem q1243 : (Jvm.Cond.privateMethod ({ cls := "RewriteHouse", name := "isOneLeast", desc := "(I)Z" } : Jvm.MethodName)) ∈ lw_tbl := lw_at lw_m4 184 rfl
theorem q1244 : (Jvm.Cond.instanceMethod ({ cls := "RewriteHouse", name := "isOneLeast", desc := "(I)Z" } : Jvm.MethodName)) ∈ lw_all := lw_g (lw_at lw_m4 185 rfl) rfl
theorem q1245 : (Jvm.Cond.code ({ cls := "RewriteHouse", name := "isOneLeast", desc := "(I)Z" } : Jvm.MethodName) prog_1_method_196_code (6 : Nat) (Option.some Jvm.ClassFile.FieldType.boolean)) ∈ lw_all := lw_g (lw_at lw_m4 186 rfl) rfl
theorem q1246 : (Jvm.Cond.methodLink "RewriteHouse" (1207 : Nat) ({ cls := "RewriteHouse", name := "nextSort", desc := "(II)I" } : Jvm.MethodName)) ∈ lw_all := lw_g (lw_at lw_m4 187 rfl) rfl
theorem q1247 : (Jvm.Cond.privateMethod ({ cls := "RewriteHouse", name := "nextSort", desc := "(II)I" } : Jvm.MethodName)) ∈ lw_tbl := lw_at lw_m4 188 rfl
theorem q1248 : (Jvm.Cond.instanceMethod ({ cls := "RewriteHouse", name := "nextSort", desc := "(II)I" } : Jvm.MethodName)) ∈ lw_all := lw_g (lw_at lw_m4 189 rfl) rfl
theorem q1249 : (Jvm.Cond.code ({ cls := "RewriteHouse", name := "nextSort", desc := "(II)I" } : Jvm.MethodName) prog_1_method_197_code (4 : Nat) (Option.some Jvm.ClassFile.FieldType.int)) ∈ lw_all := lw_g (lw_at lw_m4 190 rfl) rfl
theorem q1250 : (Jvm.Cond.methodLink "RewriteHouse" (1210 : Nat) ({ cls := "RewriteHouse", name := "hasRow", desc := "(II)Z" } : Jvm.MethodName)) ∈ lw_all := lw_g (lw_at lw_m4 191 rfl) rfl
theorem q1251 : (Jvm.Cond.privateMethod ({ cls := "RewriteHouse", name := "hasRow", desc := "(II)Z" } : Jvm.MethodName)) ∈ lw_tbl := lw_at lw_m4 192 rfl
theorem q1252 : (Jvm.Cond.instanceMethod ({ cls := "RewriteHouse", name := "hasRow", desc := "(II)Z" } : Jvm.MethodName)) ∈ lw_all := lw_g (lw_at lw_m4 193 rfl) rfl
theorem q1253 : (Jvm.Cond.code ({ cls := "RewriteHouse", name := "hasRow", desc := "(II)Z" } : Jvm.MethodName) prog_1_method_198_code (4 : Nat) (Option.some Jvm.ClassFile.FieldType.boolean)) ∈ lw_all := lw_g (lw_at lw_m4 194 rfl) rfl
theorem q1254 : (Jvm.Cond.methodLink "RewriteHouse" (1219 : Nat) ({ cls := "RewriteHouse", name := "isOneJoined", desc := "(I)Z" } : Jvm.MethodName)) ∈ lw_all := lw_g (lw_at lw_m4 195 rfl) rfl
theorem q1255 : (Jvm.Cond.privateMethod ({ cls := "RewriteHouse", name := "isOneJoined", desc := "(I)Z" } : Jvm.MethodName)) ∈ lw_tbl := lw_at lw_m4 196 rfl
theorem q1256 : (Jvm.Cond.instanceMethod ({ cls := "RewriteHouse", name := "isOneJoined", desc := "(I)Z" } : Jvm.MethodName)) ∈ lw_all := lw_g (lw_at lw_m4 197 rfl) rfl
theorem q1257 : (Jvm.Cond.code ({ cls := "RewriteHouse", name := "isOneJoined", desc := "(I)Z" } : Jvm.MethodName) prog_1_method_200_code (6 : Nat) (Option.some Jvm.ClassFile.FieldType.boolean)) ∈ lw_all := lw_g (lw_at lw_m4 198 rfl) rfl
theorem q1258 : (Jvm.Cond.methodLink "RewriteHouse" (1222 : Nat) ({ cls := "RewriteHouse", name := "joined", desc := "(III)I" } : Jvm.MethodName)) ∈ lw_all := lw_g (lw_at lw_m4 199 rfl) rfl
theorem q1259 : (Jvm.Cond.privateMethod ({ cls := "RewriteHouse", name := "joined", desc := "(III)I" } : Jvm.MethodName)) ∈ lw_tbl := lw_at lw_m4 200 rfl
theorem q1260 : (Jvm.Cond.instanceMethod ({ cls := "RewriteHouse", name := "joined", desc := "(III)I" } : Jvm.MethodName)) ∈ lw_all := lw_g (lw_at lw_m4 201 rfl) rfl
theorem q1261 : (Jvm.Cond.code ({ cls := "RewriteHouse", name := "joined", desc := "(III)I" } : Jvm.MethodName) prog_1_method_199_code (4 : Nat) (Option.some Jvm.ClassFile.FieldType.int)) ∈ lw_all := lw_g (lw_at lw_m4 202 rfl) rfl
theorem q1262 : (Jvm.Cond.methodLink "RewriteHouse" (1264 : Nat) ({ cls := "RewriteHouse", name := "firstNotFalling", desc := "()I" } : Jvm.MethodName)) ∈ lw_all := lw_g (lw_at lw_m4 203 rfl) rfl
theorem q1263 : (Jvm.Cond.privateMethod ({ cls := "RewriteHouse", name := "firstNotFalling", desc := "()I" } : Jvm.MethodName)) ∈ lw_tbl := lw_at lw_m4 204 rfl
theorem q1264 : (Jvm.Cond.instanceMethod ({ cls := "RewriteHouse", name := "firstNotFalling", desc := "()I" } : Jvm.MethodName)) ∈ lw_all := lw_g (lw_at lw_m4 205 rfl) rfl
theorem q1265 : (Jvm.Cond.code ({ cls := "RewriteHouse", name := "firstNotFalling", desc := "()I" } : Jvm.MethodName) prog_1_method_209_code (2 : Nat) (Option.some Jvm.ClassFile.FieldType.int)) ∈ lw_all := lw_g (lw_at lw_m4 206 rfl) rfl
theorem q1266 : (Jvm.Cond.methodLink "RewriteHouse" (1258 : Nat) ({ cls := "RewriteHouse", name := "falls", desc := "(I)Z" } : Jvm.MethodName)) ∈ lw_all := lw_g (lw_at lw_m4 207 rfl) rfl
theorem q1267 : (Jvm.Cond.privateMethod ({ cls := "RewriteHouse", name := "falls", desc := "(I)Z" } : Jvm.MethodName)) ∈ lw_tbl := lw_at lw_m4 208 rfl
theorem q1268 : (Jvm.Cond.instanceMethod ({ cls := "RewriteHouse", name := "falls", desc := "(I)Z" } : Jvm.MethodName)) ∈ lw_all := lw_g (lw_at lw_m4 209 rfl) rfl
theorem q1269 : (Jvm.Cond.code ({ cls := "RewriteHouse", name := "falls", desc := "(I)Z" } : Jvm.MethodName) prog_1_method_208_code (4 : Nat) (Option.some Jvm.ClassFile.FieldType.boolean)) ∈ lw_all := lw_g (lw_at lw_m4 210 rfl) rfl
theorem q1270 : (Jvm.Cond.methodLink "RewriteHouse" (1255 : Nat) ({ cls := "RewriteHouse", name := "isAboveAnew", desc := "(II)Z" } : Jvm.MethodName)) ∈ lw_all := lw_g (lw_at lw_m4 211 rfl) rfl
theorem q1271 : (Jvm.Cond.privateMethod ({ cls := "RewriteHouse", name := "isAboveAnew", desc := "(II)Z" } : Jvm.MethodName)) ∈ lw_tbl := lw_at lw_m4 212 rfl
theorem q1272 : (Jvm.Cond.instanceMethod ({ cls := "RewriteHouse", name := "isAboveAnew", desc := "(II)Z" } : Jvm.MethodName)) ∈ lw_all := lw_g (lw_at lw_m4 213 rfl) rfl
theorem q1273 : (Jvm.Cond.code ({ cls := "RewriteHouse", name := "isAboveAnew", desc := "(II)Z" } : Jvm.MethodName) prog_1_method_207_code (3 : Nat) (Option.some Jvm.ClassFile.FieldType.boolean)) ∈ lw_all := lw_g (lw_at lw_m4 214 rfl) rfl
theorem q1274 : (Jvm.Cond.methodLink "RewriteHouse" (1240 : Nat) ({ cls := "RewriteHouse", name := "isAbove", desc := "(II)Z" } : Jvm.MethodName)) ∈ lw_all := lw_g (lw_at lw_m4 215 rfl) rfl
theorem q1275 : (Jvm.Cond.privateMethod ({ cls := "RewriteHouse", name := "isAbove", desc := "(II)Z" } : Jvm.MethodName)) ∈ lw_tbl := lw_at lw_m4 216 rfl
theorem q1276 : (Jvm.Cond.instanceMethod ({ cls := "RewriteHouse", name := "isAbove", desc := "(II)Z" } : Jvm.MethodName)) ∈ lw_all := lw_g (lw_at lw_m4 217 rfl) rfl
theorem q1277 : (Jvm.Cond.code ({ cls := "RewriteHouse", name := "isAbove", desc := "(II)Z" } : Jvm.MethodName) prog_1_method_202_code (5 : Nat) (Option.some Jvm.ClassFile.FieldType.boolean)) ∈ lw_all := lw_g (lw_at lw_m4 218 rfl) rfl
theorem q1278 : (Jvm.Cond.methodLink "RewriteHouse" (1243 : Nat) ({ cls := "RewriteHouse", name := "isAboveRow", desc := "(II)Z" } : Jvm.MethodName)) ∈ lw_all := lw_g (lw_at lw_m4 219 rfl) rfl
theorem q1279 : (Jvm.Cond.privateMethod ({ cls := "RewriteHouse", name := "isAboveRow", desc := "(II)Z" } : Jvm.MethodName)) ∈ lw_tbl := lw_at lw_m4 220 rfl
theorem q1280 : (Jvm.Cond.instanceMethod ({ cls := "RewriteHouse", name := "isAboveRow", desc := "(II)Z" } : Jvm.MethodName)) ∈ lw_all := lw_g (lw_at lw_m4 221 rfl) rfl
theorem q1281 : (Jvm.Cond.code ({ cls := "RewriteHouse", name := "isAboveRow", desc := "(II)Z" } : Jvm.MethodName) prog_1_method_203_code (5 : Nat) (Option.some Jvm.ClassFile.FieldType.boolean)) ∈ lw_all := lw_g (lw_at lw_m4 222 rfl) rfl
theorem q1282 : (Jvm.Cond.methodLink "RewriteHouse" (1246 : Nat) ({ cls := "RewriteHouse", name := "isAboveBag", desc := "(II)Z" } : Jvm.MethodName)) ∈ lw_all := lw_g (lw_at lw_m4 223 rfl) rfl
theorem q1283 : (Jvm.Cond.privateMethod ({ cls := "RewriteHouse", name := "isAboveBag", desc := "(II)Z" } : Jvm.MethodName)) ∈ lw_tbl := lw_at lw_m4 224 rfl
theorem q1284 : (Jvm.Cond.instanceMethod ({ cls := "RewriteHouse", name := "isAboveBag", desc := "(II)Z" } : Jvm.MethodName)) ∈ lw_all := lw_g (lw_at lw_m4 225 rfl) rfl
theorem q1285 : (Jvm.Cond.code ({ cls := "RewriteHouse", name := "isAboveBag", desc := "(II)Z" } : Jvm.MethodName) prog_1_method_206_code (8 : Nat) (Option.some Jvm.ClassFile.FieldType.boolean)) ∈ lw_all := lw_g (lw_at lw_m4 226 rfl) rfl
theorem q1286 : (Jvm.Cond.methodLink "RewriteHouse" (1252 : Nat) ({ cls := "RewriteHouse", name := "isLeft", desc := "(III)Z" } : Jvm.MethodName)) ∈ lw_all := lw_g (lw_at lw_m4 227 rfl) rfl
theorem q1287 : (Jvm.Cond.privateMethod ({ cls := "RewriteHouse", name := "isLeft", desc := "(III)Z" } : Jvm.MethodName)) ∈ lw_tbl := lw_at lw_m4 228 rfl
theorem q1288 : (Jvm.Cond.instanceMethod ({ cls := "RewriteHouse", name := "isLeft", desc := "(III)Z" } : Jvm.MethodName)) ∈ lw_all := lw_g (lw_at lw_m4 229 rfl) rfl
theorem q1289 : (Jvm.Cond.code ({ cls := "RewriteHouse", name := "isLeft", desc := "(III)Z" } : Jvm.MethodName) prog_1_method_205_code (6 : Nat) (Option.some Jvm.ClassFile.FieldType.boolean)) ∈ lw_all := lw_g (lw_at lw_m4 230 rfl) rfl
theorem q1290 : (Jvm.Cond.methodLink "RewriteHouse" (1249 : Nat) ({ cls := "RewriteHouse", name := "countIn", desc := "(II)I" } : Jvm.MethodName)) ∈ lw_all := lw_g (lw_at lw_m4 231 rfl) rfl
theorem q1291 : (Jvm.Cond.privateMethod ({ cls := "RewriteHouse", name := "countIn", desc := "(II)I" } : Jvm.MethodName)) ∈ lw_tbl := lw_at lw_m4 232 rfl
theorem q1292 : (Jvm.Cond.instanceMethod ({ cls := "RewriteHouse", name := "countIn", desc := "(II)I" } : Jvm.MethodName)) ∈ lw_all := lw_g (lw_at lw_m4 233 rfl) rfl
theorem q1293 : (Jvm.Cond.code ({ cls := "RewriteHouse", name := "countIn", desc := "(II)I" } : Jvm.MethodName) prog_1_method_204_code (5 : Nat) (Option.some Jvm.ClassFile.FieldType.int)) ∈ lw_all := lw_g (lw_at lw_m4 234 rfl) rfl
theorem q1295 : (Jvm.Cond.instanceMethod ({ cls := "RewriteHouse", name := "witness", desc := "(II)I" } : Jvm.MethodName)) ∈ lw_all := lw_g (lw_at lw_m4 236 rfl) rfl
theorem q1296 : (Jvm.Cond.selects "RewriteHouse" ({ cls := "RewriteHouse", name := "witness", desc := "(II)I" } : Jvm.MethodName) ({ cls := "RewriteHouse", name := "witness", desc := "(II)I" } : Jvm.MethodName)) ∈ lw_all := lw_g (lw_at lw_m4 237 rfl) rfl
theorem q1297 : (Jvm.Cond.code ({ cls := "RewriteHouse", name := "witness", desc := "(II)I" } : Jvm.MethodName) prog_1_method_211_code (3 : Nat) (Option.some Jvm.ClassFile.FieldType.int)) ∈ lw_all := lw_g (lw_at lw_m4 238 rfl) rfl
theorem q1299 : (Jvm.Cond.instanceMethod ({ cls := "RewriteHouse", name := "pairs", desc := "(I)I" } : Jvm.MethodName)) ∈ lw_all := lw_g (lw_at lw_m5 0 rfl) rfl
theorem q1300 : (Jvm.Cond.selects "RewriteHouse" ({ cls := "RewriteHouse", name := "pairs", desc := "(I)I" } : Jvm.MethodName) ({ cls := "RewriteHouse", name := "pairs", desc := "(I)I" } : Jvm.MethodName)) ∈ lw_all := lw_g (lw_at lw_m5 1 rfl) rfl
theorem q1301 : (Jvm.Cond.codeWith ({ cls := "RewriteHouse", name := "pairs", desc := "(I)I" } : Jvm.MethodName) prog_1_method_233_code (3 : Nat) (Option.some Jvm.ClassFile.FieldType.int) [((25 : Nat), (58 : Nat), (59 : Nat), (8 : Nat))]) ∈ lw_all := lw_g (lw_at lw_m5 2 rfl) rfl
theorem q1302 : (Jvm.Cond.methodLink "RewriteHouse" (1364 : Nat) ({ cls := "RewriteHouse", name := "mayPair", desc := "()Z" } : Jvm.MethodName)) ∈ lw_all := lw_g (lw_at lw_m5 3 rfl) rfl
theorem q1303 : (Jvm.Cond.privateMethod ({ cls := "RewriteHouse", name := "mayPair", desc := "()Z" } : Jvm.MethodName)) ∈ lw_tbl := lw_at lw_m5 4 rfl
theorem q1304 : (Jvm.Cond.instanceMethod ({ cls := "RewriteHouse", name := "mayPair", desc := "()Z" } : Jvm.MethodName)) ∈ lw_all := lw_g (lw_at lw_m5 5 rfl) rfl
theorem q1305 : (Jvm.Cond.code ({ cls := "RewriteHouse", name := "mayPair", desc := "()Z" } : Jvm.MethodName) prog_1_method_227_code (2 : Nat) (Option.some Jvm.ClassFile.FieldType.boolean)) ∈ lw_all := lw_g (lw_at lw_m5 6 rfl) rfl
theorem q1306 : (Jvm.Cond.methodLink "RewriteHouse" (1353 : Nat) ({ cls := "RewriteHouse", name := "hasAxiom", desc := "(I)Z" } : Jvm.MethodName)) ∈ lw_all := lw_g (lw_at lw_m5 7 rfl) rfl
theorem q1307 : (Jvm.Cond.privateMethod ({ cls := "RewriteHouse", name := "hasAxiom", desc := "(I)Z" } : Jvm.MethodName)) ∈ lw_tbl := lw_at lw_m5 8 rfl
theorem q1308 : (Jvm.Cond.instanceMethod ({ cls := "RewriteHouse", name := "hasAxiom", desc := "(I)Z" } : Jvm.MethodName)) ∈ lw_all := lw_g (lw_at lw_m5 9 rfl) rfl
theorem q1309 : (Jvm.Cond.code ({ cls := "RewriteHouse", name := "hasAxiom", desc := "(I)Z" } : Jvm.MethodName) prog_1_method_228_code (4 : Nat) (Option.some Jvm.ClassFile.FieldType.boolean)) ∈ lw_all := lw_g (lw_at lw_m5 10 rfl) rfl
theorem q1310 : (Jvm.Cond.methodLink "RewriteHouse" (1367 : Nat) ({ cls := "RewriteHouse", name := "layPairs", desc := "(I)V" } : Jvm.MethodName)) ∈ lw_all := lw_g (lw_at lw_m5 11 rfl) rfl
theorem q1311 : (Jvm.Cond.privateMethod ({ cls := "RewriteHouse", name := "layPairs", desc := "(I)V" } : Jvm.MethodName)) ∈ lw_tbl := lw_at lw_m5 12 rfl
theorem q1312 : (Jvm.Cond.instanceMethod ({ cls := "RewriteHouse", name := "layPairs", desc := "(I)V" } : Jvm.MethodName)) ∈ lw_all := lw_g (lw_at lw_m5 13 rfl) rfl
theorem q1313 : (Jvm.Cond.code ({ cls := "RewriteHouse", name := "layPairs", desc := "(I)V" } : Jvm.MethodName) prog_1_method_229_code (6 : Nat) (Option.none : Option Jvm.ClassFile.FieldType)) ∈ lw_all := lw_g (lw_at lw_m5 14 rfl) rfl
theorem q1314 : (Jvm.Cond.constantLong "RewriteHouse" (1356 : Nat) (3000000 : Int64)) ∈ lw_all := lw_g (lw_at lw_m5 15 rfl) rfl
theorem q1315 : (Jvm.Cond.methodLink "RewriteHouse" (1276 : Nat) ({ cls := "RewriteHouse", name := "apart", desc := "(I)I" } : Jvm.MethodName)) ∈ lw_all := lw_g (lw_at lw_m5 16 rfl) rfl
theorem q1316 : (Jvm.Cond.privateMethod ({ cls := "RewriteHouse", name := "apart", desc := "(I)I" } : Jvm.MethodName)) ∈ lw_tbl := lw_at lw_m5 17 rfl
theorem q1317 : (Jvm.Cond.instanceMethod ({ cls := "RewriteHouse", name := "apart", desc := "(I)I" } : Jvm.MethodName)) ∈ lw_all := lw_g (lw_at lw_m5 18 rfl) rfl
theorem q1318 : (Jvm.Cond.code ({ cls := "RewriteHouse", name := "apart", desc := "(I)I" } : Jvm.MethodName) prog_1_method_215_code (5 : Nat) (Option.some Jvm.ClassFile.FieldType.int)) ∈ lw_all := lw_g (lw_at lw_m5 19 rfl) rfl
theorem q1319 : (Jvm.Cond.methodLink "RewriteHouse" (1358 : Nat) ({ cls := "RewriteHouse", name := "hasComm", desc := "(I)Z" } : Jvm.MethodName)) ∈ lw_all := lw_g (lw_at lw_m5 20 rfl) rfl
theorem q1320 : (Jvm.Cond.privateMethod ({ cls := "RewriteHouse", name := "hasComm", desc := "(I)Z" } : Jvm.MethodName)) ∈ lw_tbl := lw_at lw_m5 21 rfl
theorem q1321 : (Jvm.Cond.instanceMethod ({ cls := "RewriteHouse", name := "hasComm", desc := "(I)Z" } : Jvm.MethodName)) ∈ lw_all := lw_g (lw_at lw_m5 22 rfl) rfl
theorem q1322 : (Jvm.Cond.code ({ cls := "RewriteHouse", name := "hasComm", desc := "(I)Z" } : Jvm.MethodName) prog_1_method_230_code (4 : Nat) (Option.some Jvm.ClassFile.FieldType.boolean)) ∈ lw_all := lw_g (lw_at lw_m5 23 rfl) rfl
theorem q1323 : (Jvm.Cond.methodLink "RewriteHouse" (1361 : Nat) ({ cls := "RewriteHouse", name := "layPairsAt", desc := "(IIIZ)V" } : Jvm.MethodName)) ∈ lw_all := lw_g (lw_at lw_m5 24 rfl) rfl
theorem q1324 : (Jvm.Cond.privateMethod ({ cls := "RewriteHouse", name := "layPairsAt", desc := "(IIIZ)V" } : Jvm.MethodName)) ∈ lw_tbl := lw_at lw_m5 25 rfl
theorem q1325 : (Jvm.Cond.instanceMethod ({ cls := "RewriteHouse", name := "layPairsAt", desc := "(IIIZ)V" } : Jvm.MethodName)) ∈ lw_all := lw_g (lw_at lw_m5 26 rfl) rfl
theorem q1326 : (Jvm.Cond.code ({ cls := "RewriteHouse", name := "layPairsAt", desc := "(IIIZ)V" } : Jvm.MethodName) prog_1_method_232_code (6 : Nat) (Option.none : Option Jvm.ClassFile.FieldType)) ∈ lw_all := lw_g (lw_at lw_m5 27 rfl) rfl
theorem q1327 : (Jvm.Cond.methodLink "RewriteHouse" (1295 : Nat) ({ cls := "RewriteHouse", name := "unify", desc := "(I)V" } : Jvm.MethodName)) ∈ lw_all := lw_g (lw_at lw_m5 28 rfl) rfl
theorem q1328 : (Jvm.Cond.privateMethod ({ cls := "RewriteHouse", name := "unify", desc := "(I)V" } : Jvm.MethodName)) ∈ lw_tbl := lw_at lw_m5 29 rfl
theorem q1329 : (Jvm.Cond.instanceMethod ({ cls := "RewriteHouse", name := "unify", desc := "(I)V" } : Jvm.MethodName)) ∈ lw_all := lw_g (lw_at lw_m5 30 rfl) rfl
theorem q1330 : (Jvm.Cond.code ({ cls := "RewriteHouse", name := "unify", desc := "(I)V" } : Jvm.MethodName) prog_1_method_221_code (8 : Nat) (Option.none : Option Jvm.ClassFile.FieldType)) ∈ lw_all := lw_g (lw_at lw_m5 31 rfl) rfl
theorem q1331 : (Jvm.Cond.methodLink "RewriteHouse" (1289 : Nat) ({ cls := "RewriteHouse", name := "meet", desc := "()V" } : Jvm.MethodName)) ∈ lw_all := lw_g (lw_at lw_m5 32 rfl) rfl
theorem q1332 : (Jvm.Cond.privateMethod ({ cls := "RewriteHouse", name := "meet", desc := "()V" } : Jvm.MethodName)) ∈ lw_tbl := lw_at lw_m5 33 rfl
theorem q1333 : (Jvm.Cond.instanceMethod ({ cls := "RewriteHouse", name := "meet", desc := "()V" } : Jvm.MethodName)) ∈ lw_all := lw_g (lw_at lw_m5 34 rfl) rfl
theorem q1334 : (Jvm.Cond.code ({ cls := "RewriteHouse", name := "meet", desc := "()V" } : Jvm.MethodName) prog_1_method_226_code (7 : Nat) (Option.none : Option Jvm.ClassFile.FieldType)) ∈ lw_all := lw_g (lw_at lw_m5 35 rfl) rfl
theorem q1335 : (Jvm.Cond.methodLink "RewriteHouse" (1273 : Nat) ({ cls := "RewriteHouse", name := "countWay", desc := "()V" } : Jvm.MethodName)) ∈ lw_all := lw_g (lw_at lw_m5 36 rfl) rfl
theorem q1336 : (Jvm.Cond.privateMethod ({ cls := "RewriteHouse", name := "countWay", desc := "()V" } : Jvm.MethodName)) ∈ lw_tbl := lw_at lw_m5 37 rfl
theorem q1337 : (Jvm.Cond.instanceMethod ({ cls := "RewriteHouse", name := "countWay", desc := "()V" } : Jvm.MethodName)) ∈ lw_all := lw_g (lw_at lw_m5 38 rfl) rfl
theorem q1338 : (Jvm.Cond.code ({ cls := "RewriteHouse", name := "countWay", desc := "()V" } : Jvm.MethodName) prog_1_method_212_code (1 : Nat) (Option.none : Option Jvm.ClassFile.FieldType)) ∈ lw_all := lw_g (lw_at lw_m5 39 rfl) rfl
theorem q1339 : (Jvm.Cond.methodLink "RewriteHouse" (1284 : Nat) ({ cls := "RewriteHouse", name := "given", desc := "(I)I" } : Jvm.MethodName)) ∈ lw_all := lw_g (lw_at lw_m5 40 rfl) rfl
theorem q1340 : (Jvm.Cond.privateMethod ({ cls := "RewriteHouse", name := "given", desc := "(I)I" } : Jvm.MethodName)) ∈ lw_tbl := lw_at lw_m5 41 rfl
theorem q1341 : (Jvm.Cond.instanceMethod ({ cls := "RewriteHouse", name := "given", desc := "(I)I" } : Jvm.MethodName)) ∈ lw_all := lw_g (lw_at lw_m5 42 rfl) rfl
theorem q1342 : (Jvm.Cond.code ({ cls := "RewriteHouse", name := "given", desc := "(I)I" } : Jvm.MethodName) prog_1_method_217_code (6 : Nat) (Option.some Jvm.ClassFile.FieldType.int)) ∈ lw_all := lw_g (lw_at lw_m5 43 rfl) rfl
theorem q1343 : (Jvm.Cond.methodLink "RewriteHouse" (1282 : Nat) ({ cls := "RewriteHouse", name := "walk", desc := "(I)I" } : Jvm.MethodName)) ∈ lw_all := lw_g (lw_at lw_m5 44 rfl) rfl
theorem q1344 : (Jvm.Cond.privateMethod ({ cls := "RewriteHouse", name := "walk", desc := "(I)I" } : Jvm.MethodName)) ∈ lw_tbl := lw_at lw_m5 45 rfl
theorem q1345 : (Jvm.Cond.instanceMethod ({ cls := "RewriteHouse", name := "walk", desc := "(I)I" } : Jvm.MethodName)) ∈ lw_all := lw_g (lw_at lw_m5 46 rfl) rfl
theorem q1346 : (Jvm.Cond.code ({ cls := "RewriteHouse", name := "walk", desc := "(I)I" } : Jvm.MethodName) prog_1_method_216_code (3 : Nat) (Option.some Jvm.ClassFile.FieldType.int)) ∈ lw_all := lw_g (lw_at lw_m5 47 rfl) rfl
theorem q1347 : (Jvm.Cond.methodLink "RewriteHouse" (1329 : Nat) ({ cls := "RewriteHouse", name := "leftWith", desc := "(I)I" } : Jvm.MethodName)) ∈ lw_all := lw_g (lw_at lw_m5 48 rfl) rfl
theorem q1348 : (Jvm.Cond.privateMethod ({ cls := "RewriteHouse", name := "leftWith", desc := "(I)I" } : Jvm.MethodName)) ∈ lw_tbl := lw_at lw_m5 49 rfl
theorem q1349 : (Jvm.Cond.instanceMethod ({ cls := "RewriteHouse", name := "leftWith", desc := "(I)I" } : Jvm.MethodName)) ∈ lw_all := lw_g (lw_at lw_m5 50 rfl) rfl
theorem q1350 : (Jvm.Cond.code ({ cls := "RewriteHouse", name := "leftWith", desc := "(I)I" } : Jvm.MethodName) prog_1_method_231_code (6 : Nat) (Option.some Jvm.ClassFile.FieldType.int)) ∈ lw_all := lw_g (lw_at lw_m5 51 rfl) rfl
theorem q1351 : (Jvm.Cond.methodLink "RewriteHouse" (1308 : Nat) ({ cls := "RewriteHouse", name := "dropTo", desc := "(II)V" } : Jvm.MethodName)) ∈ lw_all := lw_g (lw_at lw_m5 52 rfl) rfl
theorem q1352 : (Jvm.Cond.privateMethod ({ cls := "RewriteHouse", name := "dropTo", desc := "(II)V" } : Jvm.MethodName)) ∈ lw_tbl := lw_at lw_m5 53 rfl
theorem q1353 : (Jvm.Cond.instanceMethod ({ cls := "RewriteHouse", name := "dropTo", desc := "(II)V" } : Jvm.MethodName)) ∈ lw_all := lw_g (lw_at lw_m5 54 rfl) rfl
theorem q1354 : (Jvm.Cond.code ({ cls := "RewriteHouse", name := "dropTo", desc := "(II)V" } : Jvm.MethodName) prog_1_method_214_code (6 : Nat) (Option.none : Option Jvm.ClassFile.FieldType)) ∈ lw_all := lw_g (lw_at lw_m5 55 rfl) rfl
theorem q1355 : (Jvm.Cond.methodLink "RewriteHouse" (1298 : Nat) ({ cls := "RewriteHouse", name := "unifyVariables", desc := "(III)V" } : Jvm.MethodName)) ∈ lw_all := lw_g (lw_at lw_m5 56 rfl) rfl
theorem q1356 : (Jvm.Cond.privateMethod ({ cls := "RewriteHouse", name := "unifyVariables", desc := "(III)V" } : Jvm.MethodName)) ∈ lw_tbl := lw_at lw_m5 57 rfl
theorem q1357 : (Jvm.Cond.instanceMethod ({ cls := "RewriteHouse", name := "unifyVariables", desc := "(III)V" } : Jvm.MethodName)) ∈ lw_all := lw_g (lw_at lw_m5 58 rfl) rfl
theorem q1358 : (Jvm.Cond.code ({ cls := "RewriteHouse", name := "unifyVariables", desc := "(III)V" } : Jvm.MethodName) prog_1_method_224_code (4 : Nat) (Option.none : Option Jvm.ClassFile.FieldType)) ∈ lw_all := lw_g (lw_at lw_m5 59 rfl) rfl
theorem q1359 : (Jvm.Cond.methodLink "RewriteHouse" (1311 : Nat) ({ cls := "RewriteHouse", name := "give", desc := "(III)V" } : Jvm.MethodName)) ∈ lw_all := lw_g (lw_at lw_m5 60 rfl) rfl
theorem q1360 : (Jvm.Cond.privateMethod ({ cls := "RewriteHouse", name := "give", desc := "(III)V" } : Jvm.MethodName)) ∈ lw_tbl := lw_at lw_m5 61 rfl
theorem q1361 : (Jvm.Cond.instanceMethod ({ cls := "RewriteHouse", name := "give", desc := "(III)V" } : Jvm.MethodName)) ∈ lw_all := lw_g (lw_at lw_m5 62 rfl) rfl
theorem q1362 : (Jvm.Cond.code ({ cls := "RewriteHouse", name := "give", desc := "(III)V" } : Jvm.MethodName) prog_1_method_223_code (4 : Nat) (Option.none : Option Jvm.ClassFile.FieldType)) ∈ lw_all := lw_g (lw_at lw_m5 63 rfl) rfl
theorem q1363 : (Jvm.Cond.methodLink "RewriteHouse" (1314 : Nat) ({ cls := "RewriteHouse", name := "hasSortBelow", desc := "(II)Z" } : Jvm.MethodName)) ∈ lw_all := lw_g (lw_at lw_m5 64 rfl) rfl
theorem q1364 : (Jvm.Cond.privateMethod ({ cls := "RewriteHouse", name := "hasSortBelow", desc := "(II)Z" } : Jvm.MethodName)) ∈ lw_tbl := lw_at lw_m5 65 rfl
theorem q1365 : (Jvm.Cond.instanceMethod ({ cls := "RewriteHouse", name := "hasSortBelow", desc := "(II)Z" } : Jvm.MethodName)) ∈ lw_all := lw_g (lw_at lw_m5 66 rfl) rfl
theorem q1366 : (Jvm.Cond.code ({ cls := "RewriteHouse", name := "hasSortBelow", desc := "(II)Z" } : Jvm.MethodName) prog_1_method_220_code (4 : Nat) (Option.some Jvm.ClassFile.FieldType.boolean)) ∈ lw_all := lw_g (lw_at lw_m5 67 rfl) rfl
theorem q1367 : (Jvm.Cond.methodLink "RewriteHouse" (1317 : Nat) ({ cls := "RewriteHouse", name := "open", desc := "()V" } : Jvm.MethodName)) ∈ lw_all := lw_g (lw_at lw_m5 68 rfl) rfl
theorem q1368 : (Jvm.Cond.privateMethod ({ cls := "RewriteHouse", name := "open", desc := "()V" } : Jvm.MethodName)) ∈ lw_tbl := lw_at lw_m5 69 rfl
theorem q1369 : (Jvm.Cond.instanceMethod ({ cls := "RewriteHouse", name := "open", desc := "()V" } : Jvm.MethodName)) ∈ lw_all := lw_g (lw_at lw_m5 70 rfl) rfl
theorem q1370 : (Jvm.Cond.code ({ cls := "RewriteHouse", name := "open", desc := "()V" } : Jvm.MethodName) prog_1_method_213_code (1 : Nat) (Option.none : Option Jvm.ClassFile.FieldType)) ∈ lw_all := lw_g (lw_at lw_m5 71 rfl) rfl
theorem q1371 : (Jvm.Cond.methodLink "RewriteHouse" (1301 : Nat) ({ cls := "RewriteHouse", name := "unifyVariable", desc := "(III)V" } : Jvm.MethodName)) ∈ lw_all := lw_g (lw_at lw_m5 72 rfl) rfl
theorem q1372 : (Jvm.Cond.privateMethod ({ cls := "RewriteHouse", name := "unifyVariable", desc := "(III)V" } : Jvm.MethodName)) ∈ lw_tbl := lw_at lw_m5 73 rfl
theorem q1373 : (Jvm.Cond.instanceMethod ({ cls := "RewriteHouse", name := "unifyVariable", desc := "(III)V" } : Jvm.MethodName)) ∈ lw_all := lw_g (lw_at lw_m5 74 rfl) rfl
theorem q1374 : (Jvm.Cond.code ({ cls := "RewriteHouse", name := "unifyVariable", desc := "(III)V" } : Jvm.MethodName) prog_1_method_225_code (5 : Nat) (Option.none : Option Jvm.ClassFile.FieldType)) ∈ lw_all := lw_g (lw_at lw_m5 75 rfl) rfl
theorem q1375 : (Jvm.Cond.methodLink "RewriteHouse" (1286 : Nat) ({ cls := "RewriteHouse", name := "occurs", desc := "(II)Z" } : Jvm.MethodName)) ∈ lw_all := lw_g (lw_at lw_m5 76 rfl) rfl
theorem q1376 : (Jvm.Cond.privateMethod ({ cls := "RewriteHouse", name := "occurs", desc := "(II)Z" } : Jvm.MethodName)) ∈ lw_tbl := lw_at lw_m5 77 rfl
theorem q1377 : (Jvm.Cond.instanceMethod ({ cls := "RewriteHouse", name := "occurs", desc := "(II)Z" } : Jvm.MethodName)) ∈ lw_all := lw_g (lw_at lw_m5 78 rfl) rfl
theorem q1378 : (Jvm.Cond.code ({ cls := "RewriteHouse", name := "occurs", desc := "(II)Z" } : Jvm.MethodName) prog_1_method_218_code (5 : Nat) (Option.some Jvm.ClassFile.FieldType.boolean)) ∈ lw_all := lw_g (lw_at lw_m5 79 rfl) rfl
theorem q1379 : (Jvm.Cond.methodLink "RewriteHouse" (1320 : Nat) ({ cls := "RewriteHouse", name := "hasRowBelow", desc := "(II)Z" } : Jvm.MethodName)) ∈ lw_all := lw_g (lw_at lw_m5 80 rfl) rfl
theorem q1380 : (Jvm.Cond.privateMethod ({ cls := "RewriteHouse", name := "hasRowBelow", desc := "(II)Z" } : Jvm.MethodName)) ∈ lw_tbl := lw_at lw_m5 81 rfl
theorem q1381 : (Jvm.Cond.instanceMethod ({ cls := "RewriteHouse", name := "hasRowBelow", desc := "(II)Z" } : Jvm.MethodName)) ∈ lw_all := lw_g (lw_at lw_m5 82 rfl) rfl
theorem q1382 : (Jvm.Cond.code ({ cls := "RewriteHouse", name := "hasRowBelow", desc := "(II)Z" } : Jvm.MethodName) prog_1_method_219_code (4 : Nat) (Option.some Jvm.ClassFile.FieldType.boolean)) ∈ lw_all := lw_g (lw_at lw_m5 83 rfl) rfl
theorem q1383 : (Jvm.Cond.methodLink "RewriteHouse" (1304 : Nat) ({ cls := "RewriteHouse", name := "unifyRows", desc := "(IIIZ)V" } : Jvm.MethodName)) ∈ lw_all := lw_g (lw_at lw_m5 84 rfl) rfl
theorem q1384 : (Jvm.Cond.privateMethod ({ cls := "RewriteHouse", name := "unifyRows", desc := "(IIIZ)V" } : Jvm.MethodName)) ∈ lw_tbl := lw_at lw_m5 85 rfl
theorem q1385 : (Jvm.Cond.instanceMethod ({ cls := "RewriteHouse", name := "unifyRows", desc := "(IIIZ)V" } : Jvm.MethodName)) ∈ lw_all := lw_g (lw_at lw_m5 86 rfl) rfl
theorem q1386 : (Jvm.Cond.code ({ cls := "RewriteHouse", name := "unifyRows", desc := "(IIIZ)V" } : Jvm.MethodName) prog_1_method_222_code (7 : Nat) (Option.none : Option Jvm.ClassFile.FieldType)) ∈ lw_all := lw_g (lw_at lw_m5 87 rfl) rfl
theorem q1388 : (Jvm.Cond.instanceMethod ({ cls := "RewriteHouse", name := "pair", desc := "(II)I" } : Jvm.MethodName)) ∈ lw_all := lw_g (lw_at lw_m5 89 rfl) rfl
theorem q1389 : (Jvm.Cond.selects "RewriteHouse" ({ cls := "RewriteHouse", name := "pair", desc := "(II)I" } : Jvm.MethodName) ({ cls := "RewriteHouse", name := "pair", desc := "(II)I" } : Jvm.MethodName)) ∈ lw_all := lw_g (lw_at lw_m5 90 rfl) rfl
theorem q1390 : (Jvm.Cond.codeWith ({ cls := "RewriteHouse", name := "pair", desc := "(II)I" } : Jvm.MethodName) prog_1_method_234_code (4 : Nat) (Option.some Jvm.ClassFile.FieldType.int) [((28 : Nat), (42 : Nat), (105 : Nat), (8 : Nat)), ((43 : Nat), (104 : Nat), (105 : Nat), (8 : Nat))]) ∈ lw_all := lw_g (lw_at lw_m5 91 rfl) rfl
theorem q1393 : (Jvm.Cond.instanceMethod ({ cls := "RewriteHouse", name := "<init>", desc := "()V" } : Jvm.MethodName)) ∈ lw_all := lw_g (lw_at lw_m5 94 rfl) rfl
theorem q1394 : (Jvm.Cond.code ({ cls := "RewriteHouse", name := "<init>", desc := "()V" } : Jvm.MethodName) prog_1_method_235_code (1 : Nat) (Option.none : Option Jvm.ClassFile.FieldType)) ∈ lw_all := lw_g (lw_at lw_m5 95 rfl) rfl
theorem q1395 : (Jvm.Cond.methodLink "RewriteHouse" (1370 : Nat) ({ cls := "java/lang/Object", name := "<init>", desc := "()V" } : Jvm.MethodName)) ∈ lw_all := lw_g (lw_at lw_m5 96 rfl) rfl
theorem q1437 : (Jvm.Cond.methodLink "RewriteHouse" (1375 : Nat) ({ cls := "RewriteHouse$Stop", name := "<init>", desc := "()V" } : Jvm.MethodName)) ∈ lw_all := lw_g (lw_at lw_m5 138 rfl) rfl
theorem q1449 : (Jvm.Cond.fieldLinkNest "RewriteHouse" (7 : Nat) "RewriteHouse$Stop" "why" "I" "RewriteHouse") ∈ lw_tbl := lw_at lw_m5 150 rfl
theorem q1465 : (Jvm.Cond.constant "RewriteHouse" (1376 : Nat) (40000 : Int32)) ∈ lw_all := lw_g (lw_at lw_m5 166 rfl) rfl
theorem q1466 : (Jvm.Cond.constant "RewriteHouse" (1377 : Nat) (76000 : Int32)) ∈ lw_all := lw_g (lw_at lw_m5 167 rfl) rfl
theorem q1467 : (Jvm.Cond.constant "RewriteHouse" (1378 : Nat) (228000 : Int32)) ∈ lw_all := lw_g (lw_at lw_m5 168 rfl) rfl
theorem q1468 : (Jvm.Cond.constant "RewriteHouse" (1379 : Nat) (409200 : Int32)) ∈ lw_all := lw_g (lw_at lw_m5 169 rfl) rfl
theorem q1469 : (Jvm.Cond.fieldLink "RewriteHouse" (3 : Nat) "RewriteHouse" "halt" "LRewriteHouse$Stop;") ∈ lw_all := lw_g (lw_at lw_m5 170 rfl) rfl
theorem q1470 : (Jvm.Cond.fieldLink "RewriteHouse" (16 : Nat) "RewriteHouse" "tape" "[B") ∈ lw_all := lw_g (lw_at lw_m5 171 rfl) rfl
theorem q1471 : (Jvm.Cond.fieldLink "RewriteHouse" (13 : Nat) "RewriteHouse" "taped" "I") ∈ lw_all := lw_g (lw_at lw_m5 172 rfl) rfl
theorem q1472 : (Jvm.Cond.fieldLink "RewriteHouse" (27 : Nat) "RewriteHouse" "text" "[B") ∈ lw_all := lw_g (lw_at lw_m5 173 rfl) rfl
theorem q1473 : (Jvm.Cond.fieldLink "RewriteHouse" (24 : Nat) "RewriteHouse" "size" "I") ∈ lw_all := lw_g (lw_at lw_m5 174 rfl) rfl
theorem q1474 : (Jvm.Cond.fieldLink "RewriteHouse" (91 : Nat) "RewriteHouse" "words" "I") ∈ lw_all := lw_g (lw_at lw_m5 175 rfl) rfl
theorem q1475 : (Jvm.Cond.fieldLink "RewriteHouse" (108 : Nat) "RewriteHouse" "wordKind" "[I") ∈ lw_all := lw_g (lw_at lw_m5 176 rfl) rfl
theorem q1476 : (Jvm.Cond.fieldLink "RewriteHouse" (111 : Nat) "RewriteHouse" "wordFrom" "[I") ∈ lw_all := lw_g (lw_at lw_m5 177 rfl) rfl
theorem q1477 : (Jvm.Cond.fieldLink "RewriteHouse" (114 : Nat) "RewriteHouse" "wordTo" "[I") ∈ lw_all := lw_g (lw_at lw_m5 178 rfl) rfl
theorem q1478 : (Jvm.Cond.fieldLink "RewriteHouse" (117 : Nat) "RewriteHouse" "wordId" "[I") ∈ lw_all := lw_g (lw_at lw_m5 179 rfl) rfl
theorem q1479 : (Jvm.Cond.fieldLink "RewriteHouse" (82 : Nat) "RewriteHouse" "letters" "[B") ∈ lw_all := lw_g (lw_at lw_m5 180 rfl) rfl
theorem q1480 : (Jvm.Cond.fieldLink "RewriteHouse" (85 : Nat) "RewriteHouse" "letterCount" "I") ∈ lw_all := lw_g (lw_at lw_m5 181 rfl) rfl
theorem q1481 : (Jvm.Cond.fieldLink "RewriteHouse" (72 : Nat) "RewriteHouse" "ids" "I") ∈ lw_all := lw_g (lw_at lw_m5 182 rfl) rfl
theorem q1482 : (Jvm.Cond.fieldLink "RewriteHouse" (79 : Nat) "RewriteHouse" "idFrom" "[I") ∈ lw_all := lw_g (lw_at lw_m5 183 rfl) rfl
theorem q1483 : (Jvm.Cond.fieldLink "RewriteHouse" (75 : Nat) "RewriteHouse" "idTo" "[I") ∈ lw_all := lw_g (lw_at lw_m5 184 rfl) rfl
theorem q1484 : (Jvm.Cond.fieldLink "RewriteHouse" (172 : Nat) "RewriteHouse" "moduleIds" "I") ∈ lw_all := lw_g (lw_at lw_m5 185 rfl) rfl
theorem q1485 : (Jvm.Cond.fieldLink "RewriteHouse" (175 : Nat) "RewriteHouse" "moduleLetters" "I") ∈ lw_all := lw_g (lw_at lw_m5 186 rfl) rfl
theorem q1486 : (Jvm.Cond.fieldLink "RewriteHouse" (39 : Nat) "RewriteHouse" "now" "I") ∈ lw_all := lw_g (lw_at lw_m5 187 rfl) rfl
theorem q1487 : (Jvm.Cond.fieldLink "RewriteHouse" (30 : Nat) "RewriteHouse" "faultPlace" "I") ∈ lw_all := lw_g (lw_at lw_m5 188 rfl) rfl
theorem q1488 : (Jvm.Cond.fieldLink "RewriteHouse" (33 : Nat) "RewriteHouse" "faultLine" "I") ∈ lw_all := lw_g (lw_at lw_m5 189 rfl) rfl
theorem q1489 : (Jvm.Cond.fieldLink "RewriteHouse" (36 : Nat) "RewriteHouse" "faultNumber" "I") ∈ lw_all := lw_g (lw_at lw_m5 190 rfl) rfl
theorem q1490 : (Jvm.Cond.fieldLink "RewriteHouse" (88 : Nat) "RewriteHouse" "limit" "I") ∈ lw_all := lw_g (lw_at lw_m5 191 rfl) rfl
theorem q1491 : (Jvm.Cond.fieldLink "RewriteHouse" (145 : Nat) "RewriteHouse" "sorts" "I") ∈ lw_all := lw_g (lw_at lw_m5 192 rfl) rfl
theorem q1492 : (Jvm.Cond.fieldLink "RewriteHouse" (255 : Nat) "RewriteHouse" "sortWord" "[I") ∈ lw_all := lw_g (lw_at lw_m5 193 rfl) rfl
theorem q1493 : (Jvm.Cond.fieldLink "RewriteHouse" (148 : Nat) "RewriteHouse" "lessers" "I") ∈ lw_all := lw_g (lw_at lw_m5 194 rfl) rfl
theorem q1494 : (Jvm.Cond.fieldLink "RewriteHouse" (269 : Nat) "RewriteHouse" "lessAt" "[I") ∈ lw_all := lw_g (lw_at lw_m5 195 rfl) rfl
theorem q1495 : (Jvm.Cond.fieldLink "RewriteHouse" (272 : Nat) "RewriteHouse" "lessLeft" "[I") ∈ lw_all := lw_g (lw_at lw_m5 196 rfl) rfl
theorem q1496 : (Jvm.Cond.fieldLink "RewriteHouse" (275 : Nat) "RewriteHouse" "lessRight" "[I") ∈ lw_all := lw_g (lw_at lw_m5 197 rfl) rfl
theorem q1497 : (Jvm.Cond.fieldLink "RewriteHouse" (278 : Nat) "RewriteHouse" "lessEnd" "[I") ∈ lw_all := lw_g (lw_at lw_m5 198 rfl) rfl
theorem q1498 : (Jvm.Cond.fieldLink "RewriteHouse" (151 : Nat) "RewriteHouse" "rows" "I") ∈ lw_all := lw_g (lw_at lw_m5 199 rfl) rfl
theorem q1499 : (Jvm.Cond.fieldLink "RewriteHouse" (281 : Nat) "RewriteHouse" "rowAt" "[I") ∈ lw_all := lw_g (lw_at lw_m5 200 rfl) rfl
theorem q1500 : (Jvm.Cond.fieldLink "RewriteHouse" (284 : Nat) "RewriteHouse" "rowForm" "[I") ∈ lw_all := lw_g (lw_at lw_m5 201 rfl) rfl
theorem q1501 : (Jvm.Cond.fieldLink "RewriteHouse" (287 : Nat) "RewriteHouse" "rowColon" "[I") ∈ lw_all := lw_g (lw_at lw_m5 202 rfl) rfl
theorem q1502 : (Jvm.Cond.fieldLink "RewriteHouse" (290 : Nat) "RewriteHouse" "rowArrow" "[I") ∈ lw_all := lw_g (lw_at lw_m5 203 rfl) rfl
theorem q1503 : (Jvm.Cond.fieldLink "RewriteHouse" (293 : Nat) "RewriteHouse" "rowBits" "[I") ∈ lw_all := lw_g (lw_at lw_m5 204 rfl) rfl
theorem q1504 : (Jvm.Cond.fieldLink "RewriteHouse" (312 : Nat) "RewriteHouse" "rowId" "[I") ∈ lw_all := lw_g (lw_at lw_m5 205 rfl) rfl
theorem q1505 : (Jvm.Cond.fieldLink "RewriteHouse" (320 : Nat) "RewriteHouse" "rowPrec" "[I") ∈ lw_all := lw_g (lw_at lw_m5 206 rfl) rfl
theorem q1506 : (Jvm.Cond.fieldLink "RewriteHouse" (325 : Nat) "RewriteHouse" "rowGather" "[I") ∈ lw_all := lw_g (lw_at lw_m5 207 rfl) rfl
theorem q1507 : (Jvm.Cond.fieldLink "RewriteHouse" (334 : Nat) "RewriteHouse" "rowLetters" "[I") ∈ lw_all := lw_g (lw_at lw_m5 208 rfl) rfl
theorem q1508 : (Jvm.Cond.fieldLink "RewriteHouse" (154 : Nat) "RewriteHouse" "variables" "I") ∈ lw_all := lw_g (lw_at lw_m5 209 rfl) rfl
theorem q1509 : (Jvm.Cond.fieldLink "RewriteHouse" (337 : Nat) "RewriteHouse" "variableWord" "[I") ∈ lw_all := lw_g (lw_at lw_m5 210 rfl) rfl
theorem q1510 : (Jvm.Cond.fieldLink "RewriteHouse" (340 : Nat) "RewriteHouse" "variableSortWord" "[I") ∈ lw_all := lw_g (lw_at lw_m5 211 rfl) rfl
theorem q1511 : (Jvm.Cond.fieldLink "RewriteHouse" (157 : Nat) "RewriteHouse" "equations" "I") ∈ lw_all := lw_g (lw_at lw_m5 212 rfl) rfl
theorem q1512 : (Jvm.Cond.fieldLink "RewriteHouse" (160 : Nat) "RewriteHouse" "rules" "I") ∈ lw_all := lw_g (lw_at lw_m5 213 rfl) rfl
theorem q1513 : (Jvm.Cond.fieldLink "RewriteHouse" (163 : Nat) "RewriteHouse" "statements" "I") ∈ lw_all := lw_g (lw_at lw_m5 214 rfl) rfl
theorem q1514 : (Jvm.Cond.fieldLink "RewriteHouse" (350 : Nat) "RewriteHouse" "statementOf" "[I") ∈ lw_all := lw_g (lw_at lw_m5 215 rfl) rfl
theorem q1515 : (Jvm.Cond.fieldLink "RewriteHouse" (343 : Nat) "RewriteHouse" "isOther" "[Z") ∈ lw_all := lw_g (lw_at lw_m5 216 rfl) rfl
theorem q1516 : (Jvm.Cond.fieldLink "RewriteHouse" (347 : Nat) "RewriteHouse" "label" "[I") ∈ lw_all := lw_g (lw_at lw_m5 217 rfl) rfl
theorem q1517 : (Jvm.Cond.fieldLink "RewriteHouse" (359 : Nat) "RewriteHouse" "leftFrom" "[I") ∈ lw_all := lw_g (lw_at lw_m5 218 rfl) rfl
theorem q1518 : (Jvm.Cond.fieldLink "RewriteHouse" (365 : Nat) "RewriteHouse" "leftTo" "[I") ∈ lw_all := lw_g (lw_at lw_m5 219 rfl) rfl
theorem q1519 : (Jvm.Cond.fieldLink "RewriteHouse" (368 : Nat) "RewriteHouse" "rightFrom" "[I") ∈ lw_all := lw_g (lw_at lw_m5 220 rfl) rfl
theorem q1520 : (Jvm.Cond.fieldLink "RewriteHouse" (371 : Nat) "RewriteHouse" "rightTo" "[I") ∈ lw_all := lw_g (lw_at lw_m5 221 rfl) rfl
theorem q1521 : (Jvm.Cond.fieldLink "RewriteHouse" (356 : Nat) "RewriteHouse" "conditions" "[I") ∈ lw_all := lw_g (lw_at lw_m5 222 rfl) rfl
theorem q1522 : (Jvm.Cond.fieldLink "RewriteHouse" (383 : Nat) "RewriteHouse" "conditionSort" "[I") ∈ lw_all := lw_g (lw_at lw_m5 223 rfl) rfl
theorem q1523 : (Jvm.Cond.fieldLink "RewriteHouse" (377 : Nat) "RewriteHouse" "conditionFrom" "[I") ∈ lw_all := lw_g (lw_at lw_m5 224 rfl) rfl
theorem q1524 : (Jvm.Cond.fieldLink "RewriteHouse" (380 : Nat) "RewriteHouse" "conditionTo" "[I") ∈ lw_all := lw_g (lw_at lw_m5 225 rfl) rfl
theorem q1525 : (Jvm.Cond.fieldLink "RewriteHouse" (386 : Nat) "RewriteHouse" "otherFrom" "[I") ∈ lw_all := lw_g (lw_at lw_m5 226 rfl) rfl
theorem q1526 : (Jvm.Cond.fieldLink "RewriteHouse" (389 : Nat) "RewriteHouse" "otherTo" "[I") ∈ lw_all := lw_g (lw_at lw_m5 227 rfl) rfl
theorem q1527 : (Jvm.Cond.fieldLink "RewriteHouse" (193 : Nat) "RewriteHouse" "hasModule" "Z") ∈ lw_all := lw_g (lw_at lw_m5 228 rfl) rfl
theorem q1528 : (Jvm.Cond.fieldLink "RewriteHouse" (392 : Nat) "RewriteHouse" "sortId" "[I") ∈ lw_all := lw_g (lw_at lw_m5 229 rfl) rfl
theorem q1529 : (Jvm.Cond.fieldLink "RewriteHouse" (398 : Nat) "RewriteHouse" "aboves" "[I") ∈ lw_all := lw_g (lw_at lw_m5 230 rfl) rfl
theorem q1530 : (Jvm.Cond.fieldLink "RewriteHouse" (169 : Nat) "RewriteHouse" "kinds" "I") ∈ lw_all := lw_g (lw_at lw_m5 231 rfl) rfl
theorem q1531 : (Jvm.Cond.fieldLink "RewriteHouse" (401 : Nat) "RewriteHouse" "kindOf" "[I") ∈ lw_all := lw_g (lw_at lw_m5 232 rfl) rfl
theorem q1532 : (Jvm.Cond.fieldLink "RewriteHouse" (166 : Nat) "RewriteHouse" "operators" "I") ∈ lw_all := lw_g (lw_at lw_m5 233 rfl) rfl
theorem q1533 : (Jvm.Cond.fieldLink "RewriteHouse" (451 : Nat) "RewriteHouse" "operatorOf" "[I") ∈ lw_all := lw_g (lw_at lw_m5 234 rfl) rfl
theorem q1534 : (Jvm.Cond.fieldLink "RewriteHouse" (445 : Nat) "RewriteHouse" "rowSorts" "[I") ∈ lw_all := lw_g (lw_at lw_m5 235 rfl) rfl
theorem q1535 : (Jvm.Cond.fieldLink "RewriteHouse" (436 : Nat) "RewriteHouse" "rowHoles" "[I") ∈ lw_all := lw_g (lw_at lw_m5 236 rfl) rfl
theorem q1536 : (Jvm.Cond.fieldLink "RewriteHouse" (448 : Nat) "RewriteHouse" "rowResult" "[I") ∈ lw_all := lw_g (lw_at lw_m5 237 rfl) rfl
theorem q1537 : (Jvm.Cond.fieldLink "RewriteHouse" (418 : Nat) "RewriteHouse" "rowParts" "[I") ∈ lw_all := lw_g (lw_at lw_m5 238 rfl) rfl
theorem q1538 : (Jvm.Cond.fieldLink "RewriteHouse" (421 : Nat) "RewriteHouse" "rowPart" "[I") ∈ lw_all := lw_g (lw_at lw_m5 239 rfl) rfl
theorem q1539 : (Jvm.Cond.fieldLink "RewriteHouse" (439 : Nat) "RewriteHouse" "isRowGood" "[Z") ∈ lw_all := lw_g (lw_at lw_m6 0 rfl) rfl
theorem q1540 : (Jvm.Cond.fieldLink "RewriteHouse" (460 : Nat) "RewriteHouse" "firstRow" "[I") ∈ lw_all := lw_g (lw_at lw_m6 1 rfl) rfl
theorem q1541 : (Jvm.Cond.fieldLink "RewriteHouse" (476 : Nat) "RewriteHouse" "holes" "[I") ∈ lw_all := lw_g (lw_at lw_m6 2 rfl) rfl
theorem q1542 : (Jvm.Cond.fieldLink "RewriteHouse" (482 : Nat) "RewriteHouse" "strength" "[I") ∈ lw_all := lw_g (lw_at lw_m6 3 rfl) rfl
theorem q1543 : (Jvm.Cond.fieldLink "RewriteHouse" (494 : Nat) "RewriteHouse" "takes" "[I") ∈ lw_all := lw_g (lw_at lw_m6 4 rfl) rfl
theorem q1544 : (Jvm.Cond.fieldLink "RewriteHouse" (485 : Nat) "RewriteHouse" "isAssoc" "[Z") ∈ lw_all := lw_g (lw_at lw_m6 5 rfl) rfl
theorem q1545 : (Jvm.Cond.fieldLink "RewriteHouse" (488 : Nat) "RewriteHouse" "isComm" "[Z") ∈ lw_all := lw_g (lw_at lw_m6 6 rfl) rfl
theorem q1546 : (Jvm.Cond.fieldLink "RewriteHouse" (491 : Nat) "RewriteHouse" "unit" "[I") ∈ lw_all := lw_g (lw_at lw_m6 7 rfl) rfl
theorem q1547 : (Jvm.Cond.fieldLink "RewriteHouse" (479 : Nat) "RewriteHouse" "operatorKind" "[I") ∈ lw_all := lw_g (lw_at lw_m6 8 rfl) rfl
theorem q1548 : (Jvm.Cond.fieldLink "RewriteHouse" (430 : Nat) "RewriteHouse" "one" "[B") ∈ lw_all := lw_g (lw_at lw_m6 9 rfl) rfl
theorem q1549 : (Jvm.Cond.fieldLink "RewriteHouse" (500 : Nat) "RewriteHouse" "variableId" "[I") ∈ lw_all := lw_g (lw_at lw_m6 10 rfl) rfl
theorem q1550 : (Jvm.Cond.fieldLink "RewriteHouse" (503 : Nat) "RewriteHouse" "variableSort" "[I") ∈ lw_all := lw_g (lw_at lw_m6 11 rfl) rfl
theorem q1551 : (Jvm.Cond.fieldLink "RewriteHouse" (518 : Nat) "RewriteHouse" "readings" "I") ∈ lw_all := lw_g (lw_at lw_m6 12 rfl) rfl
theorem q1552 : (Jvm.Cond.fieldLink "RewriteHouse" (509 : Nat) "RewriteHouse" "readKind" "[I") ∈ lw_all := lw_g (lw_at lw_m6 13 rfl) rfl
theorem q1553 : (Jvm.Cond.fieldLink "RewriteHouse" (512 : Nat) "RewriteHouse" "readStrength" "[I") ∈ lw_all := lw_g (lw_at lw_m6 14 rfl) rfl
theorem q1554 : (Jvm.Cond.fieldLink "RewriteHouse" (521 : Nat) "RewriteHouse" "readWhat" "[I") ∈ lw_all := lw_g (lw_at lw_m6 15 rfl) rfl
theorem q1555 : (Jvm.Cond.fieldLink "RewriteHouse" (524 : Nat) "RewriteHouse" "readHole" "[I") ∈ lw_all := lw_g (lw_at lw_m6 16 rfl) rfl
theorem q1556 : (Jvm.Cond.fieldLink "RewriteHouse" (515 : Nat) "RewriteHouse" "readNext" "[I") ∈ lw_all := lw_g (lw_at lw_m6 17 rfl) rfl
theorem q1557 : (Jvm.Cond.fieldLink "RewriteHouse" (506 : Nat) "RewriteHouse" "tableFirst" "[I") ∈ lw_all := lw_g (lw_at lw_m6 18 rfl) rfl
theorem q1558 : (Jvm.Cond.fieldLink "RewriteHouse" (537 : Nat) "RewriteHouse" "rowFrom" "I") ∈ lw_all := lw_g (lw_at lw_m6 19 rfl) rfl
theorem q1559 : (Jvm.Cond.fieldLink "RewriteHouse" (550 : Nat) "RewriteHouse" "rowMany" "I") ∈ lw_all := lw_g (lw_at lw_m6 20 rfl) rfl
theorem q1560 : (Jvm.Cond.fieldLink "RewriteHouse" (527 : Nat) "RewriteHouse" "chosen" "[I") ∈ lw_all := lw_g (lw_at lw_m6 21 rfl) rfl
theorem q1561 : (Jvm.Cond.fieldLink "RewriteHouse" (530 : Nat) "RewriteHouse" "fitMany" "I") ∈ lw_all := lw_g (lw_at lw_m6 22 rfl) rfl
theorem q1562 : (Jvm.Cond.fieldLink "RewriteHouse" (200 : Nat) "RewriteHouse" "nodes" "I") ∈ lw_all := lw_g (lw_at lw_m6 23 rfl) rfl
theorem q1563 : (Jvm.Cond.fieldLink "RewriteHouse" (197 : Nat) "RewriteHouse" "base" "I") ∈ lw_all := lw_g (lw_at lw_m6 24 rfl) rfl
theorem q1564 : (Jvm.Cond.fieldLink "RewriteHouse" (575 : Nat) "RewriteHouse" "what" "[I") ∈ lw_all := lw_g (lw_at lw_m6 25 rfl) rfl
theorem q1565 : (Jvm.Cond.fieldLink "RewriteHouse" (584 : Nat) "RewriteHouse" "rowStart" "[I") ∈ lw_all := lw_g (lw_at lw_m6 26 rfl) rfl
theorem q1566 : (Jvm.Cond.fieldLink "RewriteHouse" (578 : Nat) "RewriteHouse" "many" "[I") ∈ lw_all := lw_g (lw_at lw_m6 27 rfl) rfl
theorem q1567 : (Jvm.Cond.fieldLink "RewriteHouse" (602 : Nat) "RewriteHouse" "least" "[I") ∈ lw_all := lw_g (lw_at lw_m6 28 rfl) rfl
theorem q1568 : (Jvm.Cond.fieldLink "RewriteHouse" (590 : Nat) "RewriteHouse" "big" "[I") ∈ lw_all := lw_g (lw_at lw_m6 29 rfl) rfl
theorem q1569 : (Jvm.Cond.fieldLink "RewriteHouse" (587 : Nat) "RewriteHouse" "nextSame" "[I") ∈ lw_all := lw_g (lw_at lw_m6 30 rfl) rfl
theorem q1570 : (Jvm.Cond.fieldLink "RewriteHouse" (563 : Nat) "RewriteHouse" "first" "[I") ∈ lw_all := lw_g (lw_at lw_m6 31 rfl) rfl
theorem q1571 : (Jvm.Cond.fieldLink "RewriteHouse" (203 : Nat) "RewriteHouse" "places" "I") ∈ lw_all := lw_g (lw_at lw_m6 32 rfl) rfl
theorem q1572 : (Jvm.Cond.fieldLink "RewriteHouse" (206 : Nat) "RewriteHouse" "basePlaces" "I") ∈ lw_all := lw_g (lw_at lw_m6 33 rfl) rfl
theorem q1573 : (Jvm.Cond.fieldLink "RewriteHouse" (581 : Nat) "RewriteHouse" "place" "[I") ∈ lw_all := lw_g (lw_at lw_m6 34 rfl) rfl
theorem q1574 : (Jvm.Cond.fieldLink "RewriteHouse" (567 : Nat) "RewriteHouse" "hand" "[I") ∈ lw_all := lw_g (lw_at lw_m6 35 rfl) rfl
theorem q1575 : (Jvm.Cond.fieldLink "RewriteHouse" (611 : Nat) "RewriteHouse" "top" "I") ∈ lw_all := lw_g (lw_at lw_m6 36 rfl) rfl
theorem q1576 : (Jvm.Cond.fieldLink "RewriteHouse" (599 : Nat) "RewriteHouse" "rest" "[I") ∈ lw_all := lw_g (lw_at lw_m6 37 rfl) rfl
theorem q1577 : (Jvm.Cond.fieldLink "RewriteHouse" (624 : Nat) "RewriteHouse" "sortRow" "[I") ∈ lw_all := lw_g (lw_at lw_m6 38 rfl) rfl
theorem q1578 : (Jvm.Cond.fieldLink "RewriteHouse" (655 : Nat) "RewriteHouse" "saveAt" "I") ∈ lw_all := lw_g (lw_at lw_m6 39 rfl) rfl
theorem q1579 : (Jvm.Cond.fieldLink "RewriteHouse" (662 : Nat) "RewriteHouse" "loadAt" "I") ∈ lw_all := lw_g (lw_at lw_m6 40 rfl) rfl
theorem q1580 : (Jvm.Cond.fieldLink "RewriteHouse" (178 : Nat) "RewriteHouse" "handles" "I") ∈ lw_all := lw_g (lw_at lw_m6 41 rfl) rfl
theorem q1581 : (Jvm.Cond.fieldLink "RewriteHouse" (669 : Nat) "RewriteHouse" "handle" "[I") ∈ lw_all := lw_g (lw_at lw_m6 42 rfl) rfl
theorem q1582 : (Jvm.Cond.fieldLink "RewriteHouse" (695 : Nat) "RewriteHouse" "leftTerm" "[I") ∈ lw_all := lw_g (lw_at lw_m6 43 rfl) rfl
theorem q1583 : (Jvm.Cond.fieldLink "RewriteHouse" (704 : Nat) "RewriteHouse" "rightTerm" "[I") ∈ lw_all := lw_g (lw_at lw_m6 44 rfl) rfl
theorem q1584 : (Jvm.Cond.fieldLink "RewriteHouse" (713 : Nat) "RewriteHouse" "conditionTerm" "[I") ∈ lw_all := lw_g (lw_at lw_m6 45 rfl) rfl
theorem q1585 : (Jvm.Cond.fieldLink "RewriteHouse" (710 : Nat) "RewriteHouse" "otherTerm" "[I") ∈ lw_all := lw_g (lw_at lw_m6 46 rfl) rfl
theorem q1586 : (Jvm.Cond.fieldLink "RewriteHouse" (683 : Nat) "RewriteHouse" "isKnown" "[Z") ∈ lw_all := lw_g (lw_at lw_m6 47 rfl) rfl
theorem q1587 : (Jvm.Cond.fieldLink "RewriteHouse" (807 : Nat) "RewriteHouse" "bound" "[I") ∈ lw_all := lw_g (lw_at lw_m6 48 rfl) rfl
theorem q1588 : (Jvm.Cond.fieldLink "RewriteHouse" (776 : Nat) "RewriteHouse" "goalPattern" "[I") ∈ lw_all := lw_g (lw_at lw_m6 49 rfl) rfl
theorem q1589 : (Jvm.Cond.fieldLink "RewriteHouse" (782 : Nat) "RewriteHouse" "goalTerm" "[I") ∈ lw_all := lw_g (lw_at lw_m6 50 rfl) rfl
theorem q1590 : (Jvm.Cond.fieldLink "RewriteHouse" (779 : Nat) "RewriteHouse" "goals" "I") ∈ lw_all := lw_g (lw_at lw_m6 51 rfl) rfl
theorem q1591 : (Jvm.Cond.fieldLink "RewriteHouse" (852 : Nat) "RewriteHouse" "listed" "[I") ∈ lw_all := lw_g (lw_at lw_m6 52 rfl) rfl
theorem q1592 : (Jvm.Cond.fieldLink "RewriteHouse" (846 : Nat) "RewriteHouse" "listFrom" "I") ∈ lw_all := lw_g (lw_at lw_m6 53 rfl) rfl
theorem q1593 : (Jvm.Cond.fieldLink "RewriteHouse" (849 : Nat) "RewriteHouse" "listMany" "I") ∈ lw_all := lw_g (lw_at lw_m6 54 rfl) rfl
theorem q1594 : (Jvm.Cond.fieldLink "RewriteHouse" (855 : Nat) "RewriteHouse" "aheadNow" "I") ∈ lw_all := lw_g (lw_at lw_m6 55 rfl) rfl
theorem q1595 : (Jvm.Cond.fieldLink "RewriteHouse" (858 : Nat) "RewriteHouse" "behindNow" "I") ∈ lw_all := lw_g (lw_at lw_m6 56 rfl) rfl
theorem q1596 : (Jvm.Cond.fieldLink "RewriteHouse" (867 : Nat) "RewriteHouse" "restOperator" "I") ∈ lw_all := lw_g (lw_at lw_m6 57 rfl) rfl
theorem q1597 : (Jvm.Cond.fieldLink "RewriteHouse" (889 : Nat) "RewriteHouse" "matchersMade" "I") ∈ lw_all := lw_g (lw_at lw_m6 58 rfl) rfl
theorem q1598 : (Jvm.Cond.fieldLink "RewriteHouse" (876 : Nat) "RewriteHouse" "dealsMade" "J") ∈ lw_all := lw_g (lw_at lw_m6 59 rfl) rfl
theorem q1599 : (Jvm.Cond.fieldLink "RewriteHouse" (880 : Nat) "RewriteHouse" "dealsMost" "J") ∈ lw_all := lw_g (lw_at lw_m6 60 rfl) rfl
theorem q1600 : (Jvm.Cond.fieldLink "RewriteHouse" (929 : Nat) "RewriteHouse" "stepsMade" "I") ∈ lw_all := lw_g (lw_at lw_m6 61 rfl) rfl
theorem q1601 : (Jvm.Cond.fieldLink "RewriteHouse" (926 : Nat) "RewriteHouse" "filledMade" "I") ∈ lw_all := lw_g (lw_at lw_m6 62 rfl) rfl
theorem q1602 : (Jvm.Cond.fieldLink "RewriteHouse" (816 : Nat) "RewriteHouse" "element" "[I") ∈ lw_all := lw_g (lw_at lw_m6 63 rfl) rfl
theorem q1603 : (Jvm.Cond.fieldLink "RewriteHouse" (813 : Nat) "RewriteHouse" "elements" "I") ∈ lw_all := lw_g (lw_at lw_m6 64 rfl) rfl
theorem q1604 : (Jvm.Cond.fieldLink "RewriteHouse" (825 : Nat) "RewriteHouse" "sharePart" "[I") ∈ lw_all := lw_g (lw_at lw_m6 65 rfl) rfl
theorem q1605 : (Jvm.Cond.fieldLink "RewriteHouse" (828 : Nat) "RewriteHouse" "shareFrom" "[I") ∈ lw_all := lw_g (lw_at lw_m6 66 rfl) rfl
theorem q1606 : (Jvm.Cond.fieldLink "RewriteHouse" (831 : Nat) "RewriteHouse" "shareLeft" "[I") ∈ lw_all := lw_g (lw_at lw_m6 67 rfl) rfl
theorem q1607 : (Jvm.Cond.fieldLink "RewriteHouse" (822 : Nat) "RewriteHouse" "shares" "I") ∈ lw_all := lw_g (lw_at lw_m6 68 rfl) rfl
theorem q1608 : (Jvm.Cond.fieldLink "RewriteHouse" (908 : Nat) "RewriteHouse" "deep" "I") ∈ lw_all := lw_g (lw_at lw_m6 69 rfl) rfl
theorem q1609 : (Jvm.Cond.fieldLink "RewriteHouse" (914 : Nat) "RewriteHouse" "chain" "[I") ∈ lw_all := lw_g (lw_at lw_m6 70 rfl) rfl
theorem q1610 : (Jvm.Cond.fieldLink "RewriteHouse" (911 : Nat) "RewriteHouse" "chained" "I") ∈ lw_all := lw_g (lw_at lw_m6 71 rfl) rfl
theorem q1611 : (Jvm.Cond.fieldLink "RewriteHouse" (963 : Nat) "RewriteHouse" "saved" "[I") ∈ lw_all := lw_g (lw_at lw_m6 72 rfl) rfl
theorem q1612 : (Jvm.Cond.fieldLink "RewriteHouse" (966 : Nat) "RewriteHouse" "savedTop" "I") ∈ lw_all := lw_g (lw_at lw_m6 73 rfl) rfl
theorem q1613 : (Jvm.Cond.fieldLink "RewriteHouse" (1005 : Nat) "RewriteHouse" "found" "[I") ∈ lw_all := lw_g (lw_at lw_m6 74 rfl) rfl
theorem q1614 : (Jvm.Cond.fieldLink "RewriteHouse" (1007 : Nat) "RewriteHouse" "foundRule" "[I") ∈ lw_all := lw_g (lw_at lw_m6 75 rfl) rfl
theorem q1615 : (Jvm.Cond.fieldLink "RewriteHouse" (978 : Nat) "RewriteHouse" "foundMany" "I") ∈ lw_all := lw_g (lw_at lw_m6 76 rfl) rfl
theorem q1616 : (Jvm.Cond.fieldLink "RewriteHouse" (993 : Nat) "RewriteHouse" "path" "[I") ∈ lw_all := lw_g (lw_at lw_m6 77 rfl) rfl
theorem q1617 : (Jvm.Cond.fieldLink "RewriteHouse" (996 : Nat) "RewriteHouse" "pathAt" "[I") ∈ lw_all := lw_g (lw_at lw_m6 78 rfl) rfl
theorem q1618 : (Jvm.Cond.fieldLink "RewriteHouse" (981 : Nat) "RewriteHouse" "pathMany" "I") ∈ lw_all := lw_g (lw_at lw_m6 79 rfl) rfl
theorem q1619 : (Jvm.Cond.fieldLink "RewriteHouse" (984 : Nat) "RewriteHouse" "labelWanted" "I") ∈ lw_all := lw_g (lw_at lw_m6 80 rfl) rfl
theorem q1620 : (Jvm.Cond.fieldLink "RewriteHouse" (187 : Nat) "RewriteHouse" "lastStop" "I") ∈ lw_all := lw_g (lw_at lw_m6 81 rfl) rfl
theorem q1621 : (Jvm.Cond.fieldLink "RewriteHouse" (181 : Nat) "RewriteHouse" "resultSort" "I") ∈ lw_all := lw_g (lw_at lw_m6 82 rfl) rfl
theorem q1622 : (Jvm.Cond.fieldLink "RewriteHouse" (184 : Nat) "RewriteHouse" "results" "I") ∈ lw_all := lw_g (lw_at lw_m6 83 rfl) rfl
theorem q1623 : (Jvm.Cond.fieldLink "RewriteHouse" (1073 : Nat) "RewriteHouse" "result" "[I") ∈ lw_all := lw_g (lw_at lw_m6 84 rfl) rfl
theorem q1624 : (Jvm.Cond.fieldLink "RewriteHouse" (1085 : Nat) "RewriteHouse" "resultFrom" "[I") ∈ lw_all := lw_g (lw_at lw_m6 85 rfl) rfl
theorem q1625 : (Jvm.Cond.fieldLink "RewriteHouse" (1076 : Nat) "RewriteHouse" "resultRule" "[I") ∈ lw_all := lw_g (lw_at lw_m6 86 rfl) rfl
theorem q1626 : (Jvm.Cond.fieldLink "RewriteHouse" (1088 : Nat) "RewriteHouse" "resultFar" "[I") ∈ lw_all := lw_g (lw_at lw_m6 87 rfl) rfl
theorem q1627 : (Jvm.Cond.fieldLink "RewriteHouse" (1091 : Nat) "RewriteHouse" "edgeFrom" "[I") ∈ lw_all := lw_g (lw_at lw_m6 88 rfl) rfl
theorem q1628 : (Jvm.Cond.fieldLink "RewriteHouse" (1112 : Nat) "RewriteHouse" "edge" "[I") ∈ lw_all := lw_g (lw_at lw_m6 89 rfl) rfl
theorem q1629 : (Jvm.Cond.fieldLink "RewriteHouse" (1057 : Nat) "RewriteHouse" "matched" "[I") ∈ lw_all := lw_g (lw_at lw_m6 90 rfl) rfl
theorem q1630 : (Jvm.Cond.fieldLink "RewriteHouse" (1060 : Nat) "RewriteHouse" "matchedWithin" "Z") ∈ lw_all := lw_g (lw_at lw_m6 91 rfl) rfl
theorem q1631 : (Jvm.Cond.fieldLink "RewriteHouse" (190 : Nat) "RewriteHouse" "stepsTold" "I") ∈ lw_all := lw_g (lw_at lw_m6 92 rfl) rfl
theorem q1632 : (Jvm.Cond.fieldLink "RewriteHouse" (1030 : Nat) "RewriteHouse" "printed" "I") ∈ lw_all := lw_g (lw_at lw_m6 93 rfl) rfl
theorem q1633 : (Jvm.Cond.fieldLink "RewriteHouse" (1033 : Nat) "RewriteHouse" "printWanted" "I") ∈ lw_all := lw_g (lw_at lw_m6 94 rfl) rfl
theorem q1634 : (Jvm.Cond.fieldLink "RewriteHouse" (1036 : Nat) "RewriteHouse" "printFound" "I") ∈ lw_all := lw_g (lw_at lw_m6 95 rfl) rfl
theorem q1635 : (Jvm.Cond.fieldLink "RewriteHouse" (1082 : Nat) "RewriteHouse" "hasRules" "Z") ∈ lw_all := lw_g (lw_at lw_m6 96 rfl) rfl
theorem q1636 : (Jvm.Cond.fieldLink "RewriteHouse" (1097 : Nat) "RewriteHouse" "state" "[I") ∈ lw_all := lw_g (lw_at lw_m6 97 rfl) rfl
theorem q1637 : (Jvm.Cond.fieldLink "RewriteHouse" (1100 : Nat) "RewriteHouse" "newFrom" "[I") ∈ lw_all := lw_g (lw_at lw_m6 98 rfl) rfl
theorem q1638 : (Jvm.Cond.fieldLink "RewriteHouse" (1103 : Nat) "RewriteHouse" "newRule" "[I") ∈ lw_all := lw_g (lw_at lw_m6 99 rfl) rfl
theorem q1639 : (Jvm.Cond.fieldLink "RewriteHouse" (1106 : Nat) "RewriteHouse" "newFar" "[I") ∈ lw_all := lw_g (lw_at lw_m6 100 rfl) rfl
theorem q1640 : (Jvm.Cond.fieldLink "RewriteHouse" (1109 : Nat) "RewriteHouse" "newEdgeFrom" "[I") ∈ lw_all := lw_g (lw_at lw_m6 101 rfl) rfl
theorem q1641 : (Jvm.Cond.fieldLink "RewriteHouse" (1115 : Nat) "RewriteHouse" "newEdge" "[I") ∈ lw_all := lw_g (lw_at lw_m6 102 rfl) rfl
theorem q1642 : (Jvm.Cond.fieldLink "RewriteHouse" (1121 : Nat) "RewriteHouse" "isP" "[Z") ∈ lw_all := lw_g (lw_at lw_m6 103 rfl) rfl
theorem q1643 : (Jvm.Cond.fieldLink "RewriteHouse" (1124 : Nat) "RewriteHouse" "isQ" "[Z") ∈ lw_all := lw_g (lw_at lw_m6 104 rfl) rfl
theorem q1644 : (Jvm.Cond.fieldLink "RewriteHouse" (1131 : Nat) "RewriteHouse" "mark" "[I") ∈ lw_all := lw_g (lw_at lw_m6 105 rfl) rfl
theorem q1645 : (Jvm.Cond.fieldLink "RewriteHouse" (1133 : Nat) "RewriteHouse" "walk" "[I") ∈ lw_all := lw_g (lw_at lw_m6 106 rfl) rfl
theorem q1646 : (Jvm.Cond.fieldLink "RewriteHouse" (1136 : Nat) "RewriteHouse" "walkAt" "[I") ∈ lw_all := lw_g (lw_at lw_m6 107 rfl) rfl
theorem q1647 : (Jvm.Cond.fieldLink "RewriteHouse" (1139 : Nat) "RewriteHouse" "zSort" "[I") ∈ lw_all := lw_g (lw_at lw_m6 108 rfl) rfl
theorem q1648 : (Jvm.Cond.fieldLink "RewriteHouse" (1145 : Nat) "RewriteHouse" "zLeft" "[I") ∈ lw_all := lw_g (lw_at lw_m6 109 rfl) rfl
theorem q1649 : (Jvm.Cond.fieldLink "RewriteHouse" (1148 : Nat) "RewriteHouse" "zRight" "[I") ∈ lw_all := lw_g (lw_at lw_m6 110 rfl) rfl
theorem q1650 : (Jvm.Cond.fieldLink "RewriteHouse" (1142 : Nat) "RewriteHouse" "zNodes" "I") ∈ lw_all := lw_g (lw_at lw_m6 111 rfl) rfl
theorem q1651 : (Jvm.Cond.fieldLink "RewriteHouse" (1189 : Nat) "RewriteHouse" "answer" "[I") ∈ lw_all := lw_g (lw_at lw_m6 112 rfl) rfl
theorem q1652 : (Jvm.Cond.fieldLink "RewriteHouse" (1213 : Nat) "RewriteHouse" "failed" "[I") ∈ lw_all := lw_g (lw_at lw_m6 113 rfl) rfl
theorem q1653 : (Jvm.Cond.fieldLink "RewriteHouse" (1216 : Nat) "RewriteHouse" "failedMany" "I") ∈ lw_all := lw_g (lw_at lw_m6 114 rfl) rfl
theorem q1654 : (Jvm.Cond.fieldLink "RewriteHouse" (1231 : Nat) "RewriteHouse" "askedLeft" "[I") ∈ lw_all := lw_g (lw_at lw_m6 115 rfl) rfl
theorem q1655 : (Jvm.Cond.fieldLink "RewriteHouse" (1234 : Nat) "RewriteHouse" "askedRight" "[I") ∈ lw_all := lw_g (lw_at lw_m6 116 rfl) rfl
theorem q1656 : (Jvm.Cond.fieldLink "RewriteHouse" (1237 : Nat) "RewriteHouse" "askedIs" "[B") ∈ lw_all := lw_g (lw_at lw_m6 117 rfl) rfl
theorem q1657 : (Jvm.Cond.fieldLink "RewriteHouse" (1228 : Nat) "RewriteHouse" "asked" "I") ∈ lw_all := lw_g (lw_at lw_m6 118 rfl) rfl
theorem q1658 : (Jvm.Cond.fieldLink "RewriteHouse" (1279 : Nat) "RewriteHouse" "given" "[I") ∈ lw_all := lw_g (lw_at lw_m6 119 rfl) rfl
theorem q1659 : (Jvm.Cond.fieldLink "RewriteHouse" (1267 : Nat) "RewriteHouse" "pairsAll" "I") ∈ lw_all := lw_g (lw_at lw_m6 120 rfl) rfl
theorem q1660 : (Jvm.Cond.fieldLink "RewriteHouse" (1332 : Nat) "RewriteHouse" "pairsUnlike" "I") ∈ lw_all := lw_g (lw_at lw_m6 121 rfl) rfl
theorem q1661 : (Jvm.Cond.fieldLink "RewriteHouse" (1270 : Nat) "RewriteHouse" "pairsOpen" "I") ∈ lw_all := lw_g (lw_at lw_m6 122 rfl) rfl
theorem q1662 : (Jvm.Cond.fieldLink "RewriteHouse" (1335 : Nat) "RewriteHouse" "pairWanted" "I") ∈ lw_all := lw_g (lw_at lw_m6 123 rfl) rfl
theorem q1663 : (Jvm.Cond.fieldLink "RewriteHouse" (1338 : Nat) "RewriteHouse" "pairSaved" "[I") ∈ lw_all := lw_g (lw_at lw_m6 124 rfl) rfl
theorem q1664 : (Jvm.Cond.fieldLink "RewriteHouse" (1344 : Nat) "RewriteHouse" "pairFirst" "I") ∈ lw_all := lw_g (lw_at lw_m6 125 rfl) rfl
theorem q1665 : (Jvm.Cond.fieldLink "RewriteHouse" (1350 : Nat) "RewriteHouse" "pairSecond" "I") ∈ lw_all := lw_g (lw_at lw_m6 126 rfl) rfl
theorem q1666 : (Jvm.Cond.fieldLink "RewriteHouse" (1326 : Nat) "RewriteHouse" "rightOther" "I") ∈ lw_all := lw_g (lw_at lw_m6 127 rfl) rfl
theorem q1667 : (Jvm.Cond.fieldLink "RewriteHouse" (1323 : Nat) "RewriteHouse" "rightNow" "I") ∈ lw_all := lw_g (lw_at lw_m6 128 rfl) rfl
theorem q1668 : (Jvm.Cond.fieldLink "RewriteHouse" (1292 : Nat) "RewriteHouse" "looked" "I") ∈ lw_all := lw_g (lw_at lw_m6 129 rfl) rfl
theorem q1669 : (Jvm.Cond.fieldLink "RewriteHouse" (1341 : Nat) "RewriteHouse" "firstNow" "I") ∈ lw_all := lw_g (lw_at lw_m6 130 rfl) rfl
theorem q1670 : (Jvm.Cond.fieldLink "RewriteHouse" (1347 : Nat) "RewriteHouse" "secondNow" "I") ∈ lw_all := lw_g (lw_at lw_m6 131 rfl) rfl
theorem q1671 : (Jvm.Cond.laysFinal "RewriteHouse" "RewriteHouse" "halt" "LRewriteHouse$Stop;") ∈ lw_all := lw_g (lw_at lw_m6 132 rfl) rfl
theorem q1672 : (Jvm.Cond.soleField "RewriteHouse" "halt") ∈ lw_all := lw_g (lw_at lw_m6 133 rfl) rfl
theorem q1673 : (Jvm.Cond.laysFinal "RewriteHouse" "RewriteHouse" "tape" "[B") ∈ lw_all := lw_g (lw_at lw_m6 134 rfl) rfl
theorem q1674 : (Jvm.Cond.soleField "RewriteHouse" "tape") ∈ lw_all := lw_g (lw_at lw_m6 135 rfl) rfl
theorem q1675 : (Jvm.Cond.lays "RewriteHouse" "RewriteHouse" "taped" "I") ∈ lw_all := lw_g (lw_at lw_m6 136 rfl) rfl
theorem q1676 : (Jvm.Cond.soleField "RewriteHouse" "taped") ∈ lw_all := lw_g (lw_at lw_m6 137 rfl) rfl
theorem q1677 : (Jvm.Cond.laysFinal "RewriteHouse" "RewriteHouse" "text" "[B") ∈ lw_all := lw_g (lw_at lw_m6 138 rfl) rfl
theorem q1678 : (Jvm.Cond.soleField "RewriteHouse" "text") ∈ lw_all := lw_g (lw_at lw_m6 139 rfl) rfl
theorem q1679 : (Jvm.Cond.lays "RewriteHouse" "RewriteHouse" "size" "I") ∈ lw_all := lw_g (lw_at lw_m6 140 rfl) rfl
theorem q1680 : (Jvm.Cond.soleField "RewriteHouse" "size") ∈ lw_all := lw_g (lw_at lw_m6 141 rfl) rfl
theorem q1681 : (Jvm.Cond.lays "RewriteHouse" "RewriteHouse" "words" "I") ∈ lw_all := lw_g (lw_at lw_m6 142 rfl) rfl
theorem q1682 : (Jvm.Cond.soleField "RewriteHouse" "words") ∈ lw_all := lw_g (lw_at lw_m6 143 rfl) rfl
theorem q1683 : (Jvm.Cond.laysFinal "RewriteHouse" "RewriteHouse" "wordKind" "[I") ∈ lw_all := lw_g (lw_at lw_m6 144 rfl) rfl
theorem q1684 : (Jvm.Cond.soleField "RewriteHouse" "wordKind") ∈ lw_all := lw_g (lw_at lw_m6 145 rfl) rfl
theorem q1685 : (Jvm.Cond.laysFinal "RewriteHouse" "RewriteHouse" "wordFrom" "[I") ∈ lw_all := lw_g (lw_at lw_m6 146 rfl) rfl
theorem q1686 : (Jvm.Cond.soleField "RewriteHouse" "wordFrom") ∈ lw_all := lw_g (lw_at lw_m6 147 rfl) rfl
theorem q1687 : (Jvm.Cond.laysFinal "RewriteHouse" "RewriteHouse" "wordTo" "[I") ∈ lw_all := lw_g (lw_at lw_m6 148 rfl) rfl
theorem q1688 : (Jvm.Cond.soleField "RewriteHouse" "wordTo") ∈ lw_all := lw_g (lw_at lw_m6 149 rfl) rfl
theorem q1689 : (Jvm.Cond.laysFinal "RewriteHouse" "RewriteHouse" "wordId" "[I") ∈ lw_all := lw_g (lw_at lw_m6 150 rfl) rfl
theorem q1690 : (Jvm.Cond.soleField "RewriteHouse" "wordId") ∈ lw_all := lw_g (lw_at lw_m6 151 rfl) rfl
theorem q1691 : (Jvm.Cond.laysFinal "RewriteHouse" "RewriteHouse" "letters" "[B") ∈ lw_all := lw_g (lw_at lw_m6 152 rfl) rfl
theorem q1692 : (Jvm.Cond.soleField "RewriteHouse" "letters") ∈ lw_all := lw_g (lw_at lw_m6 153 rfl) rfl
theorem q1693 : (Jvm.Cond.lays "RewriteHouse" "RewriteHouse" "letterCount" "I") ∈ lw_all := lw_g (lw_at lw_m6 154 rfl) rfl
theorem q1694 : (Jvm.Cond.soleField "RewriteHouse" "letterCount") ∈ lw_all := lw_g (lw_at lw_m6 155 rfl) rfl
theorem q1695 : (Jvm.Cond.lays "RewriteHouse" "RewriteHouse" "ids" "I") ∈ lw_all := lw_g (lw_at lw_m6 156 rfl) rfl
theorem q1696 : (Jvm.Cond.soleField "RewriteHouse" "ids") ∈ lw_all := lw_g (lw_at lw_m6 157 rfl) rfl
theorem q1697 : (Jvm.Cond.laysFinal "RewriteHouse" "RewriteHouse" "idFrom" "[I") ∈ lw_all := lw_g (lw_at lw_m6 158 rfl) rfl
theorem q1698 : (Jvm.Cond.soleField "RewriteHouse" "idFrom") ∈ lw_all := lw_g (lw_at lw_m6 159 rfl) rfl
theorem q1699 : (Jvm.Cond.laysFinal "RewriteHouse" "RewriteHouse" "idTo" "[I") ∈ lw_all := lw_g (lw_at lw_m6 160 rfl) rfl
theorem q1700 : (Jvm.Cond.soleField "RewriteHouse" "idTo") ∈ lw_all := lw_g (lw_at lw_m6 161 rfl) rfl
theorem q1701 : (Jvm.Cond.lays "RewriteHouse" "RewriteHouse" "moduleIds" "I") ∈ lw_all := lw_g (lw_at lw_m6 162 rfl) rfl
theorem q1702 : (Jvm.Cond.soleField "RewriteHouse" "moduleIds") ∈ lw_all := lw_g (lw_at lw_m6 163 rfl) rfl
theorem q1703 : (Jvm.Cond.lays "RewriteHouse" "RewriteHouse" "moduleLetters" "I") ∈ lw_all := lw_g (lw_at lw_m6 164 rfl) rfl
theorem q1704 : (Jvm.Cond.soleField "RewriteHouse" "moduleLetters") ∈ lw_all := lw_g (lw_at lw_m6 165 rfl) rfl
theorem q1705 : (Jvm.Cond.lays "RewriteHouse" "RewriteHouse" "now" "I") ∈ lw_all := lw_g (lw_at lw_m6 166 rfl) rfl
theorem q1706 : (Jvm.Cond.soleField "RewriteHouse" "now") ∈ lw_all := lw_g (lw_at lw_m6 167 rfl) rfl
theorem q1707 : (Jvm.Cond.lays "RewriteHouse" "RewriteHouse" "faultPlace" "I") ∈ lw_all := lw_g (lw_at lw_m6 168 rfl) rfl
theorem q1708 : (Jvm.Cond.soleField "RewriteHouse" "faultPlace") ∈ lw_all := lw_g (lw_at lw_m6 169 rfl) rfl
theorem q1709 : (Jvm.Cond.lays "RewriteHouse" "RewriteHouse" "faultLine" "I") ∈ lw_all := lw_g (lw_at lw_m6 170 rfl) rfl
theorem q1710 : (Jvm.Cond.soleField "RewriteHouse" "faultLine") ∈ lw_all := lw_g (lw_at lw_m6 171 rfl) rfl
theorem q1711 : (Jvm.Cond.lays "RewriteHouse" "RewriteHouse" "faultNumber" "I") ∈ lw_all := lw_g (lw_at lw_m6 172 rfl) rfl
theorem q1712 : (Jvm.Cond.soleField "RewriteHouse" "faultNumber") ∈ lw_all := lw_g (lw_at lw_m6 173 rfl) rfl
theorem q1713 : (Jvm.Cond.lays "RewriteHouse" "RewriteHouse" "limit" "I") ∈ lw_all := lw_g (lw_at lw_m6 174 rfl) rfl
theorem q1714 : (Jvm.Cond.soleField "RewriteHouse" "limit") ∈ lw_all := lw_g (lw_at lw_m6 175 rfl) rfl
theorem q1715 : (Jvm.Cond.lays "RewriteHouse" "RewriteHouse" "sorts" "I") ∈ lw_all := lw_g (lw_at lw_m6 176 rfl) rfl
theorem q1716 : (Jvm.Cond.soleField "RewriteHouse" "sorts") ∈ lw_all := lw_g (lw_at lw_m6 177 rfl) rfl
theorem q1717 : (Jvm.Cond.laysFinal "RewriteHouse" "RewriteHouse" "sortWord" "[I") ∈ lw_all := lw_g (lw_at lw_m6 178 rfl) rfl
theorem q1718 : (Jvm.Cond.soleField "RewriteHouse" "sortWord") ∈ lw_all := lw_g (lw_at lw_m6 179 rfl) rfl
theorem q1719 : (Jvm.Cond.lays "RewriteHouse" "RewriteHouse" "lessers" "I") ∈ lw_all := lw_g (lw_at lw_m6 180 rfl) rfl
theorem q1720 : (Jvm.Cond.soleField "RewriteHouse" "lessers") ∈ lw_all := lw_g (lw_at lw_m6 181 rfl) rfl
theorem q1721 : (Jvm.Cond.laysFinal "RewriteHouse" "RewriteHouse" "lessAt" "[I") ∈ lw_all := lw_g (lw_at lw_m6 182 rfl) rfl
theorem q1722 : (Jvm.Cond.soleField "RewriteHouse" "lessAt") ∈ lw_all := lw_g (lw_at lw_m6 183 rfl) rfl
theorem q1723 : (Jvm.Cond.laysFinal "RewriteHouse" "RewriteHouse" "lessLeft" "[I") ∈ lw_all := lw_g (lw_at lw_m6 184 rfl) rfl
theorem q1724 : (Jvm.Cond.soleField "RewriteHouse" "lessLeft") ∈ lw_all := lw_g (lw_at lw_m6 185 rfl) rfl
theorem q1725 : (Jvm.Cond.laysFinal "RewriteHouse" "RewriteHouse" "lessRight" "[I") ∈ lw_all := lw_g (lw_at lw_m6 186 rfl) rfl
theorem q1726 : (Jvm.Cond.soleField "RewriteHouse" "lessRight") ∈ lw_all := lw_g (lw_at lw_m6 187 rfl) rfl
theorem q1727 : (Jvm.Cond.laysFinal "RewriteHouse" "RewriteHouse" "lessEnd" "[I") ∈ lw_all := lw_g (lw_at lw_m6 188 rfl) rfl
theorem q1728 : (Jvm.Cond.soleField "RewriteHouse" "lessEnd") ∈ lw_all := lw_g (lw_at lw_m6 189 rfl) rfl
theorem q1729 : (Jvm.Cond.lays "RewriteHouse" "RewriteHouse" "rows" "I") ∈ lw_all := lw_g (lw_at lw_m6 190 rfl) rfl
theorem q1730 : (Jvm.Cond.soleField "RewriteHouse" "rows") ∈ lw_all := lw_g (lw_at lw_m6 191 rfl) rfl
theorem q1731 : (Jvm.Cond.laysFinal "RewriteHouse" "RewriteHouse" "rowAt" "[I") ∈ lw_all := lw_g (lw_at lw_m6 192 rfl) rfl
theorem q1732 : (Jvm.Cond.soleField "RewriteHouse" "rowAt") ∈ lw_all := lw_g (lw_at lw_m6 193 rfl) rfl
theorem q1733 : (Jvm.Cond.laysFinal "RewriteHouse" "RewriteHouse" "rowForm" "[I") ∈ lw_all := lw_g (lw_at lw_m6 194 rfl) rfl
theorem q1734 : (Jvm.Cond.soleField "RewriteHouse" "rowForm") ∈ lw_all := lw_g (lw_at lw_m6 195 rfl) rfl
theorem q1735 : (Jvm.Cond.laysFinal "RewriteHouse" "RewriteHouse" "rowColon" "[I") ∈ lw_all := lw_g (lw_at lw_m6 196 rfl) rfl
theorem q1736 : (Jvm.Cond.soleField "RewriteHouse" "rowColon") ∈ lw_all := lw_g (lw_at lw_m6 197 rfl) rfl
theorem q1737 : (Jvm.Cond.laysFinal "RewriteHouse" "RewriteHouse" "rowArrow" "[I") ∈ lw_all := lw_g (lw_at lw_m6 198 rfl) rfl
theorem q1738 : (Jvm.Cond.soleField "RewriteHouse" "rowArrow") ∈ lw_all := lw_g (lw_at lw_m6 199 rfl) rfl
theorem q1739 : (Jvm.Cond.laysFinal "RewriteHouse" "RewriteHouse" "rowBits" "[I") ∈ lw_all := lw_g (lw_at lw_m6 200 rfl) rfl
theorem q1740 : (Jvm.Cond.soleField "RewriteHouse" "rowBits") ∈ lw_all := lw_g (lw_at lw_m6 201 rfl) rfl
theorem q1741 : (Jvm.Cond.laysFinal "RewriteHouse" "RewriteHouse" "rowId" "[I") ∈ lw_all := lw_g (lw_at lw_m6 202 rfl) rfl
theorem q1742 : (Jvm.Cond.soleField "RewriteHouse" "rowId") ∈ lw_all := lw_g (lw_at lw_m6 203 rfl) rfl
theorem q1743 : (Jvm.Cond.laysFinal "RewriteHouse" "RewriteHouse" "rowPrec" "[I") ∈ lw_all := lw_g (lw_at lw_m6 204 rfl) rfl
theorem q1744 : (Jvm.Cond.soleField "RewriteHouse" "rowPrec") ∈ lw_all := lw_g (lw_at lw_m6 205 rfl) rfl
theorem q1745 : (Jvm.Cond.laysFinal "RewriteHouse" "RewriteHouse" "rowGather" "[I") ∈ lw_all := lw_g (lw_at lw_m6 206 rfl) rfl
theorem q1746 : (Jvm.Cond.soleField "RewriteHouse" "rowGather") ∈ lw_all := lw_g (lw_at lw_m6 207 rfl) rfl
theorem q1747 : (Jvm.Cond.laysFinal "RewriteHouse" "RewriteHouse" "rowLetters" "[I") ∈ lw_all := lw_g (lw_at lw_m6 208 rfl) rfl
theorem q1748 : (Jvm.Cond.soleField "RewriteHouse" "rowLetters") ∈ lw_all := lw_g (lw_at lw_m6 209 rfl) rfl
theorem q1749 : (Jvm.Cond.lays "RewriteHouse" "RewriteHouse" "variables" "I") ∈ lw_all := lw_g (lw_at lw_m6 210 rfl) rfl
theorem q1750 : (Jvm.Cond.soleField "RewriteHouse" "variables") ∈ lw_all := lw_g (lw_at lw_m6 211 rfl) rfl
theorem q1751 : (Jvm.Cond.laysFinal "RewriteHouse" "RewriteHouse" "variableWord" "[I") ∈ lw_all := lw_g (lw_at lw_m6 212 rfl) rfl
theorem q1752 : (Jvm.Cond.soleField "RewriteHouse" "variableWord") ∈ lw_all := lw_g (lw_at lw_m6 213 rfl) rfl
theorem q1753 : (Jvm.Cond.laysFinal "RewriteHouse" "RewriteHouse" "variableSortWord" "[I") ∈ lw_all := lw_g (lw_at lw_m6 214 rfl) rfl
theorem q1754 : (Jvm.Cond.soleField "RewriteHouse" "variableSortWord") ∈ lw_all := lw_g (lw_at lw_m6 215 rfl) rfl
theorem q1755 : (Jvm.Cond.lays "RewriteHouse" "RewriteHouse" "equations" "I") ∈ lw_all := lw_g (lw_at lw_m6 216 rfl) rfl
theorem q1756 : (Jvm.Cond.soleField "RewriteHouse" "equations") ∈ lw_all := lw_g (lw_at lw_m6 217 rfl) rfl
theorem q1757 : (Jvm.Cond.lays "RewriteHouse" "RewriteHouse" "rules" "I") ∈ lw_all := lw_g (lw_at lw_m6 218 rfl) rfl
theorem q1758 : (Jvm.Cond.soleField "RewriteHouse" "rules") ∈ lw_all := lw_g (lw_at lw_m6 219 rfl) rfl
theorem q1759 : (Jvm.Cond.lays "RewriteHouse" "RewriteHouse" "statements" "I") ∈ lw_all := lw_g (lw_at lw_m6 220 rfl) rfl
theorem q1760 : (Jvm.Cond.soleField "RewriteHouse" "statements") ∈ lw_all := lw_g (lw_at lw_m6 221 rfl) rfl
theorem q1761 : (Jvm.Cond.laysFinal "RewriteHouse" "RewriteHouse" "statementOf" "[I") ∈ lw_all := lw_g (lw_at lw_m6 222 rfl) rfl
theorem q1762 : (Jvm.Cond.soleField "RewriteHouse" "statementOf") ∈ lw_all := lw_g (lw_at lw_m6 223 rfl) rfl
theorem q1763 : (Jvm.Cond.laysFinal "RewriteHouse" "RewriteHouse" "isOther" "[Z") ∈ lw_all := lw_g (lw_at lw_m6 224 rfl) rfl
theorem q1764 : (Jvm.Cond.soleField "RewriteHouse" "isOther") ∈ lw_all := lw_g (lw_at lw_m6 225 rfl) rfl
theorem q1765 : (Jvm.Cond.laysFinal "RewriteHouse" "RewriteHouse" "label" "[I") ∈ lw_all := lw_g (lw_at lw_m6 226 rfl) rfl
theorem q1766 : (Jvm.Cond.soleField "RewriteHouse" "label") ∈ lw_all := lw_g (lw_at lw_m6 227 rfl) rfl
theorem q1767 : (Jvm.Cond.laysFinal "RewriteHouse" "RewriteHouse" "leftFrom" "[I") ∈ lw_all := lw_g (lw_at lw_m6 228 rfl) rfl
theorem q1768 : (Jvm.Cond.soleField "RewriteHouse" "leftFrom") ∈ lw_all := lw_g (lw_at lw_m6 229 rfl) rfl
theorem q1769 : (Jvm.Cond.laysFinal "RewriteHouse" "RewriteHouse" "leftTo" "[I") ∈ lw_all := lw_g (lw_at lw_m6 230 rfl) rfl
theorem q1770 : (Jvm.Cond.soleField "RewriteHouse" "leftTo") ∈ lw_all := lw_g (lw_at lw_m6 231 rfl) rfl
theorem q1771 : (Jvm.Cond.laysFinal "RewriteHouse" "RewriteHouse" "rightFrom" "[I") ∈ lw_all := lw_g (lw_at lw_m6 232 rfl) rfl
theorem q1772 : (Jvm.Cond.soleField "RewriteHouse" "rightFrom") ∈ lw_all := lw_g (lw_at lw_m6 233 rfl) rfl
theorem q1773 : (Jvm.Cond.laysFinal "RewriteHouse" "RewriteHouse" "rightTo" "[I") ∈ lw_all := lw_g (lw_at lw_m6 234 rfl) rfl
theorem q1774 : (Jvm.Cond.soleField "RewriteHouse" "rightTo") ∈ lw_all := lw_g (lw_at lw_m6 235 rfl) rfl
theorem q1775 : (Jvm.Cond.laysFinal "RewriteHouse" "RewriteHouse" "conditions" "[I") ∈ lw_all := lw_g (lw_at lw_m6 236 rfl) rfl
theorem q1776 : (Jvm.Cond.soleField "RewriteHouse" "conditions") ∈ lw_all := lw_g (lw_at lw_m6 237 rfl) rfl
theorem q1777 : (Jvm.Cond.laysFinal "RewriteHouse" "RewriteHouse" "conditionSort" "[I") ∈ lw_all := lw_g (lw_at lw_m6 238 rfl) rfl
theorem q1778 : (Jvm.Cond.soleField "RewriteHouse" "conditionSort") ∈ lw_all := lw_g (lw_at lw_m6 239 rfl) rfl
theorem q1779 : (Jvm.Cond.laysFinal "RewriteHouse" "RewriteHouse" "conditionFrom" "[I") ∈ lw_all := lw_g (lw_at lw_m7 0 rfl) rfl
theorem q1780 : (Jvm.Cond.soleField "RewriteHouse" "conditionFrom") ∈ lw_all := lw_g (lw_at lw_m7 1 rfl) rfl
theorem q1781 : (Jvm.Cond.laysFinal "RewriteHouse" "RewriteHouse" "conditionTo" "[I") ∈ lw_all := lw_g (lw_at lw_m7 2 rfl) rfl
theorem q1782 : (Jvm.Cond.soleField "RewriteHouse" "conditionTo") ∈ lw_all := lw_g (lw_at lw_m7 3 rfl) rfl
theorem q1783 : (Jvm.Cond.laysFinal "RewriteHouse" "RewriteHouse" "otherFrom" "[I") ∈ lw_all := lw_g (lw_at lw_m7 4 rfl) rfl
theorem q1784 : (Jvm.Cond.soleField "RewriteHouse" "otherFrom") ∈ lw_all := lw_g (lw_at lw_m7 5 rfl) rfl
theorem q1785 : (Jvm.Cond.laysFinal "RewriteHouse" "RewriteHouse" "otherTo" "[I") ∈ lw_all := lw_g (lw_at lw_m7 6 rfl) rfl
theorem q1786 : (Jvm.Cond.soleField "RewriteHouse" "otherTo") ∈ lw_all := lw_g (lw_at lw_m7 7 rfl) rfl
theorem q1787 : (Jvm.Cond.lays "RewriteHouse" "RewriteHouse" "hasModule" "Z") ∈ lw_all := lw_g (lw_at lw_m7 8 rfl) rfl
theorem q1788 : (Jvm.Cond.soleField "RewriteHouse" "hasModule") ∈ lw_all := lw_g (lw_at lw_m7 9 rfl) rfl
theorem q1789 : (Jvm.Cond.laysFinal "RewriteHouse" "RewriteHouse" "sortId" "[I") ∈ lw_all := lw_g (lw_at lw_m7 10 rfl) rfl
theorem q1790 : (Jvm.Cond.soleField "RewriteHouse" "sortId") ∈ lw_all := lw_g (lw_at lw_m7 11 rfl) rfl
theorem q1791 : (Jvm.Cond.laysFinal "RewriteHouse" "RewriteHouse" "aboves" "[I") ∈ lw_all := lw_g (lw_at lw_m7 12 rfl) rfl
theorem q1792 : (Jvm.Cond.soleField "RewriteHouse" "aboves") ∈ lw_all := lw_g (lw_at lw_m7 13 rfl) rfl
theorem q1793 : (Jvm.Cond.lays "RewriteHouse" "RewriteHouse" "kinds" "I") ∈ lw_all := lw_g (lw_at lw_m7 14 rfl) rfl
theorem q1794 : (Jvm.Cond.soleField "RewriteHouse" "kinds") ∈ lw_all := lw_g (lw_at lw_m7 15 rfl) rfl
theorem q1795 : (Jvm.Cond.laysFinal "RewriteHouse" "RewriteHouse" "kindOf" "[I") ∈ lw_all := lw_g (lw_at lw_m7 16 rfl) rfl
theorem q1796 : (Jvm.Cond.soleField "RewriteHouse" "kindOf") ∈ lw_all := lw_g (lw_at lw_m7 17 rfl) rfl
theorem q1797 : (Jvm.Cond.lays "RewriteHouse" "RewriteHouse" "operators" "I") ∈ lw_all := lw_g (lw_at lw_m7 18 rfl) rfl
theorem q1798 : (Jvm.Cond.soleField "RewriteHouse" "operators") ∈ lw_all := lw_g (lw_at lw_m7 19 rfl) rfl
theorem q1799 : (Jvm.Cond.laysFinal "RewriteHouse" "RewriteHouse" "operatorOf" "[I") ∈ lw_all := lw_g (lw_at lw_m7 20 rfl) rfl
theorem q1800 : (Jvm.Cond.soleField "RewriteHouse" "operatorOf") ∈ lw_all := lw_g (lw_at lw_m7 21 rfl) rfl
theorem q1801 : (Jvm.Cond.laysFinal "RewriteHouse" "RewriteHouse" "rowSorts" "[I") ∈ lw_all := lw_g (lw_at lw_m7 22 rfl) rfl
theorem q1802 : (Jvm.Cond.soleField "RewriteHouse" "rowSorts") ∈ lw_all := lw_g (lw_at lw_m7 23 rfl) rfl
theorem q1803 : (Jvm.Cond.laysFinal "RewriteHouse" "RewriteHouse" "rowHoles" "[I") ∈ lw_all := lw_g (lw_at lw_m7 24 rfl) rfl
theorem q1804 : (Jvm.Cond.soleField "RewriteHouse" "rowHoles") ∈ lw_all := lw_g (lw_at lw_m7 25 rfl) rfl
theorem q1805 : (Jvm.Cond.laysFinal "RewriteHouse" "RewriteHouse" "rowResult" "[I") ∈ lw_all := lw_g (lw_at lw_m7 26 rfl) rfl
theorem q1806 : (Jvm.Cond.soleField "RewriteHouse" "rowResult") ∈ lw_all := lw_g (lw_at lw_m7 27 rfl) rfl
theorem q1807 : (Jvm.Cond.laysFinal "RewriteHouse" "RewriteHouse" "rowParts" "[I") ∈ lw_all := lw_g (lw_at lw_m7 28 rfl) rfl
theorem q1808 : (Jvm.Cond.soleField "RewriteHouse" "rowParts") ∈ lw_all := lw_g (lw_at lw_m7 29 rfl) rfl
theorem q1809 : (Jvm.Cond.laysFinal "RewriteHouse" "RewriteHouse" "rowPart" "[I") ∈ lw_all := lw_g (lw_at lw_m7 30 rfl) rfl
theorem q1810 : (Jvm.Cond.soleField "RewriteHouse" "rowPart") ∈ lw_all := lw_g (lw_at lw_m7 31 rfl) rfl
theorem q1811 : (Jvm.Cond.laysFinal "RewriteHouse" "RewriteHouse" "isRowGood" "[Z") ∈ lw_all := lw_g (lw_at lw_m7 32 rfl) rfl
theorem q1812 : (Jvm.Cond.soleField "RewriteHouse" "isRowGood") ∈ lw_all := lw_g (lw_at lw_m7 33 rfl) rfl
theorem q1813 : (Jvm.Cond.laysFinal "RewriteHouse" "RewriteHouse" "firstRow" "[I") ∈ lw_all := lw_g (lw_at lw_m7 34 rfl) rfl
theorem q1814 : (Jvm.Cond.soleField "RewriteHouse" "firstRow") ∈ lw_all := lw_g (lw_at lw_m7 35 rfl) rfl
theorem q1815 : (Jvm.Cond.laysFinal "RewriteHouse" "RewriteHouse" "holes" "[I") ∈ lw_all := lw_g (lw_at lw_m7 36 rfl) rfl
theorem q1816 : (Jvm.Cond.soleField "RewriteHouse" "holes") ∈ lw_all := lw_g (lw_at lw_m7 37 rfl) rfl
theorem q1817 : (Jvm.Cond.laysFinal "RewriteHouse" "RewriteHouse" "strength" "[I") ∈ lw_all := lw_g (lw_at lw_m7 38 rfl) rfl
theorem q1818 : (Jvm.Cond.soleField "RewriteHouse" "strength") ∈ lw_all := lw_g (lw_at lw_m7 39 rfl) rfl
theorem q1819 : (Jvm.Cond.laysFinal "RewriteHouse" "RewriteHouse" "takes" "[I") ∈ lw_all := lw_g (lw_at lw_m7 40 rfl) rfl
theorem q1820 : (Jvm.Cond.soleField "RewriteHouse" "takes") ∈ lw_all := lw_g (lw_at lw_m7 41 rfl) rfl
theorem q1821 : (Jvm.Cond.laysFinal "RewriteHouse" "RewriteHouse" "isAssoc" "[Z") ∈ lw_all := lw_g (lw_at lw_m7 42 rfl) rfl
theorem q1822 : (Jvm.Cond.soleField "RewriteHouse" "isAssoc") ∈ lw_all := lw_g (lw_at lw_m7 43 rfl) rfl
theorem q1823 : (Jvm.Cond.laysFinal "RewriteHouse" "RewriteHouse" "isComm" "[Z") ∈ lw_all := lw_g (lw_at lw_m7 44 rfl) rfl
theorem q1824 : (Jvm.Cond.soleField "RewriteHouse" "isComm") ∈ lw_all := lw_g (lw_at lw_m7 45 rfl) rfl
theorem q1825 : (Jvm.Cond.laysFinal "RewriteHouse" "RewriteHouse" "unit" "[I") ∈ lw_all := lw_g (lw_at lw_m7 46 rfl) rfl
theorem q1826 : (Jvm.Cond.soleField "RewriteHouse" "unit") ∈ lw_all := lw_g (lw_at lw_m7 47 rfl) rfl
theorem q1827 : (Jvm.Cond.laysFinal "RewriteHouse" "RewriteHouse" "operatorKind" "[I") ∈ lw_all := lw_g (lw_at lw_m7 48 rfl) rfl
theorem q1828 : (Jvm.Cond.soleField "RewriteHouse" "operatorKind") ∈ lw_all := lw_g (lw_at lw_m7 49 rfl) rfl
theorem q1829 : (Jvm.Cond.laysFinal "RewriteHouse" "RewriteHouse" "one" "[B") ∈ lw_all := lw_g (lw_at lw_m7 50 rfl) rfl
theorem q1830 : (Jvm.Cond.soleField "RewriteHouse" "one") ∈ lw_all := lw_g (lw_at lw_m7 51 rfl) rfl
theorem q1831 : (Jvm.Cond.laysFinal "RewriteHouse" "RewriteHouse" "variableId" "[I") ∈ lw_all := lw_g (lw_at lw_m7 52 rfl) rfl
theorem q1832 : (Jvm.Cond.soleField "RewriteHouse" "variableId") ∈ lw_all := lw_g (lw_at lw_m7 53 rfl) rfl
theorem q1833 : (Jvm.Cond.laysFinal "RewriteHouse" "RewriteHouse" "variableSort" "[I") ∈ lw_all := lw_g (lw_at lw_m7 54 rfl) rfl
theorem q1834 : (Jvm.Cond.soleField "RewriteHouse" "variableSort") ∈ lw_all := lw_g (lw_at lw_m7 55 rfl) rfl
theorem q1835 : (Jvm.Cond.lays "RewriteHouse" "RewriteHouse" "readings" "I") ∈ lw_all := lw_g (lw_at lw_m7 56 rfl) rfl
theorem q1836 : (Jvm.Cond.soleField "RewriteHouse" "readings") ∈ lw_all := lw_g (lw_at lw_m7 57 rfl) rfl
theorem q1837 : (Jvm.Cond.laysFinal "RewriteHouse" "RewriteHouse" "readKind" "[I") ∈ lw_all := lw_g (lw_at lw_m7 58 rfl) rfl
theorem q1838 : (Jvm.Cond.soleField "RewriteHouse" "readKind") ∈ lw_all := lw_g (lw_at lw_m7 59 rfl) rfl
theorem q1839 : (Jvm.Cond.laysFinal "RewriteHouse" "RewriteHouse" "readStrength" "[I") ∈ lw_all := lw_g (lw_at lw_m7 60 rfl) rfl
theorem q1840 : (Jvm.Cond.soleField "RewriteHouse" "readStrength") ∈ lw_all := lw_g (lw_at lw_m7 61 rfl) rfl
theorem q1841 : (Jvm.Cond.laysFinal "RewriteHouse" "RewriteHouse" "readWhat" "[I") ∈ lw_all := lw_g (lw_at lw_m7 62 rfl) rfl
theorem q1842 : (Jvm.Cond.soleField "RewriteHouse" "readWhat") ∈ lw_all := lw_g (lw_at lw_m7 63 rfl) rfl
theorem q1843 : (Jvm.Cond.laysFinal "RewriteHouse" "RewriteHouse" "readHole" "[I") ∈ lw_all := lw_g (lw_at lw_m7 64 rfl) rfl
theorem q1844 : (Jvm.Cond.soleField "RewriteHouse" "readHole") ∈ lw_all := lw_g (lw_at lw_m7 65 rfl) rfl
theorem q1845 : (Jvm.Cond.laysFinal "RewriteHouse" "RewriteHouse" "readNext" "[I") ∈ lw_all := lw_g (lw_at lw_m7 66 rfl) rfl
theorem q1846 : (Jvm.Cond.soleField "RewriteHouse" "readNext") ∈ lw_all := lw_g (lw_at lw_m7 67 rfl) rfl
theorem q1847 : (Jvm.Cond.laysFinal "RewriteHouse" "RewriteHouse" "tableFirst" "[I") ∈ lw_all := lw_g (lw_at lw_m7 68 rfl) rfl
theorem q1848 : (Jvm.Cond.soleField "RewriteHouse" "tableFirst") ∈ lw_all := lw_g (lw_at lw_m7 69 rfl) rfl
theorem q1849 : (Jvm.Cond.lays "RewriteHouse" "RewriteHouse" "rowFrom" "I") ∈ lw_all := lw_g (lw_at lw_m7 70 rfl) rfl
theorem q1850 : (Jvm.Cond.soleField "RewriteHouse" "rowFrom") ∈ lw_all := lw_g (lw_at lw_m7 71 rfl) rfl
theorem q1851 : (Jvm.Cond.lays "RewriteHouse" "RewriteHouse" "rowMany" "I") ∈ lw_all := lw_g (lw_at lw_m7 72 rfl) rfl
theorem q1852 : (Jvm.Cond.soleField "RewriteHouse" "rowMany") ∈ lw_all := lw_g (lw_at lw_m7 73 rfl) rfl
theorem q1853 : (Jvm.Cond.laysFinal "RewriteHouse" "RewriteHouse" "chosen" "[I") ∈ lw_all := lw_g (lw_at lw_m7 74 rfl) rfl
theorem q1854 : (Jvm.Cond.soleField "RewriteHouse" "chosen") ∈ lw_all := lw_g (lw_at lw_m7 75 rfl) rfl
theorem q1855 : (Jvm.Cond.lays "RewriteHouse" "RewriteHouse" "fitMany" "I") ∈ lw_all := lw_g (lw_at lw_m7 76 rfl) rfl
theorem q1856 : (Jvm.Cond.soleField "RewriteHouse" "fitMany") ∈ lw_all := lw_g (lw_at lw_m7 77 rfl) rfl
theorem q1857 : (Jvm.Cond.lays "RewriteHouse" "RewriteHouse" "nodes" "I") ∈ lw_all := lw_g (lw_at lw_m7 78 rfl) rfl
theorem q1858 : (Jvm.Cond.soleField "RewriteHouse" "nodes") ∈ lw_all := lw_g (lw_at lw_m7 79 rfl) rfl
theorem q1859 : (Jvm.Cond.lays "RewriteHouse" "RewriteHouse" "base" "I") ∈ lw_all := lw_g (lw_at lw_m7 80 rfl) rfl
theorem q1860 : (Jvm.Cond.soleField "RewriteHouse" "base") ∈ lw_all := lw_g (lw_at lw_m7 81 rfl) rfl
theorem q1861 : (Jvm.Cond.laysFinal "RewriteHouse" "RewriteHouse" "what" "[I") ∈ lw_all := lw_g (lw_at lw_m7 82 rfl) rfl
theorem q1862 : (Jvm.Cond.soleField "RewriteHouse" "what") ∈ lw_all := lw_g (lw_at lw_m7 83 rfl) rfl
theorem q1863 : (Jvm.Cond.laysFinal "RewriteHouse" "RewriteHouse" "rowStart" "[I") ∈ lw_all := lw_g (lw_at lw_m7 84 rfl) rfl
theorem q1864 : (Jvm.Cond.soleField "RewriteHouse" "rowStart") ∈ lw_all := lw_g (lw_at lw_m7 85 rfl) rfl
theorem q1865 : (Jvm.Cond.laysFinal "RewriteHouse" "RewriteHouse" "many" "[I") ∈ lw_all := lw_g (lw_at lw_m7 86 rfl) rfl
theorem q1866 : (Jvm.Cond.soleField "RewriteHouse" "many") ∈ lw_all := lw_g (lw_at lw_m7 87 rfl) rfl
theorem q1867 : (Jvm.Cond.laysFinal "RewriteHouse" "RewriteHouse" "least" "[I") ∈ lw_all := lw_g (lw_at lw_m7 88 rfl) rfl
theorem q1868 : (Jvm.Cond.soleField "RewriteHouse" "least") ∈ lw_all := lw_g (lw_at lw_m7 89 rfl) rfl
theorem q1869 : (Jvm.Cond.laysFinal "RewriteHouse" "RewriteHouse" "big" "[I") ∈ lw_all := lw_g (lw_at lw_m7 90 rfl) rfl
theorem q1870 : (Jvm.Cond.soleField "RewriteHouse" "big") ∈ lw_all := lw_g (lw_at lw_m7 91 rfl) rfl
theorem q1871 : (Jvm.Cond.laysFinal "RewriteHouse" "RewriteHouse" "nextSame" "[I") ∈ lw_all := lw_g (lw_at lw_m7 92 rfl) rfl
theorem q1872 : (Jvm.Cond.soleField "RewriteHouse" "nextSame") ∈ lw_all := lw_g (lw_at lw_m7 93 rfl) rfl
theorem q1873 : (Jvm.Cond.laysFinal "RewriteHouse" "RewriteHouse" "first" "[I") ∈ lw_all := lw_g (lw_at lw_m7 94 rfl) rfl
theorem q1874 : (Jvm.Cond.soleField "RewriteHouse" "first") ∈ lw_all := lw_g (lw_at lw_m7 95 rfl) rfl
theorem q1875 : (Jvm.Cond.lays "RewriteHouse" "RewriteHouse" "places" "I") ∈ lw_all := lw_g (lw_at lw_m7 96 rfl) rfl
theorem q1876 : (Jvm.Cond.soleField "RewriteHouse" "places") ∈ lw_all := lw_g (lw_at lw_m7 97 rfl) rfl
theorem q1877 : (Jvm.Cond.lays "RewriteHouse" "RewriteHouse" "basePlaces" "I") ∈ lw_all := lw_g (lw_at lw_m7 98 rfl) rfl
theorem q1878 : (Jvm.Cond.soleField "RewriteHouse" "basePlaces") ∈ lw_all := lw_g (lw_at lw_m7 99 rfl) rfl
theorem q1879 : (Jvm.Cond.laysFinal "RewriteHouse" "RewriteHouse" "place" "[I") ∈ lw_all := lw_g (lw_at lw_m7 100 rfl) rfl
theorem q1880 : (Jvm.Cond.soleField "RewriteHouse" "place") ∈ lw_all := lw_g (lw_at lw_m7 101 rfl) rfl
theorem q1881 : (Jvm.Cond.laysFinal "RewriteHouse" "RewriteHouse" "hand" "[I") ∈ lw_all := lw_g (lw_at lw_m7 102 rfl) rfl
theorem q1882 : (Jvm.Cond.soleField "RewriteHouse" "hand") ∈ lw_all := lw_g (lw_at lw_m7 103 rfl) rfl
theorem q1883 : (Jvm.Cond.lays "RewriteHouse" "RewriteHouse" "top" "I") ∈ lw_all := lw_g (lw_at lw_m7 104 rfl) rfl
theorem q1884 : (Jvm.Cond.soleField "RewriteHouse" "top") ∈ lw_all := lw_g (lw_at lw_m7 105 rfl) rfl
theorem q1885 : (Jvm.Cond.laysFinal "RewriteHouse" "RewriteHouse" "rest" "[I") ∈ lw_all := lw_g (lw_at lw_m7 106 rfl) rfl
theorem q1886 : (Jvm.Cond.soleField "RewriteHouse" "rest") ∈ lw_all := lw_g (lw_at lw_m7 107 rfl) rfl
theorem q1887 : (Jvm.Cond.laysFinal "RewriteHouse" "RewriteHouse" "sortRow" "[I") ∈ lw_all := lw_g (lw_at lw_m7 108 rfl) rfl
theorem q1888 : (Jvm.Cond.soleField "RewriteHouse" "sortRow") ∈ lw_all := lw_g (lw_at lw_m7 109 rfl) rfl
theorem q1889 : (Jvm.Cond.lays "RewriteHouse" "RewriteHouse" "saveAt" "I") ∈ lw_all := lw_g (lw_at lw_m7 110 rfl) rfl
theorem q1890 : (Jvm.Cond.soleField "RewriteHouse" "saveAt") ∈ lw_all := lw_g (lw_at lw_m7 111 rfl) rfl
theorem q1891 : (Jvm.Cond.lays "RewriteHouse" "RewriteHouse" "loadAt" "I") ∈ lw_all := lw_g (lw_at lw_m7 112 rfl) rfl
theorem q1892 : (Jvm.Cond.soleField "RewriteHouse" "loadAt") ∈ lw_all := lw_g (lw_at lw_m7 113 rfl) rfl
theorem q1893 : (Jvm.Cond.lays "RewriteHouse" "RewriteHouse" "handles" "I") ∈ lw_all := lw_g (lw_at lw_m7 114 rfl) rfl
theorem q1894 : (Jvm.Cond.soleField "RewriteHouse" "handles") ∈ lw_all := lw_g (lw_at lw_m7 115 rfl) rfl
theorem q1895 : (Jvm.Cond.laysFinal "RewriteHouse" "RewriteHouse" "handle" "[I") ∈ lw_all := lw_g (lw_at lw_m7 116 rfl) rfl
theorem q1896 : (Jvm.Cond.soleField "RewriteHouse" "handle") ∈ lw_all := lw_g (lw_at lw_m7 117 rfl) rfl
theorem q1897 : (Jvm.Cond.laysFinal "RewriteHouse" "RewriteHouse" "leftTerm" "[I") ∈ lw_all := lw_g (lw_at lw_m7 118 rfl) rfl
theorem q1898 : (Jvm.Cond.soleField "RewriteHouse" "leftTerm") ∈ lw_all := lw_g (lw_at lw_m7 119 rfl) rfl
theorem q1899 : (Jvm.Cond.laysFinal "RewriteHouse" "RewriteHouse" "rightTerm" "[I") ∈ lw_all := lw_g (lw_at lw_m7 120 rfl) rfl
theorem q1900 : (Jvm.Cond.soleField "RewriteHouse" "rightTerm") ∈ lw_all := lw_g (lw_at lw_m7 121 rfl) rfl
theorem q1901 : (Jvm.Cond.laysFinal "RewriteHouse" "RewriteHouse" "conditionTerm" "[I") ∈ lw_all := lw_g (lw_at lw_m7 122 rfl) rfl
theorem q1902 : (Jvm.Cond.soleField "RewriteHouse" "conditionTerm") ∈ lw_all := lw_g (lw_at lw_m7 123 rfl) rfl
theorem q1903 : (Jvm.Cond.laysFinal "RewriteHouse" "RewriteHouse" "otherTerm" "[I") ∈ lw_all := lw_g (lw_at lw_m7 124 rfl) rfl
theorem q1904 : (Jvm.Cond.soleField "RewriteHouse" "otherTerm") ∈ lw_all := lw_g (lw_at lw_m7 125 rfl) rfl
theorem q1905 : (Jvm.Cond.laysFinal "RewriteHouse" "RewriteHouse" "isKnown" "[Z") ∈ lw_all := lw_g (lw_at lw_m7 126 rfl) rfl
theorem q1906 : (Jvm.Cond.soleField "RewriteHouse" "isKnown") ∈ lw_all := lw_g (lw_at lw_m7 127 rfl) rfl
theorem q1907 : (Jvm.Cond.laysFinal "RewriteHouse" "RewriteHouse" "bound" "[I") ∈ lw_all := lw_g (lw_at lw_m7 128 rfl) rfl
theorem q1908 : (Jvm.Cond.soleField "RewriteHouse" "bound") ∈ lw_all := lw_g (lw_at lw_m7 129 rfl) rfl
theorem q1909 : (Jvm.Cond.laysFinal "RewriteHouse" "RewriteHouse" "goalPattern" "[I") ∈ lw_all := lw_g (lw_at lw_m7 130 rfl) rfl
theorem q1910 : (Jvm.Cond.soleField "RewriteHouse" "goalPattern") ∈ lw_all := lw_g (lw_at lw_m7 131 rfl) rfl
theorem q1911 : (Jvm.Cond.laysFinal "RewriteHouse" "RewriteHouse" "goalTerm" "[I") ∈ lw_all := lw_g (lw_at lw_m7 132 rfl) rfl
theorem q1912 : (Jvm.Cond.soleField "RewriteHouse" "goalTerm") ∈ lw_all := lw_g (lw_at lw_m7 133 rfl) rfl
theorem q1913 : (Jvm.Cond.lays "RewriteHouse" "RewriteHouse" "goals" "I") ∈ lw_all := lw_g (lw_at lw_m7 134 rfl) rfl
theorem q1914 : (Jvm.Cond.soleField "RewriteHouse" "goals") ∈ lw_all := lw_g (lw_at lw_m7 135 rfl) rfl
theorem q1915 : (Jvm.Cond.laysFinal "RewriteHouse" "RewriteHouse" "listed" "[I") ∈ lw_all := lw_g (lw_at lw_m7 136 rfl) rfl
theorem q1916 : (Jvm.Cond.soleField "RewriteHouse" "listed") ∈ lw_all := lw_g (lw_at lw_m7 137 rfl) rfl
theorem q1917 : (Jvm.Cond.lays "RewriteHouse" "RewriteHouse" "listFrom" "I") ∈ lw_all := lw_g (lw_at lw_m7 138 rfl) rfl
theorem q1918 : (Jvm.Cond.soleField "RewriteHouse" "listFrom") ∈ lw_all := lw_g (lw_at lw_m7 139 rfl) rfl
theorem q1919 : (Jvm.Cond.lays "RewriteHouse" "RewriteHouse" "listMany" "I") ∈ lw_all := lw_g (lw_at lw_m7 140 rfl) rfl
theorem q1920 : (Jvm.Cond.soleField "RewriteHouse" "listMany") ∈ lw_all := lw_g (lw_at lw_m7 141 rfl) rfl
theorem q1921 : (Jvm.Cond.lays "RewriteHouse" "RewriteHouse" "aheadNow" "I") ∈ lw_all := lw_g (lw_at lw_m7 142 rfl) rfl
theorem q1922 : (Jvm.Cond.soleField "RewriteHouse" "aheadNow") ∈ lw_all := lw_g (lw_at lw_m7 143 rfl) rfl
theorem q1923 : (Jvm.Cond.lays "RewriteHouse" "RewriteHouse" "behindNow" "I") ∈ lw_all := lw_g (lw_at lw_m7 144 rfl) rfl
theorem q1924 : (Jvm.Cond.soleField "RewriteHouse" "behindNow") ∈ lw_all := lw_g (lw_at lw_m7 145 rfl) rfl
theorem q1925 : (Jvm.Cond.lays "RewriteHouse" "RewriteHouse" "restOperator" "I") ∈ lw_all := lw_g (lw_at lw_m7 146 rfl) rfl
theorem q1926 : (Jvm.Cond.soleField "RewriteHouse" "restOperator") ∈ lw_all := lw_g (lw_at lw_m7 147 rfl) rfl
theorem q1927 : (Jvm.Cond.lays "RewriteHouse" "RewriteHouse" "matchersMade" "I") ∈ lw_all := lw_g (lw_at lw_m7 148 rfl) rfl
theorem q1928 : (Jvm.Cond.soleField "RewriteHouse" "matchersMade") ∈ lw_all := lw_g (lw_at lw_m7 149 rfl) rfl
theorem q1929 : (Jvm.Cond.lays "RewriteHouse" "RewriteHouse" "dealsMade" "J") ∈ lw_all := lw_g (lw_at lw_m7 150 rfl) rfl
theorem q1930 : (Jvm.Cond.soleField "RewriteHouse" "dealsMade") ∈ lw_all := lw_g (lw_at lw_m7 151 rfl) rfl
theorem q1931 : (Jvm.Cond.lays "RewriteHouse" "RewriteHouse" "dealsMost" "J") ∈ lw_all := lw_g (lw_at lw_m7 152 rfl) rfl
theorem q1932 : (Jvm.Cond.soleField "RewriteHouse" "dealsMost") ∈ lw_all := lw_g (lw_at lw_m7 153 rfl) rfl
theorem q1933 : (Jvm.Cond.lays "RewriteHouse" "RewriteHouse" "stepsMade" "I") ∈ lw_all := lw_g (lw_at lw_m7 154 rfl) rfl
theorem q1934 : (Jvm.Cond.soleField "RewriteHouse" "stepsMade") ∈ lw_all := lw_g (lw_at lw_m7 155 rfl) rfl
theorem q1935 : (Jvm.Cond.lays "RewriteHouse" "RewriteHouse" "filledMade" "I") ∈ lw_all := lw_g (lw_at lw_m7 156 rfl) rfl
theorem q1936 : (Jvm.Cond.soleField "RewriteHouse" "filledMade") ∈ lw_all := lw_g (lw_at lw_m7 157 rfl) rfl
theorem q1937 : (Jvm.Cond.laysFinal "RewriteHouse" "RewriteHouse" "element" "[I") ∈ lw_all := lw_g (lw_at lw_m7 158 rfl) rfl
theorem q1938 : (Jvm.Cond.soleField "RewriteHouse" "element") ∈ lw_all := lw_g (lw_at lw_m7 159 rfl) rfl
theorem q1939 : (Jvm.Cond.lays "RewriteHouse" "RewriteHouse" "elements" "I") ∈ lw_all := lw_g (lw_at lw_m7 160 rfl) rfl
theorem q1940 : (Jvm.Cond.soleField "RewriteHouse" "elements") ∈ lw_all := lw_g (lw_at lw_m7 161 rfl) rfl
theorem q1941 : (Jvm.Cond.laysFinal "RewriteHouse" "RewriteHouse" "sharePart" "[I") ∈ lw_all := lw_g (lw_at lw_m7 162 rfl) rfl
theorem q1942 : (Jvm.Cond.soleField "RewriteHouse" "sharePart") ∈ lw_all := lw_g (lw_at lw_m7 163 rfl) rfl
theorem q1943 : (Jvm.Cond.laysFinal "RewriteHouse" "RewriteHouse" "shareFrom" "[I") ∈ lw_all := lw_g (lw_at lw_m7 164 rfl) rfl
theorem q1944 : (Jvm.Cond.soleField "RewriteHouse" "shareFrom") ∈ lw_all := lw_g (lw_at lw_m7 165 rfl) rfl
theorem q1945 : (Jvm.Cond.laysFinal "RewriteHouse" "RewriteHouse" "shareLeft" "[I") ∈ lw_all := lw_g (lw_at lw_m7 166 rfl) rfl
theorem q1946 : (Jvm.Cond.soleField "RewriteHouse" "shareLeft") ∈ lw_all := lw_g (lw_at lw_m7 167 rfl) rfl
theorem q1947 : (Jvm.Cond.lays "RewriteHouse" "RewriteHouse" "shares" "I") ∈ lw_all := lw_g (lw_at lw_m7 168 rfl) rfl
theorem q1948 : (Jvm.Cond.soleField "RewriteHouse" "shares") ∈ lw_all := lw_g (lw_at lw_m7 169 rfl) rfl
theorem q1949 : (Jvm.Cond.lays "RewriteHouse" "RewriteHouse" "deep" "I") ∈ lw_all := lw_g (lw_at lw_m7 170 rfl) rfl
theorem q1950 : (Jvm.Cond.soleField "RewriteHouse" "deep") ∈ lw_all := lw_g (lw_at lw_m7 171 rfl) rfl
theorem q1951 : (Jvm.Cond.laysFinal "RewriteHouse" "RewriteHouse" "chain" "[I") ∈ lw_all := lw_g (lw_at lw_m7 172 rfl) rfl
theorem q1952 : (Jvm.Cond.soleField "RewriteHouse" "chain") ∈ lw_all := lw_g (lw_at lw_m7 173 rfl) rfl
theorem q1953 : (Jvm.Cond.lays "RewriteHouse" "RewriteHouse" "chained" "I") ∈ lw_all := lw_g (lw_at lw_m7 174 rfl) rfl
theorem q1954 : (Jvm.Cond.soleField "RewriteHouse" "chained") ∈ lw_all := lw_g (lw_at lw_m7 175 rfl) rfl
theorem q1955 : (Jvm.Cond.laysFinal "RewriteHouse" "RewriteHouse" "saved" "[I") ∈ lw_all := lw_g (lw_at lw_m7 176 rfl) rfl
theorem q1956 : (Jvm.Cond.soleField "RewriteHouse" "saved") ∈ lw_all := lw_g (lw_at lw_m7 177 rfl) rfl
theorem q1957 : (Jvm.Cond.lays "RewriteHouse" "RewriteHouse" "savedTop" "I") ∈ lw_all := lw_g (lw_at lw_m7 178 rfl) rfl
theorem q1958 : (Jvm.Cond.soleField "RewriteHouse" "savedTop") ∈ lw_all := lw_g (lw_at lw_m7 179 rfl) rfl
theorem q1959 : (Jvm.Cond.laysFinal "RewriteHouse" "RewriteHouse" "found" "[I") ∈ lw_all := lw_g (lw_at lw_m7 180 rfl) rfl
theorem q1960 : (Jvm.Cond.soleField "RewriteHouse" "found") ∈ lw_all := lw_g (lw_at lw_m7 181 rfl) rfl
theorem q1961 : (Jvm.Cond.laysFinal "RewriteHouse" "RewriteHouse" "foundRule" "[I") ∈ lw_all := lw_g (lw_at lw_m7 182 rfl) rfl
theorem q1962 : (Jvm.Cond.soleField "RewriteHouse" "foundRule") ∈ lw_all := lw_g (lw_at lw_m7 183 rfl) rfl
theorem q1963 : (Jvm.Cond.lays "RewriteHouse" "RewriteHouse" "foundMany" "I") ∈ lw_all := lw_g (lw_at lw_m7 184 rfl) rfl
theorem q1964 : (Jvm.Cond.soleField "RewriteHouse" "foundMany") ∈ lw_all := lw_g (lw_at lw_m7 185 rfl) rfl
theorem q1965 : (Jvm.Cond.laysFinal "RewriteHouse" "RewriteHouse" "path" "[I") ∈ lw_all := lw_g (lw_at lw_m7 186 rfl) rfl
theorem q1966 : (Jvm.Cond.soleField "RewriteHouse" "path") ∈ lw_all := lw_g (lw_at lw_m7 187 rfl) rfl
theorem q1967 : (Jvm.Cond.laysFinal "RewriteHouse" "RewriteHouse" "pathAt" "[I") ∈ lw_all := lw_g (lw_at lw_m7 188 rfl) rfl
theorem q1968 : (Jvm.Cond.soleField "RewriteHouse" "pathAt") ∈ lw_all := lw_g (lw_at lw_m7 189 rfl) rfl
theorem q1969 : (Jvm.Cond.lays "RewriteHouse" "RewriteHouse" "pathMany" "I") ∈ lw_all := lw_g (lw_at lw_m7 190 rfl) rfl
theorem q1970 : (Jvm.Cond.soleField "RewriteHouse" "pathMany") ∈ lw_all := lw_g (lw_at lw_m7 191 rfl) rfl
theorem q1971 : (Jvm.Cond.lays "RewriteHouse" "RewriteHouse" "labelWanted" "I") ∈ lw_all := lw_g (lw_at lw_m7 192 rfl) rfl
theorem q1972 : (Jvm.Cond.soleField "RewriteHouse" "labelWanted") ∈ lw_all := lw_g (lw_at lw_m7 193 rfl) rfl
theorem q1973 : (Jvm.Cond.lays "RewriteHouse" "RewriteHouse" "lastStop" "I") ∈ lw_all := lw_g (lw_at lw_m7 194 rfl) rfl
theorem q1974 : (Jvm.Cond.soleField "RewriteHouse" "lastStop") ∈ lw_all := lw_g (lw_at lw_m7 195 rfl) rfl
theorem q1975 : (Jvm.Cond.lays "RewriteHouse" "RewriteHouse" "resultSort" "I") ∈ lw_all := lw_g (lw_at lw_m7 196 rfl) rfl
theorem q1976 : (Jvm.Cond.soleField "RewriteHouse" "resultSort") ∈ lw_all := lw_g (lw_at lw_m7 197 rfl) rfl
theorem q1977 : (Jvm.Cond.lays "RewriteHouse" "RewriteHouse" "results" "I") ∈ lw_all := lw_g (lw_at lw_m7 198 rfl) rfl
theorem q1978 : (Jvm.Cond.soleField "RewriteHouse" "results") ∈ lw_all := lw_g (lw_at lw_m7 199 rfl) rfl
theorem q1979 : (Jvm.Cond.laysFinal "RewriteHouse" "RewriteHouse" "result" "[I") ∈ lw_all := lw_g (lw_at lw_m7 200 rfl) rfl
theorem q1980 : (Jvm.Cond.soleField "RewriteHouse" "result") ∈ lw_all := lw_g (lw_at lw_m7 201 rfl) rfl
theorem q1981 : (Jvm.Cond.laysFinal "RewriteHouse" "RewriteHouse" "resultFrom" "[I") ∈ lw_all := lw_g (lw_at lw_m7 202 rfl) rfl
theorem q1982 : (Jvm.Cond.soleField "RewriteHouse" "resultFrom") ∈ lw_all := lw_g (lw_at lw_m7 203 rfl) rfl
theorem q1983 : (Jvm.Cond.laysFinal "RewriteHouse" "RewriteHouse" "resultRule" "[I") ∈ lw_all := lw_g (lw_at lw_m7 204 rfl) rfl
theorem q1984 : (Jvm.Cond.soleField "RewriteHouse" "resultRule") ∈ lw_all := lw_g (lw_at lw_m7 205 rfl) rfl
theorem q1985 : (Jvm.Cond.laysFinal "RewriteHouse" "RewriteHouse" "resultFar" "[I") ∈ lw_all := lw_g (lw_at lw_m7 206 rfl) rfl
theorem q1986 : (Jvm.Cond.soleField "RewriteHouse" "resultFar") ∈ lw_all := lw_g (lw_at lw_m7 207 rfl) rfl
theorem q1987 : (Jvm.Cond.laysFinal "RewriteHouse" "RewriteHouse" "edgeFrom" "[I") ∈ lw_all := lw_g (lw_at lw_m7 208 rfl) rfl
theorem q1988 : (Jvm.Cond.soleField "RewriteHouse" "edgeFrom") ∈ lw_all := lw_g (lw_at lw_m7 209 rfl) rfl
theorem q1989 : (Jvm.Cond.laysFinal "RewriteHouse" "RewriteHouse" "edge" "[I") ∈ lw_all := lw_g (lw_at lw_m7 210 rfl) rfl
theorem q1990 : (Jvm.Cond.soleField "RewriteHouse" "edge") ∈ lw_all := lw_g (lw_at lw_m7 211 rfl) rfl
theorem q1991 : (Jvm.Cond.laysFinal "RewriteHouse" "RewriteHouse" "matched" "[I") ∈ lw_all := lw_g (lw_at lw_m7 212 rfl) rfl
theorem q1992 : (Jvm.Cond.soleField "RewriteHouse" "matched") ∈ lw_all := lw_g (lw_at lw_m7 213 rfl) rfl
theorem q1993 : (Jvm.Cond.lays "RewriteHouse" "RewriteHouse" "matchedWithin" "Z") ∈ lw_all := lw_g (lw_at lw_m7 214 rfl) rfl
theorem q1994 : (Jvm.Cond.soleField "RewriteHouse" "matchedWithin") ∈ lw_all := lw_g (lw_at lw_m7 215 rfl) rfl
theorem q1995 : (Jvm.Cond.lays "RewriteHouse" "RewriteHouse" "stepsTold" "I") ∈ lw_all := lw_g (lw_at lw_m7 216 rfl) rfl
theorem q1996 : (Jvm.Cond.soleField "RewriteHouse" "stepsTold") ∈ lw_all := lw_g (lw_at lw_m7 217 rfl) rfl
theorem q1997 : (Jvm.Cond.lays "RewriteHouse" "RewriteHouse" "printed" "I") ∈ lw_all := lw_g (lw_at lw_m7 218 rfl) rfl
theorem q1998 : (Jvm.Cond.soleField "RewriteHouse" "printed") ∈ lw_all := lw_g (lw_at lw_m7 219 rfl) rfl
theorem q1999 : (Jvm.Cond.lays "RewriteHouse" "RewriteHouse" "printWanted" "I") ∈ lw_all := lw_g (lw_at lw_m7 220 rfl) rfl
theorem q2000 : (Jvm.Cond.soleField "RewriteHouse" "printWanted") ∈ lw_all := lw_g (lw_at lw_m7 221 rfl) rfl
theorem q2001 : (Jvm.Cond.lays "RewriteHouse" "RewriteHouse" "printFound" "I") ∈ lw_all := lw_g (lw_at lw_m7 222 rfl) rfl
theorem q2002 : (Jvm.Cond.soleField "RewriteHouse" "printFound") ∈ lw_all := lw_g (lw_at lw_m7 223 rfl) rfl
theorem q2003 : (Jvm.Cond.lays "RewriteHouse" "RewriteHouse" "hasRules" "Z") ∈ lw_all := lw_g (lw_at lw_m7 224 rfl) rfl
theorem q2004 : (Jvm.Cond.soleField "RewriteHouse" "hasRules") ∈ lw_all := lw_g (lw_at lw_m7 225 rfl) rfl
theorem q2005 : (Jvm.Cond.laysFinal "RewriteHouse" "RewriteHouse" "state" "[I") ∈ lw_all := lw_g (lw_at lw_m7 226 rfl) rfl
theorem q2006 : (Jvm.Cond.soleField "RewriteHouse" "state") ∈ lw_all := lw_g (lw_at lw_m7 227 rfl) rfl
theorem q2007 : (Jvm.Cond.laysFinal "RewriteHouse" "RewriteHouse" "newFrom" "[I") ∈ lw_all := lw_g (lw_at lw_m7 228 rfl) rfl
theorem q2008 : (Jvm.Cond.soleField "RewriteHouse" "newFrom") ∈ lw_all := lw_g (lw_at lw_m7 229 rfl) rfl
theorem q2009 : (Jvm.Cond.laysFinal "RewriteHouse" "RewriteHouse" "newRule" "[I") ∈ lw_all := lw_g (lw_at lw_m7 230 rfl) rfl
theorem q2010 : (Jvm.Cond.soleField "RewriteHouse" "newRule") ∈ lw_all := lw_g (lw_at lw_m7 231 rfl) rfl
theorem q2011 : (Jvm.Cond.laysFinal "RewriteHouse" "RewriteHouse" "newFar" "[I") ∈ lw_all := lw_g (lw_at lw_m7 232 rfl) rfl
theorem q2012 : (Jvm.Cond.soleField "RewriteHouse" "newFar") ∈ lw_all := lw_g (lw_at lw_m7 233 rfl) rfl
theorem q2013 : (Jvm.Cond.laysFinal "RewriteHouse" "RewriteHouse" "newEdgeFrom" "[I") ∈ lw_all := lw_g (lw_at lw_m7 234 rfl) rfl
theorem q2014 : (Jvm.Cond.soleField "RewriteHouse" "newEdgeFrom") ∈ lw_all := lw_g (lw_at lw_m7 235 rfl) rfl
theorem q2015 : (Jvm.Cond.laysFinal "RewriteHouse" "RewriteHouse" "newEdge" "[I") ∈ lw_all := lw_g (lw_at lw_m7 236 rfl) rfl
theorem q2016 : (Jvm.Cond.soleField "RewriteHouse" "newEdge") ∈ lw_all := lw_g (lw_at lw_m7 237 rfl) rfl
theorem q2017 : (Jvm.Cond.laysFinal "RewriteHouse" "RewriteHouse" "isP" "[Z") ∈ lw_all := lw_g (lw_at lw_m7 238 rfl) rfl
theorem q2018 : (Jvm.Cond.soleField "RewriteHouse" "isP") ∈ lw_all := lw_g (lw_at lw_m7 239 rfl) rfl
theorem q2019 : (Jvm.Cond.laysFinal "RewriteHouse" "RewriteHouse" "isQ" "[Z") ∈ lw_all := lw_g (lw_at lw_m8 0 rfl) rfl
theorem q2020 : (Jvm.Cond.soleField "RewriteHouse" "isQ") ∈ lw_all := lw_g (lw_at lw_m8 1 rfl) rfl
theorem q2021 : (Jvm.Cond.laysFinal "RewriteHouse" "RewriteHouse" "mark" "[I") ∈ lw_all := lw_g (lw_at lw_m8 2 rfl) rfl
theorem q2022 : (Jvm.Cond.soleField "RewriteHouse" "mark") ∈ lw_all := lw_g (lw_at lw_m8 3 rfl) rfl
theorem q2023 : (Jvm.Cond.laysFinal "RewriteHouse" "RewriteHouse" "walk" "[I") ∈ lw_all := lw_g (lw_at lw_m8 4 rfl) rfl
theorem q2024 : (Jvm.Cond.soleField "RewriteHouse" "walk") ∈ lw_all := lw_g (lw_at lw_m8 5 rfl) rfl
theorem q2025 : (Jvm.Cond.laysFinal "RewriteHouse" "RewriteHouse" "walkAt" "[I") ∈ lw_all := lw_g (lw_at lw_m8 6 rfl) rfl
theorem q2026 : (Jvm.Cond.soleField "RewriteHouse" "walkAt") ∈ lw_all := lw_g (lw_at lw_m8 7 rfl) rfl
theorem q2027 : (Jvm.Cond.laysFinal "RewriteHouse" "RewriteHouse" "zSort" "[I") ∈ lw_all := lw_g (lw_at lw_m8 8 rfl) rfl
theorem q2028 : (Jvm.Cond.soleField "RewriteHouse" "zSort") ∈ lw_all := lw_g (lw_at lw_m8 9 rfl) rfl
theorem q2029 : (Jvm.Cond.laysFinal "RewriteHouse" "RewriteHouse" "zLeft" "[I") ∈ lw_all := lw_g (lw_at lw_m8 10 rfl) rfl
theorem q2030 : (Jvm.Cond.soleField "RewriteHouse" "zLeft") ∈ lw_all := lw_g (lw_at lw_m8 11 rfl) rfl
theorem q2031 : (Jvm.Cond.laysFinal "RewriteHouse" "RewriteHouse" "zRight" "[I") ∈ lw_all := lw_g (lw_at lw_m8 12 rfl) rfl
theorem q2032 : (Jvm.Cond.soleField "RewriteHouse" "zRight") ∈ lw_all := lw_g (lw_at lw_m8 13 rfl) rfl
theorem q2033 : (Jvm.Cond.lays "RewriteHouse" "RewriteHouse" "zNodes" "I") ∈ lw_all := lw_g (lw_at lw_m8 14 rfl) rfl
theorem q2034 : (Jvm.Cond.soleField "RewriteHouse" "zNodes") ∈ lw_all := lw_g (lw_at lw_m8 15 rfl) rfl
theorem q2035 : (Jvm.Cond.laysFinal "RewriteHouse" "RewriteHouse" "answer" "[I") ∈ lw_all := lw_g (lw_at lw_m8 16 rfl) rfl
theorem q2036 : (Jvm.Cond.soleField "RewriteHouse" "answer") ∈ lw_all := lw_g (lw_at lw_m8 17 rfl) rfl
theorem q2037 : (Jvm.Cond.laysFinal "RewriteHouse" "RewriteHouse" "failed" "[I") ∈ lw_all := lw_g (lw_at lw_m8 18 rfl) rfl
theorem q2038 : (Jvm.Cond.soleField "RewriteHouse" "failed") ∈ lw_all := lw_g (lw_at lw_m8 19 rfl) rfl
theorem q2039 : (Jvm.Cond.lays "RewriteHouse" "RewriteHouse" "failedMany" "I") ∈ lw_all := lw_g (lw_at lw_m8 20 rfl) rfl
theorem q2040 : (Jvm.Cond.soleField "RewriteHouse" "failedMany") ∈ lw_all := lw_g (lw_at lw_m8 21 rfl) rfl
theorem q2041 : (Jvm.Cond.laysFinal "RewriteHouse" "RewriteHouse" "askedLeft" "[I") ∈ lw_all := lw_g (lw_at lw_m8 22 rfl) rfl
theorem q2042 : (Jvm.Cond.soleField "RewriteHouse" "askedLeft") ∈ lw_all := lw_g (lw_at lw_m8 23 rfl) rfl
theorem q2043 : (Jvm.Cond.laysFinal "RewriteHouse" "RewriteHouse" "askedRight" "[I") ∈ lw_all := lw_g (lw_at lw_m8 24 rfl) rfl
theorem q2044 : (Jvm.Cond.soleField "RewriteHouse" "askedRight") ∈ lw_all := lw_g (lw_at lw_m8 25 rfl) rfl
theorem q2045 : (Jvm.Cond.laysFinal "RewriteHouse" "RewriteHouse" "askedIs" "[B") ∈ lw_all := lw_g (lw_at lw_m8 26 rfl) rfl
theorem q2046 : (Jvm.Cond.soleField "RewriteHouse" "askedIs") ∈ lw_all := lw_g (lw_at lw_m8 27 rfl) rfl
theorem q2047 : (Jvm.Cond.lays "RewriteHouse" "RewriteHouse" "asked" "I") ∈ lw_all := lw_g (lw_at lw_m8 28 rfl) rfl
theorem q2048 : (Jvm.Cond.soleField "RewriteHouse" "asked") ∈ lw_all := lw_g (lw_at lw_m8 29 rfl) rfl
theorem q2049 : (Jvm.Cond.laysFinal "RewriteHouse" "RewriteHouse" "given" "[I") ∈ lw_all := lw_g (lw_at lw_m8 30 rfl) rfl
theorem q2050 : (Jvm.Cond.soleField "RewriteHouse" "given") ∈ lw_all := lw_g (lw_at lw_m8 31 rfl) rfl
theorem q2051 : (Jvm.Cond.lays "RewriteHouse" "RewriteHouse" "pairsAll" "I") ∈ lw_all := lw_g (lw_at lw_m8 32 rfl) rfl
theorem q2052 : (Jvm.Cond.soleField "RewriteHouse" "pairsAll") ∈ lw_all := lw_g (lw_at lw_m8 33 rfl) rfl
theorem q2053 : (Jvm.Cond.lays "RewriteHouse" "RewriteHouse" "pairsUnlike" "I") ∈ lw_all := lw_g (lw_at lw_m8 34 rfl) rfl
theorem q2054 : (Jvm.Cond.soleField "RewriteHouse" "pairsUnlike") ∈ lw_all := lw_g (lw_at lw_m8 35 rfl) rfl
theorem q2055 : (Jvm.Cond.lays "RewriteHouse" "RewriteHouse" "pairsOpen" "I") ∈ lw_all := lw_g (lw_at lw_m8 36 rfl) rfl
theorem q2056 : (Jvm.Cond.soleField "RewriteHouse" "pairsOpen") ∈ lw_all := lw_g (lw_at lw_m8 37 rfl) rfl
theorem q2057 : (Jvm.Cond.lays "RewriteHouse" "RewriteHouse" "pairWanted" "I") ∈ lw_all := lw_g (lw_at lw_m8 38 rfl) rfl
theorem q2058 : (Jvm.Cond.soleField "RewriteHouse" "pairWanted") ∈ lw_all := lw_g (lw_at lw_m8 39 rfl) rfl
theorem q2059 : (Jvm.Cond.laysFinal "RewriteHouse" "RewriteHouse" "pairSaved" "[I") ∈ lw_all := lw_g (lw_at lw_m8 40 rfl) rfl
theorem q2060 : (Jvm.Cond.soleField "RewriteHouse" "pairSaved") ∈ lw_all := lw_g (lw_at lw_m8 41 rfl) rfl
theorem q2061 : (Jvm.Cond.lays "RewriteHouse" "RewriteHouse" "pairFirst" "I") ∈ lw_all := lw_g (lw_at lw_m8 42 rfl) rfl
theorem q2062 : (Jvm.Cond.soleField "RewriteHouse" "pairFirst") ∈ lw_all := lw_g (lw_at lw_m8 43 rfl) rfl
theorem q2063 : (Jvm.Cond.lays "RewriteHouse" "RewriteHouse" "pairSecond" "I") ∈ lw_all := lw_g (lw_at lw_m8 44 rfl) rfl
theorem q2064 : (Jvm.Cond.soleField "RewriteHouse" "pairSecond") ∈ lw_all := lw_g (lw_at lw_m8 45 rfl) rfl
theorem q2065 : (Jvm.Cond.lays "RewriteHouse" "RewriteHouse" "rightOther" "I") ∈ lw_all := lw_g (lw_at lw_m8 46 rfl) rfl
theorem q2066 : (Jvm.Cond.soleField "RewriteHouse" "rightOther") ∈ lw_all := lw_g (lw_at lw_m8 47 rfl) rfl
theorem q2067 : (Jvm.Cond.lays "RewriteHouse" "RewriteHouse" "rightNow" "I") ∈ lw_all := lw_g (lw_at lw_m8 48 rfl) rfl
theorem q2068 : (Jvm.Cond.soleField "RewriteHouse" "rightNow") ∈ lw_all := lw_g (lw_at lw_m8 49 rfl) rfl
theorem q2069 : (Jvm.Cond.lays "RewriteHouse" "RewriteHouse" "looked" "I") ∈ lw_all := lw_g (lw_at lw_m8 50 rfl) rfl
theorem q2070 : (Jvm.Cond.soleField "RewriteHouse" "looked") ∈ lw_all := lw_g (lw_at lw_m8 51 rfl) rfl
theorem q2071 : (Jvm.Cond.lays "RewriteHouse" "RewriteHouse" "firstNow" "I") ∈ lw_all := lw_g (lw_at lw_m8 52 rfl) rfl
theorem q2072 : (Jvm.Cond.soleField "RewriteHouse" "firstNow") ∈ lw_all := lw_g (lw_at lw_m8 53 rfl) rfl
theorem q2073 : (Jvm.Cond.lays "RewriteHouse" "RewriteHouse" "secondNow" "I") ∈ lw_all := lw_g (lw_at lw_m8 54 rfl) rfl
theorem q2074 : (Jvm.Cond.soleField "RewriteHouse" "secondNow") ∈ lw_all := lw_g (lw_at lw_m8 55 rfl) rfl
theorem q2075 : (Jvm.Cond.superclass "RewriteHouse" "java/lang/Object") ∈ lw_all := lw_g (lw_at lw_m8 56 rfl) rfl
theorem in_X0 : ∀ w ∈ wsX00, w ∈ lw_all := lw_in wsX00 [1671, 1673, 1675, 1677, 1679, 1681, 1683, 1685, 1687, 1689, 1691, 1693, 1695, 1697, 1699, 1701, 1703, 1705, 1707, 1709, 1711, 1713, 1715, 1717, 1719, 1721, 1723, 1725, 1727, 1729, 1731, 1733, 1735, 1737, 1739, 1741, 1743, 1745, 1747, 1749, 1751, 1753, 1755, 1757, 1759, 1761, 1763, 1765, 1767, 1769, 1771, 1773, 1775, 1777, 1779, 1781, 1783, 1785, 1787, 1789, 1791, 1793, 1795, 1797, 1799, 1801, 1803, 1805, 1807, 1809, 1811, 1813, 1815, 1817, 1819, 1821, 1823, 1825, 1827, 1829, 1831, 1833, 1835, 1837, 1839, 1841, 1843, 1845, 1847, 1849, 1851, 1853, 1855, 1857, 1859, 1861, 1863, 1865, 1867, 1869, 1871, 1873, 1875, 1877, 1879, 1881, 1883, 1885, 1887, 1889, 1891, 1893, 1895, 1897, 1899, 1901, 1903, 1905, 1907, 1909, 1911, 1913, 1915, 1917, 1919, 1921, 1923, 1925, 1927, 1929, 1931, 1933, 1935, 1937, 1939, 1941, 1943, 1945, 1947, 1949, 1951, 1953, 1955, 1957, 1959, 1961, 1963, 1965, 1967, 1969, 1971, 1973, 1975, 1977, 1979, 1981, 1983, 1985, 1987, 1989, 1991, 1993, 1995, 1997, 1999, 2001, 2003, 2005, 2007, 2009, 2011, 2013, 2015, 2017, 2019, 2021, 2023, 2025, 2027, 2029, 2031, 2033, 2035, 2037, 2039, 2041, 2043, 2045, 2047, 2049, 2051, 2053, 2055, 2057, 2059, 2061, 2063, 2065, 2067, 2069, 2071, 2073] (by decide +kernel) (by decide +kernel)

