set_option maxRecDepth 100000
theorem q66 : (Jvm.Cond.initialized "BranchMender") ∈ lw_all := lw_g (lw_at lw_m1 1 rfl) rfl
theorem q100 : (Jvm.Cond.instantiable "BranchMender" (21 : Nat)) ∈ lw_all := lw_g (lw_at lw_m1 35 rfl) rfl
theorem q102 : (Jvm.Cond.instanceMethod ({ cls := "BranchMender", name := "<init>", desc := "()V" } : Jvm.MethodName)) ∈ lw_all := lw_g (lw_at lw_m1 37 rfl) rfl
theorem q103 : (Jvm.Cond.code ({ cls := "BranchMender", name := "<init>", desc := "()V" } : Jvm.MethodName) prog_1_method_6_code (1 : Nat) (Option.none : Option Jvm.ClassFile.FieldType)) ∈ lw_all := lw_g (lw_at lw_m1 38 rfl) rfl
theorem q104 : (Jvm.Cond.methodLink "BranchMender" (28 : Nat) ({ cls := "java/lang/Object", name := "<init>", desc := "()V" } : Jvm.MethodName)) ∈ lw_all := lw_g (lw_at lw_m1 39 rfl) rfl
theorem q107 : (Jvm.Cond.classLink "BranchMender" (33 : Nat) "BranchMender$Finding") ∈ lw_all := lw_g (lw_at lw_m1 42 rfl) rfl
theorem q161 : (Jvm.Cond.methodLinkNest "BranchMender" (35 : Nat) ({ cls := "BranchMender$Finding", name := "<init>", desc := "()V" } : Jvm.MethodName) "BranchMender") ∈ lw_tbl := lw_at lw_m1 96 rfl
theorem q172 : (Jvm.Cond.fieldLinkNest "BranchMender" (110 : Nat) "BranchMender$Finding" "code" "I" "BranchMender") ∈ lw_tbl := lw_at lw_m1 107 rfl
theorem q188 : (Jvm.Cond.classLink "BranchMender" (44 : Nat) "BranchMender$Tree") ∈ lw_all := lw_g (lw_at lw_m1 123 rfl) rfl
theorem q190 : (Jvm.Cond.classLink "BranchMender" (54 : Nat) "BranchMender$Reader") ∈ lw_all := lw_g (lw_at lw_m1 125 rfl) rfl
theorem q192 : (Jvm.Cond.methodLink "BranchMender" (56 : Nat) ({ cls := "BranchMender$Reader", name := "<init>", desc := "(LBranchMender$Finding;)V" } : Jvm.MethodName)) ∈ lw_all := lw_g (lw_at lw_m1 127 rfl) rfl
theorem q214 : (Jvm.Cond.classLink "BranchMender" (63 : Nat) "BranchMender$Pen") ∈ lw_all := lw_g (lw_at lw_m1 149 rfl) rfl
theorem q216 : (Jvm.Cond.methodLinkNest "BranchMender" (65 : Nat) ({ cls := "BranchMender$Pen", name := "<init>", desc := "()V" } : Jvm.MethodName) "BranchMender") ∈ lw_tbl := lw_at lw_m1 151 rfl
theorem q221 : (Jvm.Cond.fieldLinkNest "BranchMender" (170 : Nat) "BranchMender$Pen" "row" "[B" "BranchMender") ∈ lw_tbl := lw_at lw_m1 156 rfl
theorem q223 : (Jvm.Cond.fieldLinkNest "BranchMender" (166 : Nat) "BranchMender$Pen" "size" "I" "BranchMender") ∈ lw_tbl := lw_at lw_m1 158 rfl
theorem q229 : (Jvm.Cond.classLink "BranchMender" (70 : Nat) "BranchMender$Mapper") ∈ lw_all := lw_g (lw_at lw_m1 164 rfl) rfl
theorem q231 : (Jvm.Cond.methodLinkNest "BranchMender" (72 : Nat) ({ cls := "BranchMender$Mapper", name := "<init>", desc := "()V" } : Jvm.MethodName) "BranchMender") ∈ lw_tbl := lw_at lw_m1 166 rfl
theorem q240 : (Jvm.Cond.fieldLinkNest "BranchMender" (265 : Nat) "BranchMender$Mapper" "prices" "[I" "BranchMender") ∈ lw_tbl := lw_at lw_m1 175 rfl
theorem q246 : (Jvm.Cond.fieldLinkNest "BranchMender" (289 : Nat) "BranchMender$Mapper" "mates" "[LBranchMender$Node;" "BranchMender") ∈ lw_tbl := lw_at lw_m1 181 rfl
theorem q248 : (Jvm.Cond.fieldLinkNest "BranchMender" (300 : Nat) "BranchMender$Mapper" "paired" "[Z" "BranchMender") ∈ lw_tbl := lw_at lw_m1 183 rfl
theorem q265 : (Jvm.Cond.classLink "BranchMender" (77 : Nat) "BranchMender$Kinds") ∈ lw_all := lw_g (lw_at lw_m1 200 rfl) rfl
theorem q267 : (Jvm.Cond.methodLinkNest "BranchMender" (79 : Nat) ({ cls := "BranchMender$Kinds", name := "<init>", desc := "()V" } : Jvm.MethodName) "BranchMender") ∈ lw_tbl := lw_at lw_m1 202 rfl
theorem q274 : (Jvm.Cond.fieldLinkNest "BranchMender" (317 : Nat) "BranchMender$Kinds" "many" "I" "BranchMender") ∈ lw_tbl := lw_at lw_m1 209 rfl
theorem q280 : (Jvm.Cond.classLink "BranchMender" (84 : Nat) "BranchMender$Merger") ∈ lw_all := lw_g (lw_at lw_m1 215 rfl) rfl
theorem q282 : (Jvm.Cond.methodLinkNest "BranchMender" (86 : Nat) ({ cls := "BranchMender$Merger", name := "<init>", desc := "()V" } : Jvm.MethodName) "BranchMender") ∈ lw_tbl := lw_at lw_m1 217 rfl
theorem q314 : (Jvm.Cond.fieldLinkNest "BranchMender" (329 : Nat) "BranchMender$Merger" "clashNames" "[I" "BranchMender") ∈ lw_tbl := lw_at lw_m2 9 rfl
theorem q316 : (Jvm.Cond.fieldLinkNest "BranchMender" (332 : Nat) "BranchMender$Merger" "clashKinds" "[I" "BranchMender") ∈ lw_tbl := lw_at lw_m2 11 rfl
theorem q318 : (Jvm.Cond.fieldLinkNest "BranchMender" (327 : Nat) "BranchMender$Merger" "clashes" "I" "BranchMender") ∈ lw_tbl := lw_at lw_m2 13 rfl
theorem q343 : (Jvm.Cond.fieldLink "BranchMender" (36 : Nat) "BranchMender" "finding" "LBranchMender$Finding;") ∈ lw_all := lw_g (lw_at lw_m2 38 rfl) rfl
theorem q344 : (Jvm.Cond.fieldLink "BranchMender" (40 : Nat) "BranchMender" "found" "[I") ∈ lw_all := lw_g (lw_at lw_m2 39 rfl) rfl
theorem q345 : (Jvm.Cond.fieldLink "BranchMender" (46 : Nat) "BranchMender" "trees" "[LBranchMender$Tree;") ∈ lw_all := lw_g (lw_at lw_m2 40 rfl) rfl
theorem q346 : (Jvm.Cond.fieldLink "BranchMender" (159 : Nat) "BranchMender" "names" "I") ∈ lw_all := lw_g (lw_at lw_m2 41 rfl) rfl
theorem q347 : (Jvm.Cond.fieldLink "BranchMender" (50 : Nat) "BranchMender" "tape" "[B") ∈ lw_all := lw_g (lw_at lw_m2 42 rfl) rfl
theorem q348 : (Jvm.Cond.fieldLink "BranchMender" (135 : Nat) "BranchMender" "taped" "I") ∈ lw_all := lw_g (lw_at lw_m2 43 rfl) rfl
theorem q349 : (Jvm.Cond.fieldLink "BranchMender" (59 : Nat) "BranchMender" "reader" "LBranchMender$Reader;") ∈ lw_all := lw_g (lw_at lw_m2 44 rfl) rfl
theorem q350 : (Jvm.Cond.fieldLink "BranchMender" (66 : Nat) "BranchMender" "pen" "LBranchMender$Pen;") ∈ lw_all := lw_g (lw_at lw_m2 45 rfl) rfl
theorem q351 : (Jvm.Cond.fieldLink "BranchMender" (73 : Nat) "BranchMender" "mapper" "LBranchMender$Mapper;") ∈ lw_all := lw_g (lw_at lw_m2 46 rfl) rfl
theorem q352 : (Jvm.Cond.fieldLink "BranchMender" (80 : Nat) "BranchMender" "kinds" "LBranchMender$Kinds;") ∈ lw_all := lw_g (lw_at lw_m2 47 rfl) rfl
theorem q353 : (Jvm.Cond.fieldLink "BranchMender" (87 : Nat) "BranchMender" "merger" "LBranchMender$Merger;") ∈ lw_all := lw_g (lw_at lw_m2 48 rfl) rfl
theorem q354 : (Jvm.Cond.fieldLink "BranchMender" (324 : Nat) "BranchMender" "mergedSize" "I") ∈ lw_all := lw_g (lw_at lw_m2 49 rfl) rfl
theorem q355 : (Jvm.Cond.fieldLink "BranchMender" (279 : Nat) "BranchMender" "mapped" "Z") ∈ lw_all := lw_g (lw_at lw_m2 50 rfl) rfl
theorem q356 : (Jvm.Cond.fieldLink "BranchMender" (283 : Nat) "BranchMender" "pairs" "I") ∈ lw_all := lw_g (lw_at lw_m2 51 rfl) rfl
theorem q357 : (Jvm.Cond.fieldLink "BranchMender" (286 : Nat) "BranchMender" "bothSizes" "I") ∈ lw_all := lw_g (lw_at lw_m2 52 rfl) rfl
theorem q358 : (Jvm.Cond.fieldLink "BranchMender" (91 : Nat) "BranchMender" "pairOne" "[I") ∈ lw_all := lw_g (lw_at lw_m2 53 rfl) rfl
theorem q359 : (Jvm.Cond.fieldLink "BranchMender" (94 : Nat) "BranchMender" "pairTwo" "[I") ∈ lw_all := lw_g (lw_at lw_m2 54 rfl) rfl
theorem q360 : (Jvm.Cond.fieldLink "BranchMender" (272 : Nat) "BranchMender" "acts" "I") ∈ lw_all := lw_g (lw_at lw_m2 55 rfl) rfl
theorem q361 : (Jvm.Cond.fieldLink "BranchMender" (97 : Nat) "BranchMender" "actKinds" "[I") ∈ lw_all := lw_g (lw_at lw_m2 56 rfl) rfl
theorem q362 : (Jvm.Cond.fieldLink "BranchMender" (100 : Nat) "BranchMender" "actNames" "[I") ∈ lw_all := lw_g (lw_at lw_m2 57 rfl) rfl
theorem q363 : (Jvm.Cond.fieldLink "BranchMender" (103 : Nat) "BranchMender" "actPrices" "[I") ∈ lw_all := lw_g (lw_at lw_m2 58 rfl) rfl
theorem q364 : (Jvm.Cond.laysFinal "BranchMender" "BranchMender" "finding" "LBranchMender$Finding;") ∈ lw_all := lw_g (lw_at lw_m2 59 rfl) rfl
theorem q365 : (Jvm.Cond.soleField "BranchMender" "finding") ∈ lw_all := lw_g (lw_at lw_m2 60 rfl) rfl
theorem q366 : (Jvm.Cond.laysFinal "BranchMender" "BranchMender" "found" "[I") ∈ lw_all := lw_g (lw_at lw_m2 61 rfl) rfl
theorem q367 : (Jvm.Cond.soleField "BranchMender" "found") ∈ lw_all := lw_g (lw_at lw_m2 62 rfl) rfl
theorem q368 : (Jvm.Cond.laysFinal "BranchMender" "BranchMender" "trees" "[LBranchMender$Tree;") ∈ lw_all := lw_g (lw_at lw_m2 63 rfl) rfl
theorem q369 : (Jvm.Cond.soleField "BranchMender" "trees") ∈ lw_all := lw_g (lw_at lw_m2 64 rfl) rfl
theorem q370 : (Jvm.Cond.lays "BranchMender" "BranchMender" "names" "I") ∈ lw_all := lw_g (lw_at lw_m2 65 rfl) rfl
theorem q371 : (Jvm.Cond.soleField "BranchMender" "names") ∈ lw_all := lw_g (lw_at lw_m2 66 rfl) rfl
theorem q372 : (Jvm.Cond.laysFinal "BranchMender" "BranchMender" "tape" "[B") ∈ lw_all := lw_g (lw_at lw_m2 67 rfl) rfl
theorem q373 : (Jvm.Cond.soleField "BranchMender" "tape") ∈ lw_all := lw_g (lw_at lw_m2 68 rfl) rfl
theorem q374 : (Jvm.Cond.lays "BranchMender" "BranchMender" "taped" "I") ∈ lw_all := lw_g (lw_at lw_m2 69 rfl) rfl
theorem q375 : (Jvm.Cond.soleField "BranchMender" "taped") ∈ lw_all := lw_g (lw_at lw_m2 70 rfl) rfl
theorem q376 : (Jvm.Cond.laysFinal "BranchMender" "BranchMender" "reader" "LBranchMender$Reader;") ∈ lw_all := lw_g (lw_at lw_m2 71 rfl) rfl
theorem q377 : (Jvm.Cond.soleField "BranchMender" "reader") ∈ lw_all := lw_g (lw_at lw_m2 72 rfl) rfl
theorem q378 : (Jvm.Cond.laysFinal "BranchMender" "BranchMender" "pen" "LBranchMender$Pen;") ∈ lw_all := lw_g (lw_at lw_m2 73 rfl) rfl
theorem q379 : (Jvm.Cond.soleField "BranchMender" "pen") ∈ lw_all := lw_g (lw_at lw_m2 74 rfl) rfl
theorem q380 : (Jvm.Cond.laysFinal "BranchMender" "BranchMender" "mapper" "LBranchMender$Mapper;") ∈ lw_all := lw_g (lw_at lw_m2 75 rfl) rfl
theorem q381 : (Jvm.Cond.soleField "BranchMender" "mapper") ∈ lw_all := lw_g (lw_at lw_m2 76 rfl) rfl
theorem q382 : (Jvm.Cond.laysFinal "BranchMender" "BranchMender" "kinds" "LBranchMender$Kinds;") ∈ lw_all := lw_g (lw_at lw_m2 77 rfl) rfl
theorem q383 : (Jvm.Cond.soleField "BranchMender" "kinds") ∈ lw_all := lw_g (lw_at lw_m2 78 rfl) rfl
theorem q384 : (Jvm.Cond.laysFinal "BranchMender" "BranchMender" "merger" "LBranchMender$Merger;") ∈ lw_all := lw_g (lw_at lw_m2 79 rfl) rfl
theorem q385 : (Jvm.Cond.soleField "BranchMender" "merger") ∈ lw_all := lw_g (lw_at lw_m2 80 rfl) rfl
theorem q386 : (Jvm.Cond.lays "BranchMender" "BranchMender" "mergedSize" "I") ∈ lw_all := lw_g (lw_at lw_m2 81 rfl) rfl
theorem q387 : (Jvm.Cond.soleField "BranchMender" "mergedSize") ∈ lw_all := lw_g (lw_at lw_m2 82 rfl) rfl
theorem q388 : (Jvm.Cond.lays "BranchMender" "BranchMender" "mapped" "Z") ∈ lw_all := lw_g (lw_at lw_m2 83 rfl) rfl
theorem q389 : (Jvm.Cond.soleField "BranchMender" "mapped") ∈ lw_all := lw_g (lw_at lw_m2 84 rfl) rfl
theorem q390 : (Jvm.Cond.lays "BranchMender" "BranchMender" "pairs" "I") ∈ lw_all := lw_g (lw_at lw_m2 85 rfl) rfl
theorem q391 : (Jvm.Cond.soleField "BranchMender" "pairs") ∈ lw_all := lw_g (lw_at lw_m2 86 rfl) rfl
theorem q392 : (Jvm.Cond.lays "BranchMender" "BranchMender" "bothSizes" "I") ∈ lw_all := lw_g (lw_at lw_m2 87 rfl) rfl
theorem q393 : (Jvm.Cond.soleField "BranchMender" "bothSizes") ∈ lw_all := lw_g (lw_at lw_m2 88 rfl) rfl
theorem q394 : (Jvm.Cond.laysFinal "BranchMender" "BranchMender" "pairOne" "[I") ∈ lw_all := lw_g (lw_at lw_m2 89 rfl) rfl
theorem q395 : (Jvm.Cond.soleField "BranchMender" "pairOne") ∈ lw_all := lw_g (lw_at lw_m2 90 rfl) rfl
theorem q396 : (Jvm.Cond.laysFinal "BranchMender" "BranchMender" "pairTwo" "[I") ∈ lw_all := lw_g (lw_at lw_m2 91 rfl) rfl
theorem q397 : (Jvm.Cond.soleField "BranchMender" "pairTwo") ∈ lw_all := lw_g (lw_at lw_m2 92 rfl) rfl
theorem q398 : (Jvm.Cond.lays "BranchMender" "BranchMender" "acts" "I") ∈ lw_all := lw_g (lw_at lw_m2 93 rfl) rfl
theorem q399 : (Jvm.Cond.soleField "BranchMender" "acts") ∈ lw_all := lw_g (lw_at lw_m2 94 rfl) rfl
theorem q400 : (Jvm.Cond.laysFinal "BranchMender" "BranchMender" "actKinds" "[I") ∈ lw_all := lw_g (lw_at lw_m2 95 rfl) rfl
theorem q401 : (Jvm.Cond.soleField "BranchMender" "actKinds") ∈ lw_all := lw_g (lw_at lw_m2 96 rfl) rfl
theorem q402 : (Jvm.Cond.laysFinal "BranchMender" "BranchMender" "actNames" "[I") ∈ lw_all := lw_g (lw_at lw_m2 97 rfl) rfl
theorem q403 : (Jvm.Cond.soleField "BranchMender" "actNames") ∈ lw_all := lw_g (lw_at lw_m2 98 rfl) rfl
theorem q404 : (Jvm.Cond.laysFinal "BranchMender" "BranchMender" "actPrices" "[I") ∈ lw_all := lw_g (lw_at lw_m2 99 rfl) rfl
theorem q405 : (Jvm.Cond.soleField "BranchMender" "actPrices") ∈ lw_all := lw_g (lw_at lw_m2 100 rfl) rfl
theorem q406 : (Jvm.Cond.superclass "BranchMender" "java/lang/Object") ∈ lw_all := lw_g (lw_at lw_m2 101 rfl) rfl
theorem q408 : (Jvm.Cond.instanceMethod ({ cls := "BranchMender", name := "feed", desc := "(JI)I" } : Jvm.MethodName)) ∈ lw_all := lw_g (lw_at lw_m2 103 rfl) rfl
theorem q409 : (Jvm.Cond.selects "BranchMender" ({ cls := "BranchMender", name := "feed", desc := "(JI)I" } : Jvm.MethodName) ({ cls := "BranchMender", name := "feed", desc := "(JI)I" } : Jvm.MethodName)) ∈ lw_all := lw_g (lw_at lw_m2 104 rfl) rfl
theorem q410 : (Jvm.Cond.codeWith ({ cls := "BranchMender", name := "feed", desc := "(JI)I" } : Jvm.MethodName) prog_1_method_12_code (5 : Nat) (Option.some Jvm.ClassFile.FieldType.int) [((0 : Nat), (94 : Nat), (95 : Nat), (33 : Nat))]) ∈ lw_all := lw_g (lw_at lw_m2 105 rfl) rfl
theorem q411 : (Jvm.Cond.methodLink "BranchMender" (131 : Nat) ({ cls := "BranchMender", name := "need", desc := "(ZI)V" } : Jvm.MethodName)) ∈ lw_all := lw_g (lw_at lw_m2 106 rfl) rfl
theorem q412 : (Jvm.Cond.privateMethod ({ cls := "BranchMender", name := "need", desc := "(ZI)V" } : Jvm.MethodName)) ∈ lw_tbl := lw_at lw_m2 107 rfl
theorem q413 : (Jvm.Cond.instanceMethod ({ cls := "BranchMender", name := "need", desc := "(ZI)V" } : Jvm.MethodName)) ∈ lw_all := lw_g (lw_at lw_m2 108 rfl) rfl
theorem q414 : (Jvm.Cond.code ({ cls := "BranchMender", name := "need", desc := "(ZI)V" } : Jvm.MethodName) prog_1_method_7_code (3 : Nat) (Option.none : Option Jvm.ClassFile.FieldType)) ∈ lw_all := lw_g (lw_at lw_m2 109 rfl) rfl
theorem q415 : (Jvm.Cond.methodLink "BranchMender" (106 : Nat) ({ cls := "BranchMender$Finding", name := "of", desc := "(I)LBranchMender$Finding;" } : Jvm.MethodName)) ∈ lw_all := lw_g (lw_at lw_m2 110 rfl) rfl
theorem q419 : (Jvm.Cond.methodLink "BranchMender" (138 : Nat) ({ cls := "BranchMender", name := "finds", desc := "(LBranchMender$Finding;)I" } : Jvm.MethodName)) ∈ lw_all := lw_g (lw_at lw_m2 114 rfl) rfl
theorem q420 : (Jvm.Cond.privateMethod ({ cls := "BranchMender", name := "finds", desc := "(LBranchMender$Finding;)I" } : Jvm.MethodName)) ∈ lw_tbl := lw_at lw_m2 115 rfl
theorem q421 : (Jvm.Cond.instanceMethod ({ cls := "BranchMender", name := "finds", desc := "(LBranchMender$Finding;)I" } : Jvm.MethodName)) ∈ lw_all := lw_g (lw_at lw_m2 116 rfl) rfl
theorem q422 : (Jvm.Cond.code ({ cls := "BranchMender", name := "finds", desc := "(LBranchMender$Finding;)I" } : Jvm.MethodName) prog_1_method_8_code (2 : Nat) (Option.some Jvm.ClassFile.FieldType.int)) ∈ lw_all := lw_g (lw_at lw_m2 117 rfl) rfl
theorem q424 : (Jvm.Cond.instanceMethod ({ cls := "BranchMender", name := "read", desc := "(I)I" } : Jvm.MethodName)) ∈ lw_all := lw_g (lw_at lw_m2 119 rfl) rfl
theorem q425 : (Jvm.Cond.selects "BranchMender" ({ cls := "BranchMender", name := "read", desc := "(I)I" } : Jvm.MethodName) ({ cls := "BranchMender", name := "read", desc := "(I)I" } : Jvm.MethodName)) ∈ lw_all := lw_g (lw_at lw_m2 120 rfl) rfl
theorem q426 : (Jvm.Cond.codeWith ({ cls := "BranchMender", name := "read", desc := "(I)I" } : Jvm.MethodName) prog_1_method_13_code (5 : Nat) (Option.some Jvm.ClassFile.FieldType.int) [((0 : Nat), (92 : Nat), (93 : Nat), (33 : Nat))]) ∈ lw_all := lw_g (lw_at lw_m2 121 rfl) rfl
theorem q427 : (Jvm.Cond.methodLink "BranchMender" (142 : Nat) ({ cls := "BranchMender", name := "isPlace", desc := "(I)Z" } : Jvm.MethodName)) ∈ lw_all := lw_g (lw_at lw_m2 122 rfl) rfl
theorem q428 : (Jvm.Cond.static ({ cls := "BranchMender", name := "isPlace", desc := "(I)Z" } : Jvm.MethodName)) ∈ lw_all := lw_g (lw_at lw_m2 123 rfl) rfl
theorem q429 : (Jvm.Cond.code ({ cls := "BranchMender", name := "isPlace", desc := "(I)Z" } : Jvm.MethodName) prog_1_method_9_code (1 : Nat) (Option.some Jvm.ClassFile.FieldType.boolean)) ∈ lw_all := lw_g (lw_at lw_m2 124 rfl) rfl
theorem q431 : (Jvm.Cond.methodLink "BranchMender" (145 : Nat) ({ cls := "BranchMender$Reader", name := "read", desc := "([BI)LBranchMender$Node;" } : Jvm.MethodName)) ∈ lw_all := lw_g (lw_at lw_m2 126 rfl) rfl
theorem q440 : (Jvm.Cond.static ({ cls := "BranchMender", name := "isLetter", desc := "(I)Z" } : Jvm.MethodName)) ∈ lw_all := lw_g (lw_at lw_m2 135 rfl) rfl
theorem q441 : (Jvm.Cond.code ({ cls := "BranchMender", name := "isLetter", desc := "(I)Z" } : Jvm.MethodName) prog_1_method_3_code (1 : Nat) (Option.some Jvm.ClassFile.FieldType.boolean)) ∈ lw_all := lw_g (lw_at lw_m2 136 rfl) rfl
theorem q448 : (Jvm.Cond.static ({ cls := "BranchMender", name := "part", desc := "([BII)[B" } : Jvm.MethodName)) ∈ lw_all := lw_g (lw_at lw_m2 143 rfl) rfl
theorem q449 : (Jvm.Cond.code ({ cls := "BranchMender", name := "part", desc := "([BII)[B" } : Jvm.MethodName) prog_1_method_5_code (4 : Nat) (Option.some (Jvm.ClassFile.FieldType.array Jvm.ClassFile.FieldType.byte))) ∈ lw_all := lw_g (lw_at lw_m2 144 rfl) rfl
theorem q450 : (Jvm.Cond.methodLink "BranchMender" (22 : Nat) ({ cls := "java/lang/System", name := "arraycopy", desc := "(Ljava/lang/Object;ILjava/lang/Object;II)V" } : Jvm.MethodName)) ∈ lw_all := lw_g (lw_at lw_m2 145 rfl) rfl
theorem q473 : (Jvm.Cond.static ({ cls := "BranchMender", name := "isSame", desc := "([B[B)Z" } : Jvm.MethodName)) ∈ lw_all := lw_g (lw_at lw_m2 168 rfl) rfl
theorem q474 : (Jvm.Cond.code ({ cls := "BranchMender", name := "isSame", desc := "([B[B)Z" } : Jvm.MethodName) prog_1_method_2_code (4 : Nat) (Option.some Jvm.ClassFile.FieldType.boolean)) ∈ lw_all := lw_g (lw_at lw_m2 169 rfl) rfl
theorem q476 : (Jvm.Cond.laysStatic "BranchMender" "EMPTY" "[B") ∈ lw_tbl := lw_at lw_m2 171 rfl
theorem q482 : (Jvm.Cond.static ({ cls := "BranchMender", name := "isSign", desc := "(I)Z" } : Jvm.MethodName)) ∈ lw_all := lw_g (lw_at lw_m2 177 rfl) rfl
theorem q483 : (Jvm.Cond.code ({ cls := "BranchMender", name := "isSign", desc := "(I)Z" } : Jvm.MethodName) prog_1_method_4_code (1 : Nat) (Option.some Jvm.ClassFile.FieldType.boolean)) ∈ lw_all := lw_g (lw_at lw_m2 178 rfl) rfl
theorem q484 : (Jvm.Cond.methodLink "BranchMender" (16 : Nat) ({ cls := "BranchMender", name := "isLetter", desc := "(I)Z" } : Jvm.MethodName)) ∈ lw_all := lw_g (lw_at lw_m2 179 rfl) rfl
theorem q486 : (Jvm.Cond.static ({ cls := "BranchMender", name := "made", desc := "(II[B[B)LBranchMender$Node;" } : Jvm.MethodName)) ∈ lw_all := lw_g (lw_at lw_m2 181 rfl) rfl
theorem q487 : (Jvm.Cond.code ({ cls := "BranchMender", name := "made", desc := "(II[B[B)LBranchMender$Node;" } : Jvm.MethodName) prog_1_method_1_code (4 : Nat) (Option.some (Jvm.ClassFile.FieldType.object "BranchMender$Node"))) ∈ lw_all := lw_g (lw_at lw_m2 182 rfl) rfl
theorem q488 : (Jvm.Cond.classLink "BranchMender" (1 : Nat) "BranchMender$Branch") ∈ lw_all := lw_g (lw_at lw_m2 183 rfl) rfl
theorem q490 : (Jvm.Cond.methodLink "BranchMender" (3 : Nat) ({ cls := "BranchMender$Branch", name := "<init>", desc := "(I[B[B)V" } : Jvm.MethodName)) ∈ lw_all := lw_g (lw_at lw_m2 185 rfl) rfl
theorem q502 : (Jvm.Cond.fieldLink "BranchMender" (118 : Nat) "BranchMender$Node" "name" "I") ∈ lw_all := lw_g (lw_at lw_m2 197 rfl) rfl
theorem q514 : (Jvm.Cond.fieldLink "BranchMender" (201 : Nat) "BranchMender$Node" "label" "[B") ∈ lw_all := lw_g (lw_at lw_m2 209 rfl) rfl
theorem q524 : (Jvm.Cond.fieldLink "BranchMender" (204 : Nat) "BranchMender$Node" "text" "[B") ∈ lw_all := lw_g (lw_at lw_m2 219 rfl) rfl
theorem q526 : (Jvm.Cond.fieldLink "BranchMender" (192 : Nat) "BranchMender$Node" "parent" "LBranchMender$Node;") ∈ lw_all := lw_g (lw_at lw_m2 221 rfl) rfl
theorem q537 : (Jvm.Cond.fieldLink "BranchMender" (181 : Nat) "BranchMender$Node" "children" "Ljava/util/ArrayList;") ∈ lw_all := lw_g (lw_at lw_m2 232 rfl) rfl
theorem q540 : (Jvm.Cond.fieldLink "BranchMender" (306 : Nat) "BranchMender$Node" "ahead" "I") ∈ lw_all := lw_g (lw_at lw_m2 235 rfl) rfl
theorem q542 : (Jvm.Cond.fieldLink "BranchMender" (195 : Nat) "BranchMender$Node" "behind" "I") ∈ lw_all := lw_g (lw_at lw_m2 237 rfl) rfl
theorem q545 : (Jvm.Cond.fieldLink "BranchMender" (198 : Nat) "BranchMender$Node" "first" "I") ∈ lw_all := lw_g (lw_at lw_m3 0 rfl) rfl
theorem q547 : (Jvm.Cond.fieldLink "BranchMender" (189 : Nat) "BranchMender$Node" "deep" "I") ∈ lw_all := lw_g (lw_at lw_m3 2 rfl) rfl
theorem q549 : (Jvm.Cond.fieldLink "BranchMender" (314 : Nat) "BranchMender$Node" "which" "I") ∈ lw_all := lw_g (lw_at lw_m3 4 rfl) rfl
theorem q571 : (Jvm.Cond.classLink "BranchMender" (7 : Nat) "BranchMender$Bag") ∈ lw_all := lw_g (lw_at lw_m3 26 rfl) rfl
theorem q573 : (Jvm.Cond.methodLink "BranchMender" (9 : Nat) ({ cls := "BranchMender$Bag", name := "<init>", desc := "(I[B[B)V" } : Jvm.MethodName)) ∈ lw_all := lw_g (lw_at lw_m3 28 rfl) rfl
theorem q588 : (Jvm.Cond.classLink "BranchMender" (10 : Nat) "BranchMender$Keyed") ∈ lw_all := lw_g (lw_at lw_m3 43 rfl) rfl
theorem q590 : (Jvm.Cond.methodLink "BranchMender" (12 : Nat) ({ cls := "BranchMender$Keyed", name := "<init>", desc := "(I[B[B)V" } : Jvm.MethodName)) ∈ lw_all := lw_g (lw_at lw_m3 45 rfl) rfl
theorem q605 : (Jvm.Cond.classLink "BranchMender" (13 : Nat) "BranchMender$Whole") ∈ lw_all := lw_g (lw_at lw_m3 60 rfl) rfl
theorem q607 : (Jvm.Cond.methodLink "BranchMender" (15 : Nat) ({ cls := "BranchMender$Whole", name := "<init>", desc := "(I[B[B)V" } : Jvm.MethodName)) ∈ lw_all := lw_g (lw_at lw_m3 62 rfl) rfl
theorem q662 : (Jvm.Cond.selects "BranchMender" ({ cls := "java/lang/Object", name := "getClass", desc := "()Ljava/lang/Class;" } : Jvm.MethodName) ({ cls := "java/lang/Object", name := "getClass", desc := "()Ljava/lang/Class;" } : Jvm.MethodName)) ∈ lw_all := lw_g (lw_at lw_m3 117 rfl) rfl
theorem q692 : (Jvm.Cond.methodLink "BranchMender" (149 : Nat) ({ cls := "BranchMender$Tree", name := "<init>", desc := "(LBranchMender$Node;)V" } : Jvm.MethodName)) ∈ lw_all := lw_g (lw_at lw_m3 147 rfl) rfl
theorem q708 : (Jvm.Cond.fieldLinkNest "BranchMender" (114 : Nat) "BranchMender$Tree" "root" "LBranchMender$Node;" "BranchMender") ∈ lw_tbl := lw_at lw_m3 163 rfl
theorem q711 : (Jvm.Cond.fieldLinkNest "BranchMender" (155 : Nat) "BranchMender$Tree" "ahead" "[LBranchMender$Node;" "BranchMender") ∈ lw_tbl := lw_at lw_m3 166 rfl
theorem q716 : (Jvm.Cond.fieldLinkNest "BranchMender" (304 : Nat) "BranchMender$Tree" "behind" "[LBranchMender$Node;" "BranchMender") ∈ lw_tbl := lw_at lw_m3 171 rfl
theorem q720 : (Jvm.Cond.fieldLinkNest "BranchMender" (152 : Nat) "BranchMender$Tree" "size" "I" "BranchMender") ∈ lw_tbl := lw_at lw_m3 175 rfl
theorem q735 : (Jvm.Cond.instanceMethod ({ cls := "BranchMender", name := "write", desc := "(I)I" } : Jvm.MethodName)) ∈ lw_all := lw_g (lw_at lw_m3 190 rfl) rfl
theorem q736 : (Jvm.Cond.selects "BranchMender" ({ cls := "BranchMender", name := "write", desc := "(I)I" } : Jvm.MethodName) ({ cls := "BranchMender", name := "write", desc := "(I)I" } : Jvm.MethodName)) ∈ lw_all := lw_g (lw_at lw_m3 191 rfl) rfl
theorem q737 : (Jvm.Cond.codeWith ({ cls := "BranchMender", name := "write", desc := "(I)I" } : Jvm.MethodName) prog_1_method_14_code (3 : Nat) (Option.some Jvm.ClassFile.FieldType.int) [((0 : Nat), (32 : Nat), (33 : Nat), (33 : Nat))]) ∈ lw_all := lw_g (lw_at lw_m3 192 rfl) rfl
theorem q738 : (Jvm.Cond.methodLink "BranchMender" (162 : Nat) ({ cls := "BranchMender", name := "tree", desc := "(I)LBranchMender$Tree;" } : Jvm.MethodName)) ∈ lw_all := lw_g (lw_at lw_m3 193 rfl) rfl
theorem q739 : (Jvm.Cond.privateMethod ({ cls := "BranchMender", name := "tree", desc := "(I)LBranchMender$Tree;" } : Jvm.MethodName)) ∈ lw_tbl := lw_at lw_m3 194 rfl
theorem q740 : (Jvm.Cond.instanceMethod ({ cls := "BranchMender", name := "tree", desc := "(I)LBranchMender$Tree;" } : Jvm.MethodName)) ∈ lw_all := lw_g (lw_at lw_m3 195 rfl) rfl
theorem q741 : (Jvm.Cond.codeWith ({ cls := "BranchMender", name := "tree", desc := "(I)LBranchMender$Tree;" } : Jvm.MethodName) prog_1_method_10_code (3 : Nat) (Option.some (Jvm.ClassFile.FieldType.object "BranchMender$Tree")) [((0 : Nat), (21 : Nat), (22 : Nat), (123 : Nat)), ((0 : Nat), (21 : Nat), (32 : Nat), (125 : Nat))]) ∈ lw_all := lw_g (lw_at lw_m3 196 rfl) rfl
theorem q742 : (Jvm.Cond.classLink "BranchMender" (123 : Nat) "java/lang/ArrayIndexOutOfBoundsException") ∈ lw_all := lw_g (lw_at lw_m3 197 rfl) rfl
theorem q774 : (Jvm.Cond.classLink "BranchMender" (125 : Nat) "java/lang/NullPointerException") ∈ lw_all := lw_g (lw_at lw_m3 229 rfl) rfl
theorem q793 : (Jvm.Cond.methodLink "BranchMender" (167 : Nat) ({ cls := "BranchMender$Pen", name := "node", desc := "(LBranchMender$Node;)V" } : Jvm.MethodName)) ∈ lw_all := lw_g (lw_at lw_m4 8 rfl) rfl
theorem q842 : (Jvm.Cond.instanceMethod ({ cls := "BranchMender", name := "letter", desc := "(I)I" } : Jvm.MethodName)) ∈ lw_all := lw_g (lw_at lw_m4 57 rfl) rfl
theorem q843 : (Jvm.Cond.selects "BranchMender" ({ cls := "BranchMender", name := "letter", desc := "(I)I" } : Jvm.MethodName) ({ cls := "BranchMender", name := "letter", desc := "(I)I" } : Jvm.MethodName)) ∈ lw_all := lw_g (lw_at lw_m4 58 rfl) rfl
theorem q844 : (Jvm.Cond.code ({ cls := "BranchMender", name := "letter", desc := "(I)I" } : Jvm.MethodName) prog_1_method_15_code (2 : Nat) (Option.some Jvm.ClassFile.FieldType.int)) ∈ lw_all := lw_g (lw_at lw_m4 59 rfl) rfl
theorem q846 : (Jvm.Cond.instanceMethod ({ cls := "BranchMender", name := "copy", desc := "(II)I" } : Jvm.MethodName)) ∈ lw_all := lw_g (lw_at lw_m4 61 rfl) rfl
theorem q847 : (Jvm.Cond.selects "BranchMender" ({ cls := "BranchMender", name := "copy", desc := "(II)I" } : Jvm.MethodName) ({ cls := "BranchMender", name := "copy", desc := "(II)I" } : Jvm.MethodName)) ∈ lw_all := lw_g (lw_at lw_m4 62 rfl) rfl
theorem q848 : (Jvm.Cond.codeWith ({ cls := "BranchMender", name := "copy", desc := "(II)I" } : Jvm.MethodName) prog_1_method_16_code (4 : Nat) (Option.some Jvm.ClassFile.FieldType.int) [((0 : Nat), (29 : Nat), (30 : Nat), (33 : Nat))]) ∈ lw_all := lw_g (lw_at lw_m4 63 rfl) rfl
theorem q849 : (Jvm.Cond.methodLink "BranchMender" (173 : Nat) ({ cls := "BranchMender$Tree", name := "copy", desc := "()LBranchMender$Tree;" } : Jvm.MethodName)) ∈ lw_all := lw_g (lw_at lw_m4 64 rfl) rfl
theorem q878 : (Jvm.Cond.instanceMethod ({ cls := "BranchMender", name := "clear", desc := "(I)I" } : Jvm.MethodName)) ∈ lw_all := lw_g (lw_at lw_m4 93 rfl) rfl
theorem q879 : (Jvm.Cond.selects "BranchMender" ({ cls := "BranchMender", name := "clear", desc := "(I)I" } : Jvm.MethodName) ({ cls := "BranchMender", name := "clear", desc := "(I)I" } : Jvm.MethodName)) ∈ lw_all := lw_g (lw_at lw_m4 94 rfl) rfl
theorem q880 : (Jvm.Cond.codeWith ({ cls := "BranchMender", name := "clear", desc := "(I)I" } : Jvm.MethodName) prog_1_method_17_code (3 : Nat) (Option.some Jvm.ClassFile.FieldType.int) [((0 : Nat), (32 : Nat), (33 : Nat), (33 : Nat))]) ∈ lw_all := lw_g (lw_at lw_m4 95 rfl) rfl
theorem q882 : (Jvm.Cond.instanceMethod ({ cls := "BranchMender", name := "node", desc := "(III)I" } : Jvm.MethodName)) ∈ lw_all := lw_g (lw_at lw_m4 97 rfl) rfl
theorem q883 : (Jvm.Cond.selects "BranchMender" ({ cls := "BranchMender", name := "node", desc := "(III)I" } : Jvm.MethodName) ({ cls := "BranchMender", name := "node", desc := "(III)I" } : Jvm.MethodName)) ∈ lw_all := lw_g (lw_at lw_m4 98 rfl) rfl
theorem q884 : (Jvm.Cond.codeWith ({ cls := "BranchMender", name := "node", desc := "(III)I" } : Jvm.MethodName) prog_1_method_18_code (6 : Nat) (Option.some Jvm.ClassFile.FieldType.int) [((0 : Nat), (97 : Nat), (184 : Nat), (33 : Nat)), ((98 : Nat), (103 : Nat), (184 : Nat), (33 : Nat)), ((104 : Nat), (112 : Nat), (184 : Nat), (33 : Nat)), ((113 : Nat), (118 : Nat), (184 : Nat), (33 : Nat)), ((119 : Nat), (140 : Nat), (184 : Nat), (33 : Nat)), ((141 : Nat), (154 : Nat), (184 : Nat), (33 : Nat)), ((155 : Nat), (160 : Nat), (184 : Nat), (33 : Nat)), ((161 : Nat), (167 : Nat), (184 : Nat), (33 : Nat)), ((168 : Nat), (174 : Nat), (184 : Nat), (33 : Nat)), ((175 : Nat), (184 : Nat), (184 : Nat), (33 : Nat))]) ∈ lw_all := lw_g (lw_at lw_m4 99 rfl) rfl
theorem q885 : (Jvm.Cond.methodLink "BranchMender" (177 : Nat) ({ cls := "BranchMender$Node", name := "kind", desc := "()I" } : Jvm.MethodName)) ∈ lw_all := lw_g (lw_at lw_m4 100 rfl) rfl
theorem q886 : (Jvm.Cond.methodLink "BranchMender" (185 : Nat) ({ cls := "java/util/ArrayList", name := "size", desc := "()I" } : Jvm.MethodName)) ∈ lw_all := lw_g (lw_at lw_m4 101 rfl) rfl
theorem q888 : (Jvm.Cond.instanceMethod ({ cls := "BranchMender", name := "size", desc := "(I)I" } : Jvm.MethodName)) ∈ lw_all := lw_g (lw_at lw_m4 103 rfl) rfl
theorem q889 : (Jvm.Cond.selects "BranchMender" ({ cls := "BranchMender", name := "size", desc := "(I)I" } : Jvm.MethodName) ({ cls := "BranchMender", name := "size", desc := "(I)I" } : Jvm.MethodName)) ∈ lw_all := lw_g (lw_at lw_m4 104 rfl) rfl
theorem q890 : (Jvm.Cond.codeWith ({ cls := "BranchMender", name := "size", desc := "(I)I" } : Jvm.MethodName) prog_1_method_19_code (3 : Nat) (Option.some Jvm.ClassFile.FieldType.int) [((0 : Nat), (8 : Nat), (9 : Nat), (33 : Nat))]) ∈ lw_all := lw_g (lw_at lw_m4 105 rfl) rfl
theorem q892 : (Jvm.Cond.instanceMethod ({ cls := "BranchMender", name := "relabel", desc := "(II)I" } : Jvm.MethodName)) ∈ lw_all := lw_g (lw_at lw_m4 107 rfl) rfl
theorem q893 : (Jvm.Cond.selects "BranchMender" ({ cls := "BranchMender", name := "relabel", desc := "(II)I" } : Jvm.MethodName) ({ cls := "BranchMender", name := "relabel", desc := "(II)I" } : Jvm.MethodName)) ∈ lw_all := lw_g (lw_at lw_m4 108 rfl) rfl
theorem q894 : (Jvm.Cond.codeWith ({ cls := "BranchMender", name := "relabel", desc := "(II)I" } : Jvm.MethodName) prog_1_method_23_code (8 : Nat) (Option.some Jvm.ClassFile.FieldType.int) [((0 : Nat), (94 : Nat), (95 : Nat), (33 : Nat))]) ∈ lw_all := lw_g (lw_at lw_m4 109 rfl) rfl
theorem q895 : (Jvm.Cond.methodLink "BranchMender" (214 : Nat) ({ cls := "BranchMender", name := "node", desc := "(LBranchMender$Tree;I)LBranchMender$Node;" } : Jvm.MethodName)) ∈ lw_all := lw_g (lw_at lw_m4 110 rfl) rfl
theorem q896 : (Jvm.Cond.privateMethod ({ cls := "BranchMender", name := "node", desc := "(LBranchMender$Tree;I)LBranchMender$Node;" } : Jvm.MethodName)) ∈ lw_tbl := lw_at lw_m4 111 rfl
theorem q897 : (Jvm.Cond.instanceMethod ({ cls := "BranchMender", name := "node", desc := "(LBranchMender$Tree;I)LBranchMender$Node;" } : Jvm.MethodName)) ∈ lw_all := lw_g (lw_at lw_m4 112 rfl) rfl
theorem q898 : (Jvm.Cond.code ({ cls := "BranchMender", name := "node", desc := "(LBranchMender$Tree;I)LBranchMender$Node;" } : Jvm.MethodName) prog_1_method_11_code (4 : Nat) (Option.some (Jvm.ClassFile.FieldType.object "BranchMender$Node"))) ∈ lw_all := lw_g (lw_at lw_m4 113 rfl) rfl
theorem q899 : (Jvm.Cond.methodLink "BranchMender" (127 : Nat) ({ cls := "BranchMender$Tree", name := "find", desc := "(I)LBranchMender$Node;" } : Jvm.MethodName)) ∈ lw_all := lw_g (lw_at lw_m4 114 rfl) rfl
theorem q903 : (Jvm.Cond.methodLink "BranchMender" (217 : Nat) ({ cls := "BranchMender", name := "taken", desc := "()[B" } : Jvm.MethodName)) ∈ lw_all := lw_g (lw_at lw_m4 118 rfl) rfl
theorem q904 : (Jvm.Cond.privateMethod ({ cls := "BranchMender", name := "taken", desc := "()[B" } : Jvm.MethodName)) ∈ lw_tbl := lw_at lw_m4 119 rfl
theorem q905 : (Jvm.Cond.instanceMethod ({ cls := "BranchMender", name := "taken", desc := "()[B" } : Jvm.MethodName)) ∈ lw_all := lw_g (lw_at lw_m4 120 rfl) rfl
theorem q906 : (Jvm.Cond.code ({ cls := "BranchMender", name := "taken", desc := "()[B" } : Jvm.MethodName) prog_1_method_20_code (2 : Nat) (Option.some (Jvm.ClassFile.FieldType.array Jvm.ClassFile.FieldType.byte))) ∈ lw_all := lw_g (lw_at lw_m4 121 rfl) rfl
theorem q907 : (Jvm.Cond.methodLink "BranchMender" (207 : Nat) ({ cls := "BranchMender", name := "part", desc := "([BII)[B" } : Jvm.MethodName)) ∈ lw_all := lw_g (lw_at lw_m4 122 rfl) rfl
theorem q908 : (Jvm.Cond.methodLink "BranchMender" (221 : Nat) ({ cls := "BranchMender", name := "isLabel", desc := "([B)Z" } : Jvm.MethodName)) ∈ lw_all := lw_g (lw_at lw_m4 123 rfl) rfl
theorem q909 : (Jvm.Cond.static ({ cls := "BranchMender", name := "isLabel", desc := "([B)Z" } : Jvm.MethodName)) ∈ lw_all := lw_g (lw_at lw_m4 124 rfl) rfl
theorem q910 : (Jvm.Cond.code ({ cls := "BranchMender", name := "isLabel", desc := "([B)Z" } : Jvm.MethodName) prog_1_method_21_code (3 : Nat) (Option.some Jvm.ClassFile.FieldType.boolean)) ∈ lw_all := lw_g (lw_at lw_m4 125 rfl) rfl
theorem q911 : (Jvm.Cond.methodLink "BranchMender" (225 : Nat) ({ cls := "BranchMender$Node", name := "clashes", desc := "()Z" } : Jvm.MethodName)) ∈ lw_all := lw_g (lw_at lw_m4 126 rfl) rfl
theorem q929 : (Jvm.Cond.instanceMethod ({ cls := "BranchMender", name := "retext", desc := "(II)I" } : Jvm.MethodName)) ∈ lw_all := lw_g (lw_at lw_m4 144 rfl) rfl
theorem q930 : (Jvm.Cond.selects "BranchMender" ({ cls := "BranchMender", name := "retext", desc := "(II)I" } : Jvm.MethodName) ({ cls := "BranchMender", name := "retext", desc := "(II)I" } : Jvm.MethodName)) ∈ lw_all := lw_g (lw_at lw_m4 145 rfl) rfl
theorem q931 : (Jvm.Cond.codeWith ({ cls := "BranchMender", name := "retext", desc := "(II)I" } : Jvm.MethodName) prog_1_method_24_code (6 : Nat) (Option.some Jvm.ClassFile.FieldType.int) [((0 : Nat), (41 : Nat), (42 : Nat), (33 : Nat))]) ∈ lw_all := lw_g (lw_at lw_m4 146 rfl) rfl
theorem q932 : (Jvm.Cond.methodLink "BranchMender" (229 : Nat) ({ cls := "BranchMender", name := "isText", desc := "([B)Z" } : Jvm.MethodName)) ∈ lw_all := lw_g (lw_at lw_m4 147 rfl) rfl
theorem q933 : (Jvm.Cond.static ({ cls := "BranchMender", name := "isText", desc := "([B)Z" } : Jvm.MethodName)) ∈ lw_all := lw_g (lw_at lw_m4 148 rfl) rfl
theorem q934 : (Jvm.Cond.code ({ cls := "BranchMender", name := "isText", desc := "([B)Z" } : Jvm.MethodName) prog_1_method_22_code (3 : Nat) (Option.some Jvm.ClassFile.FieldType.boolean)) ∈ lw_all := lw_g (lw_at lw_m4 149 rfl) rfl
theorem q935 : (Jvm.Cond.methodLink "BranchMender" (211 : Nat) ({ cls := "BranchMender", name := "isSign", desc := "(I)Z" } : Jvm.MethodName)) ∈ lw_all := lw_g (lw_at lw_m4 150 rfl) rfl
theorem q937 : (Jvm.Cond.instanceMethod ({ cls := "BranchMender", name := "put", desc := "(IIIII)I" } : Jvm.MethodName)) ∈ lw_all := lw_g (lw_at lw_m4 152 rfl) rfl
theorem q938 : (Jvm.Cond.selects "BranchMender" ({ cls := "BranchMender", name := "put", desc := "(IIIII)I" } : Jvm.MethodName) ({ cls := "BranchMender", name := "put", desc := "(IIIII)I" } : Jvm.MethodName)) ∈ lw_all := lw_g (lw_at lw_m4 153 rfl) rfl
theorem q939 : (Jvm.Cond.codeWith ({ cls := "BranchMender", name := "put", desc := "(IIIII)I" } : Jvm.MethodName) prog_1_method_25_code (13 : Nat) (Option.some Jvm.ClassFile.FieldType.int) [((0 : Nat), (229 : Nat), (230 : Nat), (33 : Nat))]) ∈ lw_all := lw_g (lw_at lw_m4 154 rfl) rfl
theorem q940 : (Jvm.Cond.methodLink "BranchMender" (232 : Nat) ({ cls := "BranchMender$Node", name := "bears", desc := "()Z" } : Jvm.MethodName)) ∈ lw_all := lw_g (lw_at lw_m4 155 rfl) rfl
theorem q950 : (Jvm.Cond.fieldLink "BranchMender" (235 : Nat) "BranchMender" "EMPTY" "[B") ∈ lw_all := lw_g (lw_at lw_m4 165 rfl) rfl
theorem q951 : (Jvm.Cond.methodLink "BranchMender" (238 : Nat) ({ cls := "BranchMender", name := "made", desc := "(II[B[B)LBranchMender$Node;" } : Jvm.MethodName)) ∈ lw_all := lw_g (lw_at lw_m4 166 rfl) rfl
theorem q952 : (Jvm.Cond.methodLink "BranchMender" (242 : Nat) ({ cls := "java/util/ArrayList", name := "remove", desc := "(I)Ljava/lang/Object;" } : Jvm.MethodName)) ∈ lw_all := lw_g (lw_at lw_m4 167 rfl) rfl
theorem q961 : (Jvm.Cond.classLink "BranchMender" (119 : Nat) "BranchMender$Node") ∈ lw_all := lw_g (lw_at lw_m4 176 rfl) rfl
theorem q962 : (Jvm.Cond.methodLink "BranchMender" (246 : Nat) ({ cls := "BranchMender$Node", name := "add", desc := "(LBranchMender$Node;)V" } : Jvm.MethodName)) ∈ lw_all := lw_g (lw_at lw_m4 177 rfl) rfl
theorem q963 : (Jvm.Cond.methodLink "BranchMender" (249 : Nat) ({ cls := "BranchMender$Node", name := "add", desc := "(ILBranchMender$Node;)V" } : Jvm.MethodName)) ∈ lw_all := lw_g (lw_at lw_m4 178 rfl) rfl
theorem q979 : (Jvm.Cond.methodLink "BranchMender" (252 : Nat) ({ cls := "BranchMender$Tree", name := "number", desc := "()Z" } : Jvm.MethodName)) ∈ lw_all := lw_g (lw_at lw_m4 194 rfl) rfl
theorem q981 : (Jvm.Cond.instanceMethod ({ cls := "BranchMender", name := "take", desc := "(II)I" } : Jvm.MethodName)) ∈ lw_all := lw_g (lw_at lw_m4 196 rfl) rfl
theorem q982 : (Jvm.Cond.selects "BranchMender" ({ cls := "BranchMender", name := "take", desc := "(II)I" } : Jvm.MethodName) ({ cls := "BranchMender", name := "take", desc := "(II)I" } : Jvm.MethodName)) ∈ lw_all := lw_g (lw_at lw_m4 197 rfl) rfl
theorem q983 : (Jvm.Cond.codeWith ({ cls := "BranchMender", name := "take", desc := "(II)I" } : Jvm.MethodName) prog_1_method_26_code (10 : Nat) (Option.some Jvm.ClassFile.FieldType.int) [((0 : Nat), (158 : Nat), (159 : Nat), (33 : Nat))]) ∈ lw_all := lw_g (lw_at lw_m4 198 rfl) rfl
theorem q984 : (Jvm.Cond.methodLink "BranchMender" (255 : Nat) ({ cls := "java/util/ArrayList", name := "indexOf", desc := "(Ljava/lang/Object;)I" } : Jvm.MethodName)) ∈ lw_all := lw_g (lw_at lw_m4 199 rfl) rfl
theorem q996 : (Jvm.Cond.selects "BranchMender" ({ cls := "java/lang/Object", name := "equals", desc := "(Ljava/lang/Object;)Z" } : Jvm.MethodName) ({ cls := "java/lang/Object", name := "equals", desc := "(Ljava/lang/Object;)Z" } : Jvm.MethodName)) ∈ lw_all := lw_g (lw_at lw_m4 211 rfl) rfl
theorem q1020 : (Jvm.Cond.methodLink "BranchMender" (259 : Nat) ({ cls := "java/util/ArrayList", name := "get", desc := "(I)Ljava/lang/Object;" } : Jvm.MethodName)) ∈ lw_all := lw_g (lw_at lw_m4 235 rfl) rfl
theorem q1022 : (Jvm.Cond.instanceMethod ({ cls := "BranchMender", name := "move", desc := "(IIII)I" } : Jvm.MethodName)) ∈ lw_all := lw_g (lw_at lw_m4 237 rfl) rfl
theorem q1023 : (Jvm.Cond.selects "BranchMender" ({ cls := "BranchMender", name := "move", desc := "(IIII)I" } : Jvm.MethodName) ({ cls := "BranchMender", name := "move", desc := "(IIII)I" } : Jvm.MethodName)) ∈ lw_all := lw_g (lw_at lw_m4 238 rfl) rfl
theorem q1024 : (Jvm.Cond.codeWith ({ cls := "BranchMender", name := "move", desc := "(IIII)I" } : Jvm.MethodName) prog_1_method_27_code (11 : Nat) (Option.some Jvm.ClassFile.FieldType.int) [((0 : Nat), (219 : Nat), (220 : Nat), (33 : Nat))]) ∈ lw_all := lw_g (lw_at lw_m4 239 rfl) rfl
theorem q1025 : (Jvm.Cond.methodLink "BranchMender" (262 : Nat) ({ cls := "java/util/ArrayList", name := "remove", desc := "(Ljava/lang/Object;)Z" } : Jvm.MethodName)) ∈ lw_all := lw_g (lw_at lw_m5 0 rfl) rfl
theorem q1030 : (Jvm.Cond.instanceMethod ({ cls := "BranchMender", name := "price", desc := "(II)I" } : Jvm.MethodName)) ∈ lw_all := lw_g (lw_at lw_m5 5 rfl) rfl
theorem q1031 : (Jvm.Cond.selects "BranchMender" ({ cls := "BranchMender", name := "price", desc := "(II)I" } : Jvm.MethodName) ({ cls := "BranchMender", name := "price", desc := "(II)I" } : Jvm.MethodName)) ∈ lw_all := lw_g (lw_at lw_m5 6 rfl) rfl
theorem q1032 : (Jvm.Cond.codeWith ({ cls := "BranchMender", name := "price", desc := "(II)I" } : Jvm.MethodName) prog_1_method_28_code (4 : Nat) (Option.some Jvm.ClassFile.FieldType.int) [((0 : Nat), (51 : Nat), (52 : Nat), (33 : Nat))]) ∈ lw_all := lw_g (lw_at lw_m5 7 rfl) rfl
theorem q1034 : (Jvm.Cond.instanceMethod ({ cls := "BranchMender", name := "distance", desc := "(II)I" } : Jvm.MethodName)) ∈ lw_all := lw_g (lw_at lw_m5 9 rfl) rfl
theorem q1035 : (Jvm.Cond.selects "BranchMender" ({ cls := "BranchMender", name := "distance", desc := "(II)I" } : Jvm.MethodName) ({ cls := "BranchMender", name := "distance", desc := "(II)I" } : Jvm.MethodName)) ∈ lw_all := lw_g (lw_at lw_m5 10 rfl) rfl
theorem q1036 : (Jvm.Cond.codeWith ({ cls := "BranchMender", name := "distance", desc := "(II)I" } : Jvm.MethodName) prog_1_method_29_code (4 : Nat) (Option.some Jvm.ClassFile.FieldType.int) [((0 : Nat), (19 : Nat), (20 : Nat), (33 : Nat))]) ∈ lw_all := lw_g (lw_at lw_m5 11 rfl) rfl
theorem q1037 : (Jvm.Cond.methodLink "BranchMender" (268 : Nat) ({ cls := "BranchMender$Mapper", name := "distance", desc := "(LBranchMender$Tree;LBranchMender$Tree;)I" } : Jvm.MethodName)) ∈ lw_all := lw_g (lw_at lw_m5 12 rfl) rfl
theorem q1070 : (Jvm.Cond.instanceMethod ({ cls := "BranchMender", name := "map", desc := "(II)I" } : Jvm.MethodName)) ∈ lw_all := lw_g (lw_at lw_m5 45 rfl) rfl
theorem q1071 : (Jvm.Cond.selects "BranchMender" ({ cls := "BranchMender", name := "map", desc := "(II)I" } : Jvm.MethodName) ({ cls := "BranchMender", name := "map", desc := "(II)I" } : Jvm.MethodName)) ∈ lw_all := lw_g (lw_at lw_m5 46 rfl) rfl
theorem q1072 : (Jvm.Cond.codeWith ({ cls := "BranchMender", name := "map", desc := "(II)I" } : Jvm.MethodName) prog_1_method_31_code (8 : Nat) (Option.some Jvm.ClassFile.FieldType.int) [((0 : Nat), (296 : Nat), (297 : Nat), (33 : Nat))]) ∈ lw_all := lw_g (lw_at lw_m5 47 rfl) rfl
theorem q1073 : (Jvm.Cond.methodLink "BranchMender" (275 : Nat) ({ cls := "BranchMender$Mapper", name := "map", desc := "(LBranchMender$Tree;LBranchMender$Tree;)V" } : Jvm.MethodName)) ∈ lw_all := lw_g (lw_at lw_m5 48 rfl) rfl
theorem q1082 : (Jvm.Cond.methodLink "BranchMender" (292 : Nat) ({ cls := "BranchMender", name := "does", desc := "(II)V" } : Jvm.MethodName)) ∈ lw_all := lw_g (lw_at lw_m5 57 rfl) rfl
theorem q1083 : (Jvm.Cond.privateMethod ({ cls := "BranchMender", name := "does", desc := "(II)V" } : Jvm.MethodName)) ∈ lw_tbl := lw_at lw_m5 58 rfl
theorem q1084 : (Jvm.Cond.instanceMethod ({ cls := "BranchMender", name := "does", desc := "(II)V" } : Jvm.MethodName)) ∈ lw_all := lw_g (lw_at lw_m5 59 rfl) rfl
theorem q1085 : (Jvm.Cond.code ({ cls := "BranchMender", name := "does", desc := "(II)V" } : Jvm.MethodName) prog_1_method_30_code (3 : Nat) (Option.none : Option Jvm.ClassFile.FieldType)) ∈ lw_all := lw_g (lw_at lw_m5 60 rfl) rfl
theorem q1086 : (Jvm.Cond.methodLink "BranchMender" (296 : Nat) ({ cls := "BranchMender", name := "isSame", desc := "([B[B)Z" } : Jvm.MethodName)) ∈ lw_all := lw_g (lw_at lw_m5 61 rfl) rfl
theorem q1088 : (Jvm.Cond.instanceMethod ({ cls := "BranchMender", name := "pair", desc := "(II)I" } : Jvm.MethodName)) ∈ lw_all := lw_g (lw_at lw_m5 63 rfl) rfl
theorem q1089 : (Jvm.Cond.selects "BranchMender" ({ cls := "BranchMender", name := "pair", desc := "(II)I" } : Jvm.MethodName) ({ cls := "BranchMender", name := "pair", desc := "(II)I" } : Jvm.MethodName)) ∈ lw_all := lw_g (lw_at lw_m5 64 rfl) rfl
theorem q1090 : (Jvm.Cond.codeWith ({ cls := "BranchMender", name := "pair", desc := "(II)I" } : Jvm.MethodName) prog_1_method_32_code (4 : Nat) (Option.some Jvm.ClassFile.FieldType.int) [((0 : Nat), (61 : Nat), (62 : Nat), (33 : Nat))]) ∈ lw_all := lw_g (lw_at lw_m5 65 rfl) rfl
theorem q1092 : (Jvm.Cond.instanceMethod ({ cls := "BranchMender", name := "acts", desc := "()I" } : Jvm.MethodName)) ∈ lw_all := lw_g (lw_at lw_m5 67 rfl) rfl
theorem q1093 : (Jvm.Cond.selects "BranchMender" ({ cls := "BranchMender", name := "acts", desc := "()I" } : Jvm.MethodName) ({ cls := "BranchMender", name := "acts", desc := "()I" } : Jvm.MethodName)) ∈ lw_all := lw_g (lw_at lw_m5 68 rfl) rfl
theorem q1094 : (Jvm.Cond.code ({ cls := "BranchMender", name := "acts", desc := "()I" } : Jvm.MethodName) prog_1_method_33_code (1 : Nat) (Option.some Jvm.ClassFile.FieldType.int)) ∈ lw_all := lw_g (lw_at lw_m5 69 rfl) rfl
theorem q1096 : (Jvm.Cond.instanceMethod ({ cls := "BranchMender", name := "act", desc := "(II)I" } : Jvm.MethodName)) ∈ lw_all := lw_g (lw_at lw_m5 71 rfl) rfl
theorem q1097 : (Jvm.Cond.selects "BranchMender" ({ cls := "BranchMender", name := "act", desc := "(II)I" } : Jvm.MethodName) ({ cls := "BranchMender", name := "act", desc := "(II)I" } : Jvm.MethodName)) ∈ lw_all := lw_g (lw_at lw_m5 72 rfl) rfl
theorem q1098 : (Jvm.Cond.codeWith ({ cls := "BranchMender", name := "act", desc := "(II)I" } : Jvm.MethodName) prog_1_method_34_code (4 : Nat) (Option.some Jvm.ClassFile.FieldType.int) [((0 : Nat), (75 : Nat), (76 : Nat), (33 : Nat))]) ∈ lw_all := lw_g (lw_at lw_m5 73 rfl) rfl
theorem q1100 : (Jvm.Cond.instanceMethod ({ cls := "BranchMender", name := "like", desc := "()I" } : Jvm.MethodName)) ∈ lw_all := lw_g (lw_at lw_m5 75 rfl) rfl
theorem q1101 : (Jvm.Cond.selects "BranchMender" ({ cls := "BranchMender", name := "like", desc := "()I" } : Jvm.MethodName) ({ cls := "BranchMender", name := "like", desc := "()I" } : Jvm.MethodName)) ∈ lw_all := lw_g (lw_at lw_m5 76 rfl) rfl
theorem q1102 : (Jvm.Cond.codeWith ({ cls := "BranchMender", name := "like", desc := "()I" } : Jvm.MethodName) prog_1_method_35_code (2 : Nat) (Option.some Jvm.ClassFile.FieldType.int) [((0 : Nat), (23 : Nat), (24 : Nat), (33 : Nat))]) ∈ lw_all := lw_g (lw_at lw_m5 77 rfl) rfl
theorem q1104 : (Jvm.Cond.instanceMethod ({ cls := "BranchMender", name := "same", desc := "(II)I" } : Jvm.MethodName)) ∈ lw_all := lw_g (lw_at lw_m5 79 rfl) rfl
theorem q1105 : (Jvm.Cond.selects "BranchMender" ({ cls := "BranchMender", name := "same", desc := "(II)I" } : Jvm.MethodName) ({ cls := "BranchMender", name := "same", desc := "(II)I" } : Jvm.MethodName)) ∈ lw_all := lw_g (lw_at lw_m5 80 rfl) rfl
theorem q1106 : (Jvm.Cond.codeWith ({ cls := "BranchMender", name := "same", desc := "(II)I" } : Jvm.MethodName) prog_1_method_36_code (6 : Nat) (Option.some Jvm.ClassFile.FieldType.int) [((0 : Nat), (64 : Nat), (65 : Nat), (33 : Nat))]) ∈ lw_all := lw_g (lw_at lw_m5 81 rfl) rfl
theorem q1107 : (Jvm.Cond.methodLink "BranchMender" (308 : Nat) ({ cls := "BranchMender$Kinds", name := "clear", desc := "()V" } : Jvm.MethodName)) ∈ lw_all := lw_g (lw_at lw_m5 82 rfl) rfl
theorem q1111 : (Jvm.Cond.methodLink "BranchMender" (311 : Nat) ({ cls := "BranchMender$Kinds", name := "number", desc := "(LBranchMender$Tree;)V" } : Jvm.MethodName)) ∈ lw_all := lw_g (lw_at lw_m5 86 rfl) rfl
theorem q1140 : (Jvm.Cond.instanceMethod ({ cls := "BranchMender", name := "unlike", desc := "(I)I" } : Jvm.MethodName)) ∈ lw_all := lw_g (lw_at lw_m5 115 rfl) rfl
theorem q1141 : (Jvm.Cond.selects "BranchMender" ({ cls := "BranchMender", name := "unlike", desc := "(I)I" } : Jvm.MethodName) ({ cls := "BranchMender", name := "unlike", desc := "(I)I" } : Jvm.MethodName)) ∈ lw_all := lw_g (lw_at lw_m5 116 rfl) rfl
theorem q1142 : (Jvm.Cond.codeWith ({ cls := "BranchMender", name := "unlike", desc := "(I)I" } : Jvm.MethodName) prog_1_method_37_code (3 : Nat) (Option.some Jvm.ClassFile.FieldType.int) [((0 : Nat), (28 : Nat), (29 : Nat), (33 : Nat))]) ∈ lw_all := lw_g (lw_at lw_m5 117 rfl) rfl
theorem q1144 : (Jvm.Cond.instanceMethod ({ cls := "BranchMender", name := "shared", desc := "(II)I" } : Jvm.MethodName)) ∈ lw_all := lw_g (lw_at lw_m5 119 rfl) rfl
theorem q1145 : (Jvm.Cond.selects "BranchMender" ({ cls := "BranchMender", name := "shared", desc := "(II)I" } : Jvm.MethodName) ({ cls := "BranchMender", name := "shared", desc := "(II)I" } : Jvm.MethodName)) ∈ lw_all := lw_g (lw_at lw_m5 120 rfl) rfl
theorem q1146 : (Jvm.Cond.codeWith ({ cls := "BranchMender", name := "shared", desc := "(II)I" } : Jvm.MethodName) prog_1_method_38_code (8 : Nat) (Option.some Jvm.ClassFile.FieldType.int) [((0 : Nat), (94 : Nat), (95 : Nat), (33 : Nat))]) ∈ lw_all := lw_g (lw_at lw_m5 121 rfl) rfl
theorem q1148 : (Jvm.Cond.instanceMethod ({ cls := "BranchMender", name := "merge", desc := "(IIII)I" } : Jvm.MethodName)) ∈ lw_all := lw_g (lw_at lw_m5 123 rfl) rfl
theorem q1149 : (Jvm.Cond.selects "BranchMender" ({ cls := "BranchMender", name := "merge", desc := "(IIII)I" } : Jvm.MethodName) ({ cls := "BranchMender", name := "merge", desc := "(IIII)I" } : Jvm.MethodName)) ∈ lw_all := lw_g (lw_at lw_m5 124 rfl) rfl
theorem q1150 : (Jvm.Cond.codeWith ({ cls := "BranchMender", name := "merge", desc := "(IIII)I" } : Jvm.MethodName) prog_1_method_39_code (9 : Nat) (Option.some Jvm.ClassFile.FieldType.int) [((0 : Nat), (85 : Nat), (86 : Nat), (33 : Nat))]) ∈ lw_all := lw_g (lw_at lw_m5 125 rfl) rfl
theorem q1151 : (Jvm.Cond.methodLink "BranchMender" (320 : Nat) ({ cls := "BranchMender$Merger", name := "merge", desc := "(LBranchMender$Tree;LBranchMender$Tree;LBranchMender$Tree;)LBranchMender$Tree;" } : Jvm.MethodName)) ∈ lw_all := lw_g (lw_at lw_m5 126 rfl) rfl
theorem q1239 : (Jvm.Cond.instanceMethod ({ cls := "BranchMender", name := "merged", desc := "()I" } : Jvm.MethodName)) ∈ lw_all := lw_g (lw_at lw_m5 214 rfl) rfl
theorem q1240 : (Jvm.Cond.selects "BranchMender" ({ cls := "BranchMender", name := "merged", desc := "()I" } : Jvm.MethodName) ({ cls := "BranchMender", name := "merged", desc := "()I" } : Jvm.MethodName)) ∈ lw_all := lw_g (lw_at lw_m5 215 rfl) rfl
theorem q1241 : (Jvm.Cond.code ({ cls := "BranchMender", name := "merged", desc := "()I" } : Jvm.MethodName) prog_1_method_40_code (1 : Nat) (Option.some Jvm.ClassFile.FieldType.int)) ∈ lw_all := lw_g (lw_at lw_m5 216 rfl) rfl
theorem q1243 : (Jvm.Cond.instanceMethod ({ cls := "BranchMender", name := "clash", desc := "(II)I" } : Jvm.MethodName)) ∈ lw_all := lw_g (lw_at lw_m5 218 rfl) rfl
theorem q1244 : (Jvm.Cond.selects "BranchMender" ({ cls := "BranchMender", name := "clash", desc := "(II)I" } : Jvm.MethodName) ({ cls := "BranchMender", name := "clash", desc := "(II)I" } : Jvm.MethodName)) ∈ lw_all := lw_g (lw_at lw_m5 219 rfl) rfl
theorem q1245 : (Jvm.Cond.codeWith ({ cls := "BranchMender", name := "clash", desc := "(II)I" } : Jvm.MethodName) prog_1_method_41_code (4 : Nat) (Option.some Jvm.ClassFile.FieldType.int) [((0 : Nat), (70 : Nat), (71 : Nat), (33 : Nat))]) ∈ lw_all := lw_g (lw_at lw_m5 220 rfl) rfl
theorem q1247 : (Jvm.Cond.instanceMethod ({ cls := "BranchMender", name := "found", desc := "(I)I" } : Jvm.MethodName)) ∈ lw_all := lw_g (lw_at lw_m5 222 rfl) rfl
theorem q1248 : (Jvm.Cond.selects "BranchMender" ({ cls := "BranchMender", name := "found", desc := "(I)I" } : Jvm.MethodName) ({ cls := "BranchMender", name := "found", desc := "(I)I" } : Jvm.MethodName)) ∈ lw_all := lw_g (lw_at lw_m5 223 rfl) rfl
theorem q1249 : (Jvm.Cond.codeWith ({ cls := "BranchMender", name := "found", desc := "(I)I" } : Jvm.MethodName) prog_1_method_42_code (3 : Nat) (Option.some Jvm.ClassFile.FieldType.int) [((0 : Nat), (34 : Nat), (35 : Nat), (33 : Nat))]) ∈ lw_all := lw_g (lw_at lw_m5 224 rfl) rfl
theorem q1644 : (Jvm.Cond.castable "BranchMender" "java/lang/Object") ∈ lw_tbl := lw_at lw_m7 139 rfl
theorem in_X0 : ∀ w ∈ wsX00, w ∈ lw_all := lw_in wsX00 [364, 366, 368, 370, 372, 374, 376, 378, 380, 382, 384, 386, 388, 390, 392, 394, 396, 398, 400, 402, 404] (by decide +kernel) (by decide +kernel)

theorem q70 : (Jvm.Cond.initialized "BranchMender$Finding") ∈ lw_all := lw_g (lw_at lw_m1 5 rfl) rfl
theorem q108 : (Jvm.Cond.instantiable "BranchMender$Finding" (7 : Nat)) ∈ lw_all := lw_g (lw_at lw_m1 43 rfl) rfl
theorem q109 : (Jvm.Cond.castable "BranchMender$Finding" "BranchMender$Finding") ∈ lw_tbl := lw_at lw_m1 44 rfl
theorem q116 : (Jvm.Cond.selects "BranchMender$Finding" ({ cls := "java/lang/Throwable", name := "fillInStackTrace", desc := "(I)Ljava/lang/Throwable;" } : Jvm.MethodName) ({ cls := "java/lang/Throwable", name := "fillInStackTrace", desc := "(I)Ljava/lang/Throwable;" } : Jvm.MethodName)) ∈ lw_all := lw_g (lw_at lw_m1 51 rfl) rfl
theorem q117 : (Jvm.Cond.selects "BranchMender$Finding" ({ cls := "java/lang/Throwable", name := "fillInStackTrace", desc := "()Ljava/lang/Throwable;" } : Jvm.MethodName) ({ cls := "java/lang/Throwable", name := "fillInStackTrace", desc := "()Ljava/lang/Throwable;" } : Jvm.MethodName)) ∈ lw_all := lw_g (lw_at lw_m1 52 rfl) rfl
theorem q118 : (Jvm.Cond.lays "BranchMender$Finding" "java/lang/Throwable" "cause" "Ljava/lang/Throwable;") ∈ lw_all := lw_g (lw_at lw_m1 53 rfl) rfl
theorem q120 : (Jvm.Cond.lays "BranchMender$Finding" "java/lang/Throwable" "stackTrace" "[Ljava/lang/StackTraceElement;") ∈ lw_all := lw_g (lw_at lw_m1 55 rfl) rfl
theorem q122 : (Jvm.Cond.lays "BranchMender$Finding" "java/lang/Throwable" "suppressedExceptions" "Ljava/util/List;") ∈ lw_all := lw_g (lw_at lw_m1 57 rfl) rfl
theorem q124 : (Jvm.Cond.lays "BranchMender$Finding" "java/lang/Throwable" "detailMessage" "Ljava/lang/String;") ∈ lw_all := lw_g (lw_at lw_m1 59 rfl) rfl
theorem q126 : (Jvm.Cond.lays "BranchMender$Finding" "java/lang/Throwable" "backtrace" "Ljava/lang/Object;") ∈ lw_all := lw_g (lw_at lw_m1 61 rfl) rfl
theorem q162 : (Jvm.Cond.instanceMethod ({ cls := "BranchMender$Finding", name := "<init>", desc := "()V" } : Jvm.MethodName)) ∈ lw_all := lw_g (lw_at lw_m1 97 rfl) rfl
theorem q163 : (Jvm.Cond.code ({ cls := "BranchMender$Finding", name := "<init>", desc := "()V" } : Jvm.MethodName) prog_4_method_1_code (1 : Nat) (Option.none : Option Jvm.ClassFile.FieldType)) ∈ lw_all := lw_g (lw_at lw_m1 98 rfl) rfl
theorem q164 : (Jvm.Cond.methodLink "BranchMender$Finding" (1 : Nat) ({ cls := "java/lang/RuntimeException", name := "<init>", desc := "()V" } : Jvm.MethodName)) ∈ lw_all := lw_g (lw_at lw_m1 99 rfl) rfl
theorem q171 : (Jvm.Cond.fieldLink "BranchMender$Finding" (7 : Nat) "BranchMender$Finding" "code" "I") ∈ lw_all := lw_g (lw_at lw_m1 106 rfl) rfl
theorem q178 : (Jvm.Cond.lays "BranchMender$Finding" "BranchMender$Finding" "code" "I") ∈ lw_all := lw_g (lw_at lw_m1 113 rfl) rfl
theorem q179 : (Jvm.Cond.soleField "BranchMender$Finding" "code") ∈ lw_all := lw_g (lw_at lw_m1 114 rfl) rfl
theorem q184 : (Jvm.Cond.lays "BranchMender$Finding" "java/lang/Throwable" "depth" "I") ∈ lw_all := lw_g (lw_at lw_m1 119 rfl) rfl
theorem q187 : (Jvm.Cond.superclass "BranchMender$Finding" "java/lang/RuntimeException") ∈ lw_all := lw_g (lw_at lw_m1 122 rfl) rfl
theorem q416 : (Jvm.Cond.instanceMethod ({ cls := "BranchMender$Finding", name := "of", desc := "(I)LBranchMender$Finding;" } : Jvm.MethodName)) ∈ lw_all := lw_g (lw_at lw_m2 111 rfl) rfl
theorem q417 : (Jvm.Cond.selects "BranchMender$Finding" ({ cls := "BranchMender$Finding", name := "of", desc := "(I)LBranchMender$Finding;" } : Jvm.MethodName) ({ cls := "BranchMender$Finding", name := "of", desc := "(I)LBranchMender$Finding;" } : Jvm.MethodName)) ∈ lw_all := lw_g (lw_at lw_m2 112 rfl) rfl
theorem q418 : (Jvm.Cond.code ({ cls := "BranchMender$Finding", name := "of", desc := "(I)LBranchMender$Finding;" } : Jvm.MethodName) prog_4_method_2_code (2 : Nat) (Option.some (Jvm.ClassFile.FieldType.object "BranchMender$Finding"))) ∈ lw_all := lw_g (lw_at lw_m2 113 rfl) rfl
theorem q665 : (Jvm.Cond.selects "BranchMender$Finding" ({ cls := "java/lang/Object", name := "getClass", desc := "()Ljava/lang/Class;" } : Jvm.MethodName) ({ cls := "java/lang/Object", name := "getClass", desc := "()Ljava/lang/Class;" } : Jvm.MethodName)) ∈ lw_all := lw_g (lw_at lw_m3 120 rfl) rfl
theorem q999 : (Jvm.Cond.selects "BranchMender$Finding" ({ cls := "java/lang/Object", name := "equals", desc := "(Ljava/lang/Object;)Z" } : Jvm.MethodName) ({ cls := "java/lang/Object", name := "equals", desc := "(Ljava/lang/Object;)Z" } : Jvm.MethodName)) ∈ lw_all := lw_g (lw_at lw_m4 214 rfl) rfl
theorem q1645 : (Jvm.Cond.castable "BranchMender$Finding" "java/lang/Object") ∈ lw_tbl := lw_at lw_m7 140 rfl
theorem in_X1 : ∀ w ∈ wsX10, w ∈ lw_all := lw_in wsX10 [118, 120, 122, 124, 126, 184, 178] (by decide +kernel) (by decide +kernel)

theorem q71 : (Jvm.Cond.initialized "BranchMender$Reader") ∈ lw_all := lw_g (lw_at lw_m1 6 rfl) rfl
theorem q191 : (Jvm.Cond.instantiable "BranchMender$Reader" (5 : Nat)) ∈ lw_all := lw_g (lw_at lw_m1 126 rfl) rfl
theorem q193 : (Jvm.Cond.instanceMethod ({ cls := "BranchMender$Reader", name := "<init>", desc := "(LBranchMender$Finding;)V" } : Jvm.MethodName)) ∈ lw_all := lw_g (lw_at lw_m1 128 rfl) rfl
theorem q194 : (Jvm.Cond.code ({ cls := "BranchMender$Reader", name := "<init>", desc := "(LBranchMender$Finding;)V" } : Jvm.MethodName) prog_13_method_1_code (2 : Nat) (Option.none : Option Jvm.ClassFile.FieldType)) ∈ lw_all := lw_g (lw_at lw_m1 129 rfl) rfl
theorem q195 : (Jvm.Cond.methodLink "BranchMender$Reader" (3 : Nat) ({ cls := "java/lang/Object", name := "<init>", desc := "()V" } : Jvm.MethodName)) ∈ lw_all := lw_g (lw_at lw_m1 130 rfl) rfl
theorem q196 : (Jvm.Cond.fieldLink "BranchMender$Reader" (9 : Nat) "BranchMender$Reader" "finding" "LBranchMender$Finding;") ∈ lw_all := lw_g (lw_at lw_m1 131 rfl) rfl
theorem q197 : (Jvm.Cond.fieldLink "BranchMender$Reader" (28 : Nat) "BranchMender$Reader" "row" "[B") ∈ lw_all := lw_g (lw_at lw_m1 132 rfl) rfl
theorem q198 : (Jvm.Cond.fieldLink "BranchMender$Reader" (25 : Nat) "BranchMender$Reader" "length" "I") ∈ lw_all := lw_g (lw_at lw_m1 133 rfl) rfl
theorem q199 : (Jvm.Cond.fieldLink "BranchMender$Reader" (21 : Nat) "BranchMender$Reader" "at" "I") ∈ lw_all := lw_g (lw_at lw_m1 134 rfl) rfl
theorem q200 : (Jvm.Cond.fieldLink "BranchMender$Reader" (32 : Nat) "BranchMender$Reader" "nodes" "I") ∈ lw_all := lw_g (lw_at lw_m1 135 rfl) rfl
theorem q201 : (Jvm.Cond.laysFinal "BranchMender$Reader" "BranchMender$Reader" "finding" "LBranchMender$Finding;") ∈ lw_all := lw_g (lw_at lw_m1 136 rfl) rfl
theorem q202 : (Jvm.Cond.soleField "BranchMender$Reader" "finding") ∈ lw_all := lw_g (lw_at lw_m1 137 rfl) rfl
theorem q203 : (Jvm.Cond.lays "BranchMender$Reader" "BranchMender$Reader" "row" "[B") ∈ lw_all := lw_g (lw_at lw_m1 138 rfl) rfl
theorem q204 : (Jvm.Cond.soleField "BranchMender$Reader" "row") ∈ lw_all := lw_g (lw_at lw_m1 139 rfl) rfl
theorem q205 : (Jvm.Cond.lays "BranchMender$Reader" "BranchMender$Reader" "length" "I") ∈ lw_all := lw_g (lw_at lw_m1 140 rfl) rfl
theorem q206 : (Jvm.Cond.soleField "BranchMender$Reader" "length") ∈ lw_all := lw_g (lw_at lw_m1 141 rfl) rfl
theorem q207 : (Jvm.Cond.lays "BranchMender$Reader" "BranchMender$Reader" "at" "I") ∈ lw_all := lw_g (lw_at lw_m1 142 rfl) rfl
theorem q208 : (Jvm.Cond.soleField "BranchMender$Reader" "at") ∈ lw_all := lw_g (lw_at lw_m1 143 rfl) rfl
theorem q209 : (Jvm.Cond.lays "BranchMender$Reader" "BranchMender$Reader" "nodes" "I") ∈ lw_all := lw_g (lw_at lw_m1 144 rfl) rfl
theorem q210 : (Jvm.Cond.soleField "BranchMender$Reader" "nodes") ∈ lw_all := lw_g (lw_at lw_m1 145 rfl) rfl
theorem q211 : (Jvm.Cond.superclass "BranchMender$Reader" "java/lang/Object") ∈ lw_all := lw_g (lw_at lw_m1 146 rfl) rfl
theorem q432 : (Jvm.Cond.instanceMethod ({ cls := "BranchMender$Reader", name := "read", desc := "([BI)LBranchMender$Node;" } : Jvm.MethodName)) ∈ lw_all := lw_g (lw_at lw_m2 127 rfl) rfl
theorem q433 : (Jvm.Cond.selects "BranchMender$Reader" ({ cls := "BranchMender$Reader", name := "read", desc := "([BI)LBranchMender$Node;" } : Jvm.MethodName) ({ cls := "BranchMender$Reader", name := "read", desc := "([BI)LBranchMender$Node;" } : Jvm.MethodName)) ∈ lw_all := lw_g (lw_at lw_m2 128 rfl) rfl
theorem q434 : (Jvm.Cond.code ({ cls := "BranchMender$Reader", name := "read", desc := "([BI)LBranchMender$Node;" } : Jvm.MethodName) prog_13_method_5_code (4 : Nat) (Option.some (Jvm.ClassFile.FieldType.object "BranchMender$Node"))) ∈ lw_all := lw_g (lw_at lw_m2 129 rfl) rfl
theorem q435 : (Jvm.Cond.methodLink "BranchMender$Reader" (35 : Nat) ({ cls := "BranchMender$Reader", name := "node", desc := "(ILjava/util/ArrayList;)LBranchMender$Node;" } : Jvm.MethodName)) ∈ lw_all := lw_g (lw_at lw_m2 130 rfl) rfl
theorem q436 : (Jvm.Cond.privateMethod ({ cls := "BranchMender$Reader", name := "node", desc := "(ILjava/util/ArrayList;)LBranchMender$Node;" } : Jvm.MethodName)) ∈ lw_tbl := lw_at lw_m2 131 rfl
theorem q437 : (Jvm.Cond.instanceMethod ({ cls := "BranchMender$Reader", name := "node", desc := "(ILjava/util/ArrayList;)LBranchMender$Node;" } : Jvm.MethodName)) ∈ lw_all := lw_g (lw_at lw_m2 132 rfl) rfl
theorem q438 : (Jvm.Cond.code ({ cls := "BranchMender$Reader", name := "node", desc := "(ILjava/util/ArrayList;)LBranchMender$Node;" } : Jvm.MethodName) prog_13_method_6_code (10 : Nat) (Option.some (Jvm.ClassFile.FieldType.object "BranchMender$Node"))) ∈ lw_all := lw_g (lw_at lw_m2 133 rfl) rfl
theorem q439 : (Jvm.Cond.methodLinkNest "BranchMender$Reader" (42 : Nat) ({ cls := "BranchMender", name := "isLetter", desc := "(I)Z" } : Jvm.MethodName) "BranchMender") ∈ lw_tbl := lw_at lw_m2 134 rfl
theorem q442 : (Jvm.Cond.methodLink "BranchMender$Reader" (39 : Nat) ({ cls := "BranchMender$Reader", name := "wrong", desc := "(I)LBranchMender$Finding;" } : Jvm.MethodName)) ∈ lw_all := lw_g (lw_at lw_m2 137 rfl) rfl
theorem q443 : (Jvm.Cond.privateMethod ({ cls := "BranchMender$Reader", name := "wrong", desc := "(I)LBranchMender$Finding;" } : Jvm.MethodName)) ∈ lw_tbl := lw_at lw_m2 138 rfl
theorem q444 : (Jvm.Cond.instanceMethod ({ cls := "BranchMender$Reader", name := "wrong", desc := "(I)LBranchMender$Finding;" } : Jvm.MethodName)) ∈ lw_all := lw_g (lw_at lw_m2 139 rfl) rfl
theorem q445 : (Jvm.Cond.code ({ cls := "BranchMender$Reader", name := "wrong", desc := "(I)LBranchMender$Finding;" } : Jvm.MethodName) prog_13_method_2_code (2 : Nat) (Option.some (Jvm.ClassFile.FieldType.object "BranchMender$Finding"))) ∈ lw_all := lw_g (lw_at lw_m2 140 rfl) rfl
theorem q446 : (Jvm.Cond.methodLink "BranchMender$Reader" (15 : Nat) ({ cls := "BranchMender$Finding", name := "of", desc := "(I)LBranchMender$Finding;" } : Jvm.MethodName)) ∈ lw_all := lw_g (lw_at lw_m2 141 rfl) rfl
theorem q447 : (Jvm.Cond.methodLinkNest "BranchMender$Reader" (46 : Nat) ({ cls := "BranchMender", name := "part", desc := "([BII)[B" } : Jvm.MethodName) "BranchMender") ∈ lw_tbl := lw_at lw_m2 142 rfl
theorem q453 : (Jvm.Cond.methodLink "BranchMender$Reader" (50 : Nat) ({ cls := "java/util/ArrayList", name := "size", desc := "()I" } : Jvm.MethodName)) ∈ lw_all := lw_g (lw_at lw_m2 148 rfl) rfl
theorem q457 : (Jvm.Cond.methodLink "BranchMender$Reader" (56 : Nat) ({ cls := "java/util/ArrayList", name := "get", desc := "(I)Ljava/lang/Object;" } : Jvm.MethodName)) ∈ lw_all := lw_g (lw_at lw_m2 152 rfl) rfl
theorem q471 : (Jvm.Cond.classLink "BranchMender$Reader" (60 : Nat) "BranchMender$Node") ∈ lw_all := lw_g (lw_at lw_m2 166 rfl) rfl
theorem q472 : (Jvm.Cond.methodLinkNest "BranchMender$Reader" (65 : Nat) ({ cls := "BranchMender", name := "isSame", desc := "([B[B)Z" } : Jvm.MethodName) "BranchMender") ∈ lw_tbl := lw_at lw_m2 167 rfl
theorem q475 : (Jvm.Cond.fieldLinkNest "BranchMender$Reader" (69 : Nat) "BranchMender" "EMPTY" "[B" "BranchMender") ∈ lw_tbl := lw_at lw_m2 170 rfl
theorem q477 : (Jvm.Cond.methodLink "BranchMender$Reader" (72 : Nat) ({ cls := "BranchMender$Reader", name := "takes", desc := "(I)Z" } : Jvm.MethodName)) ∈ lw_all := lw_g (lw_at lw_m2 172 rfl) rfl
theorem q478 : (Jvm.Cond.privateMethod ({ cls := "BranchMender$Reader", name := "takes", desc := "(I)Z" } : Jvm.MethodName)) ∈ lw_tbl := lw_at lw_m2 173 rfl
theorem q479 : (Jvm.Cond.instanceMethod ({ cls := "BranchMender$Reader", name := "takes", desc := "(I)Z" } : Jvm.MethodName)) ∈ lw_all := lw_g (lw_at lw_m2 174 rfl) rfl
theorem q480 : (Jvm.Cond.code ({ cls := "BranchMender$Reader", name := "takes", desc := "(I)Z" } : Jvm.MethodName) prog_13_method_4_code (2 : Nat) (Option.some Jvm.ClassFile.FieldType.boolean)) ∈ lw_all := lw_g (lw_at lw_m2 175 rfl) rfl
theorem q481 : (Jvm.Cond.methodLinkNest "BranchMender$Reader" (75 : Nat) ({ cls := "BranchMender", name := "isSign", desc := "(I)Z" } : Jvm.MethodName) "BranchMender") ∈ lw_tbl := lw_at lw_m2 176 rfl
theorem q485 : (Jvm.Cond.methodLinkNest "BranchMender$Reader" (78 : Nat) ({ cls := "BranchMender", name := "made", desc := "(II[B[B)LBranchMender$Node;" } : Jvm.MethodName) "BranchMender") ∈ lw_tbl := lw_at lw_m2 180 rfl
theorem q513 : (Jvm.Cond.fieldLink "BranchMender$Reader" (62 : Nat) "BranchMender$Node" "label" "[B") ∈ lw_all := lw_g (lw_at lw_m2 208 rfl) rfl
theorem q536 : (Jvm.Cond.fieldLink "BranchMender$Reader" (82 : Nat) "BranchMender$Node" "children" "Ljava/util/ArrayList;") ∈ lw_all := lw_g (lw_at lw_m2 231 rfl) rfl
theorem q622 : (Jvm.Cond.methodLink "BranchMender$Reader" (86 : Nat) ({ cls := "BranchMender$Node", name := "add", desc := "(LBranchMender$Node;)V" } : Jvm.MethodName)) ∈ lw_all := lw_g (lw_at lw_m3 77 rfl) rfl
theorem q671 : (Jvm.Cond.selects "BranchMender$Reader" ({ cls := "java/lang/Object", name := "getClass", desc := "()Ljava/lang/Class;" } : Jvm.MethodName) ({ cls := "java/lang/Object", name := "getClass", desc := "()Ljava/lang/Class;" } : Jvm.MethodName)) ∈ lw_all := lw_g (lw_at lw_m3 126 rfl) rfl
theorem q1005 : (Jvm.Cond.selects "BranchMender$Reader" ({ cls := "java/lang/Object", name := "equals", desc := "(Ljava/lang/Object;)Z" } : Jvm.MethodName) ({ cls := "java/lang/Object", name := "equals", desc := "(Ljava/lang/Object;)Z" } : Jvm.MethodName)) ∈ lw_all := lw_g (lw_at lw_m4 220 rfl) rfl
theorem q1646 : (Jvm.Cond.castable "BranchMender$Reader" "java/lang/Object") ∈ lw_tbl := lw_at lw_m7 141 rfl
theorem in_X2 : ∀ w ∈ wsX20, w ∈ lw_all := lw_in wsX20 [201, 203, 205, 207, 209] (by decide +kernel) (by decide +kernel)

theorem q72 : (Jvm.Cond.initialized "BranchMender$Pen") ∈ lw_all := lw_g (lw_at lw_m1 7 rfl) rfl
theorem q215 : (Jvm.Cond.instantiable "BranchMender$Pen" (2 : Nat)) ∈ lw_all := lw_g (lw_at lw_m1 150 rfl) rfl
theorem q217 : (Jvm.Cond.instanceMethod ({ cls := "BranchMender$Pen", name := "<init>", desc := "()V" } : Jvm.MethodName)) ∈ lw_all := lw_g (lw_at lw_m1 152 rfl) rfl
theorem q218 : (Jvm.Cond.code ({ cls := "BranchMender$Pen", name := "<init>", desc := "()V" } : Jvm.MethodName) prog_11_method_1_code (1 : Nat) (Option.none : Option Jvm.ClassFile.FieldType)) ∈ lw_all := lw_g (lw_at lw_m1 153 rfl) rfl
theorem q219 : (Jvm.Cond.methodLink "BranchMender$Pen" (3 : Nat) ({ cls := "java/lang/Object", name := "<init>", desc := "()V" } : Jvm.MethodName)) ∈ lw_all := lw_g (lw_at lw_m1 154 rfl) rfl
theorem q220 : (Jvm.Cond.fieldLink "BranchMender$Pen" (9 : Nat) "BranchMender$Pen" "row" "[B") ∈ lw_all := lw_g (lw_at lw_m1 155 rfl) rfl
theorem q222 : (Jvm.Cond.fieldLink "BranchMender$Pen" (15 : Nat) "BranchMender$Pen" "size" "I") ∈ lw_all := lw_g (lw_at lw_m1 157 rfl) rfl
theorem q224 : (Jvm.Cond.laysFinal "BranchMender$Pen" "BranchMender$Pen" "row" "[B") ∈ lw_all := lw_g (lw_at lw_m1 159 rfl) rfl
theorem q225 : (Jvm.Cond.soleField "BranchMender$Pen" "row") ∈ lw_all := lw_g (lw_at lw_m1 160 rfl) rfl
theorem q226 : (Jvm.Cond.lays "BranchMender$Pen" "BranchMender$Pen" "size" "I") ∈ lw_all := lw_g (lw_at lw_m1 161 rfl) rfl
theorem q227 : (Jvm.Cond.soleField "BranchMender$Pen" "size") ∈ lw_all := lw_g (lw_at lw_m1 162 rfl) rfl
theorem q228 : (Jvm.Cond.superclass "BranchMender$Pen" "java/lang/Object") ∈ lw_all := lw_g (lw_at lw_m1 163 rfl) rfl
theorem q506 : (Jvm.Cond.fieldLink "BranchMender$Pen" (23 : Nat) "BranchMender$Node" "label" "[B") ∈ lw_all := lw_g (lw_at lw_m2 201 rfl) rfl
theorem q517 : (Jvm.Cond.fieldLink "BranchMender$Pen" (31 : Nat) "BranchMender$Node" "text" "[B") ∈ lw_all := lw_g (lw_at lw_m2 212 rfl) rfl
theorem q535 : (Jvm.Cond.fieldLink "BranchMender$Pen" (38 : Nat) "BranchMender$Node" "children" "Ljava/util/ArrayList;") ∈ lw_all := lw_g (lw_at lw_m2 230 rfl) rfl
theorem q670 : (Jvm.Cond.selects "BranchMender$Pen" ({ cls := "java/lang/Object", name := "getClass", desc := "()Ljava/lang/Class;" } : Jvm.MethodName) ({ cls := "java/lang/Object", name := "getClass", desc := "()Ljava/lang/Class;" } : Jvm.MethodName)) ∈ lw_all := lw_g (lw_at lw_m3 125 rfl) rfl
theorem q794 : (Jvm.Cond.instanceMethod ({ cls := "BranchMender$Pen", name := "node", desc := "(LBranchMender$Node;)V" } : Jvm.MethodName)) ∈ lw_all := lw_g (lw_at lw_m4 9 rfl) rfl
theorem q795 : (Jvm.Cond.selects "BranchMender$Pen" ({ cls := "BranchMender$Pen", name := "node", desc := "(LBranchMender$Node;)V" } : Jvm.MethodName) ({ cls := "BranchMender$Pen", name := "node", desc := "(LBranchMender$Node;)V" } : Jvm.MethodName)) ∈ lw_all := lw_g (lw_at lw_m4 10 rfl) rfl
theorem q796 : (Jvm.Cond.code ({ cls := "BranchMender$Pen", name := "node", desc := "(LBranchMender$Node;)V" } : Jvm.MethodName) prog_11_method_4_code (3 : Nat) (Option.none : Option Jvm.ClassFile.FieldType)) ∈ lw_all := lw_g (lw_at lw_m4 11 rfl) rfl
theorem q797 : (Jvm.Cond.methodLink "BranchMender$Pen" (28 : Nat) ({ cls := "BranchMender$Pen", name := "say", desc := "([B)V" } : Jvm.MethodName)) ∈ lw_all := lw_g (lw_at lw_m4 12 rfl) rfl
theorem q798 : (Jvm.Cond.instanceMethod ({ cls := "BranchMender$Pen", name := "say", desc := "([B)V" } : Jvm.MethodName)) ∈ lw_all := lw_g (lw_at lw_m4 13 rfl) rfl
theorem q799 : (Jvm.Cond.selects "BranchMender$Pen" ({ cls := "BranchMender$Pen", name := "say", desc := "([B)V" } : Jvm.MethodName) ({ cls := "BranchMender$Pen", name := "say", desc := "([B)V" } : Jvm.MethodName)) ∈ lw_all := lw_g (lw_at lw_m4 14 rfl) rfl
theorem q800 : (Jvm.Cond.code ({ cls := "BranchMender$Pen", name := "say", desc := "([B)V" } : Jvm.MethodName) prog_11_method_3_code (3 : Nat) (Option.none : Option Jvm.ClassFile.FieldType)) ∈ lw_all := lw_g (lw_at lw_m4 15 rfl) rfl
theorem q801 : (Jvm.Cond.methodLink "BranchMender$Pen" (19 : Nat) ({ cls := "BranchMender$Pen", name := "say", desc := "(I)V" } : Jvm.MethodName)) ∈ lw_all := lw_g (lw_at lw_m4 16 rfl) rfl
theorem q802 : (Jvm.Cond.instanceMethod ({ cls := "BranchMender$Pen", name := "say", desc := "(I)V" } : Jvm.MethodName)) ∈ lw_all := lw_g (lw_at lw_m4 17 rfl) rfl
theorem q803 : (Jvm.Cond.selects "BranchMender$Pen" ({ cls := "BranchMender$Pen", name := "say", desc := "(I)V" } : Jvm.MethodName) ({ cls := "BranchMender$Pen", name := "say", desc := "(I)V" } : Jvm.MethodName)) ∈ lw_all := lw_g (lw_at lw_m4 18 rfl) rfl
theorem q804 : (Jvm.Cond.code ({ cls := "BranchMender$Pen", name := "say", desc := "(I)V" } : Jvm.MethodName) prog_11_method_2_code (2 : Nat) (Option.none : Option Jvm.ClassFile.FieldType)) ∈ lw_all := lw_g (lw_at lw_m4 19 rfl) rfl
theorem q824 : (Jvm.Cond.methodLink "BranchMender$Pen" (42 : Nat) ({ cls := "java/util/ArrayList", name := "size", desc := "()I" } : Jvm.MethodName)) ∈ lw_all := lw_g (lw_at lw_m4 39 rfl) rfl
theorem q825 : (Jvm.Cond.methodLink "BranchMender$Pen" (47 : Nat) ({ cls := "java/util/ArrayList", name := "get", desc := "(I)Ljava/lang/Object;" } : Jvm.MethodName)) ∈ lw_all := lw_g (lw_at lw_m4 40 rfl) rfl
theorem q826 : (Jvm.Cond.classLink "BranchMender$Pen" (24 : Nat) "BranchMender$Node") ∈ lw_all := lw_g (lw_at lw_m4 41 rfl) rfl
theorem q827 : (Jvm.Cond.methodLink "BranchMender$Pen" (51 : Nat) ({ cls := "BranchMender$Pen", name := "node", desc := "(LBranchMender$Node;)V" } : Jvm.MethodName)) ∈ lw_all := lw_g (lw_at lw_m4 42 rfl) rfl
theorem q1004 : (Jvm.Cond.selects "BranchMender$Pen" ({ cls := "java/lang/Object", name := "equals", desc := "(Ljava/lang/Object;)Z" } : Jvm.MethodName) ({ cls := "java/lang/Object", name := "equals", desc := "(Ljava/lang/Object;)Z" } : Jvm.MethodName)) ∈ lw_all := lw_g (lw_at lw_m4 219 rfl) rfl
theorem q1647 : (Jvm.Cond.castable "BranchMender$Pen" "java/lang/Object") ∈ lw_tbl := lw_at lw_m7 142 rfl
theorem in_X3 : ∀ w ∈ wsX30, w ∈ lw_all := lw_in wsX30 [224, 226] (by decide +kernel) (by decide +kernel)

theorem q73 : (Jvm.Cond.initialized "BranchMender$Mapper") ∈ lw_all := lw_g (lw_at lw_m1 8 rfl) rfl
theorem q230 : (Jvm.Cond.instantiable "BranchMender$Mapper" (7 : Nat)) ∈ lw_all := lw_g (lw_at lw_m1 165 rfl) rfl
theorem q232 : (Jvm.Cond.instanceMethod ({ cls := "BranchMender$Mapper", name := "<init>", desc := "()V" } : Jvm.MethodName)) ∈ lw_all := lw_g (lw_at lw_m1 167 rfl) rfl
theorem q233 : (Jvm.Cond.code ({ cls := "BranchMender$Mapper", name := "<init>", desc := "()V" } : Jvm.MethodName) prog_8_method_1_code (1 : Nat) (Option.none : Option Jvm.ClassFile.FieldType)) ∈ lw_all := lw_g (lw_at lw_m1 168 rfl) rfl
theorem q234 : (Jvm.Cond.methodLink "BranchMender$Mapper" (3 : Nat) ({ cls := "java/lang/Object", name := "<init>", desc := "()V" } : Jvm.MethodName)) ∈ lw_all := lw_g (lw_at lw_m1 169 rfl) rfl
theorem q235 : (Jvm.Cond.classLink "BranchMender$Mapper" (15 : Nat) "[[I") ∈ lw_all := lw_g (lw_at lw_m1 170 rfl) rfl
theorem q237 : (Jvm.Cond.classLink "BranchMender$Mapper" (23 : Nat) "BranchMender$Node") ∈ lw_all := lw_g (lw_at lw_m1 172 rfl) rfl
theorem q239 : (Jvm.Cond.fieldLink "BranchMender$Mapper" (9 : Nat) "BranchMender$Mapper" "prices" "[I") ∈ lw_all := lw_g (lw_at lw_m1 174 rfl) rfl
theorem q241 : (Jvm.Cond.fieldLink "BranchMender$Mapper" (53 : Nat) "BranchMender$Mapper" "one" "LBranchMender$Tree;") ∈ lw_all := lw_g (lw_at lw_m1 176 rfl) rfl
theorem q242 : (Jvm.Cond.fieldLink "BranchMender$Mapper" (62 : Nat) "BranchMender$Mapper" "two" "LBranchMender$Tree;") ∈ lw_all := lw_g (lw_at lw_m1 177 rfl) rfl
theorem q243 : (Jvm.Cond.fieldLink "BranchMender$Mapper" (17 : Nat) "BranchMender$Mapper" "under" "[[I") ∈ lw_all := lw_g (lw_at lw_m1 178 rfl) rfl
theorem q244 : (Jvm.Cond.fieldLink "BranchMender$Mapper" (20 : Nat) "BranchMender$Mapper" "table" "[[I") ∈ lw_all := lw_g (lw_at lw_m1 179 rfl) rfl
theorem q245 : (Jvm.Cond.fieldLink "BranchMender$Mapper" (25 : Nat) "BranchMender$Mapper" "mates" "[LBranchMender$Node;") ∈ lw_all := lw_g (lw_at lw_m1 180 rfl) rfl
theorem q247 : (Jvm.Cond.fieldLink "BranchMender$Mapper" (29 : Nat) "BranchMender$Mapper" "paired" "[Z") ∈ lw_all := lw_g (lw_at lw_m1 182 rfl) rfl
theorem q249 : (Jvm.Cond.laysFinal "BranchMender$Mapper" "BranchMender$Mapper" "prices" "[I") ∈ lw_all := lw_g (lw_at lw_m1 184 rfl) rfl
theorem q250 : (Jvm.Cond.soleField "BranchMender$Mapper" "prices") ∈ lw_all := lw_g (lw_at lw_m1 185 rfl) rfl
theorem q251 : (Jvm.Cond.lays "BranchMender$Mapper" "BranchMender$Mapper" "one" "LBranchMender$Tree;") ∈ lw_all := lw_g (lw_at lw_m1 186 rfl) rfl
theorem q252 : (Jvm.Cond.soleField "BranchMender$Mapper" "one") ∈ lw_all := lw_g (lw_at lw_m1 187 rfl) rfl
theorem q253 : (Jvm.Cond.lays "BranchMender$Mapper" "BranchMender$Mapper" "two" "LBranchMender$Tree;") ∈ lw_all := lw_g (lw_at lw_m1 188 rfl) rfl
theorem q254 : (Jvm.Cond.soleField "BranchMender$Mapper" "two") ∈ lw_all := lw_g (lw_at lw_m1 189 rfl) rfl
theorem q255 : (Jvm.Cond.laysFinal "BranchMender$Mapper" "BranchMender$Mapper" "under" "[[I") ∈ lw_all := lw_g (lw_at lw_m1 190 rfl) rfl
theorem q256 : (Jvm.Cond.soleField "BranchMender$Mapper" "under") ∈ lw_all := lw_g (lw_at lw_m1 191 rfl) rfl
theorem q257 : (Jvm.Cond.laysFinal "BranchMender$Mapper" "BranchMender$Mapper" "table" "[[I") ∈ lw_all := lw_g (lw_at lw_m1 192 rfl) rfl
theorem q258 : (Jvm.Cond.soleField "BranchMender$Mapper" "table") ∈ lw_all := lw_g (lw_at lw_m1 193 rfl) rfl
theorem q259 : (Jvm.Cond.laysFinal "BranchMender$Mapper" "BranchMender$Mapper" "mates" "[LBranchMender$Node;") ∈ lw_all := lw_g (lw_at lw_m1 194 rfl) rfl
theorem q260 : (Jvm.Cond.soleField "BranchMender$Mapper" "mates") ∈ lw_all := lw_g (lw_at lw_m1 195 rfl) rfl
theorem q261 : (Jvm.Cond.laysFinal "BranchMender$Mapper" "BranchMender$Mapper" "paired" "[Z") ∈ lw_all := lw_g (lw_at lw_m1 196 rfl) rfl
theorem q262 : (Jvm.Cond.soleField "BranchMender$Mapper" "paired") ∈ lw_all := lw_g (lw_at lw_m1 197 rfl) rfl
theorem q263 : (Jvm.Cond.superclass "BranchMender$Mapper" "java/lang/Object") ∈ lw_all := lw_g (lw_at lw_m1 198 rfl) rfl
theorem q504 : (Jvm.Cond.fieldLink "BranchMender$Mapper" (33 : Nat) "BranchMender$Node" "label" "[B") ∈ lw_all := lw_g (lw_at lw_m2 199 rfl) rfl
theorem q516 : (Jvm.Cond.fieldLink "BranchMender$Mapper" (41 : Nat) "BranchMender$Node" "text" "[B") ∈ lw_all := lw_g (lw_at lw_m2 211 rfl) rfl
theorem q539 : (Jvm.Cond.fieldLink "BranchMender$Mapper" (94 : Nat) "BranchMender$Node" "ahead" "I") ∈ lw_all := lw_g (lw_at lw_m2 234 rfl) rfl
theorem q544 : (Jvm.Cond.fieldLink "BranchMender$Mapper" (72 : Nat) "BranchMender$Node" "first" "I") ∈ lw_all := lw_g (lw_at lw_m2 239 rfl) rfl
theorem q668 : (Jvm.Cond.selects "BranchMender$Mapper" ({ cls := "java/lang/Object", name := "getClass", desc := "()Ljava/lang/Class;" } : Jvm.MethodName) ({ cls := "java/lang/Object", name := "getClass", desc := "()Ljava/lang/Class;" } : Jvm.MethodName)) ∈ lw_all := lw_g (lw_at lw_m3 123 rfl) rfl
theorem q715 : (Jvm.Cond.fieldLinkNest "BranchMender$Mapper" (57 : Nat) "BranchMender$Tree" "behind" "[LBranchMender$Node;" "BranchMender") ∈ lw_tbl := lw_at lw_m3 170 rfl
theorem q719 : (Jvm.Cond.fieldLinkNest "BranchMender$Mapper" (80 : Nat) "BranchMender$Tree" "size" "I" "BranchMender") ∈ lw_tbl := lw_at lw_m3 174 rfl
theorem q1002 : (Jvm.Cond.selects "BranchMender$Mapper" ({ cls := "java/lang/Object", name := "equals", desc := "(Ljava/lang/Object;)Z" } : Jvm.MethodName) ({ cls := "java/lang/Object", name := "equals", desc := "(Ljava/lang/Object;)Z" } : Jvm.MethodName)) ∈ lw_all := lw_g (lw_at lw_m4 217 rfl) rfl
theorem q1038 : (Jvm.Cond.instanceMethod ({ cls := "BranchMender$Mapper", name := "distance", desc := "(LBranchMender$Tree;LBranchMender$Tree;)I" } : Jvm.MethodName)) ∈ lw_all := lw_g (lw_at lw_m5 13 rfl) rfl
theorem q1039 : (Jvm.Cond.selects "BranchMender$Mapper" ({ cls := "BranchMender$Mapper", name := "distance", desc := "(LBranchMender$Tree;LBranchMender$Tree;)I" } : Jvm.MethodName) ({ cls := "BranchMender$Mapper", name := "distance", desc := "(LBranchMender$Tree;LBranchMender$Tree;)I" } : Jvm.MethodName)) ∈ lw_all := lw_g (lw_at lw_m5 14 rfl) rfl
theorem q1040 : (Jvm.Cond.code ({ cls := "BranchMender$Mapper", name := "distance", desc := "(LBranchMender$Tree;LBranchMender$Tree;)I" } : Jvm.MethodName) prog_8_method_5_code (7 : Nat) (Option.some Jvm.ClassFile.FieldType.int)) ∈ lw_all := lw_g (lw_at lw_m5 15 rfl) rfl
theorem q1041 : (Jvm.Cond.methodLink "BranchMender$Mapper" (83 : Nat) ({ cls := "BranchMender$Mapper", name := "forests", desc := "(IIII)V" } : Jvm.MethodName)) ∈ lw_all := lw_g (lw_at lw_m5 16 rfl) rfl
theorem q1042 : (Jvm.Cond.privateMethod ({ cls := "BranchMender$Mapper", name := "forests", desc := "(IIII)V" } : Jvm.MethodName)) ∈ lw_tbl := lw_at lw_m5 17 rfl
theorem q1043 : (Jvm.Cond.instanceMethod ({ cls := "BranchMender$Mapper", name := "forests", desc := "(IIII)V" } : Jvm.MethodName)) ∈ lw_all := lw_g (lw_at lw_m5 18 rfl) rfl
theorem q1044 : (Jvm.Cond.code ({ cls := "BranchMender$Mapper", name := "forests", desc := "(IIII)V" } : Jvm.MethodName) prog_8_method_3_code (8 : Nat) (Option.none : Option Jvm.ClassFile.FieldType)) ∈ lw_all := lw_g (lw_at lw_m5 19 rfl) rfl
theorem q1045 : (Jvm.Cond.methodLink "BranchMender$Mapper" (44 : Nat) ({ cls := "java/lang/Math", name := "min", desc := "(II)I" } : Jvm.MethodName)) ∈ lw_all := lw_g (lw_at lw_m5 20 rfl) rfl
theorem q1046 : (Jvm.Cond.methodLink "BranchMender$Mapper" (50 : Nat) ({ cls := "BranchMender$Mapper", name := "paired", desc := "(IIII)I" } : Jvm.MethodName)) ∈ lw_all := lw_g (lw_at lw_m5 21 rfl) rfl
theorem q1047 : (Jvm.Cond.privateMethod ({ cls := "BranchMender$Mapper", name := "paired", desc := "(IIII)I" } : Jvm.MethodName)) ∈ lw_tbl := lw_at lw_m5 22 rfl
theorem q1048 : (Jvm.Cond.instanceMethod ({ cls := "BranchMender$Mapper", name := "paired", desc := "(IIII)I" } : Jvm.MethodName)) ∈ lw_all := lw_g (lw_at lw_m5 23 rfl) rfl
theorem q1049 : (Jvm.Cond.code ({ cls := "BranchMender$Mapper", name := "paired", desc := "(IIII)I" } : Jvm.MethodName) prog_8_method_4_code (7 : Nat) (Option.some Jvm.ClassFile.FieldType.int)) ∈ lw_all := lw_g (lw_at lw_m5 24 rfl) rfl
theorem q1050 : (Jvm.Cond.methodLink "BranchMender$Mapper" (65 : Nat) ({ cls := "BranchMender$Node", name := "fits", desc := "(LBranchMender$Node;)Z" } : Jvm.MethodName)) ∈ lw_all := lw_g (lw_at lw_m5 25 rfl) rfl
theorem q1063 : (Jvm.Cond.constant "BranchMender$Mapper" (71 : Nat) (2147483647 : Int32)) ∈ lw_all := lw_g (lw_at lw_m5 38 rfl) rfl
theorem q1064 : (Jvm.Cond.methodLink "BranchMender$Mapper" (76 : Nat) ({ cls := "BranchMender$Mapper", name := "cost", desc := "(LBranchMender$Node;LBranchMender$Node;)I" } : Jvm.MethodName)) ∈ lw_all := lw_g (lw_at lw_m5 39 rfl) rfl
theorem q1065 : (Jvm.Cond.privateMethod ({ cls := "BranchMender$Mapper", name := "cost", desc := "(LBranchMender$Node;LBranchMender$Node;)I" } : Jvm.MethodName)) ∈ lw_tbl := lw_at lw_m5 40 rfl
theorem q1066 : (Jvm.Cond.instanceMethod ({ cls := "BranchMender$Mapper", name := "cost", desc := "(LBranchMender$Node;LBranchMender$Node;)I" } : Jvm.MethodName)) ∈ lw_all := lw_g (lw_at lw_m5 41 rfl) rfl
theorem q1067 : (Jvm.Cond.code ({ cls := "BranchMender$Mapper", name := "cost", desc := "(LBranchMender$Node;LBranchMender$Node;)I" } : Jvm.MethodName) prog_8_method_2_code (3 : Nat) (Option.some Jvm.ClassFile.FieldType.int)) ∈ lw_all := lw_g (lw_at lw_m5 42 rfl) rfl
theorem q1068 : (Jvm.Cond.methodLinkNest "BranchMender$Mapper" (37 : Nat) ({ cls := "BranchMender", name := "isSame", desc := "([B[B)Z" } : Jvm.MethodName) "BranchMender") ∈ lw_tbl := lw_at lw_m5 43 rfl
theorem q1074 : (Jvm.Cond.instanceMethod ({ cls := "BranchMender$Mapper", name := "map", desc := "(LBranchMender$Tree;LBranchMender$Tree;)V" } : Jvm.MethodName)) ∈ lw_all := lw_g (lw_at lw_m5 49 rfl) rfl
theorem q1075 : (Jvm.Cond.selects "BranchMender$Mapper" ({ cls := "BranchMender$Mapper", name := "map", desc := "(LBranchMender$Tree;LBranchMender$Tree;)V" } : Jvm.MethodName) ({ cls := "BranchMender$Mapper", name := "map", desc := "(LBranchMender$Tree;LBranchMender$Tree;)V" } : Jvm.MethodName)) ∈ lw_all := lw_g (lw_at lw_m5 50 rfl) rfl
theorem q1076 : (Jvm.Cond.code ({ cls := "BranchMender$Mapper", name := "map", desc := "(LBranchMender$Tree;LBranchMender$Tree;)V" } : Jvm.MethodName) prog_8_method_6_code (4 : Nat) (Option.none : Option Jvm.ClassFile.FieldType)) ∈ lw_all := lw_g (lw_at lw_m5 51 rfl) rfl
theorem q1077 : (Jvm.Cond.methodLink "BranchMender$Mapper" (87 : Nat) ({ cls := "BranchMender$Mapper", name := "distance", desc := "(LBranchMender$Tree;LBranchMender$Tree;)I" } : Jvm.MethodName)) ∈ lw_all := lw_g (lw_at lw_m5 52 rfl) rfl
theorem q1078 : (Jvm.Cond.methodLink "BranchMender$Mapper" (91 : Nat) ({ cls := "BranchMender$Mapper", name := "map", desc := "(IIII)V" } : Jvm.MethodName)) ∈ lw_all := lw_g (lw_at lw_m5 53 rfl) rfl
theorem q1079 : (Jvm.Cond.privateMethod ({ cls := "BranchMender$Mapper", name := "map", desc := "(IIII)V" } : Jvm.MethodName)) ∈ lw_tbl := lw_at lw_m5 54 rfl
theorem q1080 : (Jvm.Cond.instanceMethod ({ cls := "BranchMender$Mapper", name := "map", desc := "(IIII)V" } : Jvm.MethodName)) ∈ lw_all := lw_g (lw_at lw_m5 55 rfl) rfl
theorem q1081 : (Jvm.Cond.code ({ cls := "BranchMender$Mapper", name := "map", desc := "(IIII)V" } : Jvm.MethodName) prog_8_method_7_code (10 : Nat) (Option.none : Option Jvm.ClassFile.FieldType)) ∈ lw_all := lw_g (lw_at lw_m5 56 rfl) rfl
theorem q1648 : (Jvm.Cond.castable "BranchMender$Mapper" "java/lang/Object") ∈ lw_tbl := lw_at lw_m7 143 rfl
theorem in_X4 : ∀ w ∈ wsX40, w ∈ lw_all := lw_in wsX40 [249, 251, 253, 255, 257, 259, 261] (by decide +kernel) (by decide +kernel)

theorem q74 : (Jvm.Cond.initialized "BranchMender$Kinds") ∈ lw_all := lw_g (lw_at lw_m1 9 rfl) rfl
theorem q266 : (Jvm.Cond.instantiable "BranchMender$Kinds" (2 : Nat)) ∈ lw_all := lw_g (lw_at lw_m1 201 rfl) rfl
theorem q268 : (Jvm.Cond.instanceMethod ({ cls := "BranchMender$Kinds", name := "<init>", desc := "()V" } : Jvm.MethodName)) ∈ lw_all := lw_g (lw_at lw_m1 203 rfl) rfl
theorem q269 : (Jvm.Cond.code ({ cls := "BranchMender$Kinds", name := "<init>", desc := "()V" } : Jvm.MethodName) prog_7_method_1_code (1 : Nat) (Option.none : Option Jvm.ClassFile.FieldType)) ∈ lw_all := lw_g (lw_at lw_m1 204 rfl) rfl
theorem q270 : (Jvm.Cond.methodLink "BranchMender$Kinds" (3 : Nat) ({ cls := "java/lang/Object", name := "<init>", desc := "()V" } : Jvm.MethodName)) ∈ lw_all := lw_g (lw_at lw_m1 205 rfl) rfl
theorem q271 : (Jvm.Cond.classLink "BranchMender$Kinds" (9 : Nat) "[I") ∈ lw_all := lw_g (lw_at lw_m1 206 rfl) rfl
theorem q272 : (Jvm.Cond.fieldLink "BranchMender$Kinds" (11 : Nat) "BranchMender$Kinds" "rows" "[[I") ∈ lw_all := lw_g (lw_at lw_m1 207 rfl) rfl
theorem q273 : (Jvm.Cond.fieldLink "BranchMender$Kinds" (17 : Nat) "BranchMender$Kinds" "many" "I") ∈ lw_all := lw_g (lw_at lw_m1 208 rfl) rfl
theorem q275 : (Jvm.Cond.laysFinal "BranchMender$Kinds" "BranchMender$Kinds" "rows" "[[I") ∈ lw_all := lw_g (lw_at lw_m1 210 rfl) rfl
theorem q276 : (Jvm.Cond.soleField "BranchMender$Kinds" "rows") ∈ lw_all := lw_g (lw_at lw_m1 211 rfl) rfl
theorem q277 : (Jvm.Cond.lays "BranchMender$Kinds" "BranchMender$Kinds" "many" "I") ∈ lw_all := lw_g (lw_at lw_m1 212 rfl) rfl
theorem q278 : (Jvm.Cond.soleField "BranchMender$Kinds" "many") ∈ lw_all := lw_g (lw_at lw_m1 213 rfl) rfl
theorem q279 : (Jvm.Cond.superclass "BranchMender$Kinds" "java/lang/Object") ∈ lw_all := lw_g (lw_at lw_m1 214 rfl) rfl
theorem q509 : (Jvm.Cond.fieldLink "BranchMender$Kinds" (47 : Nat) "BranchMender$Node" "label" "[B") ∈ lw_all := lw_g (lw_at lw_m2 204 rfl) rfl
theorem q518 : (Jvm.Cond.fieldLink "BranchMender$Kinds" (51 : Nat) "BranchMender$Node" "text" "[B") ∈ lw_all := lw_g (lw_at lw_m2 213 rfl) rfl
theorem q533 : (Jvm.Cond.fieldLink "BranchMender$Kinds" (38 : Nat) "BranchMender$Node" "children" "Ljava/util/ArrayList;") ∈ lw_all := lw_g (lw_at lw_m2 228 rfl) rfl
theorem q548 : (Jvm.Cond.fieldLink "BranchMender$Kinds" (34 : Nat) "BranchMender$Node" "which" "I") ∈ lw_all := lw_g (lw_at lw_m3 3 rfl) rfl
theorem q667 : (Jvm.Cond.selects "BranchMender$Kinds" ({ cls := "java/lang/Object", name := "getClass", desc := "()Ljava/lang/Class;" } : Jvm.MethodName) ({ cls := "java/lang/Object", name := "getClass", desc := "()Ljava/lang/Class;" } : Jvm.MethodName)) ∈ lw_all := lw_g (lw_at lw_m3 122 rfl) rfl
theorem q714 : (Jvm.Cond.fieldLinkNest "BranchMender$Kinds" (26 : Nat) "BranchMender$Tree" "behind" "[LBranchMender$Node;" "BranchMender") ∈ lw_tbl := lw_at lw_m3 169 rfl
theorem q718 : (Jvm.Cond.fieldLinkNest "BranchMender$Kinds" (21 : Nat) "BranchMender$Tree" "size" "I" "BranchMender") ∈ lw_tbl := lw_at lw_m3 173 rfl
theorem q1001 : (Jvm.Cond.selects "BranchMender$Kinds" ({ cls := "java/lang/Object", name := "equals", desc := "(Ljava/lang/Object;)Z" } : Jvm.MethodName) ({ cls := "java/lang/Object", name := "equals", desc := "(Ljava/lang/Object;)Z" } : Jvm.MethodName)) ∈ lw_all := lw_g (lw_at lw_m4 216 rfl) rfl
theorem q1108 : (Jvm.Cond.instanceMethod ({ cls := "BranchMender$Kinds", name := "clear", desc := "()V" } : Jvm.MethodName)) ∈ lw_all := lw_g (lw_at lw_m5 83 rfl) rfl
theorem q1109 : (Jvm.Cond.selects "BranchMender$Kinds" ({ cls := "BranchMender$Kinds", name := "clear", desc := "()V" } : Jvm.MethodName) ({ cls := "BranchMender$Kinds", name := "clear", desc := "()V" } : Jvm.MethodName)) ∈ lw_all := lw_g (lw_at lw_m5 84 rfl) rfl
theorem q1110 : (Jvm.Cond.code ({ cls := "BranchMender$Kinds", name := "clear", desc := "()V" } : Jvm.MethodName) prog_7_method_2_code (1 : Nat) (Option.none : Option Jvm.ClassFile.FieldType)) ∈ lw_all := lw_g (lw_at lw_m5 85 rfl) rfl
theorem q1112 : (Jvm.Cond.instanceMethod ({ cls := "BranchMender$Kinds", name := "number", desc := "(LBranchMender$Tree;)V" } : Jvm.MethodName)) ∈ lw_all := lw_g (lw_at lw_m5 87 rfl) rfl
theorem q1113 : (Jvm.Cond.selects "BranchMender$Kinds" ({ cls := "BranchMender$Kinds", name := "number", desc := "(LBranchMender$Tree;)V" } : Jvm.MethodName) ({ cls := "BranchMender$Kinds", name := "number", desc := "(LBranchMender$Tree;)V" } : Jvm.MethodName)) ∈ lw_all := lw_g (lw_at lw_m5 88 rfl) rfl
theorem q1114 : (Jvm.Cond.code ({ cls := "BranchMender$Kinds", name := "number", desc := "(LBranchMender$Tree;)V" } : Jvm.MethodName) prog_7_method_3_code (3 : Nat) (Option.none : Option Jvm.ClassFile.FieldType)) ∈ lw_all := lw_g (lw_at lw_m5 89 rfl) rfl
theorem q1115 : (Jvm.Cond.methodLink "BranchMender$Kinds" (30 : Nat) ({ cls := "BranchMender$Kinds", name := "which", desc := "(LBranchMender$Node;)I" } : Jvm.MethodName)) ∈ lw_all := lw_g (lw_at lw_m5 90 rfl) rfl
theorem q1116 : (Jvm.Cond.privateMethod ({ cls := "BranchMender$Kinds", name := "which", desc := "(LBranchMender$Node;)I" } : Jvm.MethodName)) ∈ lw_tbl := lw_at lw_m5 91 rfl
theorem q1117 : (Jvm.Cond.instanceMethod ({ cls := "BranchMender$Kinds", name := "which", desc := "(LBranchMender$Node;)I" } : Jvm.MethodName)) ∈ lw_all := lw_g (lw_at lw_m5 92 rfl) rfl
theorem q1118 : (Jvm.Cond.code ({ cls := "BranchMender$Kinds", name := "which", desc := "(LBranchMender$Node;)I" } : Jvm.MethodName) prog_7_method_4_code (6 : Nat) (Option.some Jvm.ClassFile.FieldType.int)) ∈ lw_all := lw_g (lw_at lw_m5 93 rfl) rfl
theorem q1119 : (Jvm.Cond.methodLink "BranchMender$Kinds" (42 : Nat) ({ cls := "java/util/ArrayList", name := "size", desc := "()I" } : Jvm.MethodName)) ∈ lw_all := lw_g (lw_at lw_m5 94 rfl) rfl
theorem q1120 : (Jvm.Cond.methodLink "BranchMender$Kinds" (54 : Nat) ({ cls := "BranchMender$Node", name := "kind", desc := "()I" } : Jvm.MethodName)) ∈ lw_all := lw_g (lw_at lw_m5 95 rfl) rfl
theorem q1121 : (Jvm.Cond.methodLink "BranchMender$Kinds" (57 : Nat) ({ cls := "java/util/ArrayList", name := "get", desc := "(I)Ljava/lang/Object;" } : Jvm.MethodName)) ∈ lw_all := lw_g (lw_at lw_m5 96 rfl) rfl
theorem q1122 : (Jvm.Cond.classLink "BranchMender$Kinds" (35 : Nat) "BranchMender$Node") ∈ lw_all := lw_g (lw_at lw_m5 97 rfl) rfl
theorem q1123 : (Jvm.Cond.methodLink "BranchMender$Kinds" (61 : Nat) ({ cls := "BranchMender$Node", name := "isOrdered", desc := "()Z" } : Jvm.MethodName)) ∈ lw_all := lw_g (lw_at lw_m5 98 rfl) rfl
theorem q1133 : (Jvm.Cond.methodLink "BranchMender$Kinds" (65 : Nat) ({ cls := "BranchMender$Kinds", name := "sort", desc := "([II)V" } : Jvm.MethodName)) ∈ lw_all := lw_g (lw_at lw_m5 108 rfl) rfl
theorem q1134 : (Jvm.Cond.static ({ cls := "BranchMender$Kinds", name := "sort", desc := "([II)V" } : Jvm.MethodName)) ∈ lw_all := lw_g (lw_at lw_m5 109 rfl) rfl
theorem q1135 : (Jvm.Cond.code ({ cls := "BranchMender$Kinds", name := "sort", desc := "([II)V" } : Jvm.MethodName) prog_7_method_5_code (5 : Nat) (Option.none : Option Jvm.ClassFile.FieldType)) ∈ lw_all := lw_g (lw_at lw_m5 110 rfl) rfl
theorem q1136 : (Jvm.Cond.methodLink "BranchMender$Kinds" (69 : Nat) ({ cls := "BranchMender$Kinds", name := "isSame", desc := "([I[I)Z" } : Jvm.MethodName)) ∈ lw_all := lw_g (lw_at lw_m5 111 rfl) rfl
theorem q1137 : (Jvm.Cond.static ({ cls := "BranchMender$Kinds", name := "isSame", desc := "([I[I)Z" } : Jvm.MethodName)) ∈ lw_all := lw_g (lw_at lw_m5 112 rfl) rfl
theorem q1138 : (Jvm.Cond.code ({ cls := "BranchMender$Kinds", name := "isSame", desc := "([I[I)Z" } : Jvm.MethodName) prog_7_method_6_code (4 : Nat) (Option.some Jvm.ClassFile.FieldType.boolean)) ∈ lw_all := lw_g (lw_at lw_m5 113 rfl) rfl
theorem q1649 : (Jvm.Cond.castable "BranchMender$Kinds" "java/lang/Object") ∈ lw_tbl := lw_at lw_m7 144 rfl
theorem in_X5 : ∀ w ∈ wsX50, w ∈ lw_all := lw_in wsX50 [275, 277] (by decide +kernel) (by decide +kernel)

theorem q75 : (Jvm.Cond.initialized "BranchMender$Merger") ∈ lw_all := lw_g (lw_at lw_m1 10 rfl) rfl
theorem q281 : (Jvm.Cond.instantiable "BranchMender$Merger" (9 : Nat)) ∈ lw_all := lw_g (lw_at lw_m1 216 rfl) rfl
theorem q283 : (Jvm.Cond.instanceMethod ({ cls := "BranchMender$Merger", name := "<init>", desc := "()V" } : Jvm.MethodName)) ∈ lw_all := lw_g (lw_at lw_m1 218 rfl) rfl
theorem q284 : (Jvm.Cond.code ({ cls := "BranchMender$Merger", name := "<init>", desc := "()V" } : Jvm.MethodName) prog_9_method_1_code (1 : Nat) (Option.none : Option Jvm.ClassFile.FieldType)) ∈ lw_all := lw_g (lw_at lw_m1 219 rfl) rfl
theorem q285 : (Jvm.Cond.methodLink "BranchMender$Merger" (3 : Nat) ({ cls := "java/lang/Object", name := "<init>", desc := "()V" } : Jvm.MethodName)) ∈ lw_all := lw_g (lw_at lw_m1 220 rfl) rfl
theorem q286 : (Jvm.Cond.classLink "BranchMender$Merger" (9 : Nat) "java/util/ArrayList") ∈ lw_all := lw_g (lw_at lw_m1 221 rfl) rfl
theorem q288 : (Jvm.Cond.methodLink "BranchMender$Merger" (11 : Nat) ({ cls := "java/util/ArrayList", name := "<init>", desc := "()V" } : Jvm.MethodName)) ∈ lw_all := lw_g (lw_at lw_m1 223 rfl) rfl
theorem q312 : (Jvm.Cond.fieldLink "BranchMender$Merger" (12 : Nat) "BranchMender$Merger" "names" "Ljava/util/ArrayList;") ∈ lw_all := lw_g (lw_at lw_m2 7 rfl) rfl
theorem q313 : (Jvm.Cond.fieldLink "BranchMender$Merger" (18 : Nat) "BranchMender$Merger" "clashNames" "[I") ∈ lw_all := lw_g (lw_at lw_m2 8 rfl) rfl
theorem q315 : (Jvm.Cond.fieldLink "BranchMender$Merger" (22 : Nat) "BranchMender$Merger" "clashKinds" "[I") ∈ lw_all := lw_g (lw_at lw_m2 10 rfl) rfl
theorem q317 : (Jvm.Cond.fieldLink "BranchMender$Merger" (28 : Nat) "BranchMender$Merger" "clashes" "I") ∈ lw_all := lw_g (lw_at lw_m2 12 rfl) rfl
theorem q319 : (Jvm.Cond.fieldLink "BranchMender$Merger" (83 : Nat) "BranchMender$Merger" "o" "LBranchMender$Tree;") ∈ lw_all := lw_g (lw_at lw_m2 14 rfl) rfl
theorem q320 : (Jvm.Cond.fieldLink "BranchMender$Merger" (87 : Nat) "BranchMender$Merger" "l" "LBranchMender$Tree;") ∈ lw_all := lw_g (lw_at lw_m2 15 rfl) rfl
theorem q321 : (Jvm.Cond.fieldLink "BranchMender$Merger" (90 : Nat) "BranchMender$Merger" "\x72" "LBranchMender$Tree;") ∈ lw_all := lw_g (lw_at lw_m2 16 rfl) rfl
theorem q322 : (Jvm.Cond.fieldLink "BranchMender$Merger" (25 : Nat) "BranchMender$Merger" "made" "Ljava/util/ArrayList;") ∈ lw_all := lw_g (lw_at lw_m2 17 rfl) rfl
theorem q323 : (Jvm.Cond.fieldLink "BranchMender$Merger" (102 : Nat) "BranchMender$Merger" "bad" "Z") ∈ lw_all := lw_g (lw_at lw_m2 18 rfl) rfl
theorem q324 : (Jvm.Cond.laysFinal "BranchMender$Merger" "BranchMender$Merger" "names" "Ljava/util/ArrayList;") ∈ lw_all := lw_g (lw_at lw_m2 19 rfl) rfl
theorem q325 : (Jvm.Cond.soleField "BranchMender$Merger" "names") ∈ lw_all := lw_g (lw_at lw_m2 20 rfl) rfl
theorem q326 : (Jvm.Cond.laysFinal "BranchMender$Merger" "BranchMender$Merger" "clashNames" "[I") ∈ lw_all := lw_g (lw_at lw_m2 21 rfl) rfl
theorem q327 : (Jvm.Cond.soleField "BranchMender$Merger" "clashNames") ∈ lw_all := lw_g (lw_at lw_m2 22 rfl) rfl
theorem q328 : (Jvm.Cond.laysFinal "BranchMender$Merger" "BranchMender$Merger" "clashKinds" "[I") ∈ lw_all := lw_g (lw_at lw_m2 23 rfl) rfl
theorem q329 : (Jvm.Cond.soleField "BranchMender$Merger" "clashKinds") ∈ lw_all := lw_g (lw_at lw_m2 24 rfl) rfl
theorem q330 : (Jvm.Cond.lays "BranchMender$Merger" "BranchMender$Merger" "clashes" "I") ∈ lw_all := lw_g (lw_at lw_m2 25 rfl) rfl
theorem q331 : (Jvm.Cond.soleField "BranchMender$Merger" "clashes") ∈ lw_all := lw_g (lw_at lw_m2 26 rfl) rfl
theorem q332 : (Jvm.Cond.lays "BranchMender$Merger" "BranchMender$Merger" "o" "LBranchMender$Tree;") ∈ lw_all := lw_g (lw_at lw_m2 27 rfl) rfl
theorem q333 : (Jvm.Cond.soleField "BranchMender$Merger" "o") ∈ lw_all := lw_g (lw_at lw_m2 28 rfl) rfl
theorem q334 : (Jvm.Cond.lays "BranchMender$Merger" "BranchMender$Merger" "l" "LBranchMender$Tree;") ∈ lw_all := lw_g (lw_at lw_m2 29 rfl) rfl
theorem q335 : (Jvm.Cond.soleField "BranchMender$Merger" "l") ∈ lw_all := lw_g (lw_at lw_m2 30 rfl) rfl
theorem q336 : (Jvm.Cond.lays "BranchMender$Merger" "BranchMender$Merger" "\x72" "LBranchMender$Tree;") ∈ lw_all := lw_g (lw_at lw_m2 31 rfl) rfl
theorem q337 : (Jvm.Cond.soleField "BranchMender$Merger" "\x72") ∈ lw_all := lw_g (lw_at lw_m2 32 rfl) rfl
theorem q338 : (Jvm.Cond.laysFinal "BranchMender$Merger" "BranchMender$Merger" "made" "Ljava/util/ArrayList;") ∈ lw_all := lw_g (lw_at lw_m2 33 rfl) rfl
theorem q339 : (Jvm.Cond.soleField "BranchMender$Merger" "made") ∈ lw_all := lw_g (lw_at lw_m2 34 rfl) rfl
theorem q340 : (Jvm.Cond.lays "BranchMender$Merger" "BranchMender$Merger" "bad" "Z") ∈ lw_all := lw_g (lw_at lw_m2 35 rfl) rfl
theorem q341 : (Jvm.Cond.soleField "BranchMender$Merger" "bad") ∈ lw_all := lw_g (lw_at lw_m2 36 rfl) rfl
theorem q342 : (Jvm.Cond.superclass "BranchMender$Merger" "java/lang/Object") ∈ lw_all := lw_g (lw_at lw_m2 37 rfl) rfl
theorem q501 : (Jvm.Cond.fieldLink "BranchMender$Merger" (49 : Nat) "BranchMender$Node" "name" "I") ∈ lw_all := lw_g (lw_at lw_m2 196 rfl) rfl
theorem q512 : (Jvm.Cond.fieldLink "BranchMender$Merger" (55 : Nat) "BranchMender$Node" "label" "[B") ∈ lw_all := lw_g (lw_at lw_m2 207 rfl) rfl
theorem q523 : (Jvm.Cond.fieldLink "BranchMender$Merger" (63 : Nat) "BranchMender$Node" "text" "[B") ∈ lw_all := lw_g (lw_at lw_m2 218 rfl) rfl
theorem q534 : (Jvm.Cond.fieldLink "BranchMender$Merger" (36 : Nat) "BranchMender$Node" "children" "Ljava/util/ArrayList;") ∈ lw_all := lw_g (lw_at lw_m2 229 rfl) rfl
theorem q669 : (Jvm.Cond.selects "BranchMender$Merger" ({ cls := "java/lang/Object", name := "getClass", desc := "()Ljava/lang/Class;" } : Jvm.MethodName) ({ cls := "java/lang/Object", name := "getClass", desc := "()Ljava/lang/Class;" } : Jvm.MethodName)) ∈ lw_all := lw_g (lw_at lw_m3 124 rfl) rfl
theorem q709 : (Jvm.Cond.fieldLinkNest "BranchMender$Merger" (93 : Nat) "BranchMender$Tree" "root" "LBranchMender$Node;" "BranchMender") ∈ lw_tbl := lw_at lw_m3 164 rfl
theorem q712 : (Jvm.Cond.fieldLinkNest "BranchMender$Merger" (150 : Nat) "BranchMender$Tree" "ahead" "[LBranchMender$Node;" "BranchMender") ∈ lw_tbl := lw_at lw_m3 167 rfl
theorem q721 : (Jvm.Cond.fieldLinkNest "BranchMender$Merger" (148 : Nat) "BranchMender$Tree" "size" "I" "BranchMender") ∈ lw_tbl := lw_at lw_m3 176 rfl
theorem q1003 : (Jvm.Cond.selects "BranchMender$Merger" ({ cls := "java/lang/Object", name := "equals", desc := "(Ljava/lang/Object;)Z" } : Jvm.MethodName) ({ cls := "java/lang/Object", name := "equals", desc := "(Ljava/lang/Object;)Z" } : Jvm.MethodName)) ∈ lw_all := lw_g (lw_at lw_m4 218 rfl) rfl
theorem q1152 : (Jvm.Cond.instanceMethod ({ cls := "BranchMender$Merger", name := "merge", desc := "(LBranchMender$Tree;LBranchMender$Tree;LBranchMender$Tree;)LBranchMender$Tree;" } : Jvm.MethodName)) ∈ lw_all := lw_g (lw_at lw_m5 127 rfl) rfl
theorem q1153 : (Jvm.Cond.selects "BranchMender$Merger" ({ cls := "BranchMender$Merger", name := "merge", desc := "(LBranchMender$Tree;LBranchMender$Tree;LBranchMender$Tree;)LBranchMender$Tree;" } : Jvm.MethodName) ({ cls := "BranchMender$Merger", name := "merge", desc := "(LBranchMender$Tree;LBranchMender$Tree;LBranchMender$Tree;)LBranchMender$Tree;" } : Jvm.MethodName)) ∈ lw_all := lw_g (lw_at lw_m5 128 rfl) rfl
theorem q1154 : (Jvm.Cond.code ({ cls := "BranchMender$Merger", name := "merge", desc := "(LBranchMender$Tree;LBranchMender$Tree;LBranchMender$Tree;)LBranchMender$Tree;" } : Jvm.MethodName) prog_9_method_12_code (5 : Nat) (Option.some (Jvm.ClassFile.FieldType.object "BranchMender$Tree"))) ∈ lw_all := lw_g (lw_at lw_m5 129 rfl) rfl
theorem q1155 : (Jvm.Cond.methodLink "BranchMender$Merger" (32 : Nat) ({ cls := "BranchMender$Merger", name := "clash", desc := "(II)V" } : Jvm.MethodName)) ∈ lw_all := lw_g (lw_at lw_m5 130 rfl) rfl
theorem q1156 : (Jvm.Cond.privateMethod ({ cls := "BranchMender$Merger", name := "clash", desc := "(II)V" } : Jvm.MethodName)) ∈ lw_tbl := lw_at lw_m5 131 rfl
theorem q1157 : (Jvm.Cond.instanceMethod ({ cls := "BranchMender$Merger", name := "clash", desc := "(II)V" } : Jvm.MethodName)) ∈ lw_all := lw_g (lw_at lw_m5 132 rfl) rfl
theorem q1158 : (Jvm.Cond.code ({ cls := "BranchMender$Merger", name := "clash", desc := "(II)V" } : Jvm.MethodName) prog_9_method_2_code (3 : Nat) (Option.none : Option Jvm.ClassFile.FieldType)) ∈ lw_all := lw_g (lw_at lw_m5 133 rfl) rfl
theorem q1159 : (Jvm.Cond.methodLink "BranchMender$Merger" (99 : Nat) ({ cls := "java/util/ArrayList", name := "clear", desc := "()V" } : Jvm.MethodName)) ∈ lw_all := lw_g (lw_at lw_m5 134 rfl) rfl
theorem q1163 : (Jvm.Cond.methodLink "BranchMender$Merger" (106 : Nat) ({ cls := "BranchMender$Merger", name := "node", desc := "(II)LBranchMender$Node;" } : Jvm.MethodName)) ∈ lw_all := lw_g (lw_at lw_m5 138 rfl) rfl
theorem q1164 : (Jvm.Cond.privateMethod ({ cls := "BranchMender$Merger", name := "node", desc := "(II)LBranchMender$Node;" } : Jvm.MethodName)) ∈ lw_tbl := lw_at lw_m5 139 rfl
theorem q1165 : (Jvm.Cond.instanceMethod ({ cls := "BranchMender$Merger", name := "node", desc := "(II)LBranchMender$Node;" } : Jvm.MethodName)) ∈ lw_all := lw_g (lw_at lw_m5 140 rfl) rfl
theorem q1166 : (Jvm.Cond.code ({ cls := "BranchMender$Merger", name := "node", desc := "(II)LBranchMender$Node;" } : Jvm.MethodName) prog_9_method_13_code (10 : Nat) (Option.some (Jvm.ClassFile.FieldType.object "BranchMender$Node"))) ∈ lw_all := lw_g (lw_at lw_m5 141 rfl) rfl
theorem q1167 : (Jvm.Cond.methodLink "BranchMender$Merger" (116 : Nat) ({ cls := "BranchMender$Tree", name := "find", desc := "(I)LBranchMender$Node;" } : Jvm.MethodName)) ∈ lw_all := lw_g (lw_at lw_m5 142 rfl) rfl
theorem q1168 : (Jvm.Cond.methodLink "BranchMender$Merger" (41 : Nat) ({ cls := "java/util/ArrayList", name := "size", desc := "()I" } : Jvm.MethodName)) ∈ lw_all := lw_g (lw_at lw_m5 143 rfl) rfl
theorem q1169 : (Jvm.Cond.methodLink "BranchMender$Merger" (45 : Nat) ({ cls := "java/util/ArrayList", name := "get", desc := "(I)Ljava/lang/Object;" } : Jvm.MethodName)) ∈ lw_all := lw_g (lw_at lw_m5 144 rfl) rfl
theorem q1170 : (Jvm.Cond.classLink "BranchMender$Merger" (37 : Nat) "BranchMender$Node") ∈ lw_all := lw_g (lw_at lw_m5 145 rfl) rfl
theorem q1171 : (Jvm.Cond.methodLink "BranchMender$Merger" (120 : Nat) ({ cls := "BranchMender$Merger", name := "kindOf", desc := "(ILBranchMender$Node;LBranchMender$Node;LBranchMender$Node;Z)LBranchMender$Node;" } : Jvm.MethodName)) ∈ lw_all := lw_g (lw_at lw_m5 146 rfl) rfl
theorem q1172 : (Jvm.Cond.privateMethod ({ cls := "BranchMender$Merger", name := "kindOf", desc := "(ILBranchMender$Node;LBranchMender$Node;LBranchMender$Node;Z)LBranchMender$Node;" } : Jvm.MethodName)) ∈ lw_tbl := lw_at lw_m5 147 rfl
theorem q1173 : (Jvm.Cond.instanceMethod ({ cls := "BranchMender$Merger", name := "kindOf", desc := "(ILBranchMender$Node;LBranchMender$Node;LBranchMender$Node;Z)LBranchMender$Node;" } : Jvm.MethodName)) ∈ lw_all := lw_g (lw_at lw_m5 148 rfl) rfl
theorem q1174 : (Jvm.Cond.code ({ cls := "BranchMender$Merger", name := "kindOf", desc := "(ILBranchMender$Node;LBranchMender$Node;LBranchMender$Node;Z)LBranchMender$Node;" } : Jvm.MethodName) prog_9_method_8_code (6 : Nat) (Option.some (Jvm.ClassFile.FieldType.object "BranchMender$Node"))) ∈ lw_all := lw_g (lw_at lw_m5 149 rfl) rfl
theorem q1175 : (Jvm.Cond.methodLink "BranchMender$Merger" (66 : Nat) ({ cls := "BranchMender$Merger", name := "isSameKind", desc := "(LBranchMender$Node;LBranchMender$Node;)Z" } : Jvm.MethodName)) ∈ lw_all := lw_g (lw_at lw_m5 150 rfl) rfl
theorem q1176 : (Jvm.Cond.static ({ cls := "BranchMender$Merger", name := "isSameKind", desc := "(LBranchMender$Node;LBranchMender$Node;)Z" } : Jvm.MethodName)) ∈ lw_all := lw_g (lw_at lw_m5 151 rfl) rfl
theorem q1177 : (Jvm.Cond.code ({ cls := "BranchMender$Merger", name := "isSameKind", desc := "(LBranchMender$Node;LBranchMender$Node;)Z" } : Jvm.MethodName) prog_9_method_5_code (2 : Nat) (Option.some Jvm.ClassFile.FieldType.boolean)) ∈ lw_all := lw_g (lw_at lw_m5 152 rfl) rfl
theorem q1178 : (Jvm.Cond.methodLink "BranchMender$Merger" (52 : Nat) ({ cls := "BranchMender$Node", name := "kind", desc := "()I" } : Jvm.MethodName)) ∈ lw_all := lw_g (lw_at lw_m5 153 rfl) rfl
theorem q1179 : (Jvm.Cond.methodLink "BranchMender$Merger" (70 : Nat) ({ cls := "BranchMender$Merger", name := "chosen", desc := "(ILBranchMender$Node;LBranchMender$Node;LBranchMender$Node;ZZZIZ)LBranchMender$Node;" } : Jvm.MethodName)) ∈ lw_all := lw_g (lw_at lw_m5 154 rfl) rfl
theorem q1180 : (Jvm.Cond.privateMethod ({ cls := "BranchMender$Merger", name := "chosen", desc := "(ILBranchMender$Node;LBranchMender$Node;LBranchMender$Node;ZZZIZ)LBranchMender$Node;" } : Jvm.MethodName)) ∈ lw_tbl := lw_at lw_m5 155 rfl
theorem q1181 : (Jvm.Cond.instanceMethod ({ cls := "BranchMender$Merger", name := "chosen", desc := "(ILBranchMender$Node;LBranchMender$Node;LBranchMender$Node;ZZZIZ)LBranchMender$Node;" } : Jvm.MethodName)) ∈ lw_all := lw_g (lw_at lw_m5 156 rfl) rfl
theorem q1182 : (Jvm.Cond.code ({ cls := "BranchMender$Merger", name := "chosen", desc := "(ILBranchMender$Node;LBranchMender$Node;LBranchMender$Node;ZZZIZ)LBranchMender$Node;" } : Jvm.MethodName) prog_9_method_3_code (10 : Nat) (Option.some (Jvm.ClassFile.FieldType.object "BranchMender$Node"))) ∈ lw_all := lw_g (lw_at lw_m5 157 rfl) rfl
theorem q1183 : (Jvm.Cond.methodLink "BranchMender$Merger" (124 : Nat) ({ cls := "BranchMender$Merger", name := "labelOf", desc := "(ILBranchMender$Node;LBranchMender$Node;LBranchMender$Node;Z)LBranchMender$Node;" } : Jvm.MethodName)) ∈ lw_all := lw_g (lw_at lw_m5 158 rfl) rfl
theorem q1184 : (Jvm.Cond.privateMethod ({ cls := "BranchMender$Merger", name := "labelOf", desc := "(ILBranchMender$Node;LBranchMender$Node;LBranchMender$Node;Z)LBranchMender$Node;" } : Jvm.MethodName)) ∈ lw_tbl := lw_at lw_m5 159 rfl
theorem q1185 : (Jvm.Cond.instanceMethod ({ cls := "BranchMender$Merger", name := "labelOf", desc := "(ILBranchMender$Node;LBranchMender$Node;LBranchMender$Node;Z)LBranchMender$Node;" } : Jvm.MethodName)) ∈ lw_all := lw_g (lw_at lw_m5 160 rfl) rfl
theorem q1186 : (Jvm.Cond.code ({ cls := "BranchMender$Merger", name := "labelOf", desc := "(ILBranchMender$Node;LBranchMender$Node;LBranchMender$Node;Z)LBranchMender$Node;" } : Jvm.MethodName) prog_9_method_9_code (6 : Nat) (Option.some (Jvm.ClassFile.FieldType.object "BranchMender$Node"))) ∈ lw_all := lw_g (lw_at lw_m5 161 rfl) rfl
theorem q1187 : (Jvm.Cond.methodLink "BranchMender$Merger" (74 : Nat) ({ cls := "BranchMender$Merger", name := "isSameLabel", desc := "(LBranchMender$Node;LBranchMender$Node;)Z" } : Jvm.MethodName)) ∈ lw_all := lw_g (lw_at lw_m5 162 rfl) rfl
theorem q1188 : (Jvm.Cond.static ({ cls := "BranchMender$Merger", name := "isSameLabel", desc := "(LBranchMender$Node;LBranchMender$Node;)Z" } : Jvm.MethodName)) ∈ lw_all := lw_g (lw_at lw_m5 163 rfl) rfl
theorem q1189 : (Jvm.Cond.code ({ cls := "BranchMender$Merger", name := "isSameLabel", desc := "(LBranchMender$Node;LBranchMender$Node;)Z" } : Jvm.MethodName) prog_9_method_6_code (2 : Nat) (Option.some Jvm.ClassFile.FieldType.boolean)) ∈ lw_all := lw_g (lw_at lw_m5 164 rfl) rfl
theorem q1190 : (Jvm.Cond.methodLinkNest "BranchMender$Merger" (59 : Nat) ({ cls := "BranchMender", name := "isSame", desc := "([B[B)Z" } : Jvm.MethodName) "BranchMender") ∈ lw_tbl := lw_at lw_m5 165 rfl
theorem q1191 : (Jvm.Cond.methodLink "BranchMender$Merger" (127 : Nat) ({ cls := "BranchMender$Merger", name := "textOf", desc := "(ILBranchMender$Node;LBranchMender$Node;LBranchMender$Node;Z)LBranchMender$Node;" } : Jvm.MethodName)) ∈ lw_all := lw_g (lw_at lw_m5 166 rfl) rfl
theorem q1192 : (Jvm.Cond.privateMethod ({ cls := "BranchMender$Merger", name := "textOf", desc := "(ILBranchMender$Node;LBranchMender$Node;LBranchMender$Node;Z)LBranchMender$Node;" } : Jvm.MethodName)) ∈ lw_tbl := lw_at lw_m5 167 rfl
theorem q1193 : (Jvm.Cond.instanceMethod ({ cls := "BranchMender$Merger", name := "textOf", desc := "(ILBranchMender$Node;LBranchMender$Node;LBranchMender$Node;Z)LBranchMender$Node;" } : Jvm.MethodName)) ∈ lw_all := lw_g (lw_at lw_m5 168 rfl) rfl
theorem q1194 : (Jvm.Cond.code ({ cls := "BranchMender$Merger", name := "textOf", desc := "(ILBranchMender$Node;LBranchMender$Node;LBranchMender$Node;Z)LBranchMender$Node;" } : Jvm.MethodName) prog_9_method_10_code (6 : Nat) (Option.some (Jvm.ClassFile.FieldType.object "BranchMender$Node"))) ∈ lw_all := lw_g (lw_at lw_m5 169 rfl) rfl
theorem q1195 : (Jvm.Cond.methodLink "BranchMender$Merger" (77 : Nat) ({ cls := "BranchMender$Merger", name := "isSameText", desc := "(LBranchMender$Node;LBranchMender$Node;)Z" } : Jvm.MethodName)) ∈ lw_all := lw_g (lw_at lw_m5 170 rfl) rfl
theorem q1196 : (Jvm.Cond.static ({ cls := "BranchMender$Merger", name := "isSameText", desc := "(LBranchMender$Node;LBranchMender$Node;)Z" } : Jvm.MethodName)) ∈ lw_all := lw_g (lw_at lw_m5 171 rfl) rfl
theorem q1197 : (Jvm.Cond.code ({ cls := "BranchMender$Merger", name := "isSameText", desc := "(LBranchMender$Node;LBranchMender$Node;)Z" } : Jvm.MethodName) prog_9_method_7_code (2 : Nat) (Option.some Jvm.ClassFile.FieldType.boolean)) ∈ lw_all := lw_g (lw_at lw_m5 172 rfl) rfl
theorem q1198 : (Jvm.Cond.methodLinkNest "BranchMender$Merger" (130 : Nat) ({ cls := "BranchMender", name := "made", desc := "(II[B[B)LBranchMender$Node;" } : Jvm.MethodName) "BranchMender") ∈ lw_tbl := lw_at lw_m5 173 rfl
theorem q1199 : (Jvm.Cond.methodLink "BranchMender$Merger" (133 : Nat) ({ cls := "java/util/ArrayList", name := "add", desc := "(Ljava/lang/Object;)Z" } : Jvm.MethodName)) ∈ lw_all := lw_g (lw_at lw_m5 174 rfl) rfl
theorem q1200 : (Jvm.Cond.methodLink "BranchMender$Merger" (137 : Nat) ({ cls := "BranchMender$Merger", name := "listOf", desc := "(ILBranchMender$Node;LBranchMender$Node;LBranchMender$Node;Z)LBranchMender$Node;" } : Jvm.MethodName)) ∈ lw_all := lw_g (lw_at lw_m5 175 rfl) rfl
theorem q1201 : (Jvm.Cond.privateMethod ({ cls := "BranchMender$Merger", name := "listOf", desc := "(ILBranchMender$Node;LBranchMender$Node;LBranchMender$Node;Z)LBranchMender$Node;" } : Jvm.MethodName)) ∈ lw_tbl := lw_at lw_m5 176 rfl
theorem q1202 : (Jvm.Cond.instanceMethod ({ cls := "BranchMender$Merger", name := "listOf", desc := "(ILBranchMender$Node;LBranchMender$Node;LBranchMender$Node;Z)LBranchMender$Node;" } : Jvm.MethodName)) ∈ lw_all := lw_g (lw_at lw_m5 177 rfl) rfl
theorem q1203 : (Jvm.Cond.code ({ cls := "BranchMender$Merger", name := "listOf", desc := "(ILBranchMender$Node;LBranchMender$Node;LBranchMender$Node;Z)LBranchMender$Node;" } : Jvm.MethodName) prog_9_method_11_code (6 : Nat) (Option.some (Jvm.ClassFile.FieldType.object "BranchMender$Node"))) ∈ lw_all := lw_g (lw_at lw_m5 178 rfl) rfl
theorem q1204 : (Jvm.Cond.methodLink "BranchMender$Merger" (80 : Nat) ({ cls := "BranchMender$Merger", name := "isSameList", desc := "(LBranchMender$Node;LBranchMender$Node;)Z" } : Jvm.MethodName)) ∈ lw_all := lw_g (lw_at lw_m5 179 rfl) rfl
theorem q1205 : (Jvm.Cond.static ({ cls := "BranchMender$Merger", name := "isSameList", desc := "(LBranchMender$Node;LBranchMender$Node;)Z" } : Jvm.MethodName)) ∈ lw_all := lw_g (lw_at lw_m5 180 rfl) rfl
theorem q1206 : (Jvm.Cond.code ({ cls := "BranchMender$Merger", name := "isSameList", desc := "(LBranchMender$Node;LBranchMender$Node;)Z" } : Jvm.MethodName) prog_9_method_4_code (3 : Nat) (Option.some Jvm.ClassFile.FieldType.boolean)) ∈ lw_all := lw_g (lw_at lw_m5 181 rfl) rfl
theorem q1207 : (Jvm.Cond.methodLink "BranchMender$Merger" (140 : Nat) ({ cls := "BranchMender$Node", name := "add", desc := "(LBranchMender$Node;)V" } : Jvm.MethodName)) ∈ lw_all := lw_g (lw_at lw_m5 182 rfl) rfl
theorem q1208 : (Jvm.Cond.methodLink "BranchMender$Merger" (142 : Nat) ({ cls := "BranchMender$Node", name := "bears", desc := "()Z" } : Jvm.MethodName)) ∈ lw_all := lw_g (lw_at lw_m5 183 rfl) rfl
theorem q1209 : (Jvm.Cond.methodLink "BranchMender$Merger" (146 : Nat) ({ cls := "BranchMender$Node", name := "clashes", desc := "()Z" } : Jvm.MethodName)) ∈ lw_all := lw_g (lw_at lw_m5 184 rfl) rfl
theorem q1210 : (Jvm.Cond.methodLink "BranchMender$Merger" (110 : Nat) ({ cls := "BranchMender$Merger", name := "tellAll", desc := "()V" } : Jvm.MethodName)) ∈ lw_all := lw_g (lw_at lw_m5 185 rfl) rfl
theorem q1211 : (Jvm.Cond.privateMethod ({ cls := "BranchMender$Merger", name := "tellAll", desc := "()V" } : Jvm.MethodName)) ∈ lw_tbl := lw_at lw_m5 186 rfl
theorem q1212 : (Jvm.Cond.instanceMethod ({ cls := "BranchMender$Merger", name := "tellAll", desc := "()V" } : Jvm.MethodName)) ∈ lw_all := lw_g (lw_at lw_m5 187 rfl) rfl
theorem q1213 : (Jvm.Cond.code ({ cls := "BranchMender$Merger", name := "tellAll", desc := "()V" } : Jvm.MethodName) prog_9_method_14_code (6 : Nat) (Option.none : Option Jvm.ClassFile.FieldType)) ∈ lw_all := lw_g (lw_at lw_m5 188 rfl) rfl
theorem q1214 : (Jvm.Cond.classLink "BranchMender$Merger" (154 : Nat) "java/lang/Integer") ∈ lw_all := lw_g (lw_at lw_m5 189 rfl) rfl
theorem q1215 : (Jvm.Cond.methodLink "BranchMender$Merger" (156 : Nat) ({ cls := "java/lang/Integer", name := "intValue", desc := "()I" } : Jvm.MethodName)) ∈ lw_all := lw_g (lw_at lw_m5 190 rfl) rfl
theorem q1216 : (Jvm.Cond.methodLink "BranchMender$Merger" (159 : Nat) ({ cls := "java/lang/Integer", name := "valueOf", desc := "(I)Ljava/lang/Integer;" } : Jvm.MethodName)) ∈ lw_all := lw_g (lw_at lw_m5 191 rfl) rfl
theorem q1235 : (Jvm.Cond.methodLink "BranchMender$Merger" (163 : Nat) ({ cls := "java/util/ArrayList", name := "add", desc := "(ILjava/lang/Object;)V" } : Jvm.MethodName)) ∈ lw_all := lw_g (lw_at lw_m5 210 rfl) rfl
theorem q1236 : (Jvm.Cond.classLink "BranchMender$Merger" (94 : Nat) "BranchMender$Tree") ∈ lw_all := lw_g (lw_at lw_m5 211 rfl) rfl
theorem q1237 : (Jvm.Cond.methodLink "BranchMender$Merger" (113 : Nat) ({ cls := "BranchMender$Tree", name := "<init>", desc := "(LBranchMender$Node;)V" } : Jvm.MethodName)) ∈ lw_all := lw_g (lw_at lw_m5 212 rfl) rfl
theorem q1650 : (Jvm.Cond.castable "BranchMender$Merger" "java/lang/Object") ∈ lw_tbl := lw_at lw_m7 145 rfl
theorem in_X6 : ∀ w ∈ wsX60, w ∈ lw_all := lw_in wsX60 [324, 326, 328, 330, 332, 334, 336, 338, 340] (by decide +kernel) (by decide +kernel)

theorem q80 : (Jvm.Cond.initialized "BranchMender$Tree") ∈ lw_all := lw_g (lw_at lw_m1 15 rfl) rfl
theorem q430 : (Jvm.Cond.instantiable "BranchMender$Tree" (5 : Nat)) ∈ lw_all := lw_g (lw_at lw_m2 125 rfl) rfl
theorem q500 : (Jvm.Cond.fieldLink "BranchMender$Tree" (61 : Nat) "BranchMender$Node" "name" "I") ∈ lw_all := lw_g (lw_at lw_m2 195 rfl) rfl
theorem q511 : (Jvm.Cond.fieldLink "BranchMender$Tree" (74 : Nat) "BranchMender$Node" "label" "[B") ∈ lw_all := lw_g (lw_at lw_m2 206 rfl) rfl
theorem q522 : (Jvm.Cond.fieldLink "BranchMender$Tree" (78 : Nat) "BranchMender$Node" "text" "[B") ∈ lw_all := lw_g (lw_at lw_m2 217 rfl) rfl
theorem q532 : (Jvm.Cond.fieldLink "BranchMender$Tree" (46 : Nat) "BranchMender$Node" "children" "Ljava/util/ArrayList;") ∈ lw_all := lw_g (lw_at lw_m2 227 rfl) rfl
theorem q538 : (Jvm.Cond.fieldLink "BranchMender$Tree" (41 : Nat) "BranchMender$Node" "ahead" "I") ∈ lw_all := lw_g (lw_at lw_m2 233 rfl) rfl
theorem q541 : (Jvm.Cond.fieldLink "BranchMender$Tree" (59 : Nat) "BranchMender$Node" "behind" "I") ∈ lw_all := lw_g (lw_at lw_m2 236 rfl) rfl
theorem q543 : (Jvm.Cond.fieldLink "BranchMender$Tree" (43 : Nat) "BranchMender$Node" "first" "I") ∈ lw_all := lw_g (lw_at lw_m2 238 rfl) rfl
theorem q546 : (Jvm.Cond.fieldLink "BranchMender$Tree" (35 : Nat) "BranchMender$Node" "deep" "I") ∈ lw_all := lw_g (lw_at lw_m3 1 rfl) rfl
theorem q672 : (Jvm.Cond.selects "BranchMender$Tree" ({ cls := "java/lang/Object", name := "getClass", desc := "()Ljava/lang/Class;" } : Jvm.MethodName) ({ cls := "java/lang/Object", name := "getClass", desc := "()Ljava/lang/Class;" } : Jvm.MethodName)) ∈ lw_all := lw_g (lw_at lw_m3 127 rfl) rfl
theorem q693 : (Jvm.Cond.instanceMethod ({ cls := "BranchMender$Tree", name := "<init>", desc := "(LBranchMender$Node;)V" } : Jvm.MethodName)) ∈ lw_all := lw_g (lw_at lw_m3 148 rfl) rfl
theorem q694 : (Jvm.Cond.code ({ cls := "BranchMender$Tree", name := "<init>", desc := "(LBranchMender$Node;)V" } : Jvm.MethodName) prog_14_method_1_code (2 : Nat) (Option.none : Option Jvm.ClassFile.FieldType)) ∈ lw_all := lw_g (lw_at lw_m3 149 rfl) rfl
theorem q695 : (Jvm.Cond.methodLink "BranchMender$Tree" (3 : Nat) ({ cls := "java/lang/Object", name := "<init>", desc := "()V" } : Jvm.MethodName)) ∈ lw_all := lw_g (lw_at lw_m3 150 rfl) rfl
theorem q696 : (Jvm.Cond.classLink "BranchMender$Tree" (9 : Nat) "BranchMender$Node") ∈ lw_all := lw_g (lw_at lw_m3 151 rfl) rfl
theorem q697 : (Jvm.Cond.methodLink "BranchMender$Tree" (24 : Nat) ({ cls := "BranchMender$Tree", name := "number", desc := "()Z" } : Jvm.MethodName)) ∈ lw_all := lw_g (lw_at lw_m3 152 rfl) rfl
theorem q698 : (Jvm.Cond.instanceMethod ({ cls := "BranchMender$Tree", name := "number", desc := "()Z" } : Jvm.MethodName)) ∈ lw_all := lw_g (lw_at lw_m3 153 rfl) rfl
theorem q699 : (Jvm.Cond.selects "BranchMender$Tree" ({ cls := "BranchMender$Tree", name := "number", desc := "()Z" } : Jvm.MethodName) ({ cls := "BranchMender$Tree", name := "number", desc := "()Z" } : Jvm.MethodName)) ∈ lw_all := lw_g (lw_at lw_m3 154 rfl) rfl
theorem q700 : (Jvm.Cond.code ({ cls := "BranchMender$Tree", name := "number", desc := "()Z" } : Jvm.MethodName) prog_14_method_2_code (1 : Nat) (Option.some Jvm.ClassFile.FieldType.boolean)) ∈ lw_all := lw_g (lw_at lw_m3 155 rfl) rfl
theorem q701 : (Jvm.Cond.methodLink "BranchMender$Tree" (38 : Nat) ({ cls := "BranchMender$Tree", name := "number", desc := "(LBranchMender$Node;)Z" } : Jvm.MethodName)) ∈ lw_all := lw_g (lw_at lw_m3 156 rfl) rfl
theorem q702 : (Jvm.Cond.privateMethod ({ cls := "BranchMender$Tree", name := "number", desc := "(LBranchMender$Node;)Z" } : Jvm.MethodName)) ∈ lw_tbl := lw_at lw_m3 157 rfl
theorem q703 : (Jvm.Cond.instanceMethod ({ cls := "BranchMender$Tree", name := "number", desc := "(LBranchMender$Node;)Z" } : Jvm.MethodName)) ∈ lw_all := lw_g (lw_at lw_m3 158 rfl) rfl
theorem q704 : (Jvm.Cond.code ({ cls := "BranchMender$Tree", name := "number", desc := "(LBranchMender$Node;)Z" } : Jvm.MethodName) prog_14_method_3_code (3 : Nat) (Option.some Jvm.ClassFile.FieldType.boolean)) ∈ lw_all := lw_g (lw_at lw_m3 159 rfl) rfl
theorem q705 : (Jvm.Cond.methodLink "BranchMender$Tree" (50 : Nat) ({ cls := "java/util/ArrayList", name := "size", desc := "()I" } : Jvm.MethodName)) ∈ lw_all := lw_g (lw_at lw_m3 160 rfl) rfl
theorem q706 : (Jvm.Cond.methodLink "BranchMender$Tree" (55 : Nat) ({ cls := "java/util/ArrayList", name := "get", desc := "(I)Ljava/lang/Object;" } : Jvm.MethodName)) ∈ lw_all := lw_g (lw_at lw_m3 161 rfl) rfl
theorem q707 : (Jvm.Cond.fieldLink "BranchMender$Tree" (20 : Nat) "BranchMender$Tree" "root" "LBranchMender$Node;") ∈ lw_all := lw_g (lw_at lw_m3 162 rfl) rfl
theorem q710 : (Jvm.Cond.fieldLink "BranchMender$Tree" (11 : Nat) "BranchMender$Tree" "ahead" "[LBranchMender$Node;") ∈ lw_all := lw_g (lw_at lw_m3 165 rfl) rfl
theorem q713 : (Jvm.Cond.fieldLink "BranchMender$Tree" (17 : Nat) "BranchMender$Tree" "behind" "[LBranchMender$Node;") ∈ lw_all := lw_g (lw_at lw_m3 168 rfl) rfl
theorem q717 : (Jvm.Cond.fieldLink "BranchMender$Tree" (28 : Nat) "BranchMender$Tree" "size" "I") ∈ lw_all := lw_g (lw_at lw_m3 172 rfl) rfl
theorem q722 : (Jvm.Cond.fieldLink "BranchMender$Tree" (32 : Nat) "BranchMender$Tree" "last" "I") ∈ lw_all := lw_g (lw_at lw_m3 177 rfl) rfl
theorem q723 : (Jvm.Cond.lays "BranchMender$Tree" "BranchMender$Tree" "root" "LBranchMender$Node;") ∈ lw_all := lw_g (lw_at lw_m3 178 rfl) rfl
theorem q724 : (Jvm.Cond.soleField "BranchMender$Tree" "root") ∈ lw_all := lw_g (lw_at lw_m3 179 rfl) rfl
theorem q725 : (Jvm.Cond.laysFinal "BranchMender$Tree" "BranchMender$Tree" "ahead" "[LBranchMender$Node;") ∈ lw_all := lw_g (lw_at lw_m3 180 rfl) rfl
theorem q726 : (Jvm.Cond.soleField "BranchMender$Tree" "ahead") ∈ lw_all := lw_g (lw_at lw_m3 181 rfl) rfl
theorem q727 : (Jvm.Cond.laysFinal "BranchMender$Tree" "BranchMender$Tree" "behind" "[LBranchMender$Node;") ∈ lw_all := lw_g (lw_at lw_m3 182 rfl) rfl
theorem q728 : (Jvm.Cond.soleField "BranchMender$Tree" "behind") ∈ lw_all := lw_g (lw_at lw_m3 183 rfl) rfl
theorem q729 : (Jvm.Cond.lays "BranchMender$Tree" "BranchMender$Tree" "size" "I") ∈ lw_all := lw_g (lw_at lw_m3 184 rfl) rfl
theorem q730 : (Jvm.Cond.soleField "BranchMender$Tree" "size") ∈ lw_all := lw_g (lw_at lw_m3 185 rfl) rfl
theorem q731 : (Jvm.Cond.lays "BranchMender$Tree" "BranchMender$Tree" "last" "I") ∈ lw_all := lw_g (lw_at lw_m3 186 rfl) rfl
theorem q732 : (Jvm.Cond.soleField "BranchMender$Tree" "last") ∈ lw_all := lw_g (lw_at lw_m3 187 rfl) rfl
theorem q733 : (Jvm.Cond.superclass "BranchMender$Tree" "java/lang/Object") ∈ lw_all := lw_g (lw_at lw_m3 188 rfl) rfl
theorem q850 : (Jvm.Cond.instanceMethod ({ cls := "BranchMender$Tree", name := "copy", desc := "()LBranchMender$Tree;" } : Jvm.MethodName)) ∈ lw_all := lw_g (lw_at lw_m4 65 rfl) rfl
theorem q851 : (Jvm.Cond.selects "BranchMender$Tree" ({ cls := "BranchMender$Tree", name := "copy", desc := "()LBranchMender$Tree;" } : Jvm.MethodName) ({ cls := "BranchMender$Tree", name := "copy", desc := "()LBranchMender$Tree;" } : Jvm.MethodName)) ∈ lw_all := lw_g (lw_at lw_m4 66 rfl) rfl
theorem q852 : (Jvm.Cond.code ({ cls := "BranchMender$Tree", name := "copy", desc := "()LBranchMender$Tree;" } : Jvm.MethodName) prog_14_method_5_code (1 : Nat) (Option.some (Jvm.ClassFile.FieldType.object "BranchMender$Tree"))) ∈ lw_all := lw_g (lw_at lw_m4 67 rfl) rfl
theorem q853 : (Jvm.Cond.classLink "BranchMender$Tree" (12 : Nat) "BranchMender$Tree") ∈ lw_all := lw_g (lw_at lw_m4 68 rfl) rfl
theorem q854 : (Jvm.Cond.methodLink "BranchMender$Tree" (64 : Nat) ({ cls := "BranchMender$Tree", name := "copy", desc := "(LBranchMender$Node;)LBranchMender$Node;" } : Jvm.MethodName)) ∈ lw_all := lw_g (lw_at lw_m4 69 rfl) rfl
theorem q855 : (Jvm.Cond.static ({ cls := "BranchMender$Tree", name := "copy", desc := "(LBranchMender$Node;)LBranchMender$Node;" } : Jvm.MethodName)) ∈ lw_all := lw_g (lw_at lw_m4 70 rfl) rfl
theorem q856 : (Jvm.Cond.code ({ cls := "BranchMender$Tree", name := "copy", desc := "(LBranchMender$Node;)LBranchMender$Node;" } : Jvm.MethodName) prog_14_method_6_code (3 : Nat) (Option.some (Jvm.ClassFile.FieldType.object "BranchMender$Node"))) ∈ lw_all := lw_g (lw_at lw_m4 71 rfl) rfl
theorem q857 : (Jvm.Cond.methodLink "BranchMender$Tree" (71 : Nat) ({ cls := "BranchMender$Node", name := "kind", desc := "()I" } : Jvm.MethodName)) ∈ lw_all := lw_g (lw_at lw_m4 72 rfl) rfl
theorem q874 : (Jvm.Cond.methodLinkNest "BranchMender$Tree" (81 : Nat) ({ cls := "BranchMender", name := "made", desc := "(II[B[B)LBranchMender$Node;" } : Jvm.MethodName) "BranchMender") ∈ lw_tbl := lw_at lw_m4 89 rfl
theorem q875 : (Jvm.Cond.methodLink "BranchMender$Tree" (85 : Nat) ({ cls := "BranchMender$Node", name := "add", desc := "(LBranchMender$Node;)V" } : Jvm.MethodName)) ∈ lw_all := lw_g (lw_at lw_m4 90 rfl) rfl
theorem q876 : (Jvm.Cond.methodLink "BranchMender$Tree" (68 : Nat) ({ cls := "BranchMender$Tree", name := "<init>", desc := "(LBranchMender$Node;)V" } : Jvm.MethodName)) ∈ lw_all := lw_g (lw_at lw_m4 91 rfl) rfl
theorem q900 : (Jvm.Cond.instanceMethod ({ cls := "BranchMender$Tree", name := "find", desc := "(I)LBranchMender$Node;" } : Jvm.MethodName)) ∈ lw_all := lw_g (lw_at lw_m4 115 rfl) rfl
theorem q901 : (Jvm.Cond.selects "BranchMender$Tree" ({ cls := "BranchMender$Tree", name := "find", desc := "(I)LBranchMender$Node;" } : Jvm.MethodName) ({ cls := "BranchMender$Tree", name := "find", desc := "(I)LBranchMender$Node;" } : Jvm.MethodName)) ∈ lw_all := lw_g (lw_at lw_m4 116 rfl) rfl
theorem q902 : (Jvm.Cond.code ({ cls := "BranchMender$Tree", name := "find", desc := "(I)LBranchMender$Node;" } : Jvm.MethodName) prog_14_method_4_code (3 : Nat) (Option.some (Jvm.ClassFile.FieldType.object "BranchMender$Node"))) ∈ lw_all := lw_g (lw_at lw_m4 117 rfl) rfl
theorem q1006 : (Jvm.Cond.selects "BranchMender$Tree" ({ cls := "java/lang/Object", name := "equals", desc := "(Ljava/lang/Object;)Z" } : Jvm.MethodName) ({ cls := "java/lang/Object", name := "equals", desc := "(Ljava/lang/Object;)Z" } : Jvm.MethodName)) ∈ lw_all := lw_g (lw_at lw_m4 221 rfl) rfl
theorem q1642 : (Jvm.Cond.castable "BranchMender$Tree" "java/lang/Object") ∈ lw_tbl := lw_at lw_m7 137 rfl
theorem in_X8 : ∀ w ∈ wsX80, w ∈ lw_all := lw_in wsX80 [723, 725, 727, 729, 731] (by decide +kernel) (by decide +kernel)

theorem q84 : (Jvm.Cond.initialized "BranchMender$Node") ∈ lw_all := lw_g (lw_at lw_m1 19 rfl) rfl
theorem q494 : (Jvm.Cond.instanceMethod ({ cls := "BranchMender$Node", name := "<init>", desc := "(I[B[B)V" } : Jvm.MethodName)) ∈ lw_all := lw_g (lw_at lw_m2 189 rfl) rfl
theorem q495 : (Jvm.Cond.code ({ cls := "BranchMender$Node", name := "<init>", desc := "(I[B[B)V" } : Jvm.MethodName) prog_10_method_1_code (4 : Nat) (Option.none : Option Jvm.ClassFile.FieldType)) ∈ lw_all := lw_g (lw_at lw_m2 190 rfl) rfl
theorem q496 : (Jvm.Cond.methodLink "BranchMender$Node" (1 : Nat) ({ cls := "java/lang/Object", name := "<init>", desc := "()V" } : Jvm.MethodName)) ∈ lw_all := lw_g (lw_at lw_m2 191 rfl) rfl
theorem q497 : (Jvm.Cond.classLink "BranchMender$Node" (7 : Nat) "java/util/ArrayList") ∈ lw_all := lw_g (lw_at lw_m2 192 rfl) rfl
theorem q498 : (Jvm.Cond.methodLink "BranchMender$Node" (9 : Nat) ({ cls := "java/util/ArrayList", name := "<init>", desc := "()V" } : Jvm.MethodName)) ∈ lw_all := lw_g (lw_at lw_m2 193 rfl) rfl
theorem q499 : (Jvm.Cond.fieldLink "BranchMender$Node" (16 : Nat) "BranchMender$Node" "name" "I") ∈ lw_all := lw_g (lw_at lw_m2 194 rfl) rfl
theorem q503 : (Jvm.Cond.fieldLink "BranchMender$Node" (20 : Nat) "BranchMender$Node" "label" "[B") ∈ lw_all := lw_g (lw_at lw_m2 198 rfl) rfl
theorem q515 : (Jvm.Cond.fieldLink "BranchMender$Node" (24 : Nat) "BranchMender$Node" "text" "[B") ∈ lw_all := lw_g (lw_at lw_m2 210 rfl) rfl
theorem q525 : (Jvm.Cond.fieldLink "BranchMender$Node" (35 : Nat) "BranchMender$Node" "parent" "LBranchMender$Node;") ∈ lw_all := lw_g (lw_at lw_m2 220 rfl) rfl
theorem q527 : (Jvm.Cond.fieldLink "BranchMender$Node" (10 : Nat) "BranchMender$Node" "children" "Ljava/util/ArrayList;") ∈ lw_all := lw_g (lw_at lw_m2 222 rfl) rfl
theorem q551 : (Jvm.Cond.soleField "BranchMender$Node" "name") ∈ lw_all := lw_g (lw_at lw_m3 6 rfl) rfl
theorem q553 : (Jvm.Cond.soleField "BranchMender$Node" "label") ∈ lw_all := lw_g (lw_at lw_m3 8 rfl) rfl
theorem q555 : (Jvm.Cond.soleField "BranchMender$Node" "text") ∈ lw_all := lw_g (lw_at lw_m3 10 rfl) rfl
theorem q557 : (Jvm.Cond.soleField "BranchMender$Node" "parent") ∈ lw_all := lw_g (lw_at lw_m3 12 rfl) rfl
theorem q559 : (Jvm.Cond.soleField "BranchMender$Node" "children") ∈ lw_all := lw_g (lw_at lw_m3 14 rfl) rfl
theorem q561 : (Jvm.Cond.soleField "BranchMender$Node" "ahead") ∈ lw_all := lw_g (lw_at lw_m3 16 rfl) rfl
theorem q563 : (Jvm.Cond.soleField "BranchMender$Node" "behind") ∈ lw_all := lw_g (lw_at lw_m3 18 rfl) rfl
theorem q565 : (Jvm.Cond.soleField "BranchMender$Node" "first") ∈ lw_all := lw_g (lw_at lw_m3 20 rfl) rfl
theorem q567 : (Jvm.Cond.soleField "BranchMender$Node" "deep") ∈ lw_all := lw_g (lw_at lw_m3 22 rfl) rfl
theorem q569 : (Jvm.Cond.soleField "BranchMender$Node" "which") ∈ lw_all := lw_g (lw_at lw_m3 24 rfl) rfl
theorem q623 : (Jvm.Cond.instanceMethod ({ cls := "BranchMender$Node", name := "add", desc := "(LBranchMender$Node;)V" } : Jvm.MethodName)) ∈ lw_all := lw_g (lw_at lw_m3 78 rfl) rfl
theorem q624 : (Jvm.Cond.sameMethod "BranchMender$Node" "BranchMender$Node" "add" "(LBranchMender$Node;)V") ∈ lw_all := lw_g (lw_at lw_m3 79 rfl) rfl
theorem q629 : (Jvm.Cond.code ({ cls := "BranchMender$Node", name := "add", desc := "(LBranchMender$Node;)V" } : Jvm.MethodName) prog_10_method_7_code (2 : Nat) (Option.none : Option Jvm.ClassFile.FieldType)) ∈ lw_all := lw_g (lw_at lw_m3 84 rfl) rfl
theorem q630 : (Jvm.Cond.methodLink "BranchMender$Node" (31 : Nat) ({ cls := "java/util/ArrayList", name := "add", desc := "(Ljava/lang/Object;)Z" } : Jvm.MethodName)) ∈ lw_all := lw_g (lw_at lw_m3 85 rfl) rfl
theorem q805 : (Jvm.Cond.superclass "BranchMender$Node" "java/lang/Object") ∈ lw_all := lw_g (lw_at lw_m4 20 rfl) rfl
theorem q858 : (Jvm.Cond.declares ({ cls := "BranchMender$Node", name := "kind", desc := "()I" } : Jvm.MethodName)) ∈ lw_tbl := lw_at lw_m4 73 rfl
theorem q859 : (Jvm.Cond.sameMethod "BranchMender$Node" "BranchMender$Node" "kind" "()I") ∈ lw_all := lw_g (lw_at lw_m4 74 rfl) rfl
theorem q912 : (Jvm.Cond.instanceMethod ({ cls := "BranchMender$Node", name := "clashes", desc := "()Z" } : Jvm.MethodName)) ∈ lw_all := lw_g (lw_at lw_m4 127 rfl) rfl
theorem q913 : (Jvm.Cond.sameMethod "BranchMender$Node" "BranchMender$Node" "clashes" "()Z") ∈ lw_all := lw_g (lw_at lw_m4 128 rfl) rfl
theorem q925 : (Jvm.Cond.declares ({ cls := "BranchMender$Node", name := "clashes", desc := "()Z" } : Jvm.MethodName)) ∈ lw_tbl := lw_at lw_m4 140 rfl
theorem q927 : (Jvm.Cond.code ({ cls := "BranchMender$Node", name := "clashes", desc := "()Z" } : Jvm.MethodName) prog_10_method_5_code (1 : Nat) (Option.some Jvm.ClassFile.FieldType.boolean)) ∈ lw_all := lw_g (lw_at lw_m4 142 rfl) rfl
theorem q941 : (Jvm.Cond.instanceMethod ({ cls := "BranchMender$Node", name := "bears", desc := "()Z" } : Jvm.MethodName)) ∈ lw_all := lw_g (lw_at lw_m4 156 rfl) rfl
theorem q942 : (Jvm.Cond.sameMethod "BranchMender$Node" "BranchMender$Node" "bears" "()Z") ∈ lw_all := lw_g (lw_at lw_m4 157 rfl) rfl
theorem q949 : (Jvm.Cond.code ({ cls := "BranchMender$Node", name := "bears", desc := "()Z" } : Jvm.MethodName) prog_10_method_3_code (1 : Nat) (Option.some Jvm.ClassFile.FieldType.boolean)) ∈ lw_all := lw_g (lw_at lw_m4 164 rfl) rfl
theorem q964 : (Jvm.Cond.instanceMethod ({ cls := "BranchMender$Node", name := "add", desc := "(ILBranchMender$Node;)V" } : Jvm.MethodName)) ∈ lw_all := lw_g (lw_at lw_m4 179 rfl) rfl
theorem q965 : (Jvm.Cond.sameMethod "BranchMender$Node" "BranchMender$Node" "add" "(ILBranchMender$Node;)V") ∈ lw_all := lw_g (lw_at lw_m4 180 rfl) rfl
theorem q970 : (Jvm.Cond.code ({ cls := "BranchMender$Node", name := "add", desc := "(ILBranchMender$Node;)V" } : Jvm.MethodName) prog_10_method_8_code (3 : Nat) (Option.none : Option Jvm.ClassFile.FieldType)) ∈ lw_all := lw_g (lw_at lw_m4 185 rfl) rfl
theorem q971 : (Jvm.Cond.methodLink "BranchMender$Node" (39 : Nat) ({ cls := "java/util/ArrayList", name := "add", desc := "(ILjava/lang/Object;)V" } : Jvm.MethodName)) ∈ lw_all := lw_g (lw_at lw_m4 186 rfl) rfl
theorem q1051 : (Jvm.Cond.instanceMethod ({ cls := "BranchMender$Node", name := "fits", desc := "(LBranchMender$Node;)Z" } : Jvm.MethodName)) ∈ lw_all := lw_g (lw_at lw_m5 26 rfl) rfl
theorem q1052 : (Jvm.Cond.sameMethod "BranchMender$Node" "BranchMender$Node" "fits" "(LBranchMender$Node;)Z") ∈ lw_all := lw_g (lw_at lw_m5 27 rfl) rfl
theorem q1061 : (Jvm.Cond.code ({ cls := "BranchMender$Node", name := "fits", desc := "(LBranchMender$Node;)Z" } : Jvm.MethodName) prog_10_method_6_code (2 : Nat) (Option.some Jvm.ClassFile.FieldType.boolean)) ∈ lw_all := lw_g (lw_at lw_m5 36 rfl) rfl
theorem q1062 : (Jvm.Cond.methodLink "BranchMender$Node" (27 : Nat) ({ cls := "BranchMender$Node", name := "kind", desc := "()I" } : Jvm.MethodName)) ∈ lw_all := lw_g (lw_at lw_m5 37 rfl) rfl
theorem q1124 : (Jvm.Cond.instanceMethod ({ cls := "BranchMender$Node", name := "isOrdered", desc := "()Z" } : Jvm.MethodName)) ∈ lw_all := lw_g (lw_at lw_m5 99 rfl) rfl
theorem q1125 : (Jvm.Cond.sameMethod "BranchMender$Node" "BranchMender$Node" "isOrdered" "()Z") ∈ lw_all := lw_g (lw_at lw_m5 100 rfl) rfl
theorem q1132 : (Jvm.Cond.code ({ cls := "BranchMender$Node", name := "isOrdered", desc := "()Z" } : Jvm.MethodName) prog_10_method_4_code (1 : Nat) (Option.some Jvm.ClassFile.FieldType.boolean)) ∈ lw_all := lw_g (lw_at lw_m5 107 rfl) rfl
theorem q1643 : (Jvm.Cond.castable "BranchMender$Node" "java/lang/Object") ∈ lw_tbl := lw_at lw_m7 138 rfl

theorem q85 : (Jvm.Cond.initialized "BranchMender$Branch") ∈ lw_all := lw_g (lw_at lw_m1 20 rfl) rfl
theorem q489 : (Jvm.Cond.instantiable "BranchMender$Branch" (10 : Nat)) ∈ lw_all := lw_g (lw_at lw_m2 184 rfl) rfl
theorem q491 : (Jvm.Cond.instanceMethod ({ cls := "BranchMender$Branch", name := "<init>", desc := "(I[B[B)V" } : Jvm.MethodName)) ∈ lw_all := lw_g (lw_at lw_m2 186 rfl) rfl
theorem q492 : (Jvm.Cond.code ({ cls := "BranchMender$Branch", name := "<init>", desc := "(I[B[B)V" } : Jvm.MethodName) prog_3_method_1_code (4 : Nat) (Option.none : Option Jvm.ClassFile.FieldType)) ∈ lw_all := lw_g (lw_at lw_m2 187 rfl) rfl
theorem q493 : (Jvm.Cond.methodLink "BranchMender$Branch" (1 : Nat) ({ cls := "BranchMender$Node", name := "<init>", desc := "(I[B[B)V" } : Jvm.MethodName)) ∈ lw_all := lw_g (lw_at lw_m2 188 rfl) rfl
theorem q528 : (Jvm.Cond.fieldLink "BranchMender$Branch" (7 : Nat) "BranchMender$Branch" "children" "Ljava/util/ArrayList;") ∈ lw_all := lw_g (lw_at lw_m2 223 rfl) rfl
theorem q529 : (Jvm.Cond.sameField "BranchMender$Branch" "BranchMender$Node" "children" "Ljava/util/ArrayList;") ∈ lw_all := lw_g (lw_at lw_m2 224 rfl) rfl
theorem q550 : (Jvm.Cond.lays "BranchMender$Branch" "BranchMender$Node" "name" "I") ∈ lw_all := lw_g (lw_at lw_m3 5 rfl) rfl
theorem q552 : (Jvm.Cond.lays "BranchMender$Branch" "BranchMender$Node" "label" "[B") ∈ lw_all := lw_g (lw_at lw_m3 7 rfl) rfl
theorem q554 : (Jvm.Cond.lays "BranchMender$Branch" "BranchMender$Node" "text" "[B") ∈ lw_all := lw_g (lw_at lw_m3 9 rfl) rfl
theorem q556 : (Jvm.Cond.lays "BranchMender$Branch" "BranchMender$Node" "parent" "LBranchMender$Node;") ∈ lw_all := lw_g (lw_at lw_m3 11 rfl) rfl
theorem q558 : (Jvm.Cond.laysFinal "BranchMender$Branch" "BranchMender$Node" "children" "Ljava/util/ArrayList;") ∈ lw_all := lw_g (lw_at lw_m3 13 rfl) rfl
theorem q560 : (Jvm.Cond.lays "BranchMender$Branch" "BranchMender$Node" "ahead" "I") ∈ lw_all := lw_g (lw_at lw_m3 15 rfl) rfl
theorem q562 : (Jvm.Cond.lays "BranchMender$Branch" "BranchMender$Node" "behind" "I") ∈ lw_all := lw_g (lw_at lw_m3 17 rfl) rfl
theorem q564 : (Jvm.Cond.lays "BranchMender$Branch" "BranchMender$Node" "first" "I") ∈ lw_all := lw_g (lw_at lw_m3 19 rfl) rfl
theorem q566 : (Jvm.Cond.lays "BranchMender$Branch" "BranchMender$Node" "deep" "I") ∈ lw_all := lw_g (lw_at lw_m3 21 rfl) rfl
theorem q568 : (Jvm.Cond.lays "BranchMender$Branch" "BranchMender$Node" "which" "I") ∈ lw_all := lw_g (lw_at lw_m3 23 rfl) rfl
theorem q570 : (Jvm.Cond.superclass "BranchMender$Branch" "BranchMender$Node") ∈ lw_all := lw_g (lw_at lw_m3 25 rfl) rfl
theorem q626 : (Jvm.Cond.selects "BranchMender$Branch" ({ cls := "BranchMender$Node", name := "add", desc := "(LBranchMender$Node;)V" } : Jvm.MethodName) ({ cls := "BranchMender$Node", name := "add", desc := "(LBranchMender$Node;)V" } : Jvm.MethodName)) ∈ lw_all := lw_g (lw_at lw_m3 81 rfl) rfl
theorem q664 : (Jvm.Cond.selects "BranchMender$Branch" ({ cls := "java/lang/Object", name := "getClass", desc := "()Ljava/lang/Class;" } : Jvm.MethodName) ({ cls := "java/lang/Object", name := "getClass", desc := "()Ljava/lang/Class;" } : Jvm.MethodName)) ∈ lw_all := lw_g (lw_at lw_m3 119 rfl) rfl
theorem q811 : (Jvm.Cond.selects "BranchMender$Branch" ({ cls := "BranchMender$Prints", name := "open", desc := "(LBranchMender$Pen;)V" } : Jvm.MethodName) ({ cls := "BranchMender$Branch", name := "open", desc := "(LBranchMender$Pen;)V" } : Jvm.MethodName)) ∈ lw_all := lw_g (lw_at lw_m4 26 rfl) rfl
theorem q812 : (Jvm.Cond.instanceMethod ({ cls := "BranchMender$Branch", name := "open", desc := "(LBranchMender$Pen;)V" } : Jvm.MethodName)) ∈ lw_all := lw_g (lw_at lw_m4 27 rfl) rfl
theorem q813 : (Jvm.Cond.code ({ cls := "BranchMender$Branch", name := "open", desc := "(LBranchMender$Pen;)V" } : Jvm.MethodName) prog_3_method_3_code (2 : Nat) (Option.none : Option Jvm.ClassFile.FieldType)) ∈ lw_all := lw_g (lw_at lw_m4 28 rfl) rfl
theorem q814 : (Jvm.Cond.methodLink "BranchMender$Branch" (13 : Nat) ({ cls := "java/util/ArrayList", name := "size", desc := "()I" } : Jvm.MethodName)) ∈ lw_all := lw_g (lw_at lw_m4 29 rfl) rfl
theorem q815 : (Jvm.Cond.methodLink "BranchMender$Branch" (19 : Nat) ({ cls := "BranchMender$Pen", name := "say", desc := "(I)V" } : Jvm.MethodName)) ∈ lw_all := lw_g (lw_at lw_m4 30 rfl) rfl
theorem q832 : (Jvm.Cond.selects "BranchMender$Branch" ({ cls := "BranchMender$Prints", name := "close", desc := "(LBranchMender$Pen;)V" } : Jvm.MethodName) ({ cls := "BranchMender$Branch", name := "close", desc := "(LBranchMender$Pen;)V" } : Jvm.MethodName)) ∈ lw_all := lw_g (lw_at lw_m4 47 rfl) rfl
theorem q833 : (Jvm.Cond.instanceMethod ({ cls := "BranchMender$Branch", name := "close", desc := "(LBranchMender$Pen;)V" } : Jvm.MethodName)) ∈ lw_all := lw_g (lw_at lw_m4 48 rfl) rfl
theorem q834 : (Jvm.Cond.code ({ cls := "BranchMender$Branch", name := "close", desc := "(LBranchMender$Pen;)V" } : Jvm.MethodName) prog_3_method_4_code (2 : Nat) (Option.none : Option Jvm.ClassFile.FieldType)) ∈ lw_all := lw_g (lw_at lw_m4 49 rfl) rfl
theorem q864 : (Jvm.Cond.instanceMethod ({ cls := "BranchMender$Branch", name := "kind", desc := "()I" } : Jvm.MethodName)) ∈ lw_all := lw_g (lw_at lw_m4 79 rfl) rfl
theorem q865 : (Jvm.Cond.code ({ cls := "BranchMender$Branch", name := "kind", desc := "()I" } : Jvm.MethodName) prog_3_method_2_code (1 : Nat) (Option.some Jvm.ClassFile.FieldType.int)) ∈ lw_all := lw_g (lw_at lw_m4 80 rfl) rfl
theorem q866 : (Jvm.Cond.selects "BranchMender$Branch" ({ cls := "BranchMender$Node", name := "kind", desc := "()I" } : Jvm.MethodName) ({ cls := "BranchMender$Branch", name := "kind", desc := "()I" } : Jvm.MethodName)) ∈ lw_all := lw_g (lw_at lw_m4 81 rfl) rfl
theorem q915 : (Jvm.Cond.selects "BranchMender$Branch" ({ cls := "BranchMender$Node", name := "clashes", desc := "()Z" } : Jvm.MethodName) ({ cls := "BranchMender$Node", name := "clashes", desc := "()Z" } : Jvm.MethodName)) ∈ lw_all := lw_g (lw_at lw_m4 130 rfl) rfl
theorem q944 : (Jvm.Cond.selects "BranchMender$Branch" ({ cls := "BranchMender$Node", name := "bears", desc := "()Z" } : Jvm.MethodName) ({ cls := "BranchMender$Node", name := "bears", desc := "()Z" } : Jvm.MethodName)) ∈ lw_all := lw_g (lw_at lw_m4 159 rfl) rfl
theorem q967 : (Jvm.Cond.selects "BranchMender$Branch" ({ cls := "BranchMender$Node", name := "add", desc := "(ILBranchMender$Node;)V" } : Jvm.MethodName) ({ cls := "BranchMender$Node", name := "add", desc := "(ILBranchMender$Node;)V" } : Jvm.MethodName)) ∈ lw_all := lw_g (lw_at lw_m4 182 rfl) rfl
theorem q998 : (Jvm.Cond.selects "BranchMender$Branch" ({ cls := "java/lang/Object", name := "equals", desc := "(Ljava/lang/Object;)Z" } : Jvm.MethodName) ({ cls := "java/lang/Object", name := "equals", desc := "(Ljava/lang/Object;)Z" } : Jvm.MethodName)) ∈ lw_all := lw_g (lw_at lw_m4 213 rfl) rfl
theorem q1054 : (Jvm.Cond.selects "BranchMender$Branch" ({ cls := "BranchMender$Node", name := "fits", desc := "(LBranchMender$Node;)Z" } : Jvm.MethodName) ({ cls := "BranchMender$Node", name := "fits", desc := "(LBranchMender$Node;)Z" } : Jvm.MethodName)) ∈ lw_all := lw_g (lw_at lw_m5 29 rfl) rfl
theorem q1129 : (Jvm.Cond.selects "BranchMender$Branch" ({ cls := "BranchMender$Node", name := "isOrdered", desc := "()Z" } : Jvm.MethodName) ({ cls := "BranchMender$Node", name := "isOrdered", desc := "()Z" } : Jvm.MethodName)) ∈ lw_all := lw_g (lw_at lw_m5 104 rfl) rfl
theorem q1636 : (Jvm.Cond.sameMethod "BranchMender$Branch" "BranchMender$Branch" "kind" "()I") ∈ lw_all := lw_g (lw_at lw_m7 131 rfl) rfl
theorem q1639 : (Jvm.Cond.castable "BranchMender$Branch" "BranchMender$Node") ∈ lw_tbl := lw_at lw_m7 134 rfl
theorem q1653 : (Jvm.Cond.castable "BranchMender$Branch" "java/lang/Object") ∈ lw_tbl := lw_at lw_m7 148 rfl
theorem in_X10 : ∀ w ∈ wsX100, w ∈ lw_all := lw_in wsX100 [550, 552, 554, 556, 558, 560, 562, 564, 566, 568] (by decide +kernel) (by decide +kernel)

theorem q86 : (Jvm.Cond.initialized "BranchMender$Bag") ∈ lw_all := lw_g (lw_at lw_m1 21 rfl) rfl
theorem q572 : (Jvm.Cond.instantiable "BranchMender$Bag" (10 : Nat)) ∈ lw_all := lw_g (lw_at lw_m3 27 rfl) rfl
theorem q574 : (Jvm.Cond.instanceMethod ({ cls := "BranchMender$Bag", name := "<init>", desc := "(I[B[B)V" } : Jvm.MethodName)) ∈ lw_all := lw_g (lw_at lw_m3 29 rfl) rfl
theorem q575 : (Jvm.Cond.code ({ cls := "BranchMender$Bag", name := "<init>", desc := "(I[B[B)V" } : Jvm.MethodName) prog_2_method_1_code (4 : Nat) (Option.none : Option Jvm.ClassFile.FieldType)) ∈ lw_all := lw_g (lw_at lw_m3 30 rfl) rfl
theorem q576 : (Jvm.Cond.methodLink "BranchMender$Bag" (1 : Nat) ({ cls := "BranchMender$Branch", name := "<init>", desc := "(I[B[B)V" } : Jvm.MethodName)) ∈ lw_all := lw_g (lw_at lw_m3 31 rfl) rfl
theorem q577 : (Jvm.Cond.lays "BranchMender$Bag" "BranchMender$Node" "name" "I") ∈ lw_all := lw_g (lw_at lw_m3 32 rfl) rfl
theorem q578 : (Jvm.Cond.lays "BranchMender$Bag" "BranchMender$Node" "label" "[B") ∈ lw_all := lw_g (lw_at lw_m3 33 rfl) rfl
theorem q579 : (Jvm.Cond.lays "BranchMender$Bag" "BranchMender$Node" "text" "[B") ∈ lw_all := lw_g (lw_at lw_m3 34 rfl) rfl
theorem q580 : (Jvm.Cond.lays "BranchMender$Bag" "BranchMender$Node" "parent" "LBranchMender$Node;") ∈ lw_all := lw_g (lw_at lw_m3 35 rfl) rfl
theorem q581 : (Jvm.Cond.laysFinal "BranchMender$Bag" "BranchMender$Node" "children" "Ljava/util/ArrayList;") ∈ lw_all := lw_g (lw_at lw_m3 36 rfl) rfl
theorem q582 : (Jvm.Cond.lays "BranchMender$Bag" "BranchMender$Node" "ahead" "I") ∈ lw_all := lw_g (lw_at lw_m3 37 rfl) rfl
theorem q583 : (Jvm.Cond.lays "BranchMender$Bag" "BranchMender$Node" "behind" "I") ∈ lw_all := lw_g (lw_at lw_m3 38 rfl) rfl
theorem q584 : (Jvm.Cond.lays "BranchMender$Bag" "BranchMender$Node" "first" "I") ∈ lw_all := lw_g (lw_at lw_m3 39 rfl) rfl
theorem q585 : (Jvm.Cond.lays "BranchMender$Bag" "BranchMender$Node" "deep" "I") ∈ lw_all := lw_g (lw_at lw_m3 40 rfl) rfl
theorem q586 : (Jvm.Cond.lays "BranchMender$Bag" "BranchMender$Node" "which" "I") ∈ lw_all := lw_g (lw_at lw_m3 41 rfl) rfl
theorem q587 : (Jvm.Cond.superclass "BranchMender$Bag" "BranchMender$Branch") ∈ lw_all := lw_g (lw_at lw_m3 42 rfl) rfl
theorem q625 : (Jvm.Cond.selects "BranchMender$Bag" ({ cls := "BranchMender$Node", name := "add", desc := "(LBranchMender$Node;)V" } : Jvm.MethodName) ({ cls := "BranchMender$Node", name := "add", desc := "(LBranchMender$Node;)V" } : Jvm.MethodName)) ∈ lw_all := lw_g (lw_at lw_m3 80 rfl) rfl
theorem q663 : (Jvm.Cond.selects "BranchMender$Bag" ({ cls := "java/lang/Object", name := "getClass", desc := "()Ljava/lang/Class;" } : Jvm.MethodName) ({ cls := "java/lang/Object", name := "getClass", desc := "()Ljava/lang/Class;" } : Jvm.MethodName)) ∈ lw_all := lw_g (lw_at lw_m3 118 rfl) rfl
theorem q807 : (Jvm.Cond.selects "BranchMender$Bag" ({ cls := "BranchMender$Prints", name := "open", desc := "(LBranchMender$Pen;)V" } : Jvm.MethodName) ({ cls := "BranchMender$Bag", name := "open", desc := "(LBranchMender$Pen;)V" } : Jvm.MethodName)) ∈ lw_all := lw_g (lw_at lw_m4 22 rfl) rfl
theorem q808 : (Jvm.Cond.instanceMethod ({ cls := "BranchMender$Bag", name := "open", desc := "(LBranchMender$Pen;)V" } : Jvm.MethodName)) ∈ lw_all := lw_g (lw_at lw_m4 23 rfl) rfl
theorem q809 : (Jvm.Cond.code ({ cls := "BranchMender$Bag", name := "open", desc := "(LBranchMender$Pen;)V" } : Jvm.MethodName) prog_2_method_4_code (2 : Nat) (Option.none : Option Jvm.ClassFile.FieldType)) ∈ lw_all := lw_g (lw_at lw_m4 24 rfl) rfl
theorem q810 : (Jvm.Cond.methodLink "BranchMender$Bag" (11 : Nat) ({ cls := "BranchMender$Pen", name := "say", desc := "(I)V" } : Jvm.MethodName)) ∈ lw_all := lw_g (lw_at lw_m4 25 rfl) rfl
theorem q829 : (Jvm.Cond.selects "BranchMender$Bag" ({ cls := "BranchMender$Prints", name := "close", desc := "(LBranchMender$Pen;)V" } : Jvm.MethodName) ({ cls := "BranchMender$Bag", name := "close", desc := "(LBranchMender$Pen;)V" } : Jvm.MethodName)) ∈ lw_all := lw_g (lw_at lw_m4 44 rfl) rfl
theorem q830 : (Jvm.Cond.instanceMethod ({ cls := "BranchMender$Bag", name := "close", desc := "(LBranchMender$Pen;)V" } : Jvm.MethodName)) ∈ lw_all := lw_g (lw_at lw_m4 45 rfl) rfl
theorem q831 : (Jvm.Cond.code ({ cls := "BranchMender$Bag", name := "close", desc := "(LBranchMender$Pen;)V" } : Jvm.MethodName) prog_2_method_5_code (2 : Nat) (Option.none : Option Jvm.ClassFile.FieldType)) ∈ lw_all := lw_g (lw_at lw_m4 46 rfl) rfl
theorem q860 : (Jvm.Cond.selects "BranchMender$Bag" ({ cls := "BranchMender$Node", name := "kind", desc := "()I" } : Jvm.MethodName) ({ cls := "BranchMender$Bag", name := "kind", desc := "()I" } : Jvm.MethodName)) ∈ lw_all := lw_g (lw_at lw_m4 75 rfl) rfl
theorem q861 : (Jvm.Cond.instanceMethod ({ cls := "BranchMender$Bag", name := "kind", desc := "()I" } : Jvm.MethodName)) ∈ lw_all := lw_g (lw_at lw_m4 76 rfl) rfl
theorem q862 : (Jvm.Cond.code ({ cls := "BranchMender$Bag", name := "kind", desc := "()I" } : Jvm.MethodName) prog_2_method_2_code (1 : Nat) (Option.some Jvm.ClassFile.FieldType.int)) ∈ lw_all := lw_g (lw_at lw_m4 77 rfl) rfl
theorem q863 : (Jvm.Cond.methodLink "BranchMender$Bag" (7 : Nat) ({ cls := "BranchMender$Branch", name := "kind", desc := "()I" } : Jvm.MethodName)) ∈ lw_all := lw_g (lw_at lw_m4 78 rfl) rfl
theorem q914 : (Jvm.Cond.selects "BranchMender$Bag" ({ cls := "BranchMender$Node", name := "clashes", desc := "()Z" } : Jvm.MethodName) ({ cls := "BranchMender$Node", name := "clashes", desc := "()Z" } : Jvm.MethodName)) ∈ lw_all := lw_g (lw_at lw_m4 129 rfl) rfl
theorem q924 : (Jvm.Cond.sameMethod "BranchMender$Bag" "BranchMender$Node" "clashes" "()Z") ∈ lw_all := lw_g (lw_at lw_m4 139 rfl) rfl
theorem q943 : (Jvm.Cond.selects "BranchMender$Bag" ({ cls := "BranchMender$Node", name := "bears", desc := "()Z" } : Jvm.MethodName) ({ cls := "BranchMender$Node", name := "bears", desc := "()Z" } : Jvm.MethodName)) ∈ lw_all := lw_g (lw_at lw_m4 158 rfl) rfl
theorem q966 : (Jvm.Cond.selects "BranchMender$Bag" ({ cls := "BranchMender$Node", name := "add", desc := "(ILBranchMender$Node;)V" } : Jvm.MethodName) ({ cls := "BranchMender$Node", name := "add", desc := "(ILBranchMender$Node;)V" } : Jvm.MethodName)) ∈ lw_all := lw_g (lw_at lw_m4 181 rfl) rfl
theorem q997 : (Jvm.Cond.selects "BranchMender$Bag" ({ cls := "java/lang/Object", name := "equals", desc := "(Ljava/lang/Object;)Z" } : Jvm.MethodName) ({ cls := "java/lang/Object", name := "equals", desc := "(Ljava/lang/Object;)Z" } : Jvm.MethodName)) ∈ lw_all := lw_g (lw_at lw_m4 212 rfl) rfl
theorem q1053 : (Jvm.Cond.selects "BranchMender$Bag" ({ cls := "BranchMender$Node", name := "fits", desc := "(LBranchMender$Node;)Z" } : Jvm.MethodName) ({ cls := "BranchMender$Node", name := "fits", desc := "(LBranchMender$Node;)Z" } : Jvm.MethodName)) ∈ lw_all := lw_g (lw_at lw_m5 28 rfl) rfl
theorem q1126 : (Jvm.Cond.selects "BranchMender$Bag" ({ cls := "BranchMender$Node", name := "isOrdered", desc := "()Z" } : Jvm.MethodName) ({ cls := "BranchMender$Bag", name := "isOrdered", desc := "()Z" } : Jvm.MethodName)) ∈ lw_all := lw_g (lw_at lw_m5 101 rfl) rfl
theorem q1127 : (Jvm.Cond.instanceMethod ({ cls := "BranchMender$Bag", name := "isOrdered", desc := "()Z" } : Jvm.MethodName)) ∈ lw_all := lw_g (lw_at lw_m5 102 rfl) rfl
theorem q1128 : (Jvm.Cond.code ({ cls := "BranchMender$Bag", name := "isOrdered", desc := "()Z" } : Jvm.MethodName) prog_2_method_3_code (1 : Nat) (Option.some Jvm.ClassFile.FieldType.boolean)) ∈ lw_all := lw_g (lw_at lw_m5 103 rfl) rfl
theorem q1637 : (Jvm.Cond.sameMethod "BranchMender$Bag" "BranchMender$Bag" "kind" "()I") ∈ lw_all := lw_g (lw_at lw_m7 132 rfl) rfl
theorem q1638 : (Jvm.Cond.castable "BranchMender$Bag" "BranchMender$Node") ∈ lw_tbl := lw_at lw_m7 133 rfl
theorem q1654 : (Jvm.Cond.castable "BranchMender$Bag" "java/lang/Object") ∈ lw_tbl := lw_at lw_m7 149 rfl
theorem in_X11 : ∀ w ∈ wsX110, w ∈ lw_all := lw_in wsX110 [577, 578, 579, 580, 581, 582, 583, 584, 585, 586] (by decide +kernel) (by decide +kernel)

theorem q87 : (Jvm.Cond.initialized "BranchMender$Keyed") ∈ lw_all := lw_g (lw_at lw_m1 22 rfl) rfl
theorem q505 : (Jvm.Cond.fieldLink "BranchMender$Keyed" (28 : Nat) "BranchMender$Node" "label" "[B") ∈ lw_all := lw_g (lw_at lw_m2 200 rfl) rfl
theorem q530 : (Jvm.Cond.fieldLink "BranchMender$Keyed" (11 : Nat) "BranchMender$Keyed" "children" "Ljava/util/ArrayList;") ∈ lw_all := lw_g (lw_at lw_m2 225 rfl) rfl
theorem q531 : (Jvm.Cond.sameField "BranchMender$Keyed" "BranchMender$Node" "children" "Ljava/util/ArrayList;") ∈ lw_all := lw_g (lw_at lw_m2 226 rfl) rfl
theorem q589 : (Jvm.Cond.instantiable "BranchMender$Keyed" (10 : Nat)) ∈ lw_all := lw_g (lw_at lw_m3 44 rfl) rfl
theorem q591 : (Jvm.Cond.instanceMethod ({ cls := "BranchMender$Keyed", name := "<init>", desc := "(I[B[B)V" } : Jvm.MethodName)) ∈ lw_all := lw_g (lw_at lw_m3 46 rfl) rfl
theorem q592 : (Jvm.Cond.code ({ cls := "BranchMender$Keyed", name := "<init>", desc := "(I[B[B)V" } : Jvm.MethodName) prog_6_method_1_code (4 : Nat) (Option.none : Option Jvm.ClassFile.FieldType)) ∈ lw_all := lw_g (lw_at lw_m3 47 rfl) rfl
theorem q593 : (Jvm.Cond.methodLink "BranchMender$Keyed" (1 : Nat) ({ cls := "BranchMender$Bag", name := "<init>", desc := "(I[B[B)V" } : Jvm.MethodName)) ∈ lw_all := lw_g (lw_at lw_m3 48 rfl) rfl
theorem q594 : (Jvm.Cond.lays "BranchMender$Keyed" "BranchMender$Node" "name" "I") ∈ lw_all := lw_g (lw_at lw_m3 49 rfl) rfl
theorem q595 : (Jvm.Cond.lays "BranchMender$Keyed" "BranchMender$Node" "label" "[B") ∈ lw_all := lw_g (lw_at lw_m3 50 rfl) rfl
theorem q596 : (Jvm.Cond.lays "BranchMender$Keyed" "BranchMender$Node" "text" "[B") ∈ lw_all := lw_g (lw_at lw_m3 51 rfl) rfl
theorem q597 : (Jvm.Cond.lays "BranchMender$Keyed" "BranchMender$Node" "parent" "LBranchMender$Node;") ∈ lw_all := lw_g (lw_at lw_m3 52 rfl) rfl
theorem q598 : (Jvm.Cond.laysFinal "BranchMender$Keyed" "BranchMender$Node" "children" "Ljava/util/ArrayList;") ∈ lw_all := lw_g (lw_at lw_m3 53 rfl) rfl
theorem q599 : (Jvm.Cond.lays "BranchMender$Keyed" "BranchMender$Node" "ahead" "I") ∈ lw_all := lw_g (lw_at lw_m3 54 rfl) rfl
theorem q600 : (Jvm.Cond.lays "BranchMender$Keyed" "BranchMender$Node" "behind" "I") ∈ lw_all := lw_g (lw_at lw_m3 55 rfl) rfl
theorem q601 : (Jvm.Cond.lays "BranchMender$Keyed" "BranchMender$Node" "first" "I") ∈ lw_all := lw_g (lw_at lw_m3 56 rfl) rfl
theorem q602 : (Jvm.Cond.lays "BranchMender$Keyed" "BranchMender$Node" "deep" "I") ∈ lw_all := lw_g (lw_at lw_m3 57 rfl) rfl
theorem q603 : (Jvm.Cond.lays "BranchMender$Keyed" "BranchMender$Node" "which" "I") ∈ lw_all := lw_g (lw_at lw_m3 58 rfl) rfl
theorem q604 : (Jvm.Cond.superclass "BranchMender$Keyed" "BranchMender$Bag") ∈ lw_all := lw_g (lw_at lw_m3 59 rfl) rfl
theorem q627 : (Jvm.Cond.selects "BranchMender$Keyed" ({ cls := "BranchMender$Node", name := "add", desc := "(LBranchMender$Node;)V" } : Jvm.MethodName) ({ cls := "BranchMender$Node", name := "add", desc := "(LBranchMender$Node;)V" } : Jvm.MethodName)) ∈ lw_all := lw_g (lw_at lw_m3 82 rfl) rfl
theorem q666 : (Jvm.Cond.selects "BranchMender$Keyed" ({ cls := "java/lang/Object", name := "getClass", desc := "()Ljava/lang/Class;" } : Jvm.MethodName) ({ cls := "java/lang/Object", name := "getClass", desc := "()Ljava/lang/Class;" } : Jvm.MethodName)) ∈ lw_all := lw_g (lw_at lw_m3 121 rfl) rfl
theorem q816 : (Jvm.Cond.selects "BranchMender$Keyed" ({ cls := "BranchMender$Prints", name := "open", desc := "(LBranchMender$Pen;)V" } : Jvm.MethodName) ({ cls := "BranchMender$Keyed", name := "open", desc := "(LBranchMender$Pen;)V" } : Jvm.MethodName)) ∈ lw_all := lw_g (lw_at lw_m4 31 rfl) rfl
theorem q817 : (Jvm.Cond.instanceMethod ({ cls := "BranchMender$Keyed", name := "open", desc := "(LBranchMender$Pen;)V" } : Jvm.MethodName)) ∈ lw_all := lw_g (lw_at lw_m4 32 rfl) rfl
theorem q818 : (Jvm.Cond.code ({ cls := "BranchMender$Keyed", name := "open", desc := "(LBranchMender$Pen;)V" } : Jvm.MethodName) prog_6_method_4_code (2 : Nat) (Option.none : Option Jvm.ClassFile.FieldType)) ∈ lw_all := lw_g (lw_at lw_m4 33 rfl) rfl
theorem q819 : (Jvm.Cond.methodLink "BranchMender$Keyed" (42 : Nat) ({ cls := "BranchMender$Pen", name := "say", desc := "(I)V" } : Jvm.MethodName)) ∈ lw_all := lw_g (lw_at lw_m4 34 rfl) rfl
theorem q835 : (Jvm.Cond.selects "BranchMender$Keyed" ({ cls := "BranchMender$Prints", name := "close", desc := "(LBranchMender$Pen;)V" } : Jvm.MethodName) ({ cls := "BranchMender$Keyed", name := "close", desc := "(LBranchMender$Pen;)V" } : Jvm.MethodName)) ∈ lw_all := lw_g (lw_at lw_m4 50 rfl) rfl
theorem q836 : (Jvm.Cond.instanceMethod ({ cls := "BranchMender$Keyed", name := "close", desc := "(LBranchMender$Pen;)V" } : Jvm.MethodName)) ∈ lw_all := lw_g (lw_at lw_m4 51 rfl) rfl
theorem q837 : (Jvm.Cond.code ({ cls := "BranchMender$Keyed", name := "close", desc := "(LBranchMender$Pen;)V" } : Jvm.MethodName) prog_6_method_5_code (2 : Nat) (Option.none : Option Jvm.ClassFile.FieldType)) ∈ lw_all := lw_g (lw_at lw_m4 52 rfl) rfl
theorem q867 : (Jvm.Cond.selects "BranchMender$Keyed" ({ cls := "BranchMender$Node", name := "kind", desc := "()I" } : Jvm.MethodName) ({ cls := "BranchMender$Keyed", name := "kind", desc := "()I" } : Jvm.MethodName)) ∈ lw_all := lw_g (lw_at lw_m4 82 rfl) rfl
theorem q868 : (Jvm.Cond.instanceMethod ({ cls := "BranchMender$Keyed", name := "kind", desc := "()I" } : Jvm.MethodName)) ∈ lw_all := lw_g (lw_at lw_m4 83 rfl) rfl
theorem q869 : (Jvm.Cond.code ({ cls := "BranchMender$Keyed", name := "kind", desc := "()I" } : Jvm.MethodName) prog_6_method_2_code (1 : Nat) (Option.some Jvm.ClassFile.FieldType.int)) ∈ lw_all := lw_g (lw_at lw_m4 84 rfl) rfl
theorem q870 : (Jvm.Cond.methodLink "BranchMender$Keyed" (7 : Nat) ({ cls := "BranchMender$Bag", name := "kind", desc := "()I" } : Jvm.MethodName)) ∈ lw_all := lw_g (lw_at lw_m4 85 rfl) rfl
theorem q916 : (Jvm.Cond.selects "BranchMender$Keyed" ({ cls := "BranchMender$Node", name := "clashes", desc := "()Z" } : Jvm.MethodName) ({ cls := "BranchMender$Keyed", name := "clashes", desc := "()Z" } : Jvm.MethodName)) ∈ lw_all := lw_g (lw_at lw_m4 131 rfl) rfl
theorem q917 : (Jvm.Cond.instanceMethod ({ cls := "BranchMender$Keyed", name := "clashes", desc := "()Z" } : Jvm.MethodName)) ∈ lw_all := lw_g (lw_at lw_m4 132 rfl) rfl
theorem q918 : (Jvm.Cond.code ({ cls := "BranchMender$Keyed", name := "clashes", desc := "()Z" } : Jvm.MethodName) prog_6_method_3_code (3 : Nat) (Option.some Jvm.ClassFile.FieldType.boolean)) ∈ lw_all := lw_g (lw_at lw_m4 133 rfl) rfl
theorem q919 : (Jvm.Cond.methodLink "BranchMender$Keyed" (17 : Nat) ({ cls := "java/util/ArrayList", name := "size", desc := "()I" } : Jvm.MethodName)) ∈ lw_all := lw_g (lw_at lw_m4 134 rfl) rfl
theorem q920 : (Jvm.Cond.methodLink "BranchMender$Keyed" (22 : Nat) ({ cls := "java/util/ArrayList", name := "get", desc := "(I)Ljava/lang/Object;" } : Jvm.MethodName)) ∈ lw_all := lw_g (lw_at lw_m4 135 rfl) rfl
theorem q921 : (Jvm.Cond.classLink "BranchMender$Keyed" (26 : Nat) "BranchMender$Node") ∈ lw_all := lw_g (lw_at lw_m4 136 rfl) rfl
theorem q922 : (Jvm.Cond.methodLinkNest "BranchMender$Keyed" (32 : Nat) ({ cls := "BranchMender", name := "isSame", desc := "([B[B)Z" } : Jvm.MethodName) "BranchMender") ∈ lw_tbl := lw_at lw_m4 137 rfl
theorem q923 : (Jvm.Cond.methodLink "BranchMender$Keyed" (38 : Nat) ({ cls := "BranchMender$Bag", name := "clashes", desc := "()Z" } : Jvm.MethodName)) ∈ lw_all := lw_g (lw_at lw_m4 138 rfl) rfl
theorem q945 : (Jvm.Cond.selects "BranchMender$Keyed" ({ cls := "BranchMender$Node", name := "bears", desc := "()Z" } : Jvm.MethodName) ({ cls := "BranchMender$Node", name := "bears", desc := "()Z" } : Jvm.MethodName)) ∈ lw_all := lw_g (lw_at lw_m4 160 rfl) rfl
theorem q968 : (Jvm.Cond.selects "BranchMender$Keyed" ({ cls := "BranchMender$Node", name := "add", desc := "(ILBranchMender$Node;)V" } : Jvm.MethodName) ({ cls := "BranchMender$Node", name := "add", desc := "(ILBranchMender$Node;)V" } : Jvm.MethodName)) ∈ lw_all := lw_g (lw_at lw_m4 183 rfl) rfl
theorem q1000 : (Jvm.Cond.selects "BranchMender$Keyed" ({ cls := "java/lang/Object", name := "equals", desc := "(Ljava/lang/Object;)Z" } : Jvm.MethodName) ({ cls := "java/lang/Object", name := "equals", desc := "(Ljava/lang/Object;)Z" } : Jvm.MethodName)) ∈ lw_all := lw_g (lw_at lw_m4 215 rfl) rfl
theorem q1055 : (Jvm.Cond.selects "BranchMender$Keyed" ({ cls := "BranchMender$Node", name := "fits", desc := "(LBranchMender$Node;)Z" } : Jvm.MethodName) ({ cls := "BranchMender$Node", name := "fits", desc := "(LBranchMender$Node;)Z" } : Jvm.MethodName)) ∈ lw_all := lw_g (lw_at lw_m5 30 rfl) rfl
theorem q1130 : (Jvm.Cond.selects "BranchMender$Keyed" ({ cls := "BranchMender$Node", name := "isOrdered", desc := "()Z" } : Jvm.MethodName) ({ cls := "BranchMender$Bag", name := "isOrdered", desc := "()Z" } : Jvm.MethodName)) ∈ lw_all := lw_g (lw_at lw_m5 105 rfl) rfl
theorem q1640 : (Jvm.Cond.castable "BranchMender$Keyed" "BranchMender$Node") ∈ lw_tbl := lw_at lw_m7 135 rfl
theorem q1655 : (Jvm.Cond.castable "BranchMender$Keyed" "java/lang/Object") ∈ lw_tbl := lw_at lw_m7 150 rfl
theorem in_X12 : ∀ w ∈ wsX120, w ∈ lw_all := lw_in wsX120 [594, 595, 596, 597, 598, 599, 600, 601, 602, 603] (by decide +kernel) (by decide +kernel)

theorem q88 : (Jvm.Cond.initialized "BranchMender$Whole") ∈ lw_all := lw_g (lw_at lw_m1 23 rfl) rfl
theorem q507 : (Jvm.Cond.fieldLink "BranchMender$Whole" (11 : Nat) "BranchMender$Whole" "label" "[B") ∈ lw_all := lw_g (lw_at lw_m2 202 rfl) rfl
theorem q508 : (Jvm.Cond.sameField "BranchMender$Whole" "BranchMender$Node" "label" "[B") ∈ lw_all := lw_g (lw_at lw_m2 203 rfl) rfl
theorem q510 : (Jvm.Cond.fieldLink "BranchMender$Whole" (17 : Nat) "BranchMender$Node" "label" "[B") ∈ lw_all := lw_g (lw_at lw_m2 205 rfl) rfl
theorem q519 : (Jvm.Cond.fieldLink "BranchMender$Whole" (24 : Nat) "BranchMender$Whole" "text" "[B") ∈ lw_all := lw_g (lw_at lw_m2 214 rfl) rfl
theorem q520 : (Jvm.Cond.sameField "BranchMender$Whole" "BranchMender$Node" "text" "[B") ∈ lw_all := lw_g (lw_at lw_m2 215 rfl) rfl
theorem q521 : (Jvm.Cond.fieldLink "BranchMender$Whole" (27 : Nat) "BranchMender$Node" "text" "[B") ∈ lw_all := lw_g (lw_at lw_m2 216 rfl) rfl
theorem q606 : (Jvm.Cond.instantiable "BranchMender$Whole" (10 : Nat)) ∈ lw_all := lw_g (lw_at lw_m3 61 rfl) rfl
theorem q608 : (Jvm.Cond.instanceMethod ({ cls := "BranchMender$Whole", name := "<init>", desc := "(I[B[B)V" } : Jvm.MethodName)) ∈ lw_all := lw_g (lw_at lw_m3 63 rfl) rfl
theorem q609 : (Jvm.Cond.code ({ cls := "BranchMender$Whole", name := "<init>", desc := "(I[B[B)V" } : Jvm.MethodName) prog_15_method_1_code (4 : Nat) (Option.none : Option Jvm.ClassFile.FieldType)) ∈ lw_all := lw_g (lw_at lw_m3 64 rfl) rfl
theorem q610 : (Jvm.Cond.methodLink "BranchMender$Whole" (1 : Nat) ({ cls := "BranchMender$Node", name := "<init>", desc := "(I[B[B)V" } : Jvm.MethodName)) ∈ lw_all := lw_g (lw_at lw_m3 65 rfl) rfl
theorem q611 : (Jvm.Cond.lays "BranchMender$Whole" "BranchMender$Node" "name" "I") ∈ lw_all := lw_g (lw_at lw_m3 66 rfl) rfl
theorem q612 : (Jvm.Cond.lays "BranchMender$Whole" "BranchMender$Node" "label" "[B") ∈ lw_all := lw_g (lw_at lw_m3 67 rfl) rfl
theorem q613 : (Jvm.Cond.lays "BranchMender$Whole" "BranchMender$Node" "text" "[B") ∈ lw_all := lw_g (lw_at lw_m3 68 rfl) rfl
theorem q614 : (Jvm.Cond.lays "BranchMender$Whole" "BranchMender$Node" "parent" "LBranchMender$Node;") ∈ lw_all := lw_g (lw_at lw_m3 69 rfl) rfl
theorem q615 : (Jvm.Cond.laysFinal "BranchMender$Whole" "BranchMender$Node" "children" "Ljava/util/ArrayList;") ∈ lw_all := lw_g (lw_at lw_m3 70 rfl) rfl
theorem q616 : (Jvm.Cond.lays "BranchMender$Whole" "BranchMender$Node" "ahead" "I") ∈ lw_all := lw_g (lw_at lw_m3 71 rfl) rfl
theorem q617 : (Jvm.Cond.lays "BranchMender$Whole" "BranchMender$Node" "behind" "I") ∈ lw_all := lw_g (lw_at lw_m3 72 rfl) rfl
theorem q618 : (Jvm.Cond.lays "BranchMender$Whole" "BranchMender$Node" "first" "I") ∈ lw_all := lw_g (lw_at lw_m3 73 rfl) rfl
theorem q619 : (Jvm.Cond.lays "BranchMender$Whole" "BranchMender$Node" "deep" "I") ∈ lw_all := lw_g (lw_at lw_m3 74 rfl) rfl
theorem q620 : (Jvm.Cond.lays "BranchMender$Whole" "BranchMender$Node" "which" "I") ∈ lw_all := lw_g (lw_at lw_m3 75 rfl) rfl
theorem q621 : (Jvm.Cond.superclass "BranchMender$Whole" "BranchMender$Node") ∈ lw_all := lw_g (lw_at lw_m3 76 rfl) rfl
theorem q628 : (Jvm.Cond.selects "BranchMender$Whole" ({ cls := "BranchMender$Node", name := "add", desc := "(LBranchMender$Node;)V" } : Jvm.MethodName) ({ cls := "BranchMender$Node", name := "add", desc := "(LBranchMender$Node;)V" } : Jvm.MethodName)) ∈ lw_all := lw_g (lw_at lw_m3 83 rfl) rfl
theorem q673 : (Jvm.Cond.selects "BranchMender$Whole" ({ cls := "java/lang/Object", name := "getClass", desc := "()Ljava/lang/Class;" } : Jvm.MethodName) ({ cls := "java/lang/Object", name := "getClass", desc := "()Ljava/lang/Class;" } : Jvm.MethodName)) ∈ lw_all := lw_g (lw_at lw_m3 128 rfl) rfl
theorem q820 : (Jvm.Cond.selects "BranchMender$Whole" ({ cls := "BranchMender$Prints", name := "open", desc := "(LBranchMender$Pen;)V" } : Jvm.MethodName) ({ cls := "BranchMender$Whole", name := "open", desc := "(LBranchMender$Pen;)V" } : Jvm.MethodName)) ∈ lw_all := lw_g (lw_at lw_m4 35 rfl) rfl
theorem q821 : (Jvm.Cond.instanceMethod ({ cls := "BranchMender$Whole", name := "open", desc := "(LBranchMender$Pen;)V" } : Jvm.MethodName)) ∈ lw_all := lw_g (lw_at lw_m4 36 rfl) rfl
theorem q822 : (Jvm.Cond.code ({ cls := "BranchMender$Whole", name := "open", desc := "(LBranchMender$Pen;)V" } : Jvm.MethodName) prog_15_method_5_code (2 : Nat) (Option.none : Option Jvm.ClassFile.FieldType)) ∈ lw_all := lw_g (lw_at lw_m4 37 rfl) rfl
theorem q823 : (Jvm.Cond.methodLink "BranchMender$Whole" (28 : Nat) ({ cls := "BranchMender$Pen", name := "say", desc := "(I)V" } : Jvm.MethodName)) ∈ lw_all := lw_g (lw_at lw_m4 38 rfl) rfl
theorem q838 : (Jvm.Cond.selects "BranchMender$Whole" ({ cls := "BranchMender$Prints", name := "close", desc := "(LBranchMender$Pen;)V" } : Jvm.MethodName) ({ cls := "BranchMender$Whole", name := "close", desc := "(LBranchMender$Pen;)V" } : Jvm.MethodName)) ∈ lw_all := lw_g (lw_at lw_m4 53 rfl) rfl
theorem q839 : (Jvm.Cond.instanceMethod ({ cls := "BranchMender$Whole", name := "close", desc := "(LBranchMender$Pen;)V" } : Jvm.MethodName)) ∈ lw_all := lw_g (lw_at lw_m4 54 rfl) rfl
theorem q840 : (Jvm.Cond.code ({ cls := "BranchMender$Whole", name := "close", desc := "(LBranchMender$Pen;)V" } : Jvm.MethodName) prog_15_method_6_code (2 : Nat) (Option.none : Option Jvm.ClassFile.FieldType)) ∈ lw_all := lw_g (lw_at lw_m4 55 rfl) rfl
theorem q871 : (Jvm.Cond.selects "BranchMender$Whole" ({ cls := "BranchMender$Node", name := "kind", desc := "()I" } : Jvm.MethodName) ({ cls := "BranchMender$Whole", name := "kind", desc := "()I" } : Jvm.MethodName)) ∈ lw_all := lw_g (lw_at lw_m4 86 rfl) rfl
theorem q872 : (Jvm.Cond.instanceMethod ({ cls := "BranchMender$Whole", name := "kind", desc := "()I" } : Jvm.MethodName)) ∈ lw_all := lw_g (lw_at lw_m4 87 rfl) rfl
theorem q873 : (Jvm.Cond.code ({ cls := "BranchMender$Whole", name := "kind", desc := "()I" } : Jvm.MethodName) prog_15_method_2_code (1 : Nat) (Option.some Jvm.ClassFile.FieldType.int)) ∈ lw_all := lw_g (lw_at lw_m4 88 rfl) rfl
theorem q926 : (Jvm.Cond.selects "BranchMender$Whole" ({ cls := "BranchMender$Node", name := "clashes", desc := "()Z" } : Jvm.MethodName) ({ cls := "BranchMender$Node", name := "clashes", desc := "()Z" } : Jvm.MethodName)) ∈ lw_all := lw_g (lw_at lw_m4 141 rfl) rfl
theorem q946 : (Jvm.Cond.selects "BranchMender$Whole" ({ cls := "BranchMender$Node", name := "bears", desc := "()Z" } : Jvm.MethodName) ({ cls := "BranchMender$Whole", name := "bears", desc := "()Z" } : Jvm.MethodName)) ∈ lw_all := lw_g (lw_at lw_m4 161 rfl) rfl
theorem q947 : (Jvm.Cond.instanceMethod ({ cls := "BranchMender$Whole", name := "bears", desc := "()Z" } : Jvm.MethodName)) ∈ lw_all := lw_g (lw_at lw_m4 162 rfl) rfl
theorem q948 : (Jvm.Cond.code ({ cls := "BranchMender$Whole", name := "bears", desc := "()Z" } : Jvm.MethodName) prog_15_method_3_code (1 : Nat) (Option.some Jvm.ClassFile.FieldType.boolean)) ∈ lw_all := lw_g (lw_at lw_m4 163 rfl) rfl
theorem q969 : (Jvm.Cond.selects "BranchMender$Whole" ({ cls := "BranchMender$Node", name := "add", desc := "(ILBranchMender$Node;)V" } : Jvm.MethodName) ({ cls := "BranchMender$Node", name := "add", desc := "(ILBranchMender$Node;)V" } : Jvm.MethodName)) ∈ lw_all := lw_g (lw_at lw_m4 184 rfl) rfl
theorem q1007 : (Jvm.Cond.selects "BranchMender$Whole" ({ cls := "java/lang/Object", name := "equals", desc := "(Ljava/lang/Object;)Z" } : Jvm.MethodName) ({ cls := "java/lang/Object", name := "equals", desc := "(Ljava/lang/Object;)Z" } : Jvm.MethodName)) ∈ lw_all := lw_g (lw_at lw_m4 222 rfl) rfl
theorem q1056 : (Jvm.Cond.selects "BranchMender$Whole" ({ cls := "BranchMender$Node", name := "fits", desc := "(LBranchMender$Node;)Z" } : Jvm.MethodName) ({ cls := "BranchMender$Whole", name := "fits", desc := "(LBranchMender$Node;)Z" } : Jvm.MethodName)) ∈ lw_all := lw_g (lw_at lw_m5 31 rfl) rfl
theorem q1057 : (Jvm.Cond.instanceMethod ({ cls := "BranchMender$Whole", name := "fits", desc := "(LBranchMender$Node;)Z" } : Jvm.MethodName)) ∈ lw_all := lw_g (lw_at lw_m5 32 rfl) rfl
theorem q1058 : (Jvm.Cond.code ({ cls := "BranchMender$Whole", name := "fits", desc := "(LBranchMender$Node;)Z" } : Jvm.MethodName) prog_15_method_4_code (2 : Nat) (Option.some Jvm.ClassFile.FieldType.boolean)) ∈ lw_all := lw_g (lw_at lw_m5 33 rfl) rfl
theorem q1059 : (Jvm.Cond.methodLink "BranchMender$Whole" (7 : Nat) ({ cls := "BranchMender$Node", name := "fits", desc := "(LBranchMender$Node;)Z" } : Jvm.MethodName)) ∈ lw_all := lw_g (lw_at lw_m5 34 rfl) rfl
theorem q1060 : (Jvm.Cond.methodLinkNest "BranchMender$Whole" (18 : Nat) ({ cls := "BranchMender", name := "isSame", desc := "([B[B)Z" } : Jvm.MethodName) "BranchMender") ∈ lw_tbl := lw_at lw_m5 35 rfl
theorem q1131 : (Jvm.Cond.selects "BranchMender$Whole" ({ cls := "BranchMender$Node", name := "isOrdered", desc := "()Z" } : Jvm.MethodName) ({ cls := "BranchMender$Node", name := "isOrdered", desc := "()Z" } : Jvm.MethodName)) ∈ lw_all := lw_g (lw_at lw_m5 106 rfl) rfl
theorem q1641 : (Jvm.Cond.castable "BranchMender$Whole" "BranchMender$Node") ∈ lw_tbl := lw_at lw_m7 136 rfl
theorem q1656 : (Jvm.Cond.castable "BranchMender$Whole" "java/lang/Object") ∈ lw_tbl := lw_at lw_m7 151 rfl
theorem in_X13 : ∀ w ∈ wsX130, w ∈ lw_all := lw_in wsX130 [611, 612, 613, 614, 615, 616, 617, 618, 619, 620] (by decide +kernel) (by decide +kernel)

theorem q67 : (Jvm.Cond.initialized "java/lang/Throwable") ∈ lw_all := lw_g (lw_at lw_m1 2 rfl) rfl
theorem q114 : (Jvm.Cond.declares ({ cls := "java/lang/Throwable", name := "<init>", desc := "()V" } : Jvm.MethodName)) ∈ lw_tbl := lw_at lw_m1 49 rfl
theorem q115 : (Jvm.Cond.declares ({ cls := "java/lang/Throwable", name := "<init>", desc := "(Ljava/lang/String;)V" } : Jvm.MethodName)) ∈ lw_tbl := lw_at lw_m1 50 rfl
theorem q119 : (Jvm.Cond.lays "java/lang/Throwable" "java/lang/Throwable" "cause" "Ljava/lang/Throwable;") ∈ lw_all := lw_g (lw_at lw_m1 54 rfl) rfl
theorem q121 : (Jvm.Cond.lays "java/lang/Throwable" "java/lang/Throwable" "stackTrace" "[Ljava/lang/StackTraceElement;") ∈ lw_all := lw_g (lw_at lw_m1 56 rfl) rfl
theorem q123 : (Jvm.Cond.lays "java/lang/Throwable" "java/lang/Throwable" "suppressedExceptions" "Ljava/util/List;") ∈ lw_all := lw_g (lw_at lw_m1 58 rfl) rfl
theorem q125 : (Jvm.Cond.lays "java/lang/Throwable" "java/lang/Throwable" "detailMessage" "Ljava/lang/String;") ∈ lw_all := lw_g (lw_at lw_m1 60 rfl) rfl
theorem q127 : (Jvm.Cond.lays "java/lang/Throwable" "java/lang/Throwable" "backtrace" "Ljava/lang/Object;") ∈ lw_all := lw_g (lw_at lw_m1 62 rfl) rfl
theorem q128 : (Jvm.Cond.fieldLink "java/lang/Throwable" (198 : Nat) "java/lang/Throwable" "backtrace" "Ljava/lang/Object;") ∈ lw_all := lw_g (lw_at lw_m1 63 rfl) rfl
theorem q129 : (Jvm.Cond.superclass "java/lang/Throwable" "java/lang/Object") ∈ lw_all := lw_g (lw_at lw_m1 64 rfl) rfl
theorem q130 : (Jvm.Cond.instanceMethod ({ cls := "java/lang/Throwable", name := "<init>", desc := "()V" } : Jvm.MethodName)) ∈ lw_all := lw_g (lw_at lw_m1 65 rfl) rfl
theorem q131 : (Jvm.Cond.code ({ cls := "java/lang/Throwable", name := "<init>", desc := "()V" } : Jvm.MethodName) prog_33_method_1_code (1 : Nat) (Option.none : Option Jvm.ClassFile.FieldType)) ∈ lw_all := lw_g (lw_at lw_m1 66 rfl) rfl
theorem q132 : (Jvm.Cond.methodLink "java/lang/Throwable" (1 : Nat) ({ cls := "java/lang/Object", name := "<init>", desc := "()V" } : Jvm.MethodName)) ∈ lw_all := lw_g (lw_at lw_m1 67 rfl) rfl
theorem q133 : (Jvm.Cond.fieldLink "java/lang/Throwable" (13 : Nat) "java/lang/Throwable" "UNASSIGNED_STACK" "[Ljava/lang/StackTraceElement;") ∈ lw_all := lw_g (lw_at lw_m1 68 rfl) rfl
theorem q134 : (Jvm.Cond.laysStatic "java/lang/Throwable" "UNASSIGNED_STACK" "[Ljava/lang/StackTraceElement;") ∈ lw_tbl := lw_at lw_m1 69 rfl
theorem q135 : (Jvm.Cond.fieldLink "java/lang/Throwable" (20 : Nat) "java/lang/Throwable" "SUPPRESSED_SENTINEL" "Ljava/util/List;") ∈ lw_all := lw_g (lw_at lw_m1 70 rfl) rfl
theorem q136 : (Jvm.Cond.laysStatic "java/lang/Throwable" "SUPPRESSED_SENTINEL" "Ljava/util/List;") ∈ lw_tbl := lw_at lw_m1 71 rfl
theorem q137 : (Jvm.Cond.methodLink "java/lang/Throwable" (27 : Nat) ({ cls := "java/lang/Throwable", name := "fillInStackTrace", desc := "()Ljava/lang/Throwable;" } : Jvm.MethodName)) ∈ lw_all := lw_g (lw_at lw_m1 72 rfl) rfl
theorem q138 : (Jvm.Cond.instanceMethod ({ cls := "java/lang/Throwable", name := "fillInStackTrace", desc := "()Ljava/lang/Throwable;" } : Jvm.MethodName)) ∈ lw_all := lw_g (lw_at lw_m1 73 rfl) rfl
theorem q139 : (Jvm.Cond.sameMethod "java/lang/Throwable" "java/lang/Throwable" "fillInStackTrace" "()Ljava/lang/Throwable;") ∈ lw_all := lw_g (lw_at lw_m1 74 rfl) rfl
theorem q151 : (Jvm.Cond.declares ({ cls := "java/lang/Throwable", name := "fillInStackTrace", desc := "()Ljava/lang/Throwable;" } : Jvm.MethodName)) ∈ lw_tbl := lw_at lw_m1 86 rfl
theorem q155 : (Jvm.Cond.codeSync ({ cls := "java/lang/Throwable", name := "fillInStackTrace", desc := "()Ljava/lang/Throwable;" } : Jvm.MethodName) prog_33_method_18_code (1 : Nat) (Option.some (Jvm.ClassFile.FieldType.object "java/lang/Throwable"))) ∈ lw_all := lw_g (lw_at lw_m1 90 rfl) rfl
theorem q156 : (Jvm.Cond.methodLink "java/lang/Throwable" (202 : Nat) ({ cls := "java/lang/Throwable", name := "fillInStackTrace", desc := "(I)Ljava/lang/Throwable;" } : Jvm.MethodName)) ∈ lw_all := lw_g (lw_at lw_m1 91 rfl) rfl
theorem q157 : (Jvm.Cond.privateMethod ({ cls := "java/lang/Throwable", name := "fillInStackTrace", desc := "(I)Ljava/lang/Throwable;" } : Jvm.MethodName)) ∈ lw_tbl := lw_at lw_m1 92 rfl
theorem q158 : (Jvm.Cond.instanceMethod ({ cls := "java/lang/Throwable", name := "fillInStackTrace", desc := "(I)Ljava/lang/Throwable;" } : Jvm.MethodName)) ∈ lw_all := lw_g (lw_at lw_m1 93 rfl) rfl
theorem q159 : (Jvm.Cond.instantiable "java/lang/Throwable" (6 : Nat)) ∈ lw_all := lw_g (lw_at lw_m1 94 rfl) rfl
theorem q160 : (Jvm.Cond.native ({ cls := "java/lang/Throwable", name := "fillInStackTrace", desc := "(I)Ljava/lang/Throwable;" } : Jvm.MethodName)) ∈ lw_all := lw_g (lw_at lw_m1 95 rfl) rfl
theorem q173 : (Jvm.Cond.fieldLink "java/lang/Throwable" (198 : Nat) "java/lang/Throwable" "backtrace" "Ljava/lang/Object;") ∈ lw_all := lw_g (lw_at lw_m1 108 rfl) rfl
theorem q174 : (Jvm.Cond.fieldLink "java/lang/Throwable" (31 : Nat) "java/lang/Throwable" "detailMessage" "Ljava/lang/String;") ∈ lw_all := lw_g (lw_at lw_m1 109 rfl) rfl
theorem q175 : (Jvm.Cond.fieldLink "java/lang/Throwable" (7 : Nat) "java/lang/Throwable" "cause" "Ljava/lang/Throwable;") ∈ lw_all := lw_g (lw_at lw_m1 110 rfl) rfl
theorem q176 : (Jvm.Cond.fieldLink "java/lang/Throwable" (17 : Nat) "java/lang/Throwable" "stackTrace" "[Ljava/lang/StackTraceElement;") ∈ lw_all := lw_g (lw_at lw_m1 111 rfl) rfl
theorem q177 : (Jvm.Cond.fieldLink "java/lang/Throwable" (24 : Nat) "java/lang/Throwable" "suppressedExceptions" "Ljava/util/List;") ∈ lw_all := lw_g (lw_at lw_m1 112 rfl) rfl
theorem q180 : (Jvm.Cond.soleField "java/lang/Throwable" "backtrace") ∈ lw_all := lw_g (lw_at lw_m1 115 rfl) rfl
theorem q181 : (Jvm.Cond.soleField "java/lang/Throwable" "detailMessage") ∈ lw_all := lw_g (lw_at lw_m1 116 rfl) rfl
theorem q182 : (Jvm.Cond.soleField "java/lang/Throwable" "cause") ∈ lw_all := lw_g (lw_at lw_m1 117 rfl) rfl
theorem q183 : (Jvm.Cond.soleField "java/lang/Throwable" "stackTrace") ∈ lw_all := lw_g (lw_at lw_m1 118 rfl) rfl
theorem q185 : (Jvm.Cond.soleField "java/lang/Throwable" "depth") ∈ lw_all := lw_g (lw_at lw_m1 120 rfl) rfl
theorem q186 : (Jvm.Cond.soleField "java/lang/Throwable" "suppressedExceptions") ∈ lw_all := lw_g (lw_at lw_m1 121 rfl) rfl
theorem q756 : (Jvm.Cond.instanceMethod ({ cls := "java/lang/Throwable", name := "<init>", desc := "(Ljava/lang/String;)V" } : Jvm.MethodName)) ∈ lw_all := lw_g (lw_at lw_m3 211 rfl) rfl
theorem q757 : (Jvm.Cond.code ({ cls := "java/lang/Throwable", name := "<init>", desc := "(Ljava/lang/String;)V" } : Jvm.MethodName) prog_33_method_2_code (2 : Nat) (Option.none : Option Jvm.ClassFile.FieldType)) ∈ lw_all := lw_g (lw_at lw_m3 212 rfl) rfl
theorem q1635 : (Jvm.Cond.sameMethod "java/lang/Throwable" "java/lang/Throwable" "fillInStackTrace" "(I)Ljava/lang/Throwable;") ∈ lw_all := lw_g (lw_at lw_m7 130 rfl) rfl
theorem q1660 : (Jvm.Cond.castable "java/lang/Throwable" "java/lang/Object") ∈ lw_tbl := lw_at lw_m7 155 rfl
theorem in_J0 : ∀ w ∈ wsJ00, w ∈ lw_all := lw_in wsJ00 [119, 121, 123, 125, 127] (by decide +kernel) (by decide +kernel)

theorem q68 : (Jvm.Cond.initialized "java/lang/Exception") ∈ lw_all := lw_g (lw_at lw_m1 3 rfl) rfl
theorem q112 : (Jvm.Cond.declares ({ cls := "java/lang/Exception", name := "<init>", desc := "()V" } : Jvm.MethodName)) ∈ lw_tbl := lw_at lw_m1 47 rfl
theorem q113 : (Jvm.Cond.declares ({ cls := "java/lang/Exception", name := "<init>", desc := "(Ljava/lang/String;)V" } : Jvm.MethodName)) ∈ lw_tbl := lw_at lw_m1 48 rfl
theorem q154 : (Jvm.Cond.superclass "java/lang/Exception" "java/lang/Throwable") ∈ lw_all := lw_g (lw_at lw_m1 89 rfl) rfl
theorem q168 : (Jvm.Cond.instanceMethod ({ cls := "java/lang/Exception", name := "<init>", desc := "()V" } : Jvm.MethodName)) ∈ lw_all := lw_g (lw_at lw_m1 103 rfl) rfl
theorem q169 : (Jvm.Cond.code ({ cls := "java/lang/Exception", name := "<init>", desc := "()V" } : Jvm.MethodName) prog_22_method_1_code (1 : Nat) (Option.none : Option Jvm.ClassFile.FieldType)) ∈ lw_all := lw_g (lw_at lw_m1 104 rfl) rfl
theorem q170 : (Jvm.Cond.methodLink "java/lang/Exception" (1 : Nat) ({ cls := "java/lang/Throwable", name := "<init>", desc := "()V" } : Jvm.MethodName)) ∈ lw_all := lw_g (lw_at lw_m1 105 rfl) rfl
theorem q753 : (Jvm.Cond.instanceMethod ({ cls := "java/lang/Exception", name := "<init>", desc := "(Ljava/lang/String;)V" } : Jvm.MethodName)) ∈ lw_all := lw_g (lw_at lw_m3 208 rfl) rfl
theorem q754 : (Jvm.Cond.code ({ cls := "java/lang/Exception", name := "<init>", desc := "(Ljava/lang/String;)V" } : Jvm.MethodName) prog_22_method_2_code (2 : Nat) (Option.none : Option Jvm.ClassFile.FieldType)) ∈ lw_all := lw_g (lw_at lw_m3 209 rfl) rfl
theorem q755 : (Jvm.Cond.methodLink "java/lang/Exception" (7 : Nat) ({ cls := "java/lang/Throwable", name := "<init>", desc := "(Ljava/lang/String;)V" } : Jvm.MethodName)) ∈ lw_all := lw_g (lw_at lw_m3 210 rfl) rfl

theorem q69 : (Jvm.Cond.initialized "java/lang/RuntimeException") ∈ lw_all := lw_g (lw_at lw_m1 4 rfl) rfl
theorem q110 : (Jvm.Cond.declares ({ cls := "java/lang/RuntimeException", name := "<init>", desc := "()V" } : Jvm.MethodName)) ∈ lw_tbl := lw_at lw_m1 45 rfl
theorem q111 : (Jvm.Cond.declares ({ cls := "java/lang/RuntimeException", name := "<init>", desc := "(Ljava/lang/String;)V" } : Jvm.MethodName)) ∈ lw_tbl := lw_at lw_m1 46 rfl
theorem q150 : (Jvm.Cond.sameMethod "java/lang/RuntimeException" "java/lang/Throwable" "fillInStackTrace" "()Ljava/lang/Throwable;") ∈ lw_all := lw_g (lw_at lw_m1 85 rfl) rfl
theorem q153 : (Jvm.Cond.superclass "java/lang/RuntimeException" "java/lang/Exception") ∈ lw_all := lw_g (lw_at lw_m1 88 rfl) rfl
theorem q165 : (Jvm.Cond.instanceMethod ({ cls := "java/lang/RuntimeException", name := "<init>", desc := "()V" } : Jvm.MethodName)) ∈ lw_all := lw_g (lw_at lw_m1 100 rfl) rfl
theorem q166 : (Jvm.Cond.code ({ cls := "java/lang/RuntimeException", name := "<init>", desc := "()V" } : Jvm.MethodName) prog_30_method_1_code (1 : Nat) (Option.none : Option Jvm.ClassFile.FieldType)) ∈ lw_all := lw_g (lw_at lw_m1 101 rfl) rfl
theorem q167 : (Jvm.Cond.methodLink "java/lang/RuntimeException" (1 : Nat) ({ cls := "java/lang/Exception", name := "<init>", desc := "()V" } : Jvm.MethodName)) ∈ lw_all := lw_g (lw_at lw_m1 102 rfl) rfl
theorem q750 : (Jvm.Cond.instanceMethod ({ cls := "java/lang/RuntimeException", name := "<init>", desc := "(Ljava/lang/String;)V" } : Jvm.MethodName)) ∈ lw_all := lw_g (lw_at lw_m3 205 rfl) rfl
theorem q751 : (Jvm.Cond.code ({ cls := "java/lang/RuntimeException", name := "<init>", desc := "(Ljava/lang/String;)V" } : Jvm.MethodName) prog_30_method_2_code (2 : Nat) (Option.none : Option Jvm.ClassFile.FieldType)) ∈ lw_all := lw_g (lw_at lw_m3 206 rfl) rfl
theorem q752 : (Jvm.Cond.methodLink "java/lang/RuntimeException" (7 : Nat) ({ cls := "java/lang/Exception", name := "<init>", desc := "(Ljava/lang/String;)V" } : Jvm.MethodName)) ∈ lw_all := lw_g (lw_at lw_m3 207 rfl) rfl
theorem q792 : (Jvm.Cond.castable "java/lang/RuntimeException" "java/lang/Throwable") ∈ lw_tbl := lw_at lw_m4 7 rfl

theorem q76 : (Jvm.Cond.initialized "java/util/AbstractCollection") ∈ lw_all := lw_g (lw_at lw_m1 11 rfl) rfl
theorem q295 : (Jvm.Cond.instanceMethod ({ cls := "java/util/AbstractCollection", name := "<init>", desc := "()V" } : Jvm.MethodName)) ∈ lw_all := lw_g (lw_at lw_m1 230 rfl) rfl
theorem q296 : (Jvm.Cond.code ({ cls := "java/util/AbstractCollection", name := "<init>", desc := "()V" } : Jvm.MethodName) prog_36_method_1_code (1 : Nat) (Option.none : Option Jvm.ClassFile.FieldType)) ∈ lw_all := lw_g (lw_at lw_m1 231 rfl) rfl
theorem q297 : (Jvm.Cond.methodLink "java/util/AbstractCollection" (1 : Nat) ({ cls := "java/lang/Object", name := "<init>", desc := "()V" } : Jvm.MethodName)) ∈ lw_all := lw_g (lw_at lw_m1 232 rfl) rfl

theorem q77 : (Jvm.Cond.initialized "java/util/AbstractList") ∈ lw_all := lw_g (lw_at lw_m1 12 rfl) rfl
theorem q292 : (Jvm.Cond.instanceMethod ({ cls := "java/util/AbstractList", name := "<init>", desc := "()V" } : Jvm.MethodName)) ∈ lw_all := lw_g (lw_at lw_m1 227 rfl) rfl
theorem q293 : (Jvm.Cond.code ({ cls := "java/util/AbstractList", name := "<init>", desc := "()V" } : Jvm.MethodName) prog_37_method_1_code (1 : Nat) (Option.none : Option Jvm.ClassFile.FieldType)) ∈ lw_all := lw_g (lw_at lw_m1 228 rfl) rfl
theorem q294 : (Jvm.Cond.methodLink "java/util/AbstractList" (1 : Nat) ({ cls := "java/util/AbstractCollection", name := "<init>", desc := "()V" } : Jvm.MethodName)) ∈ lw_all := lw_g (lw_at lw_m1 229 rfl) rfl
theorem q302 : (Jvm.Cond.fieldLink "java/util/AbstractList" (7 : Nat) "java/util/AbstractList" "modCount" "I") ∈ lw_all := lw_g (lw_at lw_m1 237 rfl) rfl
theorem q310 : (Jvm.Cond.soleField "java/util/AbstractList" "modCount") ∈ lw_all := lw_g (lw_at lw_m2 5 rfl) rfl

theorem q78 : (Jvm.Cond.initialized "java/util/ArrayList") ∈ lw_all := lw_g (lw_at lw_m1 13 rfl) rfl
theorem q287 : (Jvm.Cond.instantiable "java/util/ArrayList" (3 : Nat)) ∈ lw_all := lw_g (lw_at lw_m1 222 rfl) rfl
theorem q289 : (Jvm.Cond.instanceMethod ({ cls := "java/util/ArrayList", name := "<init>", desc := "()V" } : Jvm.MethodName)) ∈ lw_all := lw_g (lw_at lw_m1 224 rfl) rfl
theorem q290 : (Jvm.Cond.code ({ cls := "java/util/ArrayList", name := "<init>", desc := "()V" } : Jvm.MethodName) prog_38_method_2_code (1 : Nat) (Option.none : Option Jvm.ClassFile.FieldType)) ∈ lw_all := lw_g (lw_at lw_m1 225 rfl) rfl
theorem q291 : (Jvm.Cond.methodLink "java/util/ArrayList" (1 : Nat) ({ cls := "java/util/AbstractList", name := "<init>", desc := "()V" } : Jvm.MethodName)) ∈ lw_all := lw_g (lw_at lw_m1 226 rfl) rfl
theorem q298 : (Jvm.Cond.fieldLink "java/util/ArrayList" (39 : Nat) "java/util/ArrayList" "DEFAULTCAPACITY_EMPTY_ELEMENTDATA" "[Ljava/lang/Object;") ∈ lw_all := lw_g (lw_at lw_m1 233 rfl) rfl
theorem q299 : (Jvm.Cond.laysStatic "java/util/ArrayList" "DEFAULTCAPACITY_EMPTY_ELEMENTDATA" "[Ljava/lang/Object;") ∈ lw_tbl := lw_at lw_m1 234 rfl
theorem q300 : (Jvm.Cond.fieldLink "java/util/ArrayList" (9 : Nat) "java/util/ArrayList" "elementData" "[Ljava/lang/Object;") ∈ lw_all := lw_g (lw_at lw_m1 235 rfl) rfl
theorem q301 : (Jvm.Cond.fieldLink "java/util/ArrayList" (48 : Nat) "java/util/ArrayList" "size" "I") ∈ lw_all := lw_g (lw_at lw_m1 236 rfl) rfl
theorem q303 : (Jvm.Cond.fieldLink "java/util/ArrayList" (63 : Nat) "java/util/ArrayList" "modCount" "I") ∈ lw_all := lw_g (lw_at lw_m1 238 rfl) rfl
theorem q304 : (Jvm.Cond.sameField "java/util/ArrayList" "java/util/AbstractList" "modCount" "I") ∈ lw_all := lw_g (lw_at lw_m1 239 rfl) rfl
theorem q305 : (Jvm.Cond.lays "java/util/ArrayList" "java/util/ArrayList" "elementData" "[Ljava/lang/Object;") ∈ lw_all := lw_g (lw_at lw_m2 0 rfl) rfl
theorem q306 : (Jvm.Cond.soleField "java/util/ArrayList" "elementData") ∈ lw_all := lw_g (lw_at lw_m2 1 rfl) rfl
theorem q307 : (Jvm.Cond.lays "java/util/ArrayList" "java/util/ArrayList" "size" "I") ∈ lw_all := lw_g (lw_at lw_m2 2 rfl) rfl
theorem q308 : (Jvm.Cond.soleField "java/util/ArrayList" "size") ∈ lw_all := lw_g (lw_at lw_m2 3 rfl) rfl
theorem q309 : (Jvm.Cond.lays "java/util/ArrayList" "java/util/AbstractList" "modCount" "I") ∈ lw_all := lw_g (lw_at lw_m2 4 rfl) rfl
theorem q311 : (Jvm.Cond.superclass "java/util/ArrayList" "java/util/AbstractList") ∈ lw_all := lw_g (lw_at lw_m2 6 rfl) rfl
theorem q454 : (Jvm.Cond.instanceMethod ({ cls := "java/util/ArrayList", name := "size", desc := "()I" } : Jvm.MethodName)) ∈ lw_all := lw_g (lw_at lw_m2 149 rfl) rfl
theorem q455 : (Jvm.Cond.selects "java/util/ArrayList" ({ cls := "java/util/ArrayList", name := "size", desc := "()I" } : Jvm.MethodName) ({ cls := "java/util/ArrayList", name := "size", desc := "()I" } : Jvm.MethodName)) ∈ lw_all := lw_g (lw_at lw_m2 150 rfl) rfl
theorem q456 : (Jvm.Cond.code ({ cls := "java/util/ArrayList", name := "size", desc := "()I" } : Jvm.MethodName) prog_38_method_8_code (1 : Nat) (Option.some Jvm.ClassFile.FieldType.int)) ∈ lw_all := lw_g (lw_at lw_m2 151 rfl) rfl
theorem q458 : (Jvm.Cond.instanceMethod ({ cls := "java/util/ArrayList", name := "get", desc := "(I)Ljava/lang/Object;" } : Jvm.MethodName)) ∈ lw_all := lw_g (lw_at lw_m2 153 rfl) rfl
theorem q459 : (Jvm.Cond.selects "java/util/ArrayList" ({ cls := "java/util/ArrayList", name := "get", desc := "(I)Ljava/lang/Object;" } : Jvm.MethodName) ({ cls := "java/util/ArrayList", name := "get", desc := "(I)Ljava/lang/Object;" } : Jvm.MethodName)) ∈ lw_all := lw_g (lw_at lw_m2 154 rfl) rfl
theorem q460 : (Jvm.Cond.code ({ cls := "java/util/ArrayList", name := "get", desc := "(I)Ljava/lang/Object;" } : Jvm.MethodName) prog_38_method_20_code (2 : Nat) (Option.some (Jvm.ClassFile.FieldType.object "java/lang/Object"))) ∈ lw_all := lw_g (lw_at lw_m2 155 rfl) rfl
theorem q461 : (Jvm.Cond.methodLink "java/util/ArrayList" (118 : Nat) ({ cls := "java/util/Objects", name := "checkIndex", desc := "(II)I" } : Jvm.MethodName)) ∈ lw_all := lw_g (lw_at lw_m2 156 rfl) rfl
theorem q467 : (Jvm.Cond.methodLink "java/util/ArrayList" (123 : Nat) ({ cls := "java/util/ArrayList", name := "elementData", desc := "(I)Ljava/lang/Object;" } : Jvm.MethodName)) ∈ lw_all := lw_g (lw_at lw_m2 162 rfl) rfl
theorem q468 : (Jvm.Cond.instanceMethod ({ cls := "java/util/ArrayList", name := "elementData", desc := "(I)Ljava/lang/Object;" } : Jvm.MethodName)) ∈ lw_all := lw_g (lw_at lw_m2 163 rfl) rfl
theorem q469 : (Jvm.Cond.selects "java/util/ArrayList" ({ cls := "java/util/ArrayList", name := "elementData", desc := "(I)Ljava/lang/Object;" } : Jvm.MethodName) ({ cls := "java/util/ArrayList", name := "elementData", desc := "(I)Ljava/lang/Object;" } : Jvm.MethodName)) ∈ lw_all := lw_g (lw_at lw_m2 164 rfl) rfl
theorem q470 : (Jvm.Cond.code ({ cls := "java/util/ArrayList", name := "elementData", desc := "(I)Ljava/lang/Object;" } : Jvm.MethodName) prog_38_method_18_code (2 : Nat) (Option.some (Jvm.ClassFile.FieldType.object "java/lang/Object"))) ∈ lw_all := lw_g (lw_at lw_m2 165 rfl) rfl
theorem q631 : (Jvm.Cond.instanceMethod ({ cls := "java/util/ArrayList", name := "add", desc := "(Ljava/lang/Object;)Z" } : Jvm.MethodName)) ∈ lw_all := lw_g (lw_at lw_m3 86 rfl) rfl
theorem q632 : (Jvm.Cond.selects "java/util/ArrayList" ({ cls := "java/util/ArrayList", name := "add", desc := "(Ljava/lang/Object;)Z" } : Jvm.MethodName) ({ cls := "java/util/ArrayList", name := "add", desc := "(Ljava/lang/Object;)Z" } : Jvm.MethodName)) ∈ lw_all := lw_g (lw_at lw_m3 87 rfl) rfl
theorem q633 : (Jvm.Cond.code ({ cls := "java/util/ArrayList", name := "add", desc := "(Ljava/lang/Object;)Z" } : Jvm.MethodName) prog_38_method_25_code (2 : Nat) (Option.some Jvm.ClassFile.FieldType.boolean)) ∈ lw_all := lw_g (lw_at lw_m3 88 rfl) rfl
theorem q634 : (Jvm.Cond.methodLink "java/util/ArrayList" (131 : Nat) ({ cls := "java/util/ArrayList", name := "add", desc := "(Ljava/lang/Object;[Ljava/lang/Object;I)V" } : Jvm.MethodName)) ∈ lw_all := lw_g (lw_at lw_m3 89 rfl) rfl
theorem q635 : (Jvm.Cond.privateMethod ({ cls := "java/util/ArrayList", name := "add", desc := "(Ljava/lang/Object;[Ljava/lang/Object;I)V" } : Jvm.MethodName)) ∈ lw_tbl := lw_at lw_m3 90 rfl
theorem q636 : (Jvm.Cond.instanceMethod ({ cls := "java/util/ArrayList", name := "add", desc := "(Ljava/lang/Object;[Ljava/lang/Object;I)V" } : Jvm.MethodName)) ∈ lw_all := lw_g (lw_at lw_m3 91 rfl) rfl
theorem q637 : (Jvm.Cond.code ({ cls := "java/util/ArrayList", name := "add", desc := "(Ljava/lang/Object;[Ljava/lang/Object;I)V" } : Jvm.MethodName) prog_38_method_24_code (4 : Nat) (Option.none : Option Jvm.ClassFile.FieldType)) ∈ lw_all := lw_g (lw_at lw_m3 92 rfl) rfl
theorem q638 : (Jvm.Cond.methodLink "java/util/ArrayList" (129 : Nat) ({ cls := "java/util/ArrayList", name := "grow", desc := "()[Ljava/lang/Object;" } : Jvm.MethodName)) ∈ lw_all := lw_g (lw_at lw_m3 93 rfl) rfl
theorem q639 : (Jvm.Cond.privateMethod ({ cls := "java/util/ArrayList", name := "grow", desc := "()[Ljava/lang/Object;" } : Jvm.MethodName)) ∈ lw_tbl := lw_at lw_m3 94 rfl
theorem q640 : (Jvm.Cond.instanceMethod ({ cls := "java/util/ArrayList", name := "grow", desc := "()[Ljava/lang/Object;" } : Jvm.MethodName)) ∈ lw_all := lw_g (lw_at lw_m3 95 rfl) rfl
theorem q641 : (Jvm.Cond.code ({ cls := "java/util/ArrayList", name := "grow", desc := "()[Ljava/lang/Object;" } : Jvm.MethodName) prog_38_method_7_code (1 : Nat) (Option.some (Jvm.ClassFile.FieldType.array (Jvm.ClassFile.FieldType.object "java/lang/Object")))) ∈ lw_all := lw_g (lw_at lw_m3 96 rfl) rfl
theorem q642 : (Jvm.Cond.methodLink "java/util/ArrayList" (69 : Nat) ({ cls := "java/util/ArrayList", name := "grow", desc := "(I)[Ljava/lang/Object;" } : Jvm.MethodName)) ∈ lw_all := lw_g (lw_at lw_m3 97 rfl) rfl
theorem q643 : (Jvm.Cond.privateMethod ({ cls := "java/util/ArrayList", name := "grow", desc := "(I)[Ljava/lang/Object;" } : Jvm.MethodName)) ∈ lw_tbl := lw_at lw_m3 98 rfl
theorem q644 : (Jvm.Cond.instanceMethod ({ cls := "java/util/ArrayList", name := "grow", desc := "(I)[Ljava/lang/Object;" } : Jvm.MethodName)) ∈ lw_all := lw_g (lw_at lw_m3 99 rfl) rfl
theorem q645 : (Jvm.Cond.code ({ cls := "java/util/ArrayList", name := "grow", desc := "(I)[Ljava/lang/Object;" } : Jvm.MethodName) prog_38_method_6_code (4 : Nat) (Option.some (Jvm.ClassFile.FieldType.array (Jvm.ClassFile.FieldType.object "java/lang/Object")))) ∈ lw_all := lw_g (lw_at lw_m3 100 rfl) rfl
theorem q646 : (Jvm.Cond.methodLink "java/util/ArrayList" (73 : Nat) ({ cls := "jdk/internal/util/ArraysSupport", name := "newLength", desc := "(III)I" } : Jvm.MethodName)) ∈ lw_all := lw_g (lw_at lw_m3 101 rfl) rfl
theorem q656 : (Jvm.Cond.methodLink "java/util/ArrayList" (66 : Nat) ({ cls := "java/util/Arrays", name := "copyOf", desc := "([Ljava/lang/Object;I)[Ljava/lang/Object;" } : Jvm.MethodName)) ∈ lw_all := lw_g (lw_at lw_m3 111 rfl) rfl
theorem q678 : (Jvm.Cond.selects "java/util/ArrayList" ({ cls := "java/lang/Object", name := "getClass", desc := "()Ljava/lang/Class;" } : Jvm.MethodName) ({ cls := "java/lang/Object", name := "getClass", desc := "()Ljava/lang/Class;" } : Jvm.MethodName)) ∈ lw_all := lw_g (lw_at lw_m3 133 rfl) rfl
theorem q690 : (Jvm.Cond.methodLink "java/util/ArrayList" (79 : Nat) ({ cls := "java/lang/Math", name := "max", desc := "(II)I" } : Jvm.MethodName)) ∈ lw_all := lw_g (lw_at lw_m3 145 rfl) rfl
theorem q691 : (Jvm.Cond.classLink "java/util/ArrayList" (7 : Nat) "java/lang/Object") ∈ lw_all := lw_g (lw_at lw_m3 146 rfl) rfl
theorem q953 : (Jvm.Cond.instanceMethod ({ cls := "java/util/ArrayList", name := "remove", desc := "(I)Ljava/lang/Object;" } : Jvm.MethodName)) ∈ lw_all := lw_g (lw_at lw_m4 168 rfl) rfl
theorem q954 : (Jvm.Cond.selects "java/util/ArrayList" ({ cls := "java/util/ArrayList", name := "remove", desc := "(I)Ljava/lang/Object;" } : Jvm.MethodName) ({ cls := "java/util/ArrayList", name := "remove", desc := "(I)Ljava/lang/Object;" } : Jvm.MethodName)) ∈ lw_all := lw_g (lw_at lw_m4 169 rfl) rfl
theorem q955 : (Jvm.Cond.code ({ cls := "java/util/ArrayList", name := "remove", desc := "(I)Ljava/lang/Object;" } : Jvm.MethodName) prog_38_method_29_code (4 : Nat) (Option.some (Jvm.ClassFile.FieldType.object "java/lang/Object"))) ∈ lw_all := lw_g (lw_at lw_m4 170 rfl) rfl
theorem q956 : (Jvm.Cond.methodLink "java/util/ArrayList" (144 : Nat) ({ cls := "java/util/ArrayList", name := "fastRemove", desc := "([Ljava/lang/Object;I)V" } : Jvm.MethodName)) ∈ lw_all := lw_g (lw_at lw_m4 171 rfl) rfl
theorem q957 : (Jvm.Cond.privateMethod ({ cls := "java/util/ArrayList", name := "fastRemove", desc := "([Ljava/lang/Object;I)V" } : Jvm.MethodName)) ∈ lw_tbl := lw_at lw_m4 172 rfl
theorem q958 : (Jvm.Cond.instanceMethod ({ cls := "java/util/ArrayList", name := "fastRemove", desc := "([Ljava/lang/Object;I)V" } : Jvm.MethodName)) ∈ lw_all := lw_g (lw_at lw_m4 173 rfl) rfl
theorem q959 : (Jvm.Cond.code ({ cls := "java/util/ArrayList", name := "fastRemove", desc := "([Ljava/lang/Object;I)V" } : Jvm.MethodName) prog_38_method_39_code (4 : Nat) (Option.none : Option Jvm.ClassFile.FieldType)) ∈ lw_all := lw_g (lw_at lw_m4 174 rfl) rfl
theorem q960 : (Jvm.Cond.methodLink "java/util/ArrayList" (112 : Nat) ({ cls := "java/lang/System", name := "arraycopy", desc := "(Ljava/lang/Object;ILjava/lang/Object;II)V" } : Jvm.MethodName)) ∈ lw_all := lw_g (lw_at lw_m4 175 rfl) rfl
theorem q972 : (Jvm.Cond.instanceMethod ({ cls := "java/util/ArrayList", name := "add", desc := "(ILjava/lang/Object;)V" } : Jvm.MethodName)) ∈ lw_all := lw_g (lw_at lw_m4 187 rfl) rfl
theorem q973 : (Jvm.Cond.selects "java/util/ArrayList" ({ cls := "java/util/ArrayList", name := "add", desc := "(ILjava/lang/Object;)V" } : Jvm.MethodName) ({ cls := "java/util/ArrayList", name := "add", desc := "(ILjava/lang/Object;)V" } : Jvm.MethodName)) ∈ lw_all := lw_g (lw_at lw_m4 188 rfl) rfl
theorem q974 : (Jvm.Cond.code ({ cls := "java/util/ArrayList", name := "add", desc := "(ILjava/lang/Object;)V" } : Jvm.MethodName) prog_38_method_26_code (5 : Nat) (Option.none : Option Jvm.ClassFile.FieldType)) ∈ lw_all := lw_g (lw_at lw_m4 189 rfl) rfl
theorem q975 : (Jvm.Cond.methodLink "java/util/ArrayList" (135 : Nat) ({ cls := "java/util/ArrayList", name := "rangeCheckForAdd", desc := "(I)V" } : Jvm.MethodName)) ∈ lw_all := lw_g (lw_at lw_m4 190 rfl) rfl
theorem q976 : (Jvm.Cond.privateMethod ({ cls := "java/util/ArrayList", name := "rangeCheckForAdd", desc := "(I)V" } : Jvm.MethodName)) ∈ lw_tbl := lw_at lw_m4 191 rfl
theorem q977 : (Jvm.Cond.instanceMethod ({ cls := "java/util/ArrayList", name := "rangeCheckForAdd", desc := "(I)V" } : Jvm.MethodName)) ∈ lw_all := lw_g (lw_at lw_m4 192 rfl) rfl
theorem q978 : (Jvm.Cond.code ({ cls := "java/util/ArrayList", name := "rangeCheckForAdd", desc := "(I)V" } : Jvm.MethodName) prog_38_method_45_code (2 : Nat) (Option.none : Option Jvm.ClassFile.FieldType)) ∈ lw_all := lw_g (lw_at lw_m4 193 rfl) rfl
theorem q985 : (Jvm.Cond.instanceMethod ({ cls := "java/util/ArrayList", name := "indexOf", desc := "(Ljava/lang/Object;)I" } : Jvm.MethodName)) ∈ lw_all := lw_g (lw_at lw_m4 200 rfl) rfl
theorem q986 : (Jvm.Cond.selects "java/util/ArrayList" ({ cls := "java/util/ArrayList", name := "indexOf", desc := "(Ljava/lang/Object;)I" } : Jvm.MethodName) ({ cls := "java/util/ArrayList", name := "indexOf", desc := "(Ljava/lang/Object;)I" } : Jvm.MethodName)) ∈ lw_all := lw_g (lw_at lw_m4 201 rfl) rfl
theorem q987 : (Jvm.Cond.code ({ cls := "java/util/ArrayList", name := "indexOf", desc := "(Ljava/lang/Object;)I" } : Jvm.MethodName) prog_38_method_11_code (2 : Nat) (Option.some Jvm.ClassFile.FieldType.int)) ∈ lw_all := lw_g (lw_at lw_m4 202 rfl) rfl
theorem q988 : (Jvm.Cond.methodLink "java/util/ArrayList" (89 : Nat) ({ cls := "java/util/ArrayList", name := "indexOfRange", desc := "(Ljava/lang/Object;II)I" } : Jvm.MethodName)) ∈ lw_all := lw_g (lw_at lw_m4 203 rfl) rfl
theorem q989 : (Jvm.Cond.instanceMethod ({ cls := "java/util/ArrayList", name := "indexOfRange", desc := "(Ljava/lang/Object;II)I" } : Jvm.MethodName)) ∈ lw_all := lw_g (lw_at lw_m4 204 rfl) rfl
theorem q990 : (Jvm.Cond.selects "java/util/ArrayList" ({ cls := "java/util/ArrayList", name := "indexOfRange", desc := "(Ljava/lang/Object;II)I" } : Jvm.MethodName) ({ cls := "java/util/ArrayList", name := "indexOfRange", desc := "(Ljava/lang/Object;II)I" } : Jvm.MethodName)) ∈ lw_all := lw_g (lw_at lw_m4 205 rfl) rfl
theorem q991 : (Jvm.Cond.code ({ cls := "java/util/ArrayList", name := "indexOfRange", desc := "(Ljava/lang/Object;II)I" } : Jvm.MethodName) prog_38_method_12_code (6 : Nat) (Option.some Jvm.ClassFile.FieldType.int)) ∈ lw_all := lw_g (lw_at lw_m4 206 rfl) rfl
theorem q993 : (Jvm.Cond.methodLink "java/util/ArrayList" (93 : Nat) ({ cls := "java/lang/Object", name := "equals", desc := "(Ljava/lang/Object;)Z" } : Jvm.MethodName)) ∈ lw_all := lw_g (lw_at lw_m4 208 rfl) rfl
theorem q1026 : (Jvm.Cond.instanceMethod ({ cls := "java/util/ArrayList", name := "remove", desc := "(Ljava/lang/Object;)Z" } : Jvm.MethodName)) ∈ lw_all := lw_g (lw_at lw_m5 1 rfl) rfl
theorem q1027 : (Jvm.Cond.selects "java/util/ArrayList" ({ cls := "java/util/ArrayList", name := "remove", desc := "(Ljava/lang/Object;)Z" } : Jvm.MethodName) ({ cls := "java/util/ArrayList", name := "remove", desc := "(Ljava/lang/Object;)Z" } : Jvm.MethodName)) ∈ lw_all := lw_g (lw_at lw_m5 2 rfl) rfl
theorem q1028 : (Jvm.Cond.code ({ cls := "java/util/ArrayList", name := "remove", desc := "(Ljava/lang/Object;)Z" } : Jvm.MethodName) prog_38_method_38_code (5 : Nat) (Option.some Jvm.ClassFile.FieldType.boolean)) ∈ lw_all := lw_g (lw_at lw_m5 3 rfl) rfl
theorem q1160 : (Jvm.Cond.instanceMethod ({ cls := "java/util/ArrayList", name := "clear", desc := "()V" } : Jvm.MethodName)) ∈ lw_all := lw_g (lw_at lw_m5 135 rfl) rfl
theorem q1161 : (Jvm.Cond.selects "java/util/ArrayList" ({ cls := "java/util/ArrayList", name := "clear", desc := "()V" } : Jvm.MethodName) ({ cls := "java/util/ArrayList", name := "clear", desc := "()V" } : Jvm.MethodName)) ∈ lw_all := lw_g (lw_at lw_m5 136 rfl) rfl
theorem q1162 : (Jvm.Cond.code ({ cls := "java/util/ArrayList", name := "clear", desc := "()V" } : Jvm.MethodName) prog_38_method_40_code (4 : Nat) (Option.none : Option Jvm.ClassFile.FieldType)) ∈ lw_all := lw_g (lw_at lw_m5 137 rfl) rfl
theorem q1651 : (Jvm.Cond.castable "java/util/ArrayList" "java/lang/Object") ∈ lw_tbl := lw_at lw_m7 146 rfl
theorem in_J5 : ∀ w ∈ wsJ50, w ∈ lw_all := lw_in wsJ50 [309, 305, 307] (by decide +kernel) (by decide +kernel)

theorem q82 : (Jvm.Cond.initialized "java/util/Objects") ∈ lw_all := lw_g (lw_at lw_m1 17 rfl) rfl
theorem q462 : (Jvm.Cond.static ({ cls := "java/util/Objects", name := "checkIndex", desc := "(II)I" } : Jvm.MethodName)) ∈ lw_all := lw_g (lw_at lw_m2 157 rfl) rfl
theorem q463 : (Jvm.Cond.code ({ cls := "java/util/Objects", name := "checkIndex", desc := "(II)I" } : Jvm.MethodName) prog_42_method_17_code (2 : Nat) (Option.some Jvm.ClassFile.FieldType.int)) ∈ lw_all := lw_g (lw_at lw_m2 158 rfl) rfl
theorem q464 : (Jvm.Cond.methodLink "java/util/Objects" (105 : Nat) ({ cls := "jdk/internal/util/Preconditions", name := "checkIndex", desc := "(IILjava/util/function/BiFunction;)I" } : Jvm.MethodName)) ∈ lw_all := lw_g (lw_at lw_m2 159 rfl) rfl

theorem q83 : (Jvm.Cond.initialized "jdk/internal/util/Preconditions") ∈ lw_all := lw_g (lw_at lw_m1 18 rfl) rfl
theorem q465 : (Jvm.Cond.static ({ cls := "jdk/internal/util/Preconditions", name := "checkIndex", desc := "(IILjava/util/function/BiFunction;)I" } : Jvm.MethodName)) ∈ lw_all := lw_g (lw_at lw_m2 160 rfl) rfl
theorem q466 : (Jvm.Cond.code ({ cls := "jdk/internal/util/Preconditions", name := "checkIndex", desc := "(IILjava/util/function/BiFunction;)I" } : Jvm.MethodName) prog_46_method_11_code (3 : Nat) (Option.some Jvm.ClassFile.FieldType.int)) ∈ lw_all := lw_g (lw_at lw_m2 161 rfl) rfl

theorem q89 : (Jvm.Cond.initialized "jdk/internal/util/ArraysSupport") ∈ lw_all := lw_g (lw_at lw_m1 24 rfl) rfl
theorem q647 : (Jvm.Cond.static ({ cls := "jdk/internal/util/ArraysSupport", name := "newLength", desc := "(III)I" } : Jvm.MethodName)) ∈ lw_all := lw_g (lw_at lw_m3 102 rfl) rfl
theorem q648 : (Jvm.Cond.code ({ cls := "jdk/internal/util/ArraysSupport", name := "newLength", desc := "(III)I" } : Jvm.MethodName) prog_45_method_27_code (4 : Nat) (Option.some Jvm.ClassFile.FieldType.int)) ∈ lw_all := lw_g (lw_at lw_m3 103 rfl) rfl
theorem q649 : (Jvm.Cond.methodLink "jdk/internal/util/ArraysSupport" (194 : Nat) ({ cls := "java/lang/Math", name := "max", desc := "(II)I" } : Jvm.MethodName)) ∈ lw_all := lw_g (lw_at lw_m3 104 rfl) rfl
theorem q652 : (Jvm.Cond.constant "jdk/internal/util/ArraysSupport" (200 : Nat) (2147483639 : Int32)) ∈ lw_all := lw_g (lw_at lw_m3 107 rfl) rfl
theorem q653 : (Jvm.Cond.methodLink "jdk/internal/util/ArraysSupport" (201 : Nat) ({ cls := "jdk/internal/util/ArraysSupport", name := "hugeLength", desc := "(II)I" } : Jvm.MethodName)) ∈ lw_all := lw_g (lw_at lw_m3 108 rfl) rfl
theorem q654 : (Jvm.Cond.static ({ cls := "jdk/internal/util/ArraysSupport", name := "hugeLength", desc := "(II)I" } : Jvm.MethodName)) ∈ lw_all := lw_g (lw_at lw_m3 109 rfl) rfl
theorem q655 : (Jvm.Cond.code ({ cls := "jdk/internal/util/ArraysSupport", name := "hugeLength", desc := "(II)I" } : Jvm.MethodName) prog_45_method_28_code (3 : Nat) (Option.some Jvm.ClassFile.FieldType.int)) ∈ lw_all := lw_g (lw_at lw_m3 110 rfl) rfl

theorem q90 : (Jvm.Cond.initialized "java/lang/Math") ∈ lw_all := lw_g (lw_at lw_m1 25 rfl) rfl
theorem q650 : (Jvm.Cond.static ({ cls := "java/lang/Math", name := "max", desc := "(II)I" } : Jvm.MethodName)) ∈ lw_all := lw_g (lw_at lw_m3 105 rfl) rfl
theorem q651 : (Jvm.Cond.code ({ cls := "java/lang/Math", name := "max", desc := "(II)I" } : Jvm.MethodName) prog_27_method_65_code (2 : Nat) (Option.some Jvm.ClassFile.FieldType.int)) ∈ lw_all := lw_g (lw_at lw_m3 106 rfl) rfl
theorem q687 : (Jvm.Cond.static ({ cls := "java/lang/Math", name := "min", desc := "(II)I" } : Jvm.MethodName)) ∈ lw_all := lw_g (lw_at lw_m3 142 rfl) rfl
theorem q688 : (Jvm.Cond.code ({ cls := "java/lang/Math", name := "min", desc := "(II)I" } : Jvm.MethodName) prog_27_method_69_code (2 : Nat) (Option.some Jvm.ClassFile.FieldType.int)) ∈ lw_all := lw_g (lw_at lw_m3 143 rfl) rfl

theorem q91 : (Jvm.Cond.initialized "java/util/Arrays") ∈ lw_all := lw_g (lw_at lw_m1 26 rfl) rfl
theorem q657 : (Jvm.Cond.static ({ cls := "java/util/Arrays", name := "copyOf", desc := "([Ljava/lang/Object;I)[Ljava/lang/Object;" } : Jvm.MethodName)) ∈ lw_all := lw_g (lw_at lw_m3 112 rfl) rfl
theorem q658 : (Jvm.Cond.code ({ cls := "java/util/Arrays", name := "copyOf", desc := "([Ljava/lang/Object;I)[Ljava/lang/Object;" } : Jvm.MethodName) prog_39_method_119_code (2 : Nat) (Option.some (Jvm.ClassFile.FieldType.array (Jvm.ClassFile.FieldType.object "java/lang/Object")))) ∈ lw_all := lw_g (lw_at lw_m3 113 rfl) rfl
theorem q659 : (Jvm.Cond.methodLink "java/util/Arrays" (86 : Nat) ({ cls := "java/lang/Object", name := "getClass", desc := "()Ljava/lang/Class;" } : Jvm.MethodName)) ∈ lw_all := lw_g (lw_at lw_m3 114 rfl) rfl
theorem q680 : (Jvm.Cond.methodLink "java/util/Arrays" (300 : Nat) ({ cls := "java/util/Arrays", name := "copyOf", desc := "([Ljava/lang/Object;ILjava/lang/Class;)[Ljava/lang/Object;" } : Jvm.MethodName)) ∈ lw_all := lw_g (lw_at lw_m3 135 rfl) rfl
theorem q681 : (Jvm.Cond.static ({ cls := "java/util/Arrays", name := "copyOf", desc := "([Ljava/lang/Object;ILjava/lang/Class;)[Ljava/lang/Object;" } : Jvm.MethodName)) ∈ lw_all := lw_g (lw_at lw_m3 136 rfl) rfl
theorem q682 : (Jvm.Cond.code ({ cls := "java/util/Arrays", name := "copyOf", desc := "([Ljava/lang/Object;ILjava/lang/Class;)[Ljava/lang/Object;" } : Jvm.MethodName) prog_39_method_120_code (4 : Nat) (Option.some (Jvm.ClassFile.FieldType.array (Jvm.ClassFile.FieldType.object "java/lang/Object")))) ∈ lw_all := lw_g (lw_at lw_m3 137 rfl) rfl
theorem q683 : (Jvm.Cond.classLink "java/util/Arrays" (110 : Nat) "[Ljava/lang/Object;") ∈ lw_all := lw_g (lw_at lw_m3 138 rfl) rfl
theorem q685 : (Jvm.Cond.classLink "java/util/Arrays" (2 : Nat) "java/lang/Object") ∈ lw_all := lw_g (lw_at lw_m3 140 rfl) rfl
theorem q686 : (Jvm.Cond.methodLink "java/util/Arrays" (304 : Nat) ({ cls := "java/lang/Math", name := "min", desc := "(II)I" } : Jvm.MethodName)) ∈ lw_all := lw_g (lw_at lw_m3 141 rfl) rfl
theorem q689 : (Jvm.Cond.methodLink "java/util/Arrays" (150 : Nat) ({ cls := "java/lang/System", name := "arraycopy", desc := "(Ljava/lang/Object;ILjava/lang/Object;II)V" } : Jvm.MethodName)) ∈ lw_all := lw_g (lw_at lw_m3 144 rfl) rfl

theorem q92 : (Jvm.Cond.initialized "java/lang/IndexOutOfBoundsException") ∈ lw_all := lw_g (lw_at lw_m1 27 rfl) rfl
theorem q747 : (Jvm.Cond.instanceMethod ({ cls := "java/lang/IndexOutOfBoundsException", name := "<init>", desc := "(Ljava/lang/String;)V" } : Jvm.MethodName)) ∈ lw_all := lw_g (lw_at lw_m3 202 rfl) rfl
theorem q748 : (Jvm.Cond.code ({ cls := "java/lang/IndexOutOfBoundsException", name := "<init>", desc := "(Ljava/lang/String;)V" } : Jvm.MethodName) prog_23_method_2_code (2 : Nat) (Option.none : Option Jvm.ClassFile.FieldType)) ∈ lw_all := lw_g (lw_at lw_m3 203 rfl) rfl
theorem q749 : (Jvm.Cond.methodLink "java/lang/IndexOutOfBoundsException" (7 : Nat) ({ cls := "java/lang/RuntimeException", name := "<init>", desc := "(Ljava/lang/String;)V" } : Jvm.MethodName)) ∈ lw_all := lw_g (lw_at lw_m3 204 rfl) rfl
theorem q766 : (Jvm.Cond.declares ({ cls := "java/lang/IndexOutOfBoundsException", name := "<init>", desc := "()V" } : Jvm.MethodName)) ∈ lw_tbl := lw_at lw_m3 221 rfl
theorem q767 : (Jvm.Cond.declares ({ cls := "java/lang/IndexOutOfBoundsException", name := "<init>", desc := "(Ljava/lang/String;)V" } : Jvm.MethodName)) ∈ lw_tbl := lw_at lw_m3 222 rfl

theorem q93 : (Jvm.Cond.initialized "java/lang/ArrayIndexOutOfBoundsException") ∈ lw_all := lw_g (lw_at lw_m1 28 rfl) rfl
theorem q140 : (Jvm.Cond.selects "java/lang/ArrayIndexOutOfBoundsException" ({ cls := "java/lang/Throwable", name := "fillInStackTrace", desc := "()Ljava/lang/Throwable;" } : Jvm.MethodName) ({ cls := "java/lang/Throwable", name := "fillInStackTrace", desc := "()Ljava/lang/Throwable;" } : Jvm.MethodName)) ∈ lw_all := lw_g (lw_at lw_m1 75 rfl) rfl
theorem q675 : (Jvm.Cond.selects "java/lang/ArrayIndexOutOfBoundsException" ({ cls := "java/lang/Object", name := "getClass", desc := "()Ljava/lang/Class;" } : Jvm.MethodName) ({ cls := "java/lang/Object", name := "getClass", desc := "()Ljava/lang/Class;" } : Jvm.MethodName)) ∈ lw_all := lw_g (lw_at lw_m3 130 rfl) rfl
theorem q743 : (Jvm.Cond.instantiable "java/lang/ArrayIndexOutOfBoundsException" (6 : Nat)) ∈ lw_all := lw_g (lw_at lw_m3 198 rfl) rfl
theorem q744 : (Jvm.Cond.instanceMethod ({ cls := "java/lang/ArrayIndexOutOfBoundsException", name := "<init>", desc := "(Ljava/lang/String;)V" } : Jvm.MethodName)) ∈ lw_all := lw_g (lw_at lw_m3 199 rfl) rfl
theorem q745 : (Jvm.Cond.code ({ cls := "java/lang/ArrayIndexOutOfBoundsException", name := "<init>", desc := "(Ljava/lang/String;)V" } : Jvm.MethodName) prog_19_method_2_code (2 : Nat) (Option.none : Option Jvm.ClassFile.FieldType)) ∈ lw_all := lw_g (lw_at lw_m3 200 rfl) rfl
theorem q746 : (Jvm.Cond.methodLink "java/lang/ArrayIndexOutOfBoundsException" (7 : Nat) ({ cls := "java/lang/IndexOutOfBoundsException", name := "<init>", desc := "(Ljava/lang/String;)V" } : Jvm.MethodName)) ∈ lw_all := lw_g (lw_at lw_m3 201 rfl) rfl
theorem q758 : (Jvm.Cond.lays "java/lang/ArrayIndexOutOfBoundsException" "java/lang/Throwable" "backtrace" "Ljava/lang/Object;") ∈ lw_all := lw_g (lw_at lw_m3 213 rfl) rfl
theorem q759 : (Jvm.Cond.lays "java/lang/ArrayIndexOutOfBoundsException" "java/lang/Throwable" "detailMessage" "Ljava/lang/String;") ∈ lw_all := lw_g (lw_at lw_m3 214 rfl) rfl
theorem q760 : (Jvm.Cond.lays "java/lang/ArrayIndexOutOfBoundsException" "java/lang/Throwable" "cause" "Ljava/lang/Throwable;") ∈ lw_all := lw_g (lw_at lw_m3 215 rfl) rfl
theorem q761 : (Jvm.Cond.lays "java/lang/ArrayIndexOutOfBoundsException" "java/lang/Throwable" "stackTrace" "[Ljava/lang/StackTraceElement;") ∈ lw_all := lw_g (lw_at lw_m3 216 rfl) rfl
theorem q762 : (Jvm.Cond.lays "java/lang/ArrayIndexOutOfBoundsException" "java/lang/Throwable" "depth" "I") ∈ lw_all := lw_g (lw_at lw_m3 217 rfl) rfl
theorem q763 : (Jvm.Cond.lays "java/lang/ArrayIndexOutOfBoundsException" "java/lang/Throwable" "suppressedExceptions" "Ljava/util/List;") ∈ lw_all := lw_g (lw_at lw_m3 218 rfl) rfl
theorem q764 : (Jvm.Cond.superclass "java/lang/ArrayIndexOutOfBoundsException" "java/lang/IndexOutOfBoundsException") ∈ lw_all := lw_g (lw_at lw_m3 219 rfl) rfl
theorem q765 : (Jvm.Cond.castable "java/lang/ArrayIndexOutOfBoundsException" "java/lang/ArrayIndexOutOfBoundsException") ∈ lw_tbl := lw_at lw_m3 220 rfl
theorem q768 : (Jvm.Cond.selects "java/lang/ArrayIndexOutOfBoundsException" ({ cls := "java/lang/Throwable", name := "fillInStackTrace", desc := "(I)Ljava/lang/Throwable;" } : Jvm.MethodName) ({ cls := "java/lang/Throwable", name := "fillInStackTrace", desc := "(I)Ljava/lang/Throwable;" } : Jvm.MethodName)) ∈ lw_all := lw_g (lw_at lw_m3 223 rfl) rfl
theorem q1009 : (Jvm.Cond.selects "java/lang/ArrayIndexOutOfBoundsException" ({ cls := "java/lang/Object", name := "equals", desc := "(Ljava/lang/Object;)Z" } : Jvm.MethodName) ({ cls := "java/lang/Object", name := "equals", desc := "(Ljava/lang/Object;)Z" } : Jvm.MethodName)) ∈ lw_all := lw_g (lw_at lw_m4 224 rfl) rfl
theorem q1657 : (Jvm.Cond.castable "java/lang/ArrayIndexOutOfBoundsException" "java/lang/Object") ∈ lw_tbl := lw_at lw_m7 152 rfl
theorem in_J12 : ∀ w ∈ wsJ120, w ∈ lw_all := lw_in wsJ120 [758, 759, 760, 761, 762, 763] (by decide +kernel) (by decide +kernel)

theorem q94 : (Jvm.Cond.initialized "java/lang/String") ∈ lw_all := lw_g (lw_at lw_m1 29 rfl) rfl
theorem q769 : (Jvm.Cond.instantiable "java/lang/String" (4 : Nat)) ∈ lw_all := lw_g (lw_at lw_m3 224 rfl) rfl
theorem q770 : (Jvm.Cond.laysFinal "java/lang/String" "java/lang/String" "value" "[B") ∈ lw_all := lw_g (lw_at lw_m3 225 rfl) rfl
theorem q771 : (Jvm.Cond.soleField "java/lang/String" "value") ∈ lw_all := lw_g (lw_at lw_m3 226 rfl) rfl
theorem q772 : (Jvm.Cond.laysFinal "java/lang/String" "java/lang/String" "coder" "B") ∈ lw_all := lw_g (lw_at lw_m3 227 rfl) rfl
theorem q773 : (Jvm.Cond.soleField "java/lang/String" "coder") ∈ lw_all := lw_g (lw_at lw_m3 228 rfl) rfl
theorem q1661 : (Jvm.Cond.castable "java/lang/String" "java/lang/Object") ∈ lw_tbl := lw_at lw_m7 156 rfl
theorem in_J13 : ∀ w ∈ wsJ130, w ∈ lw_all := lw_in wsJ130 [770, 772] (by decide +kernel) (by decide +kernel)

theorem q95 : (Jvm.Cond.initialized "java/lang/NullPointerException") ∈ lw_all := lw_g (lw_at lw_m1 30 rfl) rfl
theorem q141 : (Jvm.Cond.selects "java/lang/NullPointerException" ({ cls := "java/lang/Throwable", name := "fillInStackTrace", desc := "()Ljava/lang/Throwable;" } : Jvm.MethodName) ({ cls := "java/lang/NullPointerException", name := "fillInStackTrace", desc := "()Ljava/lang/Throwable;" } : Jvm.MethodName)) ∈ lw_all := lw_g (lw_at lw_m1 76 rfl) rfl
theorem q142 : (Jvm.Cond.instanceMethod ({ cls := "java/lang/NullPointerException", name := "fillInStackTrace", desc := "()Ljava/lang/Throwable;" } : Jvm.MethodName)) ∈ lw_all := lw_g (lw_at lw_m1 77 rfl) rfl
theorem q143 : (Jvm.Cond.codeSync ({ cls := "java/lang/NullPointerException", name := "fillInStackTrace", desc := "()Ljava/lang/Throwable;" } : Jvm.MethodName) prog_28_method_3_code (1 : Nat) (Option.some (Jvm.ClassFile.FieldType.object "java/lang/Throwable"))) ∈ lw_all := lw_g (lw_at lw_m1 78 rfl) rfl
theorem q144 : (Jvm.Cond.methodLink "java/lang/NullPointerException" (16 : Nat) ({ cls := "java/lang/NullPointerException", name := "getExtendedNPEMessage", desc := "()Ljava/lang/String;" } : Jvm.MethodName)) ∈ lw_all := lw_g (lw_at lw_m1 79 rfl) rfl
theorem q145 : (Jvm.Cond.privateMethod ({ cls := "java/lang/NullPointerException", name := "getExtendedNPEMessage", desc := "()Ljava/lang/String;" } : Jvm.MethodName)) ∈ lw_tbl := lw_at lw_m1 80 rfl
theorem q146 : (Jvm.Cond.instanceMethod ({ cls := "java/lang/NullPointerException", name := "getExtendedNPEMessage", desc := "()Ljava/lang/String;" } : Jvm.MethodName)) ∈ lw_all := lw_g (lw_at lw_m1 81 rfl) rfl
theorem q147 : (Jvm.Cond.instantiable "java/lang/NullPointerException" (8 : Nat)) ∈ lw_all := lw_g (lw_at lw_m1 82 rfl) rfl
theorem q148 : (Jvm.Cond.native ({ cls := "java/lang/NullPointerException", name := "getExtendedNPEMessage", desc := "()Ljava/lang/String;" } : Jvm.MethodName)) ∈ lw_all := lw_g (lw_at lw_m1 83 rfl) rfl
theorem q149 : (Jvm.Cond.methodLink "java/lang/NullPointerException" (24 : Nat) ({ cls := "java/lang/RuntimeException", name := "fillInStackTrace", desc := "()Ljava/lang/Throwable;" } : Jvm.MethodName)) ∈ lw_all := lw_g (lw_at lw_m1 84 rfl) rfl
theorem q152 : (Jvm.Cond.superclass "java/lang/NullPointerException" "java/lang/RuntimeException") ∈ lw_all := lw_g (lw_at lw_m1 87 rfl) rfl
theorem q677 : (Jvm.Cond.selects "java/lang/NullPointerException" ({ cls := "java/lang/Object", name := "getClass", desc := "()Ljava/lang/Class;" } : Jvm.MethodName) ({ cls := "java/lang/Object", name := "getClass", desc := "()Ljava/lang/Class;" } : Jvm.MethodName)) ∈ lw_all := lw_g (lw_at lw_m3 132 rfl) rfl
theorem q775 : (Jvm.Cond.instanceMethod ({ cls := "java/lang/NullPointerException", name := "<init>", desc := "()V" } : Jvm.MethodName)) ∈ lw_all := lw_g (lw_at lw_m3 230 rfl) rfl
theorem q776 : (Jvm.Cond.code ({ cls := "java/lang/NullPointerException", name := "<init>", desc := "()V" } : Jvm.MethodName) prog_28_method_1_code (1 : Nat) (Option.none : Option Jvm.ClassFile.FieldType)) ∈ lw_all := lw_g (lw_at lw_m3 231 rfl) rfl
theorem q777 : (Jvm.Cond.methodLink "java/lang/NullPointerException" (1 : Nat) ({ cls := "java/lang/RuntimeException", name := "<init>", desc := "()V" } : Jvm.MethodName)) ∈ lw_all := lw_g (lw_at lw_m3 232 rfl) rfl
theorem q778 : (Jvm.Cond.fieldLink "java/lang/NullPointerException" (10 : Nat) "java/lang/NullPointerException" "extendedMessageState" "I") ∈ lw_all := lw_g (lw_at lw_m3 233 rfl) rfl
theorem q779 : (Jvm.Cond.fieldLink "java/lang/NullPointerException" (20 : Nat) "java/lang/NullPointerException" "extendedMessage" "Ljava/lang/String;") ∈ lw_all := lw_g (lw_at lw_m3 234 rfl) rfl
theorem q780 : (Jvm.Cond.lays "java/lang/NullPointerException" "java/lang/NullPointerException" "extendedMessageState" "I") ∈ lw_all := lw_g (lw_at lw_m3 235 rfl) rfl
theorem q781 : (Jvm.Cond.soleField "java/lang/NullPointerException" "extendedMessageState") ∈ lw_all := lw_g (lw_at lw_m3 236 rfl) rfl
theorem q782 : (Jvm.Cond.lays "java/lang/NullPointerException" "java/lang/NullPointerException" "extendedMessage" "Ljava/lang/String;") ∈ lw_all := lw_g (lw_at lw_m3 237 rfl) rfl
theorem q783 : (Jvm.Cond.soleField "java/lang/NullPointerException" "extendedMessage") ∈ lw_all := lw_g (lw_at lw_m3 238 rfl) rfl
theorem q784 : (Jvm.Cond.lays "java/lang/NullPointerException" "java/lang/Throwable" "backtrace" "Ljava/lang/Object;") ∈ lw_all := lw_g (lw_at lw_m3 239 rfl) rfl
theorem q785 : (Jvm.Cond.lays "java/lang/NullPointerException" "java/lang/Throwable" "detailMessage" "Ljava/lang/String;") ∈ lw_all := lw_g (lw_at lw_m4 0 rfl) rfl
theorem q786 : (Jvm.Cond.lays "java/lang/NullPointerException" "java/lang/Throwable" "cause" "Ljava/lang/Throwable;") ∈ lw_all := lw_g (lw_at lw_m4 1 rfl) rfl
theorem q787 : (Jvm.Cond.lays "java/lang/NullPointerException" "java/lang/Throwable" "stackTrace" "[Ljava/lang/StackTraceElement;") ∈ lw_all := lw_g (lw_at lw_m4 2 rfl) rfl
theorem q788 : (Jvm.Cond.lays "java/lang/NullPointerException" "java/lang/Throwable" "depth" "I") ∈ lw_all := lw_g (lw_at lw_m4 3 rfl) rfl
theorem q789 : (Jvm.Cond.lays "java/lang/NullPointerException" "java/lang/Throwable" "suppressedExceptions" "Ljava/util/List;") ∈ lw_all := lw_g (lw_at lw_m4 4 rfl) rfl
theorem q790 : (Jvm.Cond.castable "java/lang/NullPointerException" "java/lang/NullPointerException") ∈ lw_tbl := lw_at lw_m4 5 rfl
theorem q791 : (Jvm.Cond.selects "java/lang/NullPointerException" ({ cls := "java/lang/Throwable", name := "fillInStackTrace", desc := "(I)Ljava/lang/Throwable;" } : Jvm.MethodName) ({ cls := "java/lang/Throwable", name := "fillInStackTrace", desc := "(I)Ljava/lang/Throwable;" } : Jvm.MethodName)) ∈ lw_all := lw_g (lw_at lw_m4 6 rfl) rfl
theorem q1018 : (Jvm.Cond.selects "java/lang/NullPointerException" ({ cls := "java/lang/Object", name := "equals", desc := "(Ljava/lang/Object;)Z" } : Jvm.MethodName) ({ cls := "java/lang/Object", name := "equals", desc := "(Ljava/lang/Object;)Z" } : Jvm.MethodName)) ∈ lw_all := lw_g (lw_at lw_m4 233 rfl) rfl
theorem q1658 : (Jvm.Cond.castable "java/lang/NullPointerException" "java/lang/Object") ∈ lw_tbl := lw_at lw_m7 153 rfl
theorem in_J14 : ∀ w ∈ wsJ140, w ∈ lw_all := lw_in wsJ140 [784, 785, 786, 787, 788, 789, 780, 782] (by decide +kernel) (by decide +kernel)

theorem q96 : (Jvm.Cond.initialized "java/lang/Number") ∈ lw_all := lw_g (lw_at lw_m1 31 rfl) rfl
theorem q1228 : (Jvm.Cond.instanceMethod ({ cls := "java/lang/Number", name := "<init>", desc := "()V" } : Jvm.MethodName)) ∈ lw_all := lw_g (lw_at lw_m5 203 rfl) rfl
theorem q1229 : (Jvm.Cond.code ({ cls := "java/lang/Number", name := "<init>", desc := "()V" } : Jvm.MethodName) prog_29_method_1_code (1 : Nat) (Option.none : Option Jvm.ClassFile.FieldType)) ∈ lw_all := lw_g (lw_at lw_m5 204 rfl) rfl
theorem q1230 : (Jvm.Cond.methodLink "java/lang/Number" (1 : Nat) ({ cls := "java/lang/Object", name := "<init>", desc := "()V" } : Jvm.MethodName)) ∈ lw_all := lw_g (lw_at lw_m5 205 rfl) rfl

theorem q97 : (Jvm.Cond.initialized "java/lang/Integer") ∈ lw_all := lw_g (lw_at lw_m1 32 rfl) rfl
theorem q676 : (Jvm.Cond.selects "java/lang/Integer" ({ cls := "java/lang/Object", name := "getClass", desc := "()Ljava/lang/Class;" } : Jvm.MethodName) ({ cls := "java/lang/Object", name := "getClass", desc := "()Ljava/lang/Class;" } : Jvm.MethodName)) ∈ lw_all := lw_g (lw_at lw_m3 131 rfl) rfl
theorem q1010 : (Jvm.Cond.selects "java/lang/Integer" ({ cls := "java/lang/Object", name := "equals", desc := "(Ljava/lang/Object;)Z" } : Jvm.MethodName) ({ cls := "java/lang/Integer", name := "equals", desc := "(Ljava/lang/Object;)Z" } : Jvm.MethodName)) ∈ lw_all := lw_g (lw_at lw_m4 225 rfl) rfl
theorem q1011 : (Jvm.Cond.instanceMethod ({ cls := "java/lang/Integer", name := "equals", desc := "(Ljava/lang/Object;)Z" } : Jvm.MethodName)) ∈ lw_all := lw_g (lw_at lw_m4 226 rfl) rfl
theorem q1012 : (Jvm.Cond.code ({ cls := "java/lang/Integer", name := "equals", desc := "(Ljava/lang/Object;)Z" } : Jvm.MethodName) prog_24_method_34_code (2 : Nat) (Option.some Jvm.ClassFile.FieldType.boolean)) ∈ lw_all := lw_g (lw_at lw_m4 227 rfl) rfl
theorem q1013 : (Jvm.Cond.classLink "java/lang/Integer" (1 : Nat) "java/lang/Integer") ∈ lw_all := lw_g (lw_at lw_m4 228 rfl) rfl
theorem q1014 : (Jvm.Cond.methodLink "java/lang/Integer" (211 : Nat) ({ cls := "java/lang/Integer", name := "intValue", desc := "()I" } : Jvm.MethodName)) ∈ lw_all := lw_g (lw_at lw_m4 229 rfl) rfl
theorem q1015 : (Jvm.Cond.instanceMethod ({ cls := "java/lang/Integer", name := "intValue", desc := "()I" } : Jvm.MethodName)) ∈ lw_all := lw_g (lw_at lw_m4 230 rfl) rfl
theorem q1016 : (Jvm.Cond.selects "java/lang/Integer" ({ cls := "java/lang/Integer", name := "intValue", desc := "()I" } : Jvm.MethodName) ({ cls := "java/lang/Integer", name := "intValue", desc := "()I" } : Jvm.MethodName)) ∈ lw_all := lw_g (lw_at lw_m4 231 rfl) rfl
theorem q1017 : (Jvm.Cond.code ({ cls := "java/lang/Integer", name := "intValue", desc := "()I" } : Jvm.MethodName) prog_24_method_27_code (1 : Nat) (Option.some Jvm.ClassFile.FieldType.int)) ∈ lw_all := lw_g (lw_at lw_m4 232 rfl) rfl
theorem q1217 : (Jvm.Cond.static ({ cls := "java/lang/Integer", name := "valueOf", desc := "(I)Ljava/lang/Integer;" } : Jvm.MethodName)) ∈ lw_all := lw_g (lw_at lw_m5 192 rfl) rfl
theorem q1218 : (Jvm.Cond.code ({ cls := "java/lang/Integer", name := "valueOf", desc := "(I)Ljava/lang/Integer;" } : Jvm.MethodName) prog_24_method_22_code (1 : Nat) (Option.some (Jvm.ClassFile.FieldType.object "java/lang/Integer"))) ∈ lw_all := lw_g (lw_at lw_m5 193 rfl) rfl
theorem q1219 : (Jvm.Cond.fieldLink "java/lang/Integer" (191 : Nat) "java/lang/Integer$IntegerCache" "high" "I") ∈ lw_all := lw_g (lw_at lw_m5 194 rfl) rfl
theorem q1221 : (Jvm.Cond.fieldLink "java/lang/Integer" (195 : Nat) "java/lang/Integer$IntegerCache" "cache" "[Ljava/lang/Integer;") ∈ lw_all := lw_g (lw_at lw_m5 196 rfl) rfl
theorem q1223 : (Jvm.Cond.instantiable "java/lang/Integer" (1 : Nat)) ∈ lw_all := lw_g (lw_at lw_m5 198 rfl) rfl
theorem q1224 : (Jvm.Cond.methodLink "java/lang/Integer" (199 : Nat) ({ cls := "java/lang/Integer", name := "<init>", desc := "(I)V" } : Jvm.MethodName)) ∈ lw_all := lw_g (lw_at lw_m5 199 rfl) rfl
theorem q1225 : (Jvm.Cond.instanceMethod ({ cls := "java/lang/Integer", name := "<init>", desc := "(I)V" } : Jvm.MethodName)) ∈ lw_all := lw_g (lw_at lw_m5 200 rfl) rfl
theorem q1226 : (Jvm.Cond.code ({ cls := "java/lang/Integer", name := "<init>", desc := "(I)V" } : Jvm.MethodName) prog_24_method_23_code (2 : Nat) (Option.none : Option Jvm.ClassFile.FieldType)) ∈ lw_all := lw_g (lw_at lw_m5 201 rfl) rfl
theorem q1227 : (Jvm.Cond.methodLink "java/lang/Integer" (202 : Nat) ({ cls := "java/lang/Number", name := "<init>", desc := "()V" } : Jvm.MethodName)) ∈ lw_all := lw_g (lw_at lw_m5 202 rfl) rfl
theorem q1231 : (Jvm.Cond.fieldLink "java/lang/Integer" (205 : Nat) "java/lang/Integer" "value" "I") ∈ lw_all := lw_g (lw_at lw_m5 206 rfl) rfl
theorem q1232 : (Jvm.Cond.laysFinal "java/lang/Integer" "java/lang/Integer" "value" "I") ∈ lw_all := lw_g (lw_at lw_m5 207 rfl) rfl
theorem q1233 : (Jvm.Cond.soleField "java/lang/Integer" "value") ∈ lw_all := lw_g (lw_at lw_m5 208 rfl) rfl
theorem q1234 : (Jvm.Cond.superclass "java/lang/Integer" "java/lang/Number") ∈ lw_all := lw_g (lw_at lw_m5 209 rfl) rfl
theorem q1659 : (Jvm.Cond.castable "java/lang/Integer" "java/lang/Object") ∈ lw_tbl := lw_at lw_m7 154 rfl
theorem in_J16 : ∀ w ∈ wsJ160, w ∈ lw_all := lw_in wsJ160 [1232] (by decide +kernel) (by decide +kernel)

theorem q105 : (Jvm.Cond.instanceMethod ({ cls := "java/lang/Object", name := "<init>", desc := "()V" } : Jvm.MethodName)) ∈ lw_all := lw_g (lw_at lw_m1 40 rfl) rfl
theorem q106 : (Jvm.Cond.code ({ cls := "java/lang/Object", name := "<init>", desc := "()V" } : Jvm.MethodName) object_method_1_code (1 : Nat) (Option.none : Option Jvm.ClassFile.FieldType)) ∈ lw_all := lw_g (lw_at lw_m1 41 rfl) rfl
theorem q660 : (Jvm.Cond.instanceMethod ({ cls := "java/lang/Object", name := "getClass", desc := "()Ljava/lang/Class;" } : Jvm.MethodName)) ∈ lw_all := lw_g (lw_at lw_m3 115 rfl) rfl
theorem q661 : (Jvm.Cond.sameMethod "java/lang/Object" "java/lang/Object" "getClass" "()Ljava/lang/Class;") ∈ lw_all := lw_g (lw_at lw_m3 116 rfl) rfl
theorem q679 : (Jvm.Cond.native ({ cls := "java/lang/Object", name := "getClass", desc := "()Ljava/lang/Class;" } : Jvm.MethodName)) ∈ lw_all := lw_g (lw_at lw_m3 134 rfl) rfl
theorem q992 : (Jvm.Cond.declares ({ cls := "java/lang/Object", name := "equals", desc := "(Ljava/lang/Object;)Z" } : Jvm.MethodName)) ∈ lw_tbl := lw_at lw_m4 207 rfl
theorem q994 : (Jvm.Cond.instanceMethod ({ cls := "java/lang/Object", name := "equals", desc := "(Ljava/lang/Object;)Z" } : Jvm.MethodName)) ∈ lw_all := lw_g (lw_at lw_m4 209 rfl) rfl
theorem q995 : (Jvm.Cond.sameMethod "java/lang/Object" "java/lang/Object" "equals" "(Ljava/lang/Object;)Z") ∈ lw_all := lw_g (lw_at lw_m4 210 rfl) rfl
theorem q1019 : (Jvm.Cond.code ({ cls := "java/lang/Object", name := "equals", desc := "(Ljava/lang/Object;)Z" } : Jvm.MethodName) object_method_4_code (2 : Nat) (Option.some Jvm.ClassFile.FieldType.boolean)) ∈ lw_all := lw_g (lw_at lw_m4 234 rfl) rfl
theorem q1664 : (Jvm.Cond.declares ({ cls := "java/lang/Object", name := "getClass", desc := "()Ljava/lang/Class;" } : Jvm.MethodName)) ∈ lw_tbl := lw_at lw_m7 159 rfl

theorem q1667 : (Jvm.Cond.castable "[B" "java/lang/Object") ∈ lw_tbl := lw_at lw_m7 162 rfl

theorem q1666 : (Jvm.Cond.castable "[I" "java/lang/Object") ∈ lw_tbl := lw_at lw_m7 161 rfl

theorem q1669 : (Jvm.Cond.castable "[LBranchMender$Node;" "java/lang/Object") ∈ lw_tbl := lw_at lw_m7 164 rfl

theorem q1665 : (Jvm.Cond.castable "[LBranchMender$Tree;" "java/lang/Object") ∈ lw_tbl := lw_at lw_m7 160 rfl

theorem q1662 : (Jvm.Cond.sameMethod "[Ljava/lang/Object;" "java/lang/Object" "getClass" "()Ljava/lang/Class;") ∈ lw_all := lw_g (lw_at lw_m7 157 rfl) rfl
theorem q1663 : (Jvm.Cond.selects "[Ljava/lang/Object;" ({ cls := "java/lang/Object", name := "getClass", desc := "()Ljava/lang/Class;" } : Jvm.MethodName) ({ cls := "java/lang/Object", name := "getClass", desc := "()Ljava/lang/Class;" } : Jvm.MethodName)) ∈ lw_all := lw_g (lw_at lw_m7 158 rfl) rfl
theorem q1671 : (Jvm.Cond.castable "[Ljava/lang/Object;" "java/lang/Object") ∈ lw_tbl := lw_at lw_m7 166 rfl

theorem q1670 : (Jvm.Cond.castable "[Z" "java/lang/Object") ∈ lw_tbl := lw_at lw_m7 165 rfl

theorem q1668 : (Jvm.Cond.castable "[[I" "java/lang/Object") ∈ lw_tbl := lw_at lw_m7 163 rfl

theorem q189 : (Jvm.Cond.arrayOver (Jvm.ClassFile.FieldType.object "BranchMender$Tree")) ∈ lw_tbl := lw_at lw_m1 124 rfl
theorem q212 : (Jvm.Cond.arrayClass Jvm.ClassFile.FieldType.int) ∈ lw_all := lw_g (lw_at lw_m1 147 rfl) rfl
theorem q213 : (Jvm.Cond.arrayClass Jvm.ClassFile.FieldType.byte) ∈ lw_all := lw_g (lw_at lw_m1 148 rfl) rfl
theorem q236 : (Jvm.Cond.arrayOver (Jvm.ClassFile.FieldType.array Jvm.ClassFile.FieldType.int)) ∈ lw_tbl := lw_at lw_m1 171 rfl
theorem q238 : (Jvm.Cond.arrayOver (Jvm.ClassFile.FieldType.object "BranchMender$Node")) ∈ lw_tbl := lw_at lw_m1 173 rfl
theorem q264 : (Jvm.Cond.arrayClass Jvm.ClassFile.FieldType.boolean) ∈ lw_all := lw_g (lw_at lw_m1 199 rfl) rfl
theorem q684 : (Jvm.Cond.arrayOver (Jvm.ClassFile.FieldType.object "java/lang/Object")) ∈ lw_tbl := lw_at lw_m3 139 rfl

theorem q98 : (Jvm.Cond.initialized "java/lang/Integer$IntegerCache") ∈ lw_all := lw_g (lw_at lw_m1 33 rfl) rfl
theorem q1220 : (Jvm.Cond.laysStatic "java/lang/Integer$IntegerCache" "high" "I") ∈ lw_tbl := lw_at lw_m5 195 rfl
theorem q1222 : (Jvm.Cond.laysStatic "java/lang/Integer$IntegerCache" "cache" "[Ljava/lang/Integer;") ∈ lw_tbl := lw_at lw_m5 197 rfl

theorem q81 : (Jvm.Cond.initialized "java/lang/System") ∈ lw_all := lw_g (lw_at lw_m1 16 rfl) rfl
theorem q451 : (Jvm.Cond.static ({ cls := "java/lang/System", name := "arraycopy", desc := "(Ljava/lang/Object;ILjava/lang/Object;II)V" } : Jvm.MethodName)) ∈ lw_all := lw_g (lw_at lw_m2 146 rfl) rfl
theorem q452 : (Jvm.Cond.native ({ cls := "java/lang/System", name := "arraycopy", desc := "(Ljava/lang/Object;ILjava/lang/Object;II)V" } : Jvm.MethodName)) ∈ lw_all := lw_g (lw_at lw_m2 147 rfl) rfl

theorem q806 : (Jvm.Cond.declares ({ cls := "BranchMender$Prints", name := "open", desc := "(LBranchMender$Pen;)V" } : Jvm.MethodName)) ∈ lw_tbl := lw_at lw_m4 21 rfl
theorem q828 : (Jvm.Cond.declares ({ cls := "BranchMender$Prints", name := "close", desc := "(LBranchMender$Pen;)V" } : Jvm.MethodName)) ∈ lw_tbl := lw_at lw_m4 43 rfl

theorem q65 : (Jvm.Cond.initialized "BranchMenderLaw") ∈ lw_all := lw_g (lw_at lw_m1 0 rfl) rfl
theorem q99 : (Jvm.Cond.classLink "BranchMenderLaw" (7 : Nat) "BranchMender") ∈ lw_all := lw_g (lw_at lw_m1 34 rfl) rfl
theorem q101 : (Jvm.Cond.methodLink "BranchMenderLaw" (9 : Nat) ({ cls := "BranchMender", name := "<init>", desc := "()V" } : Jvm.MethodName)) ∈ lw_all := lw_g (lw_at lw_m1 36 rfl) rfl
theorem q407 : (Jvm.Cond.methodLink "BranchMenderLaw" (15 : Nat) ({ cls := "BranchMender", name := "feed", desc := "(JI)I" } : Jvm.MethodName)) ∈ lw_all := lw_g (lw_at lw_m2 102 rfl) rfl
theorem q423 : (Jvm.Cond.methodLink "BranchMenderLaw" (20 : Nat) ({ cls := "BranchMender", name := "read", desc := "(I)I" } : Jvm.MethodName)) ∈ lw_all := lw_g (lw_at lw_m2 118 rfl) rfl
theorem q734 : (Jvm.Cond.methodLink "BranchMenderLaw" (25 : Nat) ({ cls := "BranchMender", name := "write", desc := "(I)I" } : Jvm.MethodName)) ∈ lw_all := lw_g (lw_at lw_m3 189 rfl) rfl
theorem q841 : (Jvm.Cond.methodLink "BranchMenderLaw" (29 : Nat) ({ cls := "BranchMender", name := "letter", desc := "(I)I" } : Jvm.MethodName)) ∈ lw_all := lw_g (lw_at lw_m4 56 rfl) rfl
theorem q845 : (Jvm.Cond.methodLink "BranchMenderLaw" (33 : Nat) ({ cls := "BranchMender", name := "copy", desc := "(II)I" } : Jvm.MethodName)) ∈ lw_all := lw_g (lw_at lw_m4 60 rfl) rfl
theorem q877 : (Jvm.Cond.methodLink "BranchMenderLaw" (38 : Nat) ({ cls := "BranchMender", name := "clear", desc := "(I)I" } : Jvm.MethodName)) ∈ lw_all := lw_g (lw_at lw_m4 92 rfl) rfl
theorem q881 : (Jvm.Cond.methodLink "BranchMenderLaw" (42 : Nat) ({ cls := "BranchMender", name := "node", desc := "(III)I" } : Jvm.MethodName)) ∈ lw_all := lw_g (lw_at lw_m4 96 rfl) rfl
theorem q887 : (Jvm.Cond.methodLink "BranchMenderLaw" (47 : Nat) ({ cls := "BranchMender", name := "size", desc := "(I)I" } : Jvm.MethodName)) ∈ lw_all := lw_g (lw_at lw_m4 102 rfl) rfl
theorem q891 : (Jvm.Cond.methodLink "BranchMenderLaw" (51 : Nat) ({ cls := "BranchMender", name := "relabel", desc := "(II)I" } : Jvm.MethodName)) ∈ lw_all := lw_g (lw_at lw_m4 106 rfl) rfl
theorem q928 : (Jvm.Cond.methodLink "BranchMenderLaw" (55 : Nat) ({ cls := "BranchMender", name := "retext", desc := "(II)I" } : Jvm.MethodName)) ∈ lw_all := lw_g (lw_at lw_m4 143 rfl) rfl
theorem q936 : (Jvm.Cond.methodLink "BranchMenderLaw" (59 : Nat) ({ cls := "BranchMender", name := "put", desc := "(IIIII)I" } : Jvm.MethodName)) ∈ lw_all := lw_g (lw_at lw_m4 151 rfl) rfl
theorem q980 : (Jvm.Cond.methodLink "BranchMenderLaw" (64 : Nat) ({ cls := "BranchMender", name := "take", desc := "(II)I" } : Jvm.MethodName)) ∈ lw_all := lw_g (lw_at lw_m4 195 rfl) rfl
theorem q1021 : (Jvm.Cond.methodLink "BranchMenderLaw" (68 : Nat) ({ cls := "BranchMender", name := "move", desc := "(IIII)I" } : Jvm.MethodName)) ∈ lw_all := lw_g (lw_at lw_m4 236 rfl) rfl
theorem q1029 : (Jvm.Cond.methodLink "BranchMenderLaw" (73 : Nat) ({ cls := "BranchMender", name := "price", desc := "(II)I" } : Jvm.MethodName)) ∈ lw_all := lw_g (lw_at lw_m5 4 rfl) rfl
theorem q1033 : (Jvm.Cond.methodLink "BranchMenderLaw" (77 : Nat) ({ cls := "BranchMender", name := "distance", desc := "(II)I" } : Jvm.MethodName)) ∈ lw_all := lw_g (lw_at lw_m5 8 rfl) rfl
theorem q1069 : (Jvm.Cond.methodLink "BranchMenderLaw" (81 : Nat) ({ cls := "BranchMender", name := "map", desc := "(II)I" } : Jvm.MethodName)) ∈ lw_all := lw_g (lw_at lw_m5 44 rfl) rfl
theorem q1087 : (Jvm.Cond.methodLink "BranchMenderLaw" (85 : Nat) ({ cls := "BranchMender", name := "pair", desc := "(II)I" } : Jvm.MethodName)) ∈ lw_all := lw_g (lw_at lw_m5 62 rfl) rfl
theorem q1091 : (Jvm.Cond.methodLink "BranchMenderLaw" (89 : Nat) ({ cls := "BranchMender", name := "acts", desc := "()I" } : Jvm.MethodName)) ∈ lw_all := lw_g (lw_at lw_m5 66 rfl) rfl
theorem q1095 : (Jvm.Cond.methodLink "BranchMenderLaw" (94 : Nat) ({ cls := "BranchMender", name := "act", desc := "(II)I" } : Jvm.MethodName)) ∈ lw_all := lw_g (lw_at lw_m5 70 rfl) rfl
theorem q1099 : (Jvm.Cond.methodLink "BranchMenderLaw" (98 : Nat) ({ cls := "BranchMender", name := "like", desc := "()I" } : Jvm.MethodName)) ∈ lw_all := lw_g (lw_at lw_m5 74 rfl) rfl
theorem q1103 : (Jvm.Cond.methodLink "BranchMenderLaw" (102 : Nat) ({ cls := "BranchMender", name := "same", desc := "(II)I" } : Jvm.MethodName)) ∈ lw_all := lw_g (lw_at lw_m5 78 rfl) rfl
theorem q1139 : (Jvm.Cond.methodLink "BranchMenderLaw" (106 : Nat) ({ cls := "BranchMender", name := "unlike", desc := "(I)I" } : Jvm.MethodName)) ∈ lw_all := lw_g (lw_at lw_m5 114 rfl) rfl
theorem q1143 : (Jvm.Cond.methodLink "BranchMenderLaw" (110 : Nat) ({ cls := "BranchMender", name := "shared", desc := "(II)I" } : Jvm.MethodName)) ∈ lw_all := lw_g (lw_at lw_m5 118 rfl) rfl
theorem q1147 : (Jvm.Cond.methodLink "BranchMenderLaw" (114 : Nat) ({ cls := "BranchMender", name := "merge", desc := "(IIII)I" } : Jvm.MethodName)) ∈ lw_all := lw_g (lw_at lw_m5 122 rfl) rfl
theorem q1238 : (Jvm.Cond.methodLink "BranchMenderLaw" (118 : Nat) ({ cls := "BranchMender", name := "merged", desc := "()I" } : Jvm.MethodName)) ∈ lw_all := lw_g (lw_at lw_m5 213 rfl) rfl
theorem q1242 : (Jvm.Cond.methodLink "BranchMenderLaw" (122 : Nat) ({ cls := "BranchMender", name := "clash", desc := "(II)I" } : Jvm.MethodName)) ∈ lw_all := lw_g (lw_at lw_m5 217 rfl) rfl
theorem q1246 : (Jvm.Cond.methodLink "BranchMenderLaw" (126 : Nat) ({ cls := "BranchMender", name := "found", desc := "(I)I" } : Jvm.MethodName)) ∈ lw_all := lw_g (lw_at lw_m5 221 rfl) rfl
theorem q1250 : (Jvm.Cond.classLink "BranchMenderLaw" (10 : Nat) "BranchMenderModel") ∈ lw_all := lw_g (lw_at lw_m5 225 rfl) rfl
theorem q1252 : (Jvm.Cond.methodLink "BranchMenderLaw" (12 : Nat) ({ cls := "BranchMenderModel", name := "<init>", desc := "()V" } : Jvm.MethodName)) ∈ lw_all := lw_g (lw_at lw_m5 227 rfl) rfl
theorem q1366 : (Jvm.Cond.methodLink "BranchMenderLaw" (19 : Nat) ({ cls := "BranchMenderModel", name := "feed", desc := "(JI)I" } : Jvm.MethodName)) ∈ lw_all := lw_g (lw_at lw_m6 101 rfl) rfl
theorem q1378 : (Jvm.Cond.methodLink "BranchMenderLaw" (24 : Nat) ({ cls := "BranchMenderModel", name := "read", desc := "(I)I" } : Jvm.MethodName)) ∈ lw_all := lw_g (lw_at lw_m6 113 rfl) rfl
theorem q1431 : (Jvm.Cond.methodLink "BranchMenderLaw" (28 : Nat) ({ cls := "BranchMenderModel", name := "write", desc := "(I)I" } : Jvm.MethodName)) ∈ lw_all := lw_g (lw_at lw_m6 166 rfl) rfl
theorem q1451 : (Jvm.Cond.methodLink "BranchMenderLaw" (32 : Nat) ({ cls := "BranchMenderModel", name := "letter", desc := "(I)I" } : Jvm.MethodName)) ∈ lw_all := lw_g (lw_at lw_m6 186 rfl) rfl
theorem q1455 : (Jvm.Cond.methodLink "BranchMenderLaw" (37 : Nat) ({ cls := "BranchMenderModel", name := "copy", desc := "(II)I" } : Jvm.MethodName)) ∈ lw_all := lw_g (lw_at lw_m6 190 rfl) rfl
theorem q1459 : (Jvm.Cond.methodLink "BranchMenderLaw" (41 : Nat) ({ cls := "BranchMenderModel", name := "clear", desc := "(I)I" } : Jvm.MethodName)) ∈ lw_all := lw_g (lw_at lw_m6 194 rfl) rfl
theorem q1463 : (Jvm.Cond.methodLink "BranchMenderLaw" (46 : Nat) ({ cls := "BranchMenderModel", name := "node", desc := "(III)I" } : Jvm.MethodName)) ∈ lw_all := lw_g (lw_at lw_m6 198 rfl) rfl
theorem q1475 : (Jvm.Cond.methodLink "BranchMenderLaw" (50 : Nat) ({ cls := "BranchMenderModel", name := "size", desc := "(I)I" } : Jvm.MethodName)) ∈ lw_all := lw_g (lw_at lw_m6 210 rfl) rfl
theorem q1479 : (Jvm.Cond.methodLink "BranchMenderLaw" (54 : Nat) ({ cls := "BranchMenderModel", name := "relabel", desc := "(II)I" } : Jvm.MethodName)) ∈ lw_all := lw_g (lw_at lw_m6 214 rfl) rfl
theorem q1491 : (Jvm.Cond.methodLink "BranchMenderLaw" (58 : Nat) ({ cls := "BranchMenderModel", name := "retext", desc := "(II)I" } : Jvm.MethodName)) ∈ lw_all := lw_g (lw_at lw_m6 226 rfl) rfl
theorem q1495 : (Jvm.Cond.methodLink "BranchMenderLaw" (63 : Nat) ({ cls := "BranchMenderModel", name := "put", desc := "(IIIII)I" } : Jvm.MethodName)) ∈ lw_all := lw_g (lw_at lw_m6 230 rfl) rfl
theorem q1511 : (Jvm.Cond.methodLink "BranchMenderLaw" (67 : Nat) ({ cls := "BranchMenderModel", name := "take", desc := "(II)I" } : Jvm.MethodName)) ∈ lw_all := lw_g (lw_at lw_m7 6 rfl) rfl
theorem q1515 : (Jvm.Cond.methodLink "BranchMenderLaw" (72 : Nat) ({ cls := "BranchMenderModel", name := "move", desc := "(IIII)I" } : Jvm.MethodName)) ∈ lw_all := lw_g (lw_at lw_m7 10 rfl) rfl
theorem q1519 : (Jvm.Cond.methodLink "BranchMenderLaw" (76 : Nat) ({ cls := "BranchMenderModel", name := "price", desc := "(II)I" } : Jvm.MethodName)) ∈ lw_all := lw_g (lw_at lw_m7 14 rfl) rfl
theorem q1523 : (Jvm.Cond.methodLink "BranchMenderLaw" (80 : Nat) ({ cls := "BranchMenderModel", name := "distance", desc := "(II)I" } : Jvm.MethodName)) ∈ lw_all := lw_g (lw_at lw_m7 18 rfl) rfl
theorem q1550 : (Jvm.Cond.methodLink "BranchMenderLaw" (84 : Nat) ({ cls := "BranchMenderModel", name := "map", desc := "(II)I" } : Jvm.MethodName)) ∈ lw_all := lw_g (lw_at lw_m7 45 rfl) rfl
theorem q1562 : (Jvm.Cond.methodLink "BranchMenderLaw" (88 : Nat) ({ cls := "BranchMenderModel", name := "pair", desc := "(II)I" } : Jvm.MethodName)) ∈ lw_all := lw_g (lw_at lw_m7 57 rfl) rfl
theorem q1566 : (Jvm.Cond.methodLink "BranchMenderLaw" (93 : Nat) ({ cls := "BranchMenderModel", name := "acts", desc := "()I" } : Jvm.MethodName)) ∈ lw_all := lw_g (lw_at lw_m7 61 rfl) rfl
theorem q1570 : (Jvm.Cond.methodLink "BranchMenderLaw" (97 : Nat) ({ cls := "BranchMenderModel", name := "act", desc := "(II)I" } : Jvm.MethodName)) ∈ lw_all := lw_g (lw_at lw_m7 65 rfl) rfl
theorem q1574 : (Jvm.Cond.methodLink "BranchMenderLaw" (101 : Nat) ({ cls := "BranchMenderModel", name := "like", desc := "()I" } : Jvm.MethodName)) ∈ lw_all := lw_g (lw_at lw_m7 69 rfl) rfl
theorem q1578 : (Jvm.Cond.methodLink "BranchMenderLaw" (105 : Nat) ({ cls := "BranchMenderModel", name := "same", desc := "(II)I" } : Jvm.MethodName)) ∈ lw_all := lw_g (lw_at lw_m7 73 rfl) rfl
theorem q1590 : (Jvm.Cond.methodLink "BranchMenderLaw" (109 : Nat) ({ cls := "BranchMenderModel", name := "unlike", desc := "(I)I" } : Jvm.MethodName)) ∈ lw_all := lw_g (lw_at lw_m7 85 rfl) rfl
theorem q1594 : (Jvm.Cond.methodLink "BranchMenderLaw" (113 : Nat) ({ cls := "BranchMenderModel", name := "shared", desc := "(II)I" } : Jvm.MethodName)) ∈ lw_all := lw_g (lw_at lw_m7 89 rfl) rfl
theorem q1598 : (Jvm.Cond.methodLink "BranchMenderLaw" (117 : Nat) ({ cls := "BranchMenderModel", name := "merge", desc := "(IIII)I" } : Jvm.MethodName)) ∈ lw_all := lw_g (lw_at lw_m7 93 rfl) rfl
theorem q1622 : (Jvm.Cond.methodLink "BranchMenderLaw" (121 : Nat) ({ cls := "BranchMenderModel", name := "merged", desc := "()I" } : Jvm.MethodName)) ∈ lw_all := lw_g (lw_at lw_m7 117 rfl) rfl
theorem q1626 : (Jvm.Cond.methodLink "BranchMenderLaw" (125 : Nat) ({ cls := "BranchMenderModel", name := "clash", desc := "(II)I" } : Jvm.MethodName)) ∈ lw_all := lw_g (lw_at lw_m7 121 rfl) rfl
theorem q1630 : (Jvm.Cond.methodLink "BranchMenderLaw" (129 : Nat) ({ cls := "BranchMenderModel", name := "found", desc := "(I)I" } : Jvm.MethodName)) ∈ lw_all := lw_g (lw_at lw_m7 125 rfl) rfl
theorem q1634 : (Jvm.Cond.constantLong "BranchMenderLaw" (13 : Nat) (4294967295 : Int64)) ∈ lw_all := lw_g (lw_at lw_m7 129 rfl) rfl

