/-! printed by gen/blocks.py: words of the tables, methods that are called -/
theorem tw_1 : Cond.selects "ContractDesk" ⟨"ContractDesk", "isThere", "(I)Z"⟩ ⟨"ContractDesk", "isThere", "(I)Z"⟩ ∈ lw_tbl := List.mem_of_getElem? (i := 1) (by decide +kernel)
theorem tw_2 : Cond.selects "ContractDesk$Reader" ⟨"ContractDesk$Reader", "element", "()I"⟩ ⟨"ContractDesk$Reader", "element", "()I"⟩ ∈ lw_tbl := List.mem_of_getElem? (i := 2) (by decide +kernel)
theorem tw_3 : Cond.selects "java/util/ArrayList" ⟨"java/util/ArrayList", "add", "(Ljava/lang/Object;[Ljava/lang/Object;I)V"⟩ ⟨"java/util/ArrayList", "add", "(Ljava/lang/Object;[Ljava/lang/Object;I)V"⟩ ∈ lw_tbl := List.mem_of_getElem? (i := 3) (by decide +kernel)
theorem tw_6 : Cond.selects "ContractDesk" ⟨"ContractDesk", "get", "(I)LContractDesk$Interaction;"⟩ ⟨"ContractDesk", "get", "(I)LContractDesk$Interaction;"⟩ ∈ lw_tbl := List.mem_of_getElem? (i := 6) (by decide +kernel)
theorem tw_7 : Cond.selects "ContractDesk$Reader" ⟨"ContractDesk$Reader", "value", "(I)LContractDesk$Value;"⟩ ⟨"ContractDesk$Reader", "value", "(I)LContractDesk$Value;"⟩ ∈ lw_tbl := List.mem_of_getElem? (i := 7) (by decide +kernel)
theorem tw_8 : Cond.selects "ContractDesk$Reader" ⟨"ContractDesk$Reader", "text", "()LContractDesk$Value;"⟩ ⟨"ContractDesk$Reader", "text", "()LContractDesk$Value;"⟩ ∈ lw_tbl := List.mem_of_getElem? (i := 8) (by decide +kernel)
theorem tw_9 : Cond.selects "ContractDesk$Reader" ⟨"ContractDesk$Reader", "group", "(CI)LContractDesk$Value;"⟩ ⟨"ContractDesk$Reader", "group", "(CI)LContractDesk$Value;"⟩ ∈ lw_tbl := List.mem_of_getElem? (i := 9) (by decide +kernel)
theorem tw_10 : Cond.selects "ContractDesk$Reader" ⟨"ContractDesk$Reader", "key", "(LContractDesk$Group;)C"⟩ ⟨"ContractDesk$Reader", "key", "(LContractDesk$Group;)C"⟩ ∈ lw_tbl := List.mem_of_getElem? (i := 10) (by decide +kernel)
theorem tw_11 : Cond.selects "ContractDesk$Reader" ⟨"ContractDesk$Reader", "number", "()LContractDesk$Value;"⟩ ⟨"ContractDesk$Reader", "number", "()LContractDesk$Value;"⟩ ∈ lw_tbl := List.mem_of_getElem? (i := 11) (by decide +kernel)
theorem tw_12 : Cond.selects "ContractDesk$Reader" ⟨"ContractDesk$Reader", "word", "(LContractDesk$Kind;Ljava/lang/String;I)LContractDesk$Value;"⟩ ⟨"ContractDesk$Reader", "word", "(LContractDesk$Kind;Ljava/lang/String;I)LContractDesk$Value;"⟩ ∈ lw_tbl := List.mem_of_getElem? (i := 12) (by decide +kernel)
theorem tw_13 : Cond.selects "ContractDesk$Reader" ⟨"ContractDesk$Reader", "patternStep", "()I"⟩ ⟨"ContractDesk$Reader", "patternStep", "()I"⟩ ∈ lw_tbl := List.mem_of_getElem? (i := 13) (by decide +kernel)
theorem tw_14 : Cond.selects "ContractDesk$Reader" ⟨"ContractDesk$Reader", "matcher", "()LContractDesk$Matcher;"⟩ ⟨"ContractDesk$Reader", "matcher", "()LContractDesk$Matcher;"⟩ ∈ lw_tbl := List.mem_of_getElem? (i := 14) (by decide +kernel)
theorem tw_15 : Cond.selects "ContractDesk$Reader" ⟨"ContractDesk$Reader", "inside", "()LContractDesk$Matcher;"⟩ ⟨"ContractDesk$Reader", "inside", "()LContractDesk$Matcher;"⟩ ∈ lw_tbl := List.mem_of_getElem? (i := 15) (by decide +kernel)
theorem tw_16 : Cond.selects "ContractDesk$Reader" ⟨"ContractDesk$Reader", "shape", "()LContractDesk$Matcher;"⟩ ⟨"ContractDesk$Reader", "shape", "()LContractDesk$Matcher;"⟩ ∈ lw_tbl := List.mem_of_getElem? (i := 16) (by decide +kernel)
theorem tw_17 : Cond.selects "ContractDesk" ⟨"ContractDesk", "prepare", "(LContractDesk$Interaction;)Z"⟩ ⟨"ContractDesk", "prepare", "(LContractDesk$Interaction;)Z"⟩ ∈ lw_tbl := List.mem_of_getElem? (i := 17) (by decide +kernel)
theorem tw_18 : Cond.selects "ContractDesk" ⟨"ContractDesk", "setUp", "(I)V"⟩ ⟨"ContractDesk", "setUp", "(I)V"⟩ ∈ lw_tbl := List.mem_of_getElem? (i := 18) (by decide +kernel)
theorem tw_19 : Cond.selects "ContractDesk" ⟨"ContractDesk", "note", "(I)V"⟩ ⟨"ContractDesk", "note", "(I)V"⟩ ∈ lw_tbl := List.mem_of_getElem? (i := 19) (by decide +kernel)
theorem tw_20 : Cond.selects "ContractDesk" ⟨"ContractDesk", "cleanUp", "(LContractDesk$Interaction;I)V"⟩ ⟨"ContractDesk", "cleanUp", "(LContractDesk$Interaction;I)V"⟩ ∈ lw_tbl := List.mem_of_getElem? (i := 20) (by decide +kernel)
theorem tw_21 : Cond.selects "ContractDesk" ⟨"ContractDesk", "tearDown", "(I)V"⟩ ⟨"ContractDesk", "tearDown", "(I)V"⟩ ∈ lw_tbl := List.mem_of_getElem? (i := 21) (by decide +kernel)
theorem tw_22 : Cond.selects "ContractDesk" ⟨"ContractDesk", "compare", "(LContractDesk$Interaction;LContractDesk$Value;LContractDesk$Value;I)V"⟩ ⟨"ContractDesk", "compare", "(LContractDesk$Interaction;LContractDesk$Value;LContractDesk$Value;I)V"⟩ ∈ lw_tbl := List.mem_of_getElem? (i := 22) (by decide +kernel)
theorem tw_23 : Cond.selects "ContractDesk$Shape" ⟨"ContractDesk$Shape", "fits", "(Ljava/lang/StringBuilder;)Z"⟩ ⟨"ContractDesk$Shape", "fits", "(Ljava/lang/StringBuilder;)Z"⟩ ∈ lw_tbl := List.mem_of_getElem? (i := 23) (by decide +kernel)
theorem tw_24 : Cond.selects "ContractDesk$Shape" ⟨"ContractDesk$Shape", "skip", "(I)I"⟩ ⟨"ContractDesk$Shape", "skip", "(I)I"⟩ ∈ lw_tbl := List.mem_of_getElem? (i := 24) (by decide +kernel)
theorem tw_25 : Cond.selects "ContractDesk$Shape" ⟨"ContractDesk$Shape", "after", "(IC)I"⟩ ⟨"ContractDesk$Shape", "after", "(IC)I"⟩ ∈ lw_tbl := List.mem_of_getElem? (i := 25) (by decide +kernel)
theorem tw_26 : Cond.selects "ContractDesk" ⟨"ContractDesk", "list", "(II)V"⟩ ⟨"ContractDesk", "list", "(II)V"⟩ ∈ lw_tbl := List.mem_of_getElem? (i := 26) (by decide +kernel)
theorem tw_27 : Cond.selects "ContractDesk" ⟨"ContractDesk", "elements", "(LContractDesk$Interaction;LContractDesk$Group;LContractDesk$Group;ZI)V"⟩ ⟨"ContractDesk", "elements", "(LContractDesk$Interaction;LContractDesk$Group;LContractDesk$Group;ZI)V"⟩ ∈ lw_tbl := List.mem_of_getElem? (i := 27) (by decide +kernel)
theorem tw_28 : Cond.selects "ContractDesk" ⟨"ContractDesk", "members", "(LContractDesk$Interaction;LContractDesk$Group;LContractDesk$Group;I)V"⟩ ⟨"ContractDesk", "members", "(LContractDesk$Interaction;LContractDesk$Group;LContractDesk$Group;I)V"⟩ ∈ lw_tbl := List.mem_of_getElem? (i := 28) (by decide +kernel)
theorem tw_29 : Cond.selects "ContractDeskModel" ⟨"ContractDeskModel", "values", "()I"⟩ ⟨"ContractDeskModel", "values", "()I"⟩ ∈ lw_tbl := List.mem_of_getElem? (i := 29) (by decide +kernel)
theorem tw_30 : Cond.selects "ContractDeskModel" ⟨"ContractDeskModel", "at", "(I)C"⟩ ⟨"ContractDeskModel", "at", "(I)C"⟩ ∈ lw_tbl := List.mem_of_getElem? (i := 30) (by decide +kernel)
theorem tw_31 : Cond.selects "ContractDeskModel" ⟨"ContractDeskModel", "plainEnd", "(I)I"⟩ ⟨"ContractDeskModel", "plainEnd", "(I)I"⟩ ∈ lw_tbl := List.mem_of_getElem? (i := 31) (by decide +kernel)
theorem tw_32 : Cond.selects "ContractDeskModel" ⟨"ContractDeskModel", "word", "(ICCCC)Z"⟩ ⟨"ContractDeskModel", "word", "(ICCCC)Z"⟩ ∈ lw_tbl := List.mem_of_getElem? (i := 32) (by decide +kernel)
theorem tw_33 : Cond.selects "ContractDeskModel" ⟨"ContractDeskModel", "close", "()V"⟩ ⟨"ContractDeskModel", "close", "()V"⟩ ∈ lw_tbl := List.mem_of_getElem? (i := 33) (by decide +kernel)
theorem tw_34 : Cond.selects "ContractDeskModel" ⟨"ContractDeskModel", "isInteraction", "(I)Z"⟩ ⟨"ContractDeskModel", "isInteraction", "(I)Z"⟩ ∈ lw_tbl := List.mem_of_getElem? (i := 34) (by decide +kernel)
theorem tw_35 : Cond.selects "ContractDeskModel" ⟨"ContractDeskModel", "equal", "(II)Z"⟩ ⟨"ContractDeskModel", "equal", "(II)Z"⟩ ∈ lw_tbl := List.mem_of_getElem? (i := 35) (by decide +kernel)
theorem tw_36 : Cond.selects "ContractDeskModel" ⟨"ContractDeskModel", "kind", "(I)I"⟩ ⟨"ContractDeskModel", "kind", "(I)I"⟩ ∈ lw_tbl := List.mem_of_getElem? (i := 36) (by decide +kernel)
theorem tw_37 : Cond.selects "ContractDeskModel" ⟨"ContractDeskModel", "sameText", "(II)Z"⟩ ⟨"ContractDeskModel", "sameText", "(II)Z"⟩ ∈ lw_tbl := List.mem_of_getElem? (i := 37) (by decide +kernel)
theorem tw_38 : Cond.selects "ContractDeskModel" ⟨"ContractDeskModel", "end", "(I)I"⟩ ⟨"ContractDeskModel", "end", "(I)I"⟩ ∈ lw_tbl := List.mem_of_getElem? (i := 38) (by decide +kernel)
theorem tw_39 : Cond.selects "ContractDeskModel" ⟨"ContractDeskModel", "parts", "(I)I"⟩ ⟨"ContractDeskModel", "parts", "(I)I"⟩ ∈ lw_tbl := List.mem_of_getElem? (i := 39) (by decide +kernel)
theorem tw_40 : Cond.selects "ContractDeskModel" ⟨"ContractDeskModel", "part", "(II)I"⟩ ⟨"ContractDeskModel", "part", "(II)I"⟩ ∈ lw_tbl := List.mem_of_getElem? (i := 40) (by decide +kernel)
theorem tw_41 : Cond.selects "ContractDeskModel" ⟨"ContractDeskModel", "member", "(IC)I"⟩ ⟨"ContractDeskModel", "member", "(IC)I"⟩ ∈ lw_tbl := List.mem_of_getElem? (i := 41) (by decide +kernel)
theorem tw_42 : Cond.selects "ContractDeskModel" ⟨"ContractDeskModel", "keep", "(I)V"⟩ ⟨"ContractDeskModel", "keep", "(I)V"⟩ ∈ lw_tbl := List.mem_of_getElem? (i := 42) (by decide +kernel)
theorem tw_43 : Cond.selects "ContractDeskModel" ⟨"ContractDeskModel", "isRule", "()Z"⟩ ⟨"ContractDeskModel", "isRule", "()Z"⟩ ∈ lw_tbl := List.mem_of_getElem? (i := 43) (by decide +kernel)
theorem tw_44 : Cond.selects "ContractDeskModel" ⟨"ContractDeskModel", "stepEnd", "(I)I"⟩ ⟨"ContractDeskModel", "stepEnd", "(I)I"⟩ ∈ lw_tbl := List.mem_of_getElem? (i := 44) (by decide +kernel)
theorem tw_45 : Cond.selects "ContractDeskModel" ⟨"ContractDeskModel", "matcherEnd", "(I)I"⟩ ⟨"ContractDeskModel", "matcherEnd", "(I)I"⟩ ∈ lw_tbl := List.mem_of_getElem? (i := 45) (by decide +kernel)
theorem tw_46 : Cond.selects "ContractDeskModel" ⟨"ContractDeskModel", "itemsEnd", "(I)I"⟩ ⟨"ContractDeskModel", "itemsEnd", "(I)I"⟩ ∈ lw_tbl := List.mem_of_getElem? (i := 46) (by decide +kernel)
theorem tw_47 : Cond.selects "ContractDeskModel" ⟨"ContractDeskModel", "readPlace", "()Z"⟩ ⟨"ContractDeskModel", "readPlace", "()Z"⟩ ∈ lw_tbl := List.mem_of_getElem? (i := 47) (by decide +kernel)
theorem tw_48 : Cond.selects "ContractDeskModel" ⟨"ContractDeskModel", "selected", "(I)I"⟩ ⟨"ContractDeskModel", "selected", "(I)I"⟩ ∈ lw_tbl := List.mem_of_getElem? (i := 48) (by decide +kernel)
theorem tw_49 : Cond.selects "ContractDeskModel" ⟨"ContractDeskModel", "fits", "(I)I"⟩ ⟨"ContractDeskModel", "fits", "(I)I"⟩ ∈ lw_tbl := List.mem_of_getElem? (i := 49) (by decide +kernel)
theorem tw_50 : Cond.selects "ContractDeskModel" ⟨"ContractDeskModel", "colon", "(I)I"⟩ ⟨"ContractDeskModel", "colon", "(I)I"⟩ ∈ lw_tbl := List.mem_of_getElem? (i := 50) (by decide +kernel)
theorem tw_51 : Cond.selects "ContractDeskModel" ⟨"ContractDeskModel", "verified", "(I)I"⟩ ⟨"ContractDeskModel", "verified", "(I)I"⟩ ∈ lw_tbl := List.mem_of_getElem? (i := 51) (by decide +kernel)
theorem tw_52 : Cond.selects "ContractDeskModel" ⟨"ContractDeskModel", "happen", "(II)V"⟩ ⟨"ContractDeskModel", "happen", "(II)V"⟩ ∈ lw_tbl := List.mem_of_getElem? (i := 52) (by decide +kernel)
theorem tw_53 : Cond.selects "ContractDeskModel" ⟨"ContractDeskModel", "compareAll", "(I)I"⟩ ⟨"ContractDeskModel", "compareAll", "(I)I"⟩ ∈ lw_tbl := List.mem_of_getElem? (i := 53) (by decide +kernel)
theorem tw_54 : Cond.selects "ContractDeskModel" ⟨"ContractDeskModel", "push", "(IIII)V"⟩ ⟨"ContractDeskModel", "push", "(IIII)V"⟩ ∈ lw_tbl := List.mem_of_getElem? (i := 54) (by decide +kernel)
theorem tw_55 : Cond.selects "ContractDeskModel" ⟨"ContractDeskModel", "lay", "(I)V"⟩ ⟨"ContractDeskModel", "lay", "(I)V"⟩ ∈ lw_tbl := List.mem_of_getElem? (i := 55) (by decide +kernel)
theorem tw_56 : Cond.selects "ContractDeskModel" ⟨"ContractDeskModel", "list", "(I)V"⟩ ⟨"ContractDeskModel", "list", "(I)V"⟩ ∈ lw_tbl := List.mem_of_getElem? (i := 56) (by decide +kernel)
theorem tw_57 : Cond.selects "ContractDeskModel" ⟨"ContractDeskModel", "put", "(II)V"⟩ ⟨"ContractDeskModel", "put", "(II)V"⟩ ∈ lw_tbl := List.mem_of_getElem? (i := 57) (by decide +kernel)
theorem tw_58 : Cond.selects "ContractDeskModel" ⟨"ContractDeskModel", "compared", "(IIII)I"⟩ ⟨"ContractDeskModel", "compared", "(IIII)I"⟩ ∈ lw_tbl := List.mem_of_getElem? (i := 58) (by decide +kernel)
theorem tw_59 : Cond.selects "ContractDeskModel" ⟨"ContractDeskModel", "outcome", "(III)I"⟩ ⟨"ContractDeskModel", "outcome", "(III)I"⟩ ∈ lw_tbl := List.mem_of_getElem? (i := 59) (by decide +kernel)
theorem tw_60 : Cond.selects "ContractDeskModel" ⟨"ContractDeskModel", "behind", "(II)I"⟩ ⟨"ContractDeskModel", "behind", "(II)I"⟩ ∈ lw_tbl := List.mem_of_getElem? (i := 60) (by decide +kernel)
theorem tw_61 : Cond.selects "ContractDeskModel" ⟨"ContractDeskModel", "holds", "(IIII)Z"⟩ ⟨"ContractDeskModel", "holds", "(IIII)Z"⟩ ∈ lw_tbl := List.mem_of_getElem? (i := 61) (by decide +kernel)
theorem tw_62 : Cond.selects "ContractDeskModel" ⟨"ContractDeskModel", "contains", "(III)Z"⟩ ⟨"ContractDeskModel", "contains", "(III)Z"⟩ ∈ lw_tbl := List.mem_of_getElem? (i := 62) (by decide +kernel)
theorem tw_63 : Cond.selects "ContractDeskModel" ⟨"ContractDeskModel", "isAs", "(III)Z"⟩ ⟨"ContractDeskModel", "isAs", "(III)Z"⟩ ∈ lw_tbl := List.mem_of_getElem? (i := 63) (by decide +kernel)
theorem tw_64 : Cond.selects "ContractDeskModel" ⟨"ContractDeskModel", "spread", "(I)V"⟩ ⟨"ContractDeskModel", "spread", "(I)V"⟩ ∈ lw_tbl := List.mem_of_getElem? (i := 64) (by decide +kernel)
theorem tw_65 : Cond.selects "ContractDeskModel" ⟨"ContractDeskModel", "elements", "(ZIII)I"⟩ ⟨"ContractDeskModel", "elements", "(ZIII)I"⟩ ∈ lw_tbl := List.mem_of_getElem? (i := 65) (by decide +kernel)
theorem tw_66 : Cond.selects "ContractDeskModel" ⟨"ContractDeskModel", "place", "(II)I"⟩ ⟨"ContractDeskModel", "place", "(II)I"⟩ ∈ lw_tbl := List.mem_of_getElem? (i := 66) (by decide +kernel)
theorem tw_67 : Cond.selects "ContractDeskModel" ⟨"ContractDeskModel", "members", "(IIII)V"⟩ ⟨"ContractDeskModel", "members", "(IIII)V"⟩ ∈ lw_tbl := List.mem_of_getElem? (i := 67) (by decide +kernel)
theorem tw_68 : Cond.selects "ContractDeskModel" ⟨"ContractDeskModel", "tear", "(II)V"⟩ ⟨"ContractDeskModel", "tear", "(II)V"⟩ ∈ lw_tbl := List.mem_of_getElem? (i := 68) (by decide +kernel)
theorem tw_70 : Cond.initialized "ContractDesk" ∈ lw_tbl := List.mem_of_getElem? (i := 70) (by decide +kernel)
theorem tw_72 : Cond.initialized "java/lang/StringBuilder" ∈ lw_tbl := List.mem_of_getElem? (i := 72) (by decide +kernel)
theorem tw_75 : Cond.initialized "ContractDesk$Reader" ∈ lw_tbl := List.mem_of_getElem? (i := 75) (by decide +kernel)
theorem tw_78 : Cond.initialized "java/util/ArrayList" ∈ lw_tbl := List.mem_of_getElem? (i := 78) (by decide +kernel)
theorem tw_82 : Cond.initialized "java/lang/IllegalArgumentException" ∈ lw_tbl := List.mem_of_getElem? (i := 82) (by decide +kernel)
theorem tw_90 : Cond.initialized "ContractDeskModel" ∈ lw_tbl := List.mem_of_getElem? (i := 90) (by decide +kernel)
theorem tw_91 : Cond.initialized "java/lang/IllegalStateException" ∈ lw_tbl := List.mem_of_getElem? (i := 91) (by decide +kernel)
theorem tw_92 : Cond.initialized "ContractDesk$Interaction" ∈ lw_tbl := List.mem_of_getElem? (i := 92) (by decide +kernel)
theorem tw_95 : Cond.initialized "ContractDesk$Text" ∈ lw_tbl := List.mem_of_getElem? (i := 95) (by decide +kernel)
theorem tw_96 : Cond.initialized "ContractDesk$Group" ∈ lw_tbl := List.mem_of_getElem? (i := 96) (by decide +kernel)
theorem tw_99 : Cond.initialized "ContractDesk$Member" ∈ lw_tbl := List.mem_of_getElem? (i := 99) (by decide +kernel)
theorem tw_100 : Cond.initialized "ContractDesk$Plain" ∈ lw_tbl := List.mem_of_getElem? (i := 100) (by decide +kernel)
theorem tw_101 : Cond.initialized "ContractDesk$Rule" ∈ lw_tbl := List.mem_of_getElem? (i := 101) (by decide +kernel)
theorem tw_103 : Cond.initialized "ContractDesk$Simple" ∈ lw_tbl := List.mem_of_getElem? (i := 103) (by decide +kernel)
theorem tw_104 : Cond.initialized "ContractDesk$Bound" ∈ lw_tbl := List.mem_of_getElem? (i := 104) (by decide +kernel)
theorem tw_105 : Cond.initialized "ContractDesk$Inside" ∈ lw_tbl := List.mem_of_getElem? (i := 105) (by decide +kernel)
theorem tw_106 : Cond.initialized "ContractDesk$Shape" ∈ lw_tbl := List.mem_of_getElem? (i := 106) (by decide +kernel)
theorem tw_107 : Cond.initialized "ContractDesk$Mismatch" ∈ lw_tbl := List.mem_of_getElem? (i := 107) (by decide +kernel)
theorem tw_108 : Cond.classLink "ContractDeskLaw" 8 "ContractDesk" ∈ lw_tbl := List.mem_of_getElem? (i := 108) (by decide +kernel)
theorem tw_109 : Cond.instantiable "ContractDesk" 10 ∈ lw_tbl := List.mem_of_getElem? (i := 109) (by decide +kernel)
theorem tw_110 : Cond.methodLink "ContractDeskLaw" 27 ⟨"ContractDesk", "<init>", "()V"⟩ ∈ lw_tbl := List.mem_of_getElem? (i := 110) (by decide +kernel)
theorem tw_111 : Cond.instanceMethod ⟨"ContractDesk", "<init>", "()V"⟩ ∈ lw_tbl := List.mem_of_getElem? (i := 111) (by decide +kernel)
theorem tw_113 : Cond.methodLink "ContractDesk" 1 ⟨"java/lang/Object", "<init>", "()V"⟩ ∈ lw_tbl := List.mem_of_getElem? (i := 113) (by decide +kernel)
theorem tw_116 : Cond.classLink "ContractDesk" 7 "java/lang/StringBuilder" ∈ lw_tbl := List.mem_of_getElem? (i := 116) (by decide +kernel)
theorem tw_117 : Cond.instantiable "java/lang/StringBuilder" 4 ∈ lw_tbl := List.mem_of_getElem? (i := 117) (by decide +kernel)
theorem tw_118 : Cond.methodLink "ContractDesk" 11 ⟨"java/lang/StringBuilder", "<init>", "(I)V"⟩ ∈ lw_tbl := List.mem_of_getElem? (i := 118) (by decide +kernel)
theorem tw_119 : Cond.instanceMethod ⟨"java/lang/StringBuilder", "<init>", "(I)V"⟩ ∈ lw_tbl := List.mem_of_getElem? (i := 119) (by decide +kernel)
theorem tw_121 : Cond.methodLink "java/lang/StringBuilder" 1 ⟨"java/lang/AbstractStringBuilder", "<init>", "(I)V"⟩ ∈ lw_tbl := List.mem_of_getElem? (i := 121) (by decide +kernel)
theorem tw_122 : Cond.instanceMethod ⟨"java/lang/AbstractStringBuilder", "<init>", "(I)V"⟩ ∈ lw_tbl := List.mem_of_getElem? (i := 122) (by decide +kernel)
theorem tw_124 : Cond.methodLink "java/lang/AbstractStringBuilder" 3 ⟨"java/lang/Object", "<init>", "()V"⟩ ∈ lw_tbl := List.mem_of_getElem? (i := 124) (by decide +kernel)
theorem tw_125 : Cond.fieldLink "java/lang/AbstractStringBuilder" 18 "java/lang/String" "COMPACT_STRINGS" "Z" ∈ lw_tbl := List.mem_of_getElem? (i := 125) (by decide +kernel)
theorem tw_134 : Cond.fieldLink "java/lang/AbstractStringBuilder" 15 "java/lang/AbstractStringBuilder" "value" "[B" ∈ lw_tbl := List.mem_of_getElem? (i := 134) (by decide +kernel)
theorem tw_135 : Cond.fieldLink "java/lang/AbstractStringBuilder" 22 "java/lang/AbstractStringBuilder" "coder" "B" ∈ lw_tbl := List.mem_of_getElem? (i := 135) (by decide +kernel)
theorem tw_136 : Cond.fieldLink "java/lang/AbstractStringBuilder" 73 "java/lang/AbstractStringBuilder" "maybeLatin1" "Z" ∈ lw_tbl := List.mem_of_getElem? (i := 136) (by decide +kernel)
theorem tw_138 : Cond.fieldLink "java/lang/AbstractStringBuilder" 79 "java/lang/AbstractStringBuilder" "count" "I" ∈ lw_tbl := List.mem_of_getElem? (i := 138) (by decide +kernel)
theorem tw_147 : Cond.superclass "java/lang/StringBuilder" "java/lang/AbstractStringBuilder" ∈ lw_tbl := List.mem_of_getElem? (i := 147) (by decide +kernel)
theorem tw_148 : Cond.arrayClass .byte ∈ lw_tbl := List.mem_of_getElem? (i := 148) (by decide +kernel)
theorem tw_149 : Cond.classLink "ContractDesk" 18 "ContractDesk$Reader" ∈ lw_tbl := List.mem_of_getElem? (i := 149) (by decide +kernel)
theorem tw_150 : Cond.instantiable "ContractDesk$Reader" 2 ∈ lw_tbl := List.mem_of_getElem? (i := 150) (by decide +kernel)
theorem tw_151 : Cond.methodLinkNest "ContractDesk" 20 ⟨"ContractDesk$Reader", "<init>", "()V"⟩ "ContractDesk" ∈ lw_tbl := List.mem_of_getElem? (i := 151) (by decide +kernel)
theorem tw_152 : Cond.instanceMethod ⟨"ContractDesk$Reader", "<init>", "()V"⟩ ∈ lw_tbl := List.mem_of_getElem? (i := 152) (by decide +kernel)
theorem tw_154 : Cond.methodLink "ContractDesk$Reader" 3 ⟨"java/lang/Object", "<init>", "()V"⟩ ∈ lw_tbl := List.mem_of_getElem? (i := 154) (by decide +kernel)
theorem tw_155 : Cond.classLink "ContractDesk$Reader" 9 "java/lang/StringBuilder" ∈ lw_tbl := List.mem_of_getElem? (i := 155) (by decide +kernel)
theorem tw_156 : Cond.methodLink "ContractDesk$Reader" 11 ⟨"java/lang/StringBuilder", "<init>", "(I)V"⟩ ∈ lw_tbl := List.mem_of_getElem? (i := 156) (by decide +kernel)
theorem tw_157 : Cond.fieldLink "ContractDesk$Reader" 14 "ContractDesk$Reader" "s" "Ljava/lang/StringBuilder;" ∈ lw_tbl := List.mem_of_getElem? (i := 157) (by decide +kernel)
theorem tw_158 : Cond.fieldLink "ContractDesk$Reader" 35 "ContractDesk$Reader" "at" "I" ∈ lw_tbl := List.mem_of_getElem? (i := 158) (by decide +kernel)
theorem tw_164 : Cond.classLink "ContractDesk" 25 "java/util/ArrayList" ∈ lw_tbl := List.mem_of_getElem? (i := 164) (by decide +kernel)
theorem tw_165 : Cond.instantiable "java/util/ArrayList" 3 ∈ lw_tbl := List.mem_of_getElem? (i := 165) (by decide +kernel)
theorem tw_166 : Cond.methodLink "ContractDesk" 27 ⟨"java/util/ArrayList", "<init>", "(I)V"⟩ ∈ lw_tbl := List.mem_of_getElem? (i := 166) (by decide +kernel)
theorem tw_167 : Cond.instanceMethod ⟨"java/util/ArrayList", "<init>", "(I)V"⟩ ∈ lw_tbl := List.mem_of_getElem? (i := 167) (by decide +kernel)
theorem tw_169 : Cond.methodLink "java/util/ArrayList" 1 ⟨"java/util/AbstractList", "<init>", "()V"⟩ ∈ lw_tbl := List.mem_of_getElem? (i := 169) (by decide +kernel)
theorem tw_170 : Cond.instanceMethod ⟨"java/util/AbstractList", "<init>", "()V"⟩ ∈ lw_tbl := List.mem_of_getElem? (i := 170) (by decide +kernel)
theorem tw_172 : Cond.methodLink "java/util/AbstractList" 1 ⟨"java/util/AbstractCollection", "<init>", "()V"⟩ ∈ lw_tbl := List.mem_of_getElem? (i := 172) (by decide +kernel)
theorem tw_173 : Cond.instanceMethod ⟨"java/util/AbstractCollection", "<init>", "()V"⟩ ∈ lw_tbl := List.mem_of_getElem? (i := 173) (by decide +kernel)
theorem tw_175 : Cond.methodLink "java/util/AbstractCollection" 1 ⟨"java/lang/Object", "<init>", "()V"⟩ ∈ lw_tbl := List.mem_of_getElem? (i := 175) (by decide +kernel)
theorem tw_176 : Cond.classLink "java/util/ArrayList" 7 "java/lang/Object" ∈ lw_tbl := List.mem_of_getElem? (i := 176) (by decide +kernel)
theorem tw_177 : Cond.arrayOver (.object "java/lang/Object") ∈ lw_tbl := List.mem_of_getElem? (i := 177) (by decide +kernel)
theorem tw_180 : Cond.classLink "java/util/ArrayList" 18 "java/lang/IllegalArgumentException" ∈ lw_tbl := List.mem_of_getElem? (i := 180) (by decide +kernel)
theorem tw_181 : Cond.instantiable "java/lang/IllegalArgumentException" 6 ∈ lw_tbl := List.mem_of_getElem? (i := 181) (by decide +kernel)
theorem tw_220 : Cond.classLink "java/util/ArrayList" 20 "java/lang/StringBuilder" ∈ lw_tbl := List.mem_of_getElem? (i := 220) (by decide +kernel)
theorem tw_236 : Cond.methodLink "java/lang/AbstractStringBuilder" 100 ⟨"java/lang/AbstractStringBuilder", "ensureCapacityInternal", "(I)V"⟩ ∈ lw_tbl := List.mem_of_getElem? (i := 236) (by decide +kernel)
theorem tw_237 : Cond.privateMethod ⟨"java/lang/AbstractStringBuilder", "ensureCapacityInternal", "(I)V"⟩ ∈ lw_tbl := List.mem_of_getElem? (i := 237) (by decide +kernel)
theorem tw_238 : Cond.instanceMethod ⟨"java/lang/AbstractStringBuilder", "ensureCapacityInternal", "(I)V"⟩ ∈ lw_tbl := List.mem_of_getElem? (i := 238) (by decide +kernel)
theorem tw_240 : Cond.methodLink "java/lang/AbstractStringBuilder" 104 ⟨"java/lang/AbstractStringBuilder", "newCapacity", "(I)I"⟩ ∈ lw_tbl := List.mem_of_getElem? (i := 240) (by decide +kernel)
theorem tw_241 : Cond.privateMethod ⟨"java/lang/AbstractStringBuilder", "newCapacity", "(I)I"⟩ ∈ lw_tbl := List.mem_of_getElem? (i := 241) (by decide +kernel)
theorem tw_242 : Cond.instanceMethod ⟨"java/lang/AbstractStringBuilder", "newCapacity", "(I)I"⟩ ∈ lw_tbl := List.mem_of_getElem? (i := 242) (by decide +kernel)
theorem tw_244 : Cond.methodLink "java/lang/AbstractStringBuilder" 114 ⟨"jdk/internal/util/ArraysSupport", "newLength", "(III)I"⟩ ∈ lw_tbl := List.mem_of_getElem? (i := 244) (by decide +kernel)
theorem tw_245 : Cond.static ⟨"jdk/internal/util/ArraysSupport", "newLength", "(III)I"⟩ ∈ lw_tbl := List.mem_of_getElem? (i := 245) (by decide +kernel)
theorem tw_247 : Cond.methodLink "jdk/internal/util/ArraysSupport" 194 ⟨"java/lang/Math", "max", "(II)I"⟩ ∈ lw_tbl := List.mem_of_getElem? (i := 247) (by decide +kernel)
theorem tw_250 : Cond.constant "jdk/internal/util/ArraysSupport" 200 2147483639 ∈ lw_tbl := List.mem_of_getElem? (i := 250) (by decide +kernel)
theorem tw_254 : Cond.constant "java/lang/AbstractStringBuilder" 39 2147483647 ∈ lw_tbl := List.mem_of_getElem? (i := 254) (by decide +kernel)
theorem tw_255 : Cond.methodLink "java/lang/AbstractStringBuilder" 108 ⟨"java/util/Arrays", "copyOf", "([BI)[B"⟩ ∈ lw_tbl := List.mem_of_getElem? (i := 255) (by decide +kernel)
theorem tw_256 : Cond.static ⟨"java/util/Arrays", "copyOf", "([BI)[B"⟩ ∈ lw_tbl := List.mem_of_getElem? (i := 256) (by decide +kernel)
theorem tw_265 : Cond.methodLink "java/util/Arrays" 304 ⟨"java/lang/Math", "min", "(II)I"⟩ ∈ lw_tbl := List.mem_of_getElem? (i := 265) (by decide +kernel)
theorem tw_268 : Cond.methodLink "java/util/Arrays" 150 ⟨"java/lang/System", "arraycopy", "(Ljava/lang/Object;ILjava/lang/Object;II)V"⟩ ∈ lw_tbl := List.mem_of_getElem? (i := 268) (by decide +kernel)
theorem tw_271 : Cond.methodLink "java/lang/AbstractStringBuilder" 83 ⟨"java/lang/AbstractStringBuilder", "isLatin1", "()Z"⟩ ∈ lw_tbl := List.mem_of_getElem? (i := 271) (by decide +kernel)
theorem tw_272 : Cond.instanceMethod ⟨"java/lang/AbstractStringBuilder", "isLatin1", "()Z"⟩ ∈ lw_tbl := List.mem_of_getElem? (i := 272) (by decide +kernel)
theorem tw_274 : Cond.selects "java/lang/StringBuilder" ⟨"java/lang/AbstractStringBuilder", "isLatin1", "()Z"⟩ ⟨"java/lang/AbstractStringBuilder", "isLatin1", "()Z"⟩ ∈ lw_tbl := List.mem_of_getElem? (i := 274) (by decide +kernel)
theorem tw_288 : Cond.fieldLink "java/lang/String" 1053 "jdk/internal/util/Preconditions" "SIOOBE_FORMATTER" "Ljava/util/function/BiFunction;" ∈ lw_tbl := List.mem_of_getElem? (i := 288) (by decide +kernel)
theorem tw_303 : Cond.instanceMethod ⟨"java/lang/String", "length", "()I"⟩ ∈ lw_tbl := List.mem_of_getElem? (i := 303) (by decide +kernel)
theorem tw_304 : Cond.selects "java/lang/String" ⟨"java/lang/String", "length", "()I"⟩ ⟨"java/lang/String", "length", "()I"⟩ ∈ lw_tbl := List.mem_of_getElem? (i := 304) (by decide +kernel)
theorem tw_306 : Cond.methodLink "java/lang/String" 335 ⟨"java/lang/String", "coder", "()B"⟩ ∈ lw_tbl := List.mem_of_getElem? (i := 306) (by decide +kernel)
theorem tw_307 : Cond.instanceMethod ⟨"java/lang/String", "coder", "()B"⟩ ∈ lw_tbl := List.mem_of_getElem? (i := 307) (by decide +kernel)
theorem tw_308 : Cond.selects "java/lang/String" ⟨"java/lang/String", "coder", "()B"⟩ ⟨"java/lang/String", "coder", "()B"⟩ ∈ lw_tbl := List.mem_of_getElem? (i := 308) (by decide +kernel)
theorem tw_310 : Cond.fieldLink "java/lang/String" 38 "java/lang/String" "COMPACT_STRINGS" "Z" ∈ lw_tbl := List.mem_of_getElem? (i := 310) (by decide +kernel)
theorem tw_389 : Cond.instanceMethod ⟨"java/lang/AbstractStringBuilder", "length", "()I"⟩ ∈ lw_tbl := List.mem_of_getElem? (i := 389) (by decide +kernel)
theorem tw_390 : Cond.sameMethod "java/lang/AbstractStringBuilder" "java/lang/AbstractStringBuilder" "length" "()I" ∈ lw_tbl := List.mem_of_getElem? (i := 390) (by decide +kernel)
theorem tw_392 : Cond.instanceMethod ⟨"java/lang/StringBuilder", "length", "()I"⟩ ∈ lw_tbl := List.mem_of_getElem? (i := 392) (by decide +kernel)
theorem tw_394 : Cond.methodLink "java/lang/StringBuilder" 343 ⟨"java/lang/AbstractStringBuilder", "length", "()I"⟩ ∈ lw_tbl := List.mem_of_getElem? (i := 394) (by decide +kernel)
theorem tw_451 : Cond.fieldLink "java/lang/String" 9 "java/lang/String" "value" "[B" ∈ lw_tbl := List.mem_of_getElem? (i := 451) (by decide +kernel)
theorem tw_452 : Cond.fieldLink "java/lang/String" 15 "java/lang/String" "coder" "B" ∈ lw_tbl := List.mem_of_getElem? (i := 452) (by decide +kernel)
theorem tw_463 : Cond.fieldLink "java/util/ArrayList" 9 "java/util/ArrayList" "elementData" "[Ljava/lang/Object;" ∈ lw_tbl := List.mem_of_getElem? (i := 463) (by decide +kernel)
theorem tw_464 : Cond.fieldLink "java/util/ArrayList" 48 "java/util/ArrayList" "size" "I" ∈ lw_tbl := List.mem_of_getElem? (i := 464) (by decide +kernel)
theorem tw_465 : Cond.fieldLink "java/util/AbstractList" 7 "java/util/AbstractList" "modCount" "I" ∈ lw_tbl := List.mem_of_getElem? (i := 465) (by decide +kernel)
theorem tw_466 : Cond.fieldLink "java/util/ArrayList" 63 "java/util/ArrayList" "modCount" "I" ∈ lw_tbl := List.mem_of_getElem? (i := 466) (by decide +kernel)
theorem tw_467 : Cond.sameField "java/util/ArrayList" "java/util/AbstractList" "modCount" "I" ∈ lw_tbl := List.mem_of_getElem? (i := 467) (by decide +kernel)
theorem tw_475 : Cond.fieldLink "ContractDesk" 14 "ContractDesk" "text" "Ljava/lang/StringBuilder;" ∈ lw_tbl := List.mem_of_getElem? (i := 475) (by decide +kernel)
theorem tw_476 : Cond.fieldLink "ContractDesk" 21 "ContractDesk" "reader" "LContractDesk$Reader;" ∈ lw_tbl := List.mem_of_getElem? (i := 476) (by decide +kernel)
theorem tw_477 : Cond.fieldLink "ContractDesk" 28 "ContractDesk" "interactions" "Ljava/util/ArrayList;" ∈ lw_tbl := List.mem_of_getElem? (i := 477) (by decide +kernel)
theorem tw_478 : Cond.fieldLink "ContractDesk" 32 "ContractDesk" "handlers" "[I" ∈ lw_tbl := List.mem_of_getElem? (i := 478) (by decide +kernel)
theorem tw_479 : Cond.fieldLink "ContractDesk" 36 "ContractDesk" "mismatches" "Ljava/util/ArrayList;" ∈ lw_tbl := List.mem_of_getElem? (i := 479) (by decide +kernel)
theorem tw_480 : Cond.fieldLink "ContractDesk" 152 "ContractDesk" "listed" "I" ∈ lw_tbl := List.mem_of_getElem? (i := 480) (by decide +kernel)
theorem tw_481 : Cond.fieldLink "ContractDesk" 155 "ContractDesk" "found" "I" ∈ lw_tbl := List.mem_of_getElem? (i := 481) (by decide +kernel)
theorem tw_482 : Cond.fieldLink "ContractDesk" 39 "ContractDesk" "place" "[I" ∈ lw_tbl := List.mem_of_getElem? (i := 482) (by decide +kernel)
theorem tw_483 : Cond.fieldLink "ContractDesk" 42 "ContractDesk" "events" "[I" ∈ lw_tbl := List.mem_of_getElem? (i := 483) (by decide +kernel)
theorem tw_484 : Cond.fieldLink "ContractDesk" 126 "ContractDesk" "eventCount" "I" ∈ lw_tbl := List.mem_of_getElem? (i := 484) (by decide +kernel)
theorem tw_506 : Cond.arrayClass .int ∈ lw_tbl := List.mem_of_getElem? (i := 506) (by decide +kernel)
theorem tw_507 : Cond.methodLink "ContractDeskLaw" 33 ⟨"ContractDesk", "write", "(J)Z"⟩ ∈ lw_tbl := List.mem_of_getElem? (i := 507) (by decide +kernel)
theorem tw_508 : Cond.instanceMethod ⟨"ContractDesk", "write", "(J)Z"⟩ ∈ lw_tbl := List.mem_of_getElem? (i := 508) (by decide +kernel)
theorem tw_509 : Cond.selects "ContractDesk" ⟨"ContractDesk", "write", "(J)Z"⟩ ⟨"ContractDesk", "write", "(J)Z"⟩ ∈ lw_tbl := List.mem_of_getElem? (i := 509) (by decide +kernel)
theorem tw_511 : Cond.constantLong "ContractDesk" 45 255 ∈ lw_tbl := List.mem_of_getElem? (i := 511) (by decide +kernel)
theorem tw_512 : Cond.methodLink "ContractDesk" 47 ⟨"java/lang/StringBuilder", "length", "()I"⟩ ∈ lw_tbl := List.mem_of_getElem? (i := 512) (by decide +kernel)
theorem tw_513 : Cond.methodLink "ContractDesk" 51 ⟨"java/lang/StringBuilder", "append", "(C)Ljava/lang/StringBuilder;"⟩ ∈ lw_tbl := List.mem_of_getElem? (i := 513) (by decide +kernel)
theorem tw_514 : Cond.instanceMethod ⟨"java/lang/StringBuilder", "append", "(C)Ljava/lang/StringBuilder;"⟩ ∈ lw_tbl := List.mem_of_getElem? (i := 514) (by decide +kernel)
theorem tw_515 : Cond.selects "java/lang/StringBuilder" ⟨"java/lang/StringBuilder", "append", "(C)Ljava/lang/StringBuilder;"⟩ ⟨"java/lang/StringBuilder", "append", "(C)Ljava/lang/StringBuilder;"⟩ ∈ lw_tbl := List.mem_of_getElem? (i := 515) (by decide +kernel)
theorem tw_517 : Cond.methodLink "java/lang/StringBuilder" 50 ⟨"java/lang/AbstractStringBuilder", "append", "(C)Ljava/lang/AbstractStringBuilder;"⟩ ∈ lw_tbl := List.mem_of_getElem? (i := 517) (by decide +kernel)
theorem tw_518 : Cond.instanceMethod ⟨"java/lang/AbstractStringBuilder", "append", "(C)Ljava/lang/AbstractStringBuilder;"⟩ ∈ lw_tbl := List.mem_of_getElem? (i := 518) (by decide +kernel)
theorem tw_520 : Cond.methodLink "java/lang/AbstractStringBuilder" 191 ⟨"java/lang/StringLatin1", "canEncode", "(C)Z"⟩ ∈ lw_tbl := List.mem_of_getElem? (i := 520) (by decide +kernel)
theorem tw_521 : Cond.static ⟨"java/lang/StringLatin1", "canEncode", "(C)Z"⟩ ∈ lw_tbl := List.mem_of_getElem? (i := 521) (by decide +kernel)
theorem tw_530 : Cond.static ⟨"java/lang/String", "checkIndex", "(II)V"⟩ ∈ lw_tbl := List.mem_of_getElem? (i := 530) (by decide +kernel)
theorem tw_532 : Cond.methodLink "java/lang/String" 1059 ⟨"jdk/internal/util/Preconditions", "checkIndex", "(IILjava/util/function/BiFunction;)I"⟩ ∈ lw_tbl := List.mem_of_getElem? (i := 532) (by decide +kernel)
theorem tw_533 : Cond.static ⟨"jdk/internal/util/Preconditions", "checkIndex", "(IILjava/util/function/BiFunction;)I"⟩ ∈ lw_tbl := List.mem_of_getElem? (i := 533) (by decide +kernel)
theorem tw_535 : Cond.methodLink "ContractDeskLaw" 55 ⟨"ContractDesk", "needs", "(II)Z"⟩ ∈ lw_tbl := List.mem_of_getElem? (i := 535) (by decide +kernel)
theorem tw_536 : Cond.instanceMethod ⟨"ContractDesk", "needs", "(II)Z"⟩ ∈ lw_tbl := List.mem_of_getElem? (i := 536) (by decide +kernel)
theorem tw_537 : Cond.selects "ContractDesk" ⟨"ContractDesk", "needs", "(II)Z"⟩ ⟨"ContractDesk", "needs", "(II)Z"⟩ ∈ lw_tbl := List.mem_of_getElem? (i := 537) (by decide +kernel)
theorem tw_539 : Cond.methodLink "ContractDesk" 70 ⟨"ContractDesk", "isThere", "(I)Z"⟩ ∈ lw_tbl := List.mem_of_getElem? (i := 539) (by decide +kernel)
theorem tw_541 : Cond.instanceMethod ⟨"ContractDesk", "isThere", "(I)Z"⟩ ∈ lw_tbl := List.mem_of_getElem? (i := 541) (by decide +kernel)
theorem tw_543 : Cond.methodLink "ContractDesk" 55 ⟨"java/util/ArrayList", "size", "()I"⟩ ∈ lw_tbl := List.mem_of_getElem? (i := 543) (by decide +kernel)
theorem tw_544 : Cond.instanceMethod ⟨"java/util/ArrayList", "size", "()I"⟩ ∈ lw_tbl := List.mem_of_getElem? (i := 544) (by decide +kernel)
theorem tw_545 : Cond.selects "java/util/ArrayList" ⟨"java/util/ArrayList", "size", "()I"⟩ ⟨"java/util/ArrayList", "size", "()I"⟩ ∈ lw_tbl := List.mem_of_getElem? (i := 545) (by decide +kernel)
theorem tw_547 : Cond.methodLink "ContractDesk" 77 ⟨"java/util/ArrayList", "get", "(I)Ljava/lang/Object;"⟩ ∈ lw_tbl := List.mem_of_getElem? (i := 547) (by decide +kernel)
theorem tw_548 : Cond.instanceMethod ⟨"java/util/ArrayList", "get", "(I)Ljava/lang/Object;"⟩ ∈ lw_tbl := List.mem_of_getElem? (i := 548) (by decide +kernel)
theorem tw_549 : Cond.selects "java/util/ArrayList" ⟨"java/util/ArrayList", "get", "(I)Ljava/lang/Object;"⟩ ⟨"java/util/ArrayList", "get", "(I)Ljava/lang/Object;"⟩ ∈ lw_tbl := List.mem_of_getElem? (i := 549) (by decide +kernel)
theorem tw_551 : Cond.methodLink "java/util/ArrayList" 118 ⟨"java/util/Objects", "checkIndex", "(II)I"⟩ ∈ lw_tbl := List.mem_of_getElem? (i := 551) (by decide +kernel)
theorem tw_552 : Cond.static ⟨"java/util/Objects", "checkIndex", "(II)I"⟩ ∈ lw_tbl := List.mem_of_getElem? (i := 552) (by decide +kernel)
theorem tw_554 : Cond.methodLink "java/util/Objects" 105 ⟨"jdk/internal/util/Preconditions", "checkIndex", "(IILjava/util/function/BiFunction;)I"⟩ ∈ lw_tbl := List.mem_of_getElem? (i := 554) (by decide +kernel)
theorem tw_555 : Cond.methodLink "java/util/ArrayList" 123 ⟨"java/util/ArrayList", "elementData", "(I)Ljava/lang/Object;"⟩ ∈ lw_tbl := List.mem_of_getElem? (i := 555) (by decide +kernel)
theorem tw_556 : Cond.instanceMethod ⟨"java/util/ArrayList", "elementData", "(I)Ljava/lang/Object;"⟩ ∈ lw_tbl := List.mem_of_getElem? (i := 556) (by decide +kernel)
theorem tw_557 : Cond.selects "java/util/ArrayList" ⟨"java/util/ArrayList", "elementData", "(I)Ljava/lang/Object;"⟩ ⟨"java/util/ArrayList", "elementData", "(I)Ljava/lang/Object;"⟩ ∈ lw_tbl := List.mem_of_getElem? (i := 557) (by decide +kernel)
theorem tw_559 : Cond.classLink "ContractDesk" 61 "ContractDesk$Interaction" ∈ lw_tbl := List.mem_of_getElem? (i := 559) (by decide +kernel)
theorem tw_560 : Cond.methodLink "ContractDeskLaw" 60 ⟨"ContractDesk", "handler", "(II)Z"⟩ ∈ lw_tbl := List.mem_of_getElem? (i := 560) (by decide +kernel)
theorem tw_561 : Cond.instanceMethod ⟨"ContractDesk", "handler", "(II)Z"⟩ ∈ lw_tbl := List.mem_of_getElem? (i := 561) (by decide +kernel)
theorem tw_562 : Cond.selects "ContractDesk" ⟨"ContractDesk", "handler", "(II)Z"⟩ ⟨"ContractDesk", "handler", "(II)Z"⟩ ∈ lw_tbl := List.mem_of_getElem? (i := 562) (by decide +kernel)
theorem tw_564 : Cond.methodLink "ContractDeskLaw" 64 ⟨"ContractDesk", "select", "(I)I"⟩ ∈ lw_tbl := List.mem_of_getElem? (i := 564) (by decide +kernel)
theorem tw_565 : Cond.instanceMethod ⟨"ContractDesk", "select", "(I)I"⟩ ∈ lw_tbl := List.mem_of_getElem? (i := 565) (by decide +kernel)
theorem tw_566 : Cond.selects "ContractDesk" ⟨"ContractDesk", "select", "(I)I"⟩ ⟨"ContractDesk", "select", "(I)I"⟩ ∈ lw_tbl := List.mem_of_getElem? (i := 566) (by decide +kernel)
theorem tw_568 : Cond.classLink "ContractDesk" 74 "java/lang/IllegalArgumentException" ∈ lw_tbl := List.mem_of_getElem? (i := 568) (by decide +kernel)
theorem tw_569 : Cond.methodLink "ContractDesk" 81 ⟨"ContractDesk$Reader", "take", "(Ljava/lang/StringBuilder;)V"⟩ ∈ lw_tbl := List.mem_of_getElem? (i := 569) (by decide +kernel)
theorem tw_570 : Cond.instanceMethod ⟨"ContractDesk$Reader", "take", "(Ljava/lang/StringBuilder;)V"⟩ ∈ lw_tbl := List.mem_of_getElem? (i := 570) (by decide +kernel)
theorem tw_571 : Cond.selects "ContractDesk$Reader" ⟨"ContractDesk$Reader", "take", "(Ljava/lang/StringBuilder;)V"⟩ ⟨"ContractDesk$Reader", "take", "(Ljava/lang/StringBuilder;)V"⟩ ∈ lw_tbl := List.mem_of_getElem? (i := 571) (by decide +kernel)
theorem tw_573 : Cond.methodLink "ContractDesk$Reader" 20 ⟨"java/lang/StringBuilder", "setLength", "(I)V"⟩ ∈ lw_tbl := List.mem_of_getElem? (i := 573) (by decide +kernel)
theorem tw_574 : Cond.instanceMethod ⟨"java/lang/StringBuilder", "setLength", "(I)V"⟩ ∈ lw_tbl := List.mem_of_getElem? (i := 574) (by decide +kernel)
theorem tw_575 : Cond.selects "java/lang/StringBuilder" ⟨"java/lang/StringBuilder", "setLength", "(I)V"⟩ ⟨"java/lang/StringBuilder", "setLength", "(I)V"⟩ ∈ lw_tbl := List.mem_of_getElem? (i := 575) (by decide +kernel)
theorem tw_577 : Cond.methodLink "java/lang/StringBuilder" 333 ⟨"java/lang/AbstractStringBuilder", "setLength", "(I)V"⟩ ∈ lw_tbl := List.mem_of_getElem? (i := 577) (by decide +kernel)
theorem tw_578 : Cond.instanceMethod ⟨"java/lang/AbstractStringBuilder", "setLength", "(I)V"⟩ ∈ lw_tbl := List.mem_of_getElem? (i := 578) (by decide +kernel)
theorem tw_596 : Cond.methodLink "ContractDesk$Reader" 23 ⟨"java/lang/StringBuilder", "length", "()I"⟩ ∈ lw_tbl := List.mem_of_getElem? (i := 596) (by decide +kernel)
theorem tw_597 : Cond.methodLink "ContractDesk$Reader" 27 ⟨"java/lang/StringBuilder", "charAt", "(I)C"⟩ ∈ lw_tbl := List.mem_of_getElem? (i := 597) (by decide +kernel)
theorem tw_598 : Cond.instanceMethod ⟨"java/lang/StringBuilder", "charAt", "(I)C"⟩ ∈ lw_tbl := List.mem_of_getElem? (i := 598) (by decide +kernel)
theorem tw_599 : Cond.selects "java/lang/StringBuilder" ⟨"java/lang/StringBuilder", "charAt", "(I)C"⟩ ⟨"java/lang/StringBuilder", "charAt", "(I)C"⟩ ∈ lw_tbl := List.mem_of_getElem? (i := 599) (by decide +kernel)
theorem tw_601 : Cond.methodLink "java/lang/StringBuilder" 329 ⟨"java/lang/AbstractStringBuilder", "charAt", "(I)C"⟩ ∈ lw_tbl := List.mem_of_getElem? (i := 601) (by decide +kernel)
theorem tw_602 : Cond.instanceMethod ⟨"java/lang/AbstractStringBuilder", "charAt", "(I)C"⟩ ∈ lw_tbl := List.mem_of_getElem? (i := 602) (by decide +kernel)
theorem tw_604 : Cond.methodLink "java/lang/AbstractStringBuilder" 138 ⟨"java/lang/Math", "min", "(II)I"⟩ ∈ lw_tbl := List.mem_of_getElem? (i := 604) (by decide +kernel)
theorem tw_605 : Cond.methodLink "java/lang/AbstractStringBuilder" 144 ⟨"java/lang/String", "checkIndex", "(II)V"⟩ ∈ lw_tbl := List.mem_of_getElem? (i := 605) (by decide +kernel)
theorem tw_607 : Cond.methodLink "ContractDesk$Reader" 31 ⟨"java/lang/StringBuilder", "append", "(C)Ljava/lang/StringBuilder;"⟩ ∈ lw_tbl := List.mem_of_getElem? (i := 607) (by decide +kernel)
theorem tw_608 : Cond.methodLink "ContractDesk" 119 ⟨"ContractDesk$Reader", "place", "([I)I"⟩ ∈ lw_tbl := List.mem_of_getElem? (i := 608) (by decide +kernel)
theorem tw_609 : Cond.instanceMethod ⟨"ContractDesk$Reader", "place", "([I)I"⟩ ∈ lw_tbl := List.mem_of_getElem? (i := 609) (by decide +kernel)
theorem tw_610 : Cond.selects "ContractDesk$Reader" ⟨"ContractDesk$Reader", "place", "([I)I"⟩ ⟨"ContractDesk$Reader", "place", "([I)I"⟩ ∈ lw_tbl := List.mem_of_getElem? (i := 610) (by decide +kernel)
theorem tw_612 : Cond.methodLink "ContractDesk$Reader" 95 ⟨"ContractDesk$Reader", "expect", "(C)V"⟩ ∈ lw_tbl := List.mem_of_getElem? (i := 612) (by decide +kernel)
theorem tw_613 : Cond.instanceMethod ⟨"ContractDesk$Reader", "expect", "(C)V"⟩ ∈ lw_tbl := List.mem_of_getElem? (i := 613) (by decide +kernel)
theorem tw_614 : Cond.selects "ContractDesk$Reader" ⟨"ContractDesk$Reader", "expect", "(C)V"⟩ ⟨"ContractDesk$Reader", "expect", "(C)V"⟩ ∈ lw_tbl := List.mem_of_getElem? (i := 614) (by decide +kernel)
theorem tw_616 : Cond.methodLink "ContractDesk$Reader" 43 ⟨"ContractDesk$Reader", "takes", "(C)Z"⟩ ∈ lw_tbl := List.mem_of_getElem? (i := 616) (by decide +kernel)
theorem tw_617 : Cond.instanceMethod ⟨"ContractDesk$Reader", "takes", "(C)Z"⟩ ∈ lw_tbl := List.mem_of_getElem? (i := 617) (by decide +kernel)
theorem tw_618 : Cond.selects "ContractDesk$Reader" ⟨"ContractDesk$Reader", "takes", "(C)Z"⟩ ⟨"ContractDesk$Reader", "takes", "(C)Z"⟩ ∈ lw_tbl := List.mem_of_getElem? (i := 618) (by decide +kernel)
theorem tw_620 : Cond.methodLink "ContractDesk$Reader" 39 ⟨"ContractDesk$Reader", "here", "()C"⟩ ∈ lw_tbl := List.mem_of_getElem? (i := 620) (by decide +kernel)
theorem tw_621 : Cond.instanceMethod ⟨"ContractDesk$Reader", "here", "()C"⟩ ∈ lw_tbl := List.mem_of_getElem? (i := 621) (by decide +kernel)
theorem tw_622 : Cond.selects "ContractDesk$Reader" ⟨"ContractDesk$Reader", "here", "()C"⟩ ⟨"ContractDesk$Reader", "here", "()C"⟩ ∈ lw_tbl := List.mem_of_getElem? (i := 622) (by decide +kernel)
theorem tw_624 : Cond.classLink "ContractDesk$Reader" 47 "java/lang/IllegalArgumentException" ∈ lw_tbl := List.mem_of_getElem? (i := 624) (by decide +kernel)
theorem tw_625 : Cond.methodLink "ContractDesk$Reader" 49 ⟨"java/lang/IllegalArgumentException", "<init>", "()V"⟩ ∈ lw_tbl := List.mem_of_getElem? (i := 625) (by decide +kernel)
theorem tw_635 : Cond.methodLink "ContractDesk$Reader" 119 ⟨"ContractDesk$Reader", "letter", "()C"⟩ ∈ lw_tbl := List.mem_of_getElem? (i := 635) (by decide +kernel)
theorem tw_636 : Cond.instanceMethod ⟨"ContractDesk$Reader", "letter", "()C"⟩ ∈ lw_tbl := List.mem_of_getElem? (i := 636) (by decide +kernel)
theorem tw_637 : Cond.selects "ContractDesk$Reader" ⟨"ContractDesk$Reader", "letter", "()C"⟩ ⟨"ContractDesk$Reader", "letter", "()C"⟩ ∈ lw_tbl := List.mem_of_getElem? (i := 637) (by decide +kernel)
theorem tw_639 : Cond.methodLink "ContractDesk$Reader" 205 ⟨"ContractDesk$Reader", "element", "()I"⟩ ∈ lw_tbl := List.mem_of_getElem? (i := 639) (by decide +kernel)
theorem tw_641 : Cond.instanceMethod ⟨"ContractDesk$Reader", "element", "()I"⟩ ∈ lw_tbl := List.mem_of_getElem? (i := 641) (by decide +kernel)
theorem tw_643 : Cond.methodLink "ContractDesk$Reader" 104 ⟨"ContractDesk$Reader", "digit", "()I"⟩ ∈ lw_tbl := List.mem_of_getElem? (i := 643) (by decide +kernel)
theorem tw_644 : Cond.instanceMethod ⟨"ContractDesk$Reader", "digit", "()I"⟩ ∈ lw_tbl := List.mem_of_getElem? (i := 644) (by decide +kernel)
theorem tw_645 : Cond.selects "ContractDesk$Reader" ⟨"ContractDesk$Reader", "digit", "()I"⟩ ⟨"ContractDesk$Reader", "digit", "()I"⟩ ∈ lw_tbl := List.mem_of_getElem? (i := 645) (by decide +kernel)
theorem tw_647 : Cond.methodLink "ContractDesk$Reader" 50 ⟨"ContractDesk$Reader", "isDigit", "()Z"⟩ ∈ lw_tbl := List.mem_of_getElem? (i := 647) (by decide +kernel)
theorem tw_648 : Cond.instanceMethod ⟨"ContractDesk$Reader", "isDigit", "()Z"⟩ ∈ lw_tbl := List.mem_of_getElem? (i := 648) (by decide +kernel)
theorem tw_649 : Cond.selects "ContractDesk$Reader" ⟨"ContractDesk$Reader", "isDigit", "()Z"⟩ ⟨"ContractDesk$Reader", "isDigit", "()Z"⟩ ∈ lw_tbl := List.mem_of_getElem? (i := 649) (by decide +kernel)
theorem tw_651 : Cond.methodLink "ContractDesk" 122 ⟨"ContractDesk$Interaction", "select", "([II)I"⟩ ∈ lw_tbl := List.mem_of_getElem? (i := 651) (by decide +kernel)
theorem tw_652 : Cond.instanceMethod ⟨"ContractDesk$Interaction", "select", "([II)I"⟩ ∈ lw_tbl := List.mem_of_getElem? (i := 652) (by decide +kernel)
theorem tw_653 : Cond.selects "ContractDesk$Interaction" ⟨"ContractDesk$Interaction", "select", "([II)I"⟩ ⟨"ContractDesk$Interaction", "select", "([II)I"⟩ ∈ lw_tbl := List.mem_of_getElem? (i := 653) (by decide +kernel)
theorem tw_655 : Cond.methodLink "ContractDesk$Interaction" 28 ⟨"java/util/ArrayList", "size", "()I"⟩ ∈ lw_tbl := List.mem_of_getElem? (i := 655) (by decide +kernel)
theorem tw_656 : Cond.methodLink "ContractDesk$Interaction" 32 ⟨"java/util/ArrayList", "get", "(I)Ljava/lang/Object;"⟩ ∈ lw_tbl := List.mem_of_getElem? (i := 656) (by decide +kernel)
theorem tw_657 : Cond.classLink "ContractDesk$Interaction" 36 "ContractDesk$Rule" ∈ lw_tbl := List.mem_of_getElem? (i := 657) (by decide +kernel)
theorem tw_658 : Cond.methodLink "ContractDesk$Interaction" 38 ⟨"ContractDesk$Rule", "fits", "([II)Z"⟩ ∈ lw_tbl := List.mem_of_getElem? (i := 658) (by decide +kernel)
theorem tw_659 : Cond.instanceMethod ⟨"ContractDesk$Rule", "fits", "([II)Z"⟩ ∈ lw_tbl := List.mem_of_getElem? (i := 659) (by decide +kernel)
theorem tw_660 : Cond.selects "ContractDesk$Rule" ⟨"ContractDesk$Rule", "fits", "([II)Z"⟩ ⟨"ContractDesk$Rule", "fits", "([II)Z"⟩ ∈ lw_tbl := List.mem_of_getElem? (i := 660) (by decide +kernel)
theorem tw_662 : Cond.methodLink "ContractDesk$Interaction" 42 ⟨"ContractDesk$Rule", "beats", "(LContractDesk$Rule;)Z"⟩ ∈ lw_tbl := List.mem_of_getElem? (i := 662) (by decide +kernel)
theorem tw_663 : Cond.instanceMethod ⟨"ContractDesk$Rule", "beats", "(LContractDesk$Rule;)Z"⟩ ∈ lw_tbl := List.mem_of_getElem? (i := 663) (by decide +kernel)
theorem tw_664 : Cond.selects "ContractDesk$Rule" ⟨"ContractDesk$Rule", "beats", "(LContractDesk$Rule;)Z"⟩ ⟨"ContractDesk$Rule", "beats", "(LContractDesk$Rule;)Z"⟩ ∈ lw_tbl := List.mem_of_getElem? (i := 664) (by decide +kernel)
theorem tw_666 : Cond.methodLink "ContractDeskLaw" 71 ⟨"ContractDesk", "listed", "()I"⟩ ∈ lw_tbl := List.mem_of_getElem? (i := 666) (by decide +kernel)
theorem tw_667 : Cond.instanceMethod ⟨"ContractDesk", "listed", "()I"⟩ ∈ lw_tbl := List.mem_of_getElem? (i := 667) (by decide +kernel)
theorem tw_668 : Cond.selects "ContractDesk" ⟨"ContractDesk", "listed", "()I"⟩ ⟨"ContractDesk", "listed", "()I"⟩ ∈ lw_tbl := List.mem_of_getElem? (i := 668) (by decide +kernel)
theorem tw_670 : Cond.methodLink "ContractDeskLaw" 75 ⟨"ContractDesk", "mismatch", "(I)I"⟩ ∈ lw_tbl := List.mem_of_getElem? (i := 670) (by decide +kernel)
theorem tw_671 : Cond.instanceMethod ⟨"ContractDesk", "mismatch", "(I)I"⟩ ∈ lw_tbl := List.mem_of_getElem? (i := 671) (by decide +kernel)
theorem tw_672 : Cond.selects "ContractDesk" ⟨"ContractDesk", "mismatch", "(I)I"⟩ ⟨"ContractDesk", "mismatch", "(I)I"⟩ ∈ lw_tbl := List.mem_of_getElem? (i := 672) (by decide +kernel)
theorem tw_674 : Cond.classLink "ContractDesk" 162 "ContractDesk$Mismatch" ∈ lw_tbl := List.mem_of_getElem? (i := 674) (by decide +kernel)
theorem tw_675 : Cond.methodLink "ContractDeskLaw" 79 ⟨"ContractDesk", "letter", "(II)I"⟩ ∈ lw_tbl := List.mem_of_getElem? (i := 675) (by decide +kernel)
theorem tw_676 : Cond.instanceMethod ⟨"ContractDesk", "letter", "(II)I"⟩ ∈ lw_tbl := List.mem_of_getElem? (i := 676) (by decide +kernel)
theorem tw_677 : Cond.selects "ContractDesk" ⟨"ContractDesk", "letter", "(II)I"⟩ ⟨"ContractDesk", "letter", "(II)I"⟩ ∈ lw_tbl := List.mem_of_getElem? (i := 677) (by decide +kernel)
theorem tw_679 : Cond.methodLink "ContractDesk" 239 ⟨"java/lang/StringBuilder", "charAt", "(I)C"⟩ ∈ lw_tbl := List.mem_of_getElem? (i := 679) (by decide +kernel)
theorem tw_680 : Cond.methodLink "ContractDeskLaw" 84 ⟨"ContractDesk", "event", "(I)I"⟩ ∈ lw_tbl := List.mem_of_getElem? (i := 680) (by decide +kernel)
theorem tw_681 : Cond.instanceMethod ⟨"ContractDesk", "event", "(I)I"⟩ ∈ lw_tbl := List.mem_of_getElem? (i := 681) (by decide +kernel)
theorem tw_682 : Cond.selects "ContractDesk" ⟨"ContractDesk", "event", "(I)I"⟩ ⟨"ContractDesk", "event", "(I)I"⟩ ∈ lw_tbl := List.mem_of_getElem? (i := 682) (by decide +kernel)
theorem tw_684 : Cond.methodLink "ContractDeskLaw" 38 ⟨"ContractDeskLaw", "make", "(LContractDesk;Z[J)I"⟩ ∈ lw_tbl := List.mem_of_getElem? (i := 684) (by decide +kernel)
theorem tw_685 : Cond.static ⟨"ContractDeskLaw", "make", "(LContractDesk;Z[J)I"⟩ ∈ lw_tbl := List.mem_of_getElem? (i := 685) (by decide +kernel)
theorem tw_687 : Cond.classLink "ContractDeskLaw" 13 "java/lang/IllegalStateException" ∈ lw_tbl := List.mem_of_getElem? (i := 687) (by decide +kernel)
theorem tw_688 : Cond.methodLink "ContractDeskLaw" 7 ⟨"ContractDesk", "make", "(Z)I"⟩ ∈ lw_tbl := List.mem_of_getElem? (i := 688) (by decide +kernel)
theorem tw_689 : Cond.instanceMethod ⟨"ContractDesk", "make", "(Z)I"⟩ ∈ lw_tbl := List.mem_of_getElem? (i := 689) (by decide +kernel)
theorem tw_690 : Cond.selects "ContractDesk" ⟨"ContractDesk", "make", "(Z)I"⟩ ⟨"ContractDesk", "make", "(Z)I"⟩ ∈ lw_tbl := List.mem_of_getElem? (i := 690) (by decide +kernel)
theorem tw_692 : Cond.classLink "ContractDesk" 58 "java/lang/IllegalStateException" ∈ lw_tbl := List.mem_of_getElem? (i := 692) (by decide +kernel)
theorem tw_693 : Cond.instantiable "java/lang/IllegalStateException" 6 ∈ lw_tbl := List.mem_of_getElem? (i := 693) (by decide +kernel)
theorem tw_701 : Cond.methodLink "ContractDesk" 60 ⟨"java/lang/IllegalStateException", "<init>", "()V"⟩ ∈ lw_tbl := List.mem_of_getElem? (i := 701) (by decide +kernel)
theorem tw_707 : Cond.instantiable "ContractDesk$Interaction" 5 ∈ lw_tbl := List.mem_of_getElem? (i := 707) (by decide +kernel)
theorem tw_708 : Cond.methodLink "ContractDesk" 63 ⟨"ContractDesk$Interaction", "<init>", "(Z)V"⟩ ∈ lw_tbl := List.mem_of_getElem? (i := 708) (by decide +kernel)
theorem tw_709 : Cond.instanceMethod ⟨"ContractDesk$Interaction", "<init>", "(Z)V"⟩ ∈ lw_tbl := List.mem_of_getElem? (i := 709) (by decide +kernel)
theorem tw_711 : Cond.methodLink "ContractDesk$Interaction" 3 ⟨"java/lang/Object", "<init>", "()V"⟩ ∈ lw_tbl := List.mem_of_getElem? (i := 711) (by decide +kernel)
theorem tw_712 : Cond.classLink "ContractDesk$Interaction" 9 "java/util/ArrayList" ∈ lw_tbl := List.mem_of_getElem? (i := 712) (by decide +kernel)
theorem tw_713 : Cond.methodLink "ContractDesk$Interaction" 11 ⟨"java/util/ArrayList", "<init>", "(I)V"⟩ ∈ lw_tbl := List.mem_of_getElem? (i := 713) (by decide +kernel)
theorem tw_714 : Cond.fieldLink "ContractDesk$Interaction" 24 "ContractDesk$Interaction" "strict" "Z" ∈ lw_tbl := List.mem_of_getElem? (i := 714) (by decide +kernel)
theorem tw_715 : Cond.fieldLink "ContractDesk" 235 "ContractDesk$Interaction" "strict" "Z" ∈ lw_tbl := List.mem_of_getElem? (i := 715) (by decide +kernel)
theorem tw_716 : Cond.fieldLink "ContractDesk$Interaction" 14 "ContractDesk$Interaction" "rules" "Ljava/util/ArrayList;" ∈ lw_tbl := List.mem_of_getElem? (i := 716) (by decide +kernel)
theorem tw_717 : Cond.fieldLink "ContractDesk" 109 "ContractDesk$Interaction" "rules" "Ljava/util/ArrayList;" ∈ lw_tbl := List.mem_of_getElem? (i := 717) (by decide +kernel)
theorem tw_718 : Cond.fieldLink "ContractDesk$Interaction" 20 "ContractDesk$Interaction" "states" "[I" ∈ lw_tbl := List.mem_of_getElem? (i := 718) (by decide +kernel)
theorem tw_719 : Cond.fieldLink "ContractDesk" 116 "ContractDesk$Interaction" "states" "[I" ∈ lw_tbl := List.mem_of_getElem? (i := 719) (by decide +kernel)
theorem tw_720 : Cond.fieldLink "ContractDesk" 92 "ContractDesk$Interaction" "body" "LContractDesk$Value;" ∈ lw_tbl := List.mem_of_getElem? (i := 720) (by decide +kernel)
theorem tw_721 : Cond.fieldLink "ContractDesk" 112 "ContractDesk$Interaction" "needs" "I" ∈ lw_tbl := List.mem_of_getElem? (i := 721) (by decide +kernel)
theorem tw_733 : Cond.methodLink "ContractDesk" 66 ⟨"java/util/ArrayList", "add", "(Ljava/lang/Object;)Z"⟩ ∈ lw_tbl := List.mem_of_getElem? (i := 733) (by decide +kernel)
theorem tw_734 : Cond.instanceMethod ⟨"java/util/ArrayList", "add", "(Ljava/lang/Object;)Z"⟩ ∈ lw_tbl := List.mem_of_getElem? (i := 734) (by decide +kernel)
theorem tw_735 : Cond.selects "java/util/ArrayList" ⟨"java/util/ArrayList", "add", "(Ljava/lang/Object;)Z"⟩ ⟨"java/util/ArrayList", "add", "(Ljava/lang/Object;)Z"⟩ ∈ lw_tbl := List.mem_of_getElem? (i := 735) (by decide +kernel)
theorem tw_737 : Cond.methodLink "java/util/ArrayList" 131 ⟨"java/util/ArrayList", "add", "(Ljava/lang/Object;[Ljava/lang/Object;I)V"⟩ ∈ lw_tbl := List.mem_of_getElem? (i := 737) (by decide +kernel)
theorem tw_739 : Cond.instanceMethod ⟨"java/util/ArrayList", "add", "(Ljava/lang/Object;[Ljava/lang/Object;I)V"⟩ ∈ lw_tbl := List.mem_of_getElem? (i := 739) (by decide +kernel)
theorem tw_785 : Cond.methodLink "ContractDeskLaw" 48 ⟨"ContractDeskLaw", "body", "(LContractDesk;I[J)I"⟩ ∈ lw_tbl := List.mem_of_getElem? (i := 785) (by decide +kernel)
theorem tw_786 : Cond.static ⟨"ContractDeskLaw", "body", "(LContractDesk;I[J)I"⟩ ∈ lw_tbl := List.mem_of_getElem? (i := 786) (by decide +kernel)
theorem tw_788 : Cond.classLink "ContractDeskLaw" 19 "java/lang/IllegalArgumentException" ∈ lw_tbl := List.mem_of_getElem? (i := 788) (by decide +kernel)
theorem tw_789 : Cond.methodLink "ContractDeskLaw" 15 ⟨"ContractDesk", "body", "(I)I"⟩ ∈ lw_tbl := List.mem_of_getElem? (i := 789) (by decide +kernel)
theorem tw_790 : Cond.instanceMethod ⟨"ContractDesk", "body", "(I)I"⟩ ∈ lw_tbl := List.mem_of_getElem? (i := 790) (by decide +kernel)
theorem tw_791 : Cond.selects "ContractDesk" ⟨"ContractDesk", "body", "(I)I"⟩ ⟨"ContractDesk", "body", "(I)I"⟩ ∈ lw_tbl := List.mem_of_getElem? (i := 791) (by decide +kernel)
theorem tw_793 : Cond.methodLink "ContractDesk" 85 ⟨"ContractDesk", "get", "(I)LContractDesk$Interaction;"⟩ ∈ lw_tbl := List.mem_of_getElem? (i := 793) (by decide +kernel)
theorem tw_795 : Cond.instanceMethod ⟨"ContractDesk", "get", "(I)LContractDesk$Interaction;"⟩ ∈ lw_tbl := List.mem_of_getElem? (i := 795) (by decide +kernel)
theorem tw_797 : Cond.methodLink "ContractDesk" 76 ⟨"java/lang/IllegalArgumentException", "<init>", "()V"⟩ ∈ lw_tbl := List.mem_of_getElem? (i := 797) (by decide +kernel)
theorem tw_798 : Cond.methodLink "ContractDesk" 88 ⟨"ContractDesk$Reader", "whole", "()LContractDesk$Value;"⟩ ∈ lw_tbl := List.mem_of_getElem? (i := 798) (by decide +kernel)
theorem tw_799 : Cond.instanceMethod ⟨"ContractDesk$Reader", "whole", "()LContractDesk$Value;"⟩ ∈ lw_tbl := List.mem_of_getElem? (i := 799) (by decide +kernel)
theorem tw_800 : Cond.selects "ContractDesk$Reader" ⟨"ContractDesk$Reader", "whole", "()LContractDesk$Value;"⟩ ⟨"ContractDesk$Reader", "whole", "()LContractDesk$Value;"⟩ ∈ lw_tbl := List.mem_of_getElem? (i := 800) (by decide +kernel)
theorem tw_802 : Cond.methodLink "ContractDesk$Reader" 54 ⟨"ContractDesk$Reader", "value", "(I)LContractDesk$Value;"⟩ ∈ lw_tbl := List.mem_of_getElem? (i := 802) (by decide +kernel)
theorem tw_804 : Cond.instanceMethod ⟨"ContractDesk$Reader", "value", "(I)LContractDesk$Value;"⟩ ∈ lw_tbl := List.mem_of_getElem? (i := 804) (by decide +kernel)
theorem tw_806 : Cond.methodLink "ContractDesk$Reader" 61 ⟨"ContractDesk$Reader", "text", "()LContractDesk$Value;"⟩ ∈ lw_tbl := List.mem_of_getElem? (i := 806) (by decide +kernel)
theorem tw_808 : Cond.instanceMethod ⟨"ContractDesk$Reader", "text", "()LContractDesk$Value;"⟩ ∈ lw_tbl := List.mem_of_getElem? (i := 808) (by decide +kernel)
theorem tw_810 : Cond.classLink "ContractDesk$Reader" 110 "ContractDesk$Text" ∈ lw_tbl := List.mem_of_getElem? (i := 810) (by decide +kernel)
theorem tw_811 : Cond.instantiable "ContractDesk$Text" 1 ∈ lw_tbl := List.mem_of_getElem? (i := 811) (by decide +kernel)
theorem tw_812 : Cond.methodLinkNest "ContractDesk$Reader" 112 ⟨"ContractDesk$Text", "<init>", "()V"⟩ "ContractDesk" ∈ lw_tbl := List.mem_of_getElem? (i := 812) (by decide +kernel)
theorem tw_813 : Cond.instanceMethod ⟨"ContractDesk$Text", "<init>", "()V"⟩ ∈ lw_tbl := List.mem_of_getElem? (i := 813) (by decide +kernel)
theorem tw_815 : Cond.methodLinkNest "ContractDesk$Text" 1 ⟨"ContractDesk$Value", "<init>", "()V"⟩ "ContractDesk" ∈ lw_tbl := List.mem_of_getElem? (i := 815) (by decide +kernel)
theorem tw_816 : Cond.instanceMethod ⟨"ContractDesk$Value", "<init>", "()V"⟩ ∈ lw_tbl := List.mem_of_getElem? (i := 816) (by decide +kernel)
theorem tw_818 : Cond.methodLink "ContractDesk$Value" 1 ⟨"java/lang/Object", "<init>", "()V"⟩ ∈ lw_tbl := List.mem_of_getElem? (i := 818) (by decide +kernel)
theorem tw_819 : Cond.classLink "ContractDesk$Text" 7 "java/lang/StringBuilder" ∈ lw_tbl := List.mem_of_getElem? (i := 819) (by decide +kernel)
theorem tw_820 : Cond.methodLink "ContractDesk$Text" 9 ⟨"java/lang/StringBuilder", "<init>", "(I)V"⟩ ∈ lw_tbl := List.mem_of_getElem? (i := 820) (by decide +kernel)
theorem tw_821 : Cond.fieldLink "ContractDesk$Text" 12 "ContractDesk$Text" "letters" "Ljava/lang/StringBuilder;" ∈ lw_tbl := List.mem_of_getElem? (i := 821) (by decide +kernel)
theorem tw_822 : Cond.fieldLink "ContractDesk$Shape" 23 "ContractDesk$Text" "letters" "Ljava/lang/StringBuilder;" ∈ lw_tbl := List.mem_of_getElem? (i := 822) (by decide +kernel)
theorem tw_823 : Cond.fieldLink "ContractDesk$Inside" 20 "ContractDesk$Text" "letters" "Ljava/lang/StringBuilder;" ∈ lw_tbl := List.mem_of_getElem? (i := 823) (by decide +kernel)
theorem tw_824 : Cond.fieldLink "ContractDesk$Reader" 116 "ContractDesk$Text" "letters" "Ljava/lang/StringBuilder;" ∈ lw_tbl := List.mem_of_getElem? (i := 824) (by decide +kernel)
theorem tw_828 : Cond.methodLink "ContractDesk$Reader" 113 ⟨"ContractDesk$Reader", "isLetter", "()Z"⟩ ∈ lw_tbl := List.mem_of_getElem? (i := 828) (by decide +kernel)
theorem tw_829 : Cond.instanceMethod ⟨"ContractDesk$Reader", "isLetter", "()Z"⟩ ∈ lw_tbl := List.mem_of_getElem? (i := 829) (by decide +kernel)
theorem tw_830 : Cond.selects "ContractDesk$Reader" ⟨"ContractDesk$Reader", "isLetter", "()Z"⟩ ⟨"ContractDesk$Reader", "isLetter", "()Z"⟩ ∈ lw_tbl := List.mem_of_getElem? (i := 830) (by decide +kernel)
theorem tw_832 : Cond.methodLink "ContractDesk$Reader" 65 ⟨"ContractDesk$Reader", "group", "(CI)LContractDesk$Value;"⟩ ∈ lw_tbl := List.mem_of_getElem? (i := 832) (by decide +kernel)
theorem tw_834 : Cond.instanceMethod ⟨"ContractDesk$Reader", "group", "(CI)LContractDesk$Value;"⟩ ∈ lw_tbl := List.mem_of_getElem? (i := 834) (by decide +kernel)
theorem tw_836 : Cond.classLink "ContractDesk$Reader" 122 "ContractDesk$Group" ∈ lw_tbl := List.mem_of_getElem? (i := 836) (by decide +kernel)
theorem tw_837 : Cond.instantiable "ContractDesk$Group" 4 ∈ lw_tbl := List.mem_of_getElem? (i := 837) (by decide +kernel)
theorem tw_838 : Cond.fieldLink "ContractDesk$Reader" 124 "ContractDesk$Kind" "OBJECT" "LContractDesk$Kind;" ∈ lw_tbl := List.mem_of_getElem? (i := 838) (by decide +kernel)
theorem tw_840 : Cond.fieldLink "ContractDesk$Reader" 127 "ContractDesk$Kind" "ARRAY" "LContractDesk$Kind;" ∈ lw_tbl := List.mem_of_getElem? (i := 840) (by decide +kernel)
theorem tw_842 : Cond.methodLink "ContractDesk$Reader" 130 ⟨"ContractDesk$Group", "<init>", "(LContractDesk$Kind;)V"⟩ ∈ lw_tbl := List.mem_of_getElem? (i := 842) (by decide +kernel)
theorem tw_843 : Cond.instanceMethod ⟨"ContractDesk$Group", "<init>", "(LContractDesk$Kind;)V"⟩ ∈ lw_tbl := List.mem_of_getElem? (i := 843) (by decide +kernel)
theorem tw_845 : Cond.methodLinkNest "ContractDesk$Group" 1 ⟨"ContractDesk$Value", "<init>", "()V"⟩ "ContractDesk" ∈ lw_tbl := List.mem_of_getElem? (i := 845) (by decide +kernel)
theorem tw_846 : Cond.fieldLink "ContractDesk$Group" 7 "ContractDesk$Group" "kind" "LContractDesk$Kind;" ∈ lw_tbl := List.mem_of_getElem? (i := 846) (by decide +kernel)
theorem tw_847 : Cond.fieldLink "ContractDesk$Group" 17 "ContractDesk$Group" "first" "LContractDesk$Member;" ∈ lw_tbl := List.mem_of_getElem? (i := 847) (by decide +kernel)
theorem tw_848 : Cond.fieldLink "ContractDesk" 215 "ContractDesk$Group" "first" "LContractDesk$Member;" ∈ lw_tbl := List.mem_of_getElem? (i := 848) (by decide +kernel)
theorem tw_849 : Cond.fieldLink "ContractDesk$Group" 13 "ContractDesk$Group" "last" "LContractDesk$Member;" ∈ lw_tbl := List.mem_of_getElem? (i := 849) (by decide +kernel)
theorem tw_850 : Cond.fieldLink "ContractDesk$Bound" 31 "ContractDesk$Group" "size" "I" ∈ lw_tbl := List.mem_of_getElem? (i := 850) (by decide +kernel)
theorem tw_851 : Cond.fieldLink "ContractDesk$Group" 25 "ContractDesk$Group" "size" "I" ∈ lw_tbl := List.mem_of_getElem? (i := 851) (by decide +kernel)
theorem tw_852 : Cond.fieldLink "ContractDesk" 213 "ContractDesk$Group" "size" "I" ∈ lw_tbl := List.mem_of_getElem? (i := 852) (by decide +kernel)
theorem tw_862 : Cond.methodLink "ContractDesk$Reader" 133 ⟨"ContractDesk$Reader", "key", "(LContractDesk$Group;)C"⟩ ∈ lw_tbl := List.mem_of_getElem? (i := 862) (by decide +kernel)
theorem tw_864 : Cond.instanceMethod ⟨"ContractDesk$Reader", "key", "(LContractDesk$Group;)C"⟩ ∈ lw_tbl := List.mem_of_getElem? (i := 864) (by decide +kernel)
theorem tw_866 : Cond.methodLink "ContractDesk$Reader" 146 ⟨"ContractDesk$Group", "find", "(C)LContractDesk$Value;"⟩ ∈ lw_tbl := List.mem_of_getElem? (i := 866) (by decide +kernel)
theorem tw_867 : Cond.instanceMethod ⟨"ContractDesk$Group", "find", "(C)LContractDesk$Value;"⟩ ∈ lw_tbl := List.mem_of_getElem? (i := 867) (by decide +kernel)
theorem tw_868 : Cond.selects "ContractDesk$Group" ⟨"ContractDesk$Group", "find", "(C)LContractDesk$Value;"⟩ ⟨"ContractDesk$Group", "find", "(C)LContractDesk$Value;"⟩ ∈ lw_tbl := List.mem_of_getElem? (i := 868) (by decide +kernel)
theorem tw_870 : Cond.classLink "ContractDesk$Reader" 137 "ContractDesk$Member" ∈ lw_tbl := List.mem_of_getElem? (i := 870) (by decide +kernel)
theorem tw_871 : Cond.instantiable "ContractDesk$Member" 3 ∈ lw_tbl := List.mem_of_getElem? (i := 871) (by decide +kernel)
theorem tw_872 : Cond.methodLink "ContractDesk$Reader" 139 ⟨"ContractDesk$Member", "<init>", "(CLContractDesk$Value;)V"⟩ ∈ lw_tbl := List.mem_of_getElem? (i := 872) (by decide +kernel)
theorem tw_873 : Cond.instanceMethod ⟨"ContractDesk$Member", "<init>", "(CLContractDesk$Value;)V"⟩ ∈ lw_tbl := List.mem_of_getElem? (i := 873) (by decide +kernel)
theorem tw_875 : Cond.methodLink "ContractDesk$Member" 1 ⟨"java/lang/Object", "<init>", "()V"⟩ ∈ lw_tbl := List.mem_of_getElem? (i := 875) (by decide +kernel)
theorem tw_876 : Cond.fieldLink "ContractDesk$Member" 7 "ContractDesk$Member" "key" "C" ∈ lw_tbl := List.mem_of_getElem? (i := 876) (by decide +kernel)
theorem tw_877 : Cond.fieldLink "ContractDesk$Group" 29 "ContractDesk$Member" "key" "C" ∈ lw_tbl := List.mem_of_getElem? (i := 877) (by decide +kernel)
theorem tw_878 : Cond.fieldLink "ContractDesk" 227 "ContractDesk$Member" "key" "C" ∈ lw_tbl := List.mem_of_getElem? (i := 878) (by decide +kernel)
theorem tw_879 : Cond.fieldLink "ContractDesk$Member" 13 "ContractDesk$Member" "value" "LContractDesk$Value;" ∈ lw_tbl := List.mem_of_getElem? (i := 879) (by decide +kernel)
theorem tw_880 : Cond.fieldLink "ContractDesk$Group" 33 "ContractDesk$Member" "value" "LContractDesk$Value;" ∈ lw_tbl := List.mem_of_getElem? (i := 880) (by decide +kernel)
theorem tw_881 : Cond.fieldLink "ContractDesk" 219 "ContractDesk$Member" "value" "LContractDesk$Value;" ∈ lw_tbl := List.mem_of_getElem? (i := 881) (by decide +kernel)
theorem tw_882 : Cond.fieldLink "ContractDesk$Group" 20 "ContractDesk$Member" "next" "LContractDesk$Member;" ∈ lw_tbl := List.mem_of_getElem? (i := 882) (by decide +kernel)
theorem tw_883 : Cond.fieldLink "ContractDesk" 224 "ContractDesk$Member" "next" "LContractDesk$Member;" ∈ lw_tbl := List.mem_of_getElem? (i := 883) (by decide +kernel)
theorem tw_891 : Cond.methodLink "ContractDesk$Reader" 142 ⟨"ContractDesk$Group", "add", "(LContractDesk$Member;)V"⟩ ∈ lw_tbl := List.mem_of_getElem? (i := 891) (by decide +kernel)
theorem tw_892 : Cond.instanceMethod ⟨"ContractDesk$Group", "add", "(LContractDesk$Member;)V"⟩ ∈ lw_tbl := List.mem_of_getElem? (i := 892) (by decide +kernel)
theorem tw_893 : Cond.selects "ContractDesk$Group" ⟨"ContractDesk$Group", "add", "(LContractDesk$Member;)V"⟩ ⟨"ContractDesk$Group", "add", "(LContractDesk$Member;)V"⟩ ∈ lw_tbl := List.mem_of_getElem? (i := 893) (by decide +kernel)
theorem tw_895 : Cond.methodLink "ContractDesk$Reader" 69 ⟨"ContractDesk$Reader", "number", "()LContractDesk$Value;"⟩ ∈ lw_tbl := List.mem_of_getElem? (i := 895) (by decide +kernel)
theorem tw_897 : Cond.instanceMethod ⟨"ContractDesk$Reader", "number", "()LContractDesk$Value;"⟩ ∈ lw_tbl := List.mem_of_getElem? (i := 897) (by decide +kernel)
theorem tw_899 : Cond.classLink "ContractDesk$Reader" 99 "ContractDesk$Plain" ∈ lw_tbl := List.mem_of_getElem? (i := 899) (by decide +kernel)
theorem tw_900 : Cond.instantiable "ContractDesk$Plain" 2 ∈ lw_tbl := List.mem_of_getElem? (i := 900) (by decide +kernel)
theorem tw_901 : Cond.fieldLink "ContractDesk$Reader" 107 "ContractDesk$Kind" "NUMBER" "LContractDesk$Kind;" ∈ lw_tbl := List.mem_of_getElem? (i := 901) (by decide +kernel)
theorem tw_903 : Cond.methodLink "ContractDesk$Reader" 101 ⟨"ContractDesk$Plain", "<init>", "(LContractDesk$Kind;I)V"⟩ ∈ lw_tbl := List.mem_of_getElem? (i := 903) (by decide +kernel)
theorem tw_904 : Cond.instanceMethod ⟨"ContractDesk$Plain", "<init>", "(LContractDesk$Kind;I)V"⟩ ∈ lw_tbl := List.mem_of_getElem? (i := 904) (by decide +kernel)
theorem tw_906 : Cond.methodLinkNest "ContractDesk$Plain" 1 ⟨"ContractDesk$Value", "<init>", "()V"⟩ "ContractDesk" ∈ lw_tbl := List.mem_of_getElem? (i := 906) (by decide +kernel)
theorem tw_907 : Cond.fieldLink "ContractDesk$Plain" 7 "ContractDesk$Plain" "kind" "LContractDesk$Kind;" ∈ lw_tbl := List.mem_of_getElem? (i := 907) (by decide +kernel)
theorem tw_908 : Cond.fieldLink "ContractDesk$Plain" 13 "ContractDesk$Plain" "number" "I" ∈ lw_tbl := List.mem_of_getElem? (i := 908) (by decide +kernel)
theorem tw_914 : Cond.fieldLink "ContractDesk$Reader" 72 "ContractDesk$Kind" "NULL" "LContractDesk$Kind;" ∈ lw_tbl := List.mem_of_getElem? (i := 914) (by decide +kernel)
theorem tw_917 : Cond.methodLink "ContractDesk$Reader" 80 ⟨"ContractDesk$Reader", "word", "(LContractDesk$Kind;Ljava/lang/String;I)LContractDesk$Value;"⟩ ∈ lw_tbl := List.mem_of_getElem? (i := 917) (by decide +kernel)
theorem tw_919 : Cond.instanceMethod ⟨"ContractDesk$Reader", "word", "(LContractDesk$Kind;Ljava/lang/String;I)LContractDesk$Value;"⟩ ∈ lw_tbl := List.mem_of_getElem? (i := 919) (by decide +kernel)
theorem tw_921 : Cond.methodLink "ContractDesk$Reader" 91 ⟨"java/lang/String", "length", "()I"⟩ ∈ lw_tbl := List.mem_of_getElem? (i := 921) (by decide +kernel)
theorem tw_922 : Cond.methodLink "ContractDesk$Reader" 94 ⟨"java/lang/String", "charAt", "(I)C"⟩ ∈ lw_tbl := List.mem_of_getElem? (i := 922) (by decide +kernel)
theorem tw_923 : Cond.instanceMethod ⟨"java/lang/String", "charAt", "(I)C"⟩ ∈ lw_tbl := List.mem_of_getElem? (i := 923) (by decide +kernel)
theorem tw_924 : Cond.selects "java/lang/String" ⟨"java/lang/String", "charAt", "(I)C"⟩ ⟨"java/lang/String", "charAt", "(I)C"⟩ ∈ lw_tbl := List.mem_of_getElem? (i := 924) (by decide +kernel)
theorem tw_926 : Cond.methodLink "java/lang/String" 492 ⟨"java/lang/String", "isLatin1", "()Z"⟩ ∈ lw_tbl := List.mem_of_getElem? (i := 926) (by decide +kernel)
theorem tw_927 : Cond.instanceMethod ⟨"java/lang/String", "isLatin1", "()Z"⟩ ∈ lw_tbl := List.mem_of_getElem? (i := 927) (by decide +kernel)
theorem tw_928 : Cond.selects "java/lang/String" ⟨"java/lang/String", "isLatin1", "()Z"⟩ ⟨"java/lang/String", "isLatin1", "()Z"⟩ ∈ lw_tbl := List.mem_of_getElem? (i := 928) (by decide +kernel)
theorem tw_930 : Cond.methodLink "java/lang/String" 495 ⟨"java/lang/StringLatin1", "charAt", "([BI)C"⟩ ∈ lw_tbl := List.mem_of_getElem? (i := 930) (by decide +kernel)
theorem tw_931 : Cond.static ⟨"java/lang/StringLatin1", "charAt", "([BI)C"⟩ ∈ lw_tbl := List.mem_of_getElem? (i := 931) (by decide +kernel)
theorem tw_933 : Cond.methodLink "java/lang/StringLatin1" 9 ⟨"java/lang/String", "checkIndex", "(II)V"⟩ ∈ lw_tbl := List.mem_of_getElem? (i := 933) (by decide +kernel)
theorem tw_937 : Cond.fieldLink "ContractDesk$Reader" 84 "ContractDesk$Kind" "BOOLEAN" "LContractDesk$Kind;" ∈ lw_tbl := List.mem_of_getElem? (i := 937) (by decide +kernel)
theorem tw_941 : Cond.methodLink "ContractDesk$Reader" 58 ⟨"ContractDesk$Reader", "end", "()V"⟩ ∈ lw_tbl := List.mem_of_getElem? (i := 941) (by decide +kernel)
theorem tw_942 : Cond.instanceMethod ⟨"ContractDesk$Reader", "end", "()V"⟩ ∈ lw_tbl := List.mem_of_getElem? (i := 942) (by decide +kernel)
theorem tw_943 : Cond.selects "ContractDesk$Reader" ⟨"ContractDesk$Reader", "end", "()V"⟩ ⟨"ContractDesk$Reader", "end", "()V"⟩ ∈ lw_tbl := List.mem_of_getElem? (i := 943) (by decide +kernel)
theorem tw_945 : Cond.methodLink "ContractDesk" 96 ⟨"ContractDesk$Value", "same", "(LContractDesk$Value;)Z"⟩ ∈ lw_tbl := List.mem_of_getElem? (i := 945) (by decide +kernel)
theorem tw_946 : Cond.declares ⟨"ContractDesk$Value", "same", "(LContractDesk$Value;)Z"⟩ ∈ lw_tbl := List.mem_of_getElem? (i := 946) (by decide +kernel)
theorem tw_947 : Cond.sameMethod "ContractDesk$Value" "ContractDesk$Value" "same" "(LContractDesk$Value;)Z" ∈ lw_tbl := List.mem_of_getElem? (i := 947) (by decide +kernel)
theorem tw_948 : Cond.selects "ContractDesk$Group" ⟨"ContractDesk$Value", "same", "(LContractDesk$Value;)Z"⟩ ⟨"ContractDesk$Group", "same", "(LContractDesk$Value;)Z"⟩ ∈ lw_tbl := List.mem_of_getElem? (i := 948) (by decide +kernel)
theorem tw_949 : Cond.instanceMethod ⟨"ContractDesk$Group", "same", "(LContractDesk$Value;)Z"⟩ ∈ lw_tbl := List.mem_of_getElem? (i := 949) (by decide +kernel)
theorem tw_951 : Cond.classLink "ContractDesk$Group" 8 "ContractDesk$Group" ∈ lw_tbl := List.mem_of_getElem? (i := 951) (by decide +kernel)
theorem tw_952 : Cond.methodLink "ContractDesk$Group" 41 ⟨"ContractDesk$Group", "isLike", "(LContractDesk$Value;)Z"⟩ ∈ lw_tbl := List.mem_of_getElem? (i := 952) (by decide +kernel)
theorem tw_953 : Cond.sameMethod "ContractDesk$Group" "ContractDesk$Value" "isLike" "(LContractDesk$Value;)Z" ∈ lw_tbl := List.mem_of_getElem? (i := 953) (by decide +kernel)
theorem tw_954 : Cond.declares ⟨"ContractDesk$Value", "isLike", "(LContractDesk$Value;)Z"⟩ ∈ lw_tbl := List.mem_of_getElem? (i := 954) (by decide +kernel)
theorem tw_955 : Cond.selects "ContractDesk$Group" ⟨"ContractDesk$Group", "isLike", "(LContractDesk$Value;)Z"⟩ ⟨"ContractDesk$Value", "isLike", "(LContractDesk$Value;)Z"⟩ ∈ lw_tbl := List.mem_of_getElem? (i := 955) (by decide +kernel)
theorem tw_956 : Cond.instanceMethod ⟨"ContractDesk$Value", "isLike", "(LContractDesk$Value;)Z"⟩ ∈ lw_tbl := List.mem_of_getElem? (i := 956) (by decide +kernel)
theorem tw_958 : Cond.methodLink "ContractDesk$Value" 7 ⟨"ContractDesk$Value", "kind", "()LContractDesk$Kind;"⟩ ∈ lw_tbl := List.mem_of_getElem? (i := 958) (by decide +kernel)
theorem tw_959 : Cond.declares ⟨"ContractDesk$Value", "kind", "()LContractDesk$Kind;"⟩ ∈ lw_tbl := List.mem_of_getElem? (i := 959) (by decide +kernel)
theorem tw_960 : Cond.sameMethod "ContractDesk$Value" "ContractDesk$Value" "kind" "()LContractDesk$Kind;" ∈ lw_tbl := List.mem_of_getElem? (i := 960) (by decide +kernel)
theorem tw_961 : Cond.selects "ContractDesk$Group" ⟨"ContractDesk$Value", "kind", "()LContractDesk$Kind;"⟩ ⟨"ContractDesk$Group", "kind", "()LContractDesk$Kind;"⟩ ∈ lw_tbl := List.mem_of_getElem? (i := 961) (by decide +kernel)
theorem tw_962 : Cond.instanceMethod ⟨"ContractDesk$Group", "kind", "()LContractDesk$Kind;"⟩ ∈ lw_tbl := List.mem_of_getElem? (i := 962) (by decide +kernel)
theorem tw_964 : Cond.selects "ContractDesk$Plain" ⟨"ContractDesk$Value", "kind", "()LContractDesk$Kind;"⟩ ⟨"ContractDesk$Plain", "kind", "()LContractDesk$Kind;"⟩ ∈ lw_tbl := List.mem_of_getElem? (i := 964) (by decide +kernel)
theorem tw_965 : Cond.instanceMethod ⟨"ContractDesk$Plain", "kind", "()LContractDesk$Kind;"⟩ ∈ lw_tbl := List.mem_of_getElem? (i := 965) (by decide +kernel)
theorem tw_967 : Cond.selects "ContractDesk$Text" ⟨"ContractDesk$Value", "kind", "()LContractDesk$Kind;"⟩ ⟨"ContractDesk$Text", "kind", "()LContractDesk$Kind;"⟩ ∈ lw_tbl := List.mem_of_getElem? (i := 967) (by decide +kernel)
theorem tw_968 : Cond.instanceMethod ⟨"ContractDesk$Text", "kind", "()LContractDesk$Kind;"⟩ ∈ lw_tbl := List.mem_of_getElem? (i := 968) (by decide +kernel)
theorem tw_970 : Cond.fieldLink "ContractDesk$Text" 18 "ContractDesk$Kind" "STRING" "LContractDesk$Kind;" ∈ lw_tbl := List.mem_of_getElem? (i := 970) (by decide +kernel)
theorem tw_972 : Cond.fieldLink "ContractDesk$Group" 45 "ContractDesk$Kind" "OBJECT" "LContractDesk$Kind;" ∈ lw_tbl := List.mem_of_getElem? (i := 972) (by decide +kernel)
theorem tw_973 : Cond.methodLink "ContractDesk$Group" 50 ⟨"ContractDesk$Group", "find", "(C)LContractDesk$Value;"⟩ ∈ lw_tbl := List.mem_of_getElem? (i := 973) (by decide +kernel)
theorem tw_974 : Cond.methodLink "ContractDesk$Group" 54 ⟨"ContractDesk$Value", "same", "(LContractDesk$Value;)Z"⟩ ∈ lw_tbl := List.mem_of_getElem? (i := 974) (by decide +kernel)
theorem tw_975 : Cond.instanceMethod ⟨"ContractDesk$Plain", "same", "(LContractDesk$Value;)Z"⟩ ∈ lw_tbl := List.mem_of_getElem? (i := 975) (by decide +kernel)
theorem tw_977 : Cond.classLink "ContractDesk$Plain" 8 "ContractDesk$Plain" ∈ lw_tbl := List.mem_of_getElem? (i := 977) (by decide +kernel)
theorem tw_978 : Cond.methodLink "ContractDesk$Plain" 17 ⟨"ContractDesk$Plain", "isLike", "(LContractDesk$Value;)Z"⟩ ∈ lw_tbl := List.mem_of_getElem? (i := 978) (by decide +kernel)
theorem tw_979 : Cond.sameMethod "ContractDesk$Plain" "ContractDesk$Value" "isLike" "(LContractDesk$Value;)Z" ∈ lw_tbl := List.mem_of_getElem? (i := 979) (by decide +kernel)
theorem tw_980 : Cond.selects "ContractDesk$Plain" ⟨"ContractDesk$Plain", "isLike", "(LContractDesk$Value;)Z"⟩ ⟨"ContractDesk$Value", "isLike", "(LContractDesk$Value;)Z"⟩ ∈ lw_tbl := List.mem_of_getElem? (i := 980) (by decide +kernel)
theorem tw_981 : Cond.instanceMethod ⟨"ContractDesk$Text", "same", "(LContractDesk$Value;)Z"⟩ ∈ lw_tbl := List.mem_of_getElem? (i := 981) (by decide +kernel)
theorem tw_983 : Cond.classLink "ContractDesk$Text" 13 "ContractDesk$Text" ∈ lw_tbl := List.mem_of_getElem? (i := 983) (by decide +kernel)
theorem tw_984 : Cond.methodLink "ContractDesk$Text" 24 ⟨"java/lang/StringBuilder", "length", "()I"⟩ ∈ lw_tbl := List.mem_of_getElem? (i := 984) (by decide +kernel)
theorem tw_985 : Cond.methodLink "ContractDesk$Text" 28 ⟨"ContractDesk$Text", "has", "(Ljava/lang/StringBuilder;I)Z"⟩ ∈ lw_tbl := List.mem_of_getElem? (i := 985) (by decide +kernel)
theorem tw_986 : Cond.instanceMethod ⟨"ContractDesk$Text", "has", "(Ljava/lang/StringBuilder;I)Z"⟩ ∈ lw_tbl := List.mem_of_getElem? (i := 986) (by decide +kernel)
theorem tw_987 : Cond.selects "ContractDesk$Text" ⟨"ContractDesk$Text", "has", "(Ljava/lang/StringBuilder;I)Z"⟩ ⟨"ContractDesk$Text", "has", "(Ljava/lang/StringBuilder;I)Z"⟩ ∈ lw_tbl := List.mem_of_getElem? (i := 987) (by decide +kernel)
theorem tw_989 : Cond.methodLink "ContractDesk$Text" 32 ⟨"java/lang/StringBuilder", "charAt", "(I)C"⟩ ∈ lw_tbl := List.mem_of_getElem? (i := 989) (by decide +kernel)
theorem tw_990 : Cond.selects "ContractDesk$Plain" ⟨"ContractDesk$Value", "same", "(LContractDesk$Value;)Z"⟩ ⟨"ContractDesk$Plain", "same", "(LContractDesk$Value;)Z"⟩ ∈ lw_tbl := List.mem_of_getElem? (i := 990) (by decide +kernel)
theorem tw_991 : Cond.selects "ContractDesk$Text" ⟨"ContractDesk$Value", "same", "(LContractDesk$Value;)Z"⟩ ⟨"ContractDesk$Text", "same", "(LContractDesk$Value;)Z"⟩ ∈ lw_tbl := List.mem_of_getElem? (i := 991) (by decide +kernel)
theorem tw_992 : Cond.methodLink "ContractDesk" 102 ⟨"ContractDesk$Value", "count", "()I"⟩ ∈ lw_tbl := List.mem_of_getElem? (i := 992) (by decide +kernel)
theorem tw_993 : Cond.instanceMethod ⟨"ContractDesk$Value", "count", "()I"⟩ ∈ lw_tbl := List.mem_of_getElem? (i := 993) (by decide +kernel)
theorem tw_994 : Cond.sameMethod "ContractDesk$Value" "ContractDesk$Value" "count" "()I" ∈ lw_tbl := List.mem_of_getElem? (i := 994) (by decide +kernel)
theorem tw_995 : Cond.selects "ContractDesk$Group" ⟨"ContractDesk$Value", "count", "()I"⟩ ⟨"ContractDesk$Group", "count", "()I"⟩ ∈ lw_tbl := List.mem_of_getElem? (i := 995) (by decide +kernel)
theorem tw_996 : Cond.instanceMethod ⟨"ContractDesk$Group", "count", "()I"⟩ ∈ lw_tbl := List.mem_of_getElem? (i := 996) (by decide +kernel)
theorem tw_998 : Cond.methodLink "ContractDesk$Group" 37 ⟨"ContractDesk$Value", "count", "()I"⟩ ∈ lw_tbl := List.mem_of_getElem? (i := 998) (by decide +kernel)
theorem tw_999 : Cond.selects "ContractDesk$Plain" ⟨"ContractDesk$Value", "count", "()I"⟩ ⟨"ContractDesk$Value", "count", "()I"⟩ ∈ lw_tbl := List.mem_of_getElem? (i := 999) (by decide +kernel)
theorem tw_1000 : Cond.selects "ContractDesk$Text" ⟨"ContractDesk$Value", "count", "()I"⟩ ⟨"ContractDesk$Value", "count", "()I"⟩ ∈ lw_tbl := List.mem_of_getElem? (i := 1000) (by decide +kernel)
theorem tw_1002 : Cond.methodLink "ContractDeskLaw" 52 ⟨"ContractDeskLaw", "rule", "(LContractDesk;I[J)I"⟩ ∈ lw_tbl := List.mem_of_getElem? (i := 1002) (by decide +kernel)
theorem tw_1003 : Cond.static ⟨"ContractDeskLaw", "rule", "(LContractDesk;I[J)I"⟩ ∈ lw_tbl := List.mem_of_getElem? (i := 1003) (by decide +kernel)
theorem tw_1005 : Cond.methodLink "ContractDeskLaw" 21 ⟨"ContractDesk", "rule", "(I)I"⟩ ∈ lw_tbl := List.mem_of_getElem? (i := 1005) (by decide +kernel)
theorem tw_1006 : Cond.instanceMethod ⟨"ContractDesk", "rule", "(I)I"⟩ ∈ lw_tbl := List.mem_of_getElem? (i := 1006) (by decide +kernel)
theorem tw_1007 : Cond.selects "ContractDesk" ⟨"ContractDesk", "rule", "(I)I"⟩ ⟨"ContractDesk", "rule", "(I)I"⟩ ∈ lw_tbl := List.mem_of_getElem? (i := 1007) (by decide +kernel)
theorem tw_1009 : Cond.methodLink "ContractDesk" 105 ⟨"ContractDesk$Reader", "rule", "()LContractDesk$Rule;"⟩ ∈ lw_tbl := List.mem_of_getElem? (i := 1009) (by decide +kernel)
theorem tw_1010 : Cond.instanceMethod ⟨"ContractDesk$Reader", "rule", "()LContractDesk$Rule;"⟩ ∈ lw_tbl := List.mem_of_getElem? (i := 1010) (by decide +kernel)
theorem tw_1011 : Cond.selects "ContractDesk$Reader" ⟨"ContractDesk$Reader", "rule", "()LContractDesk$Rule;"⟩ ⟨"ContractDesk$Reader", "rule", "()LContractDesk$Rule;"⟩ ∈ lw_tbl := List.mem_of_getElem? (i := 1011) (by decide +kernel)
theorem tw_1013 : Cond.classLink "ContractDesk$Reader" 150 "ContractDesk$Rule" ∈ lw_tbl := List.mem_of_getElem? (i := 1013) (by decide +kernel)
theorem tw_1014 : Cond.instantiable "ContractDesk$Rule" 6 ∈ lw_tbl := List.mem_of_getElem? (i := 1014) (by decide +kernel)
theorem tw_1015 : Cond.methodLinkNest "ContractDesk$Reader" 152 ⟨"ContractDesk$Rule", "<init>", "()V"⟩ "ContractDesk" ∈ lw_tbl := List.mem_of_getElem? (i := 1015) (by decide +kernel)
theorem tw_1016 : Cond.instanceMethod ⟨"ContractDesk$Rule", "<init>", "()V"⟩ ∈ lw_tbl := List.mem_of_getElem? (i := 1016) (by decide +kernel)
theorem tw_1018 : Cond.methodLink "ContractDesk$Rule" 3 ⟨"java/lang/Object", "<init>", "()V"⟩ ∈ lw_tbl := List.mem_of_getElem? (i := 1018) (by decide +kernel)
theorem tw_1019 : Cond.fieldLink "ContractDesk$Rule" 9 "ContractDesk$Rule" "steps" "[I" ∈ lw_tbl := List.mem_of_getElem? (i := 1019) (by decide +kernel)
theorem tw_1020 : Cond.fieldLink "ContractDesk$Reader" 162 "ContractDesk$Rule" "steps" "[I" ∈ lw_tbl := List.mem_of_getElem? (i := 1020) (by decide +kernel)
theorem tw_1021 : Cond.fieldLink "ContractDesk$Rule" 39 "ContractDesk$Rule" "size" "I" ∈ lw_tbl := List.mem_of_getElem? (i := 1021) (by decide +kernel)
theorem tw_1022 : Cond.fieldLink "ContractDesk$Reader" 156 "ContractDesk$Rule" "size" "I" ∈ lw_tbl := List.mem_of_getElem? (i := 1022) (by decide +kernel)
theorem tw_1023 : Cond.fieldLink "ContractDesk$Rule" 43 "ContractDesk$Rule" "weight" "I" ∈ lw_tbl := List.mem_of_getElem? (i := 1023) (by decide +kernel)
theorem tw_1024 : Cond.fieldLink "ContractDesk$Reader" 153 "ContractDesk$Rule" "weight" "I" ∈ lw_tbl := List.mem_of_getElem? (i := 1024) (by decide +kernel)
theorem tw_1025 : Cond.fieldLink "ContractDesk$Rule" 35 "ContractDesk$Rule" "any" "Z" ∈ lw_tbl := List.mem_of_getElem? (i := 1025) (by decide +kernel)
theorem tw_1026 : Cond.fieldLink "ContractDesk$Reader" 173 "ContractDesk$Rule" "any" "Z" ∈ lw_tbl := List.mem_of_getElem? (i := 1026) (by decide +kernel)
theorem tw_1027 : Cond.fieldLink "ContractDesk$Rule" 19 "ContractDesk$Rule" "first" "LContractDesk$Matcher;" ∈ lw_tbl := List.mem_of_getElem? (i := 1027) (by decide +kernel)
theorem tw_1028 : Cond.fieldLink "ContractDesk$Rule" 15 "ContractDesk$Rule" "last" "LContractDesk$Matcher;" ∈ lw_tbl := List.mem_of_getElem? (i := 1028) (by decide +kernel)
theorem tw_1042 : Cond.methodLink "ContractDesk$Reader" 159 ⟨"ContractDesk$Reader", "patternStep", "()I"⟩ ∈ lw_tbl := List.mem_of_getElem? (i := 1042) (by decide +kernel)
theorem tw_1044 : Cond.instanceMethod ⟨"ContractDesk$Reader", "patternStep", "()I"⟩ ∈ lw_tbl := List.mem_of_getElem? (i := 1044) (by decide +kernel)
theorem tw_1046 : Cond.methodLink "ContractDesk$Reader" 166 ⟨"ContractDesk$Reader", "matcher", "()LContractDesk$Matcher;"⟩ ∈ lw_tbl := List.mem_of_getElem? (i := 1046) (by decide +kernel)
theorem tw_1048 : Cond.instanceMethod ⟨"ContractDesk$Reader", "matcher", "()LContractDesk$Matcher;"⟩ ∈ lw_tbl := List.mem_of_getElem? (i := 1048) (by decide +kernel)
theorem tw_1050 : Cond.classLink "ContractDesk$Reader" 177 "ContractDesk$Simple" ∈ lw_tbl := List.mem_of_getElem? (i := 1050) (by decide +kernel)
theorem tw_1051 : Cond.instantiable "ContractDesk$Simple" 2 ∈ lw_tbl := List.mem_of_getElem? (i := 1051) (by decide +kernel)
theorem tw_1052 : Cond.methodLink "ContractDesk$Reader" 179 ⟨"ContractDesk$Simple", "<init>", "(C)V"⟩ ∈ lw_tbl := List.mem_of_getElem? (i := 1052) (by decide +kernel)
theorem tw_1053 : Cond.instanceMethod ⟨"ContractDesk$Simple", "<init>", "(C)V"⟩ ∈ lw_tbl := List.mem_of_getElem? (i := 1053) (by decide +kernel)
theorem tw_1055 : Cond.methodLinkNest "ContractDesk$Simple" 1 ⟨"ContractDesk$Matcher", "<init>", "()V"⟩ "ContractDesk" ∈ lw_tbl := List.mem_of_getElem? (i := 1055) (by decide +kernel)
theorem tw_1056 : Cond.instanceMethod ⟨"ContractDesk$Matcher", "<init>", "()V"⟩ ∈ lw_tbl := List.mem_of_getElem? (i := 1056) (by decide +kernel)
theorem tw_1058 : Cond.methodLink "ContractDesk$Matcher" 1 ⟨"java/lang/Object", "<init>", "()V"⟩ ∈ lw_tbl := List.mem_of_getElem? (i := 1058) (by decide +kernel)
theorem tw_1059 : Cond.fieldLink "ContractDesk$Simple" 7 "ContractDesk$Simple" "sign" "C" ∈ lw_tbl := List.mem_of_getElem? (i := 1059) (by decide +kernel)
theorem tw_1060 : Cond.fieldLink "ContractDesk$Rule" 22 "ContractDesk$Matcher" "next" "LContractDesk$Matcher;" ∈ lw_tbl := List.mem_of_getElem? (i := 1060) (by decide +kernel)
theorem tw_1066 : Cond.classLink "ContractDesk$Reader" 181 "ContractDesk$Bound" ∈ lw_tbl := List.mem_of_getElem? (i := 1066) (by decide +kernel)
theorem tw_1067 : Cond.instantiable "ContractDesk$Bound" 3 ∈ lw_tbl := List.mem_of_getElem? (i := 1067) (by decide +kernel)
theorem tw_1068 : Cond.methodLink "ContractDesk$Reader" 183 ⟨"ContractDesk$Bound", "<init>", "(ZI)V"⟩ ∈ lw_tbl := List.mem_of_getElem? (i := 1068) (by decide +kernel)
theorem tw_1069 : Cond.instanceMethod ⟨"ContractDesk$Bound", "<init>", "(ZI)V"⟩ ∈ lw_tbl := List.mem_of_getElem? (i := 1069) (by decide +kernel)
theorem tw_1071 : Cond.methodLinkNest "ContractDesk$Bound" 1 ⟨"ContractDesk$Matcher", "<init>", "()V"⟩ "ContractDesk" ∈ lw_tbl := List.mem_of_getElem? (i := 1071) (by decide +kernel)
theorem tw_1072 : Cond.fieldLink "ContractDesk$Bound" 7 "ContractDesk$Bound" "most" "Z" ∈ lw_tbl := List.mem_of_getElem? (i := 1072) (by decide +kernel)
theorem tw_1073 : Cond.fieldLink "ContractDesk$Bound" 13 "ContractDesk$Bound" "bound" "I" ∈ lw_tbl := List.mem_of_getElem? (i := 1073) (by decide +kernel)
theorem tw_1080 : Cond.methodLink "ContractDesk$Reader" 186 ⟨"ContractDesk$Reader", "inside", "()LContractDesk$Matcher;"⟩ ∈ lw_tbl := List.mem_of_getElem? (i := 1080) (by decide +kernel)
theorem tw_1082 : Cond.instanceMethod ⟨"ContractDesk$Reader", "inside", "()LContractDesk$Matcher;"⟩ ∈ lw_tbl := List.mem_of_getElem? (i := 1082) (by decide +kernel)
theorem tw_1084 : Cond.classLink "ContractDesk$Reader" 192 "ContractDesk$Inside" ∈ lw_tbl := List.mem_of_getElem? (i := 1084) (by decide +kernel)
theorem tw_1085 : Cond.instantiable "ContractDesk$Inside" 2 ∈ lw_tbl := List.mem_of_getElem? (i := 1085) (by decide +kernel)
theorem tw_1086 : Cond.methodLinkNest "ContractDesk$Reader" 194 ⟨"ContractDesk$Inside", "<init>", "()V"⟩ "ContractDesk" ∈ lw_tbl := List.mem_of_getElem? (i := 1086) (by decide +kernel)
theorem tw_1087 : Cond.instanceMethod ⟨"ContractDesk$Inside", "<init>", "()V"⟩ ∈ lw_tbl := List.mem_of_getElem? (i := 1087) (by decide +kernel)
theorem tw_1089 : Cond.methodLinkNest "ContractDesk$Inside" 1 ⟨"ContractDesk$Matcher", "<init>", "()V"⟩ "ContractDesk" ∈ lw_tbl := List.mem_of_getElem? (i := 1089) (by decide +kernel)
theorem tw_1090 : Cond.classLink "ContractDesk$Inside" 7 "java/lang/StringBuilder" ∈ lw_tbl := List.mem_of_getElem? (i := 1090) (by decide +kernel)
theorem tw_1091 : Cond.methodLink "ContractDesk$Inside" 9 ⟨"java/lang/StringBuilder", "<init>", "(I)V"⟩ ∈ lw_tbl := List.mem_of_getElem? (i := 1091) (by decide +kernel)
theorem tw_1092 : Cond.fieldLink "ContractDesk$Inside" 12 "ContractDesk$Inside" "letters" "Ljava/lang/StringBuilder;" ∈ lw_tbl := List.mem_of_getElem? (i := 1092) (by decide +kernel)
theorem tw_1093 : Cond.fieldLinkNest "ContractDesk$Reader" 195 "ContractDesk$Inside" "letters" "Ljava/lang/StringBuilder;" "ContractDesk" ∈ lw_tbl := List.mem_of_getElem? (i := 1093) (by decide +kernel)
theorem tw_1098 : Cond.methodLink "ContractDesk$Reader" 189 ⟨"ContractDesk$Reader", "shape", "()LContractDesk$Matcher;"⟩ ∈ lw_tbl := List.mem_of_getElem? (i := 1098) (by decide +kernel)
theorem tw_1100 : Cond.instanceMethod ⟨"ContractDesk$Reader", "shape", "()LContractDesk$Matcher;"⟩ ∈ lw_tbl := List.mem_of_getElem? (i := 1100) (by decide +kernel)
theorem tw_1102 : Cond.classLink "ContractDesk$Reader" 196 "ContractDesk$Shape" ∈ lw_tbl := List.mem_of_getElem? (i := 1102) (by decide +kernel)
theorem tw_1103 : Cond.instantiable "ContractDesk$Shape" 3 ∈ lw_tbl := List.mem_of_getElem? (i := 1103) (by decide +kernel)
theorem tw_1104 : Cond.methodLinkNest "ContractDesk$Reader" 198 ⟨"ContractDesk$Shape", "<init>", "()V"⟩ "ContractDesk" ∈ lw_tbl := List.mem_of_getElem? (i := 1104) (by decide +kernel)
theorem tw_1105 : Cond.instanceMethod ⟨"ContractDesk$Shape", "<init>", "()V"⟩ ∈ lw_tbl := List.mem_of_getElem? (i := 1105) (by decide +kernel)
theorem tw_1107 : Cond.methodLinkNest "ContractDesk$Shape" 1 ⟨"ContractDesk$Matcher", "<init>", "()V"⟩ "ContractDesk" ∈ lw_tbl := List.mem_of_getElem? (i := 1107) (by decide +kernel)
theorem tw_1108 : Cond.classLink "ContractDesk$Shape" 7 "java/lang/StringBuilder" ∈ lw_tbl := List.mem_of_getElem? (i := 1108) (by decide +kernel)
theorem tw_1109 : Cond.methodLink "ContractDesk$Shape" 9 ⟨"java/lang/StringBuilder", "<init>", "(I)V"⟩ ∈ lw_tbl := List.mem_of_getElem? (i := 1109) (by decide +kernel)
theorem tw_1110 : Cond.fieldLink "ContractDesk$Shape" 12 "ContractDesk$Shape" "signs" "Ljava/lang/StringBuilder;" ∈ lw_tbl := List.mem_of_getElem? (i := 1110) (by decide +kernel)
theorem tw_1111 : Cond.fieldLinkNest "ContractDesk$Reader" 199 "ContractDesk$Shape" "signs" "Ljava/lang/StringBuilder;" "ContractDesk" ∈ lw_tbl := List.mem_of_getElem? (i := 1111) (by decide +kernel)
theorem tw_1112 : Cond.fieldLink "ContractDesk$Shape" 18 "ContractDesk$Shape" "often" "Ljava/lang/StringBuilder;" ∈ lw_tbl := List.mem_of_getElem? (i := 1112) (by decide +kernel)
theorem tw_1113 : Cond.fieldLinkNest "ContractDesk$Reader" 202 "ContractDesk$Shape" "often" "Ljava/lang/StringBuilder;" "ContractDesk" ∈ lw_tbl := List.mem_of_getElem? (i := 1113) (by decide +kernel)
theorem tw_1120 : Cond.methodLink "ContractDesk$Reader" 170 ⟨"ContractDesk$Rule", "add", "(LContractDesk$Matcher;)V"⟩ ∈ lw_tbl := List.mem_of_getElem? (i := 1120) (by decide +kernel)
theorem tw_1121 : Cond.instanceMethod ⟨"ContractDesk$Rule", "add", "(LContractDesk$Matcher;)V"⟩ ∈ lw_tbl := List.mem_of_getElem? (i := 1121) (by decide +kernel)
theorem tw_1122 : Cond.selects "ContractDesk$Rule" ⟨"ContractDesk$Rule", "add", "(LContractDesk$Matcher;)V"⟩ ⟨"ContractDesk$Rule", "add", "(LContractDesk$Matcher;)V"⟩ ∈ lw_tbl := List.mem_of_getElem? (i := 1122) (by decide +kernel)
theorem tw_1124 : Cond.methodLink "ContractDeskLaw" 68 ⟨"ContractDeskLaw", "verify", "(LContractDesk;I[J)I"⟩ ∈ lw_tbl := List.mem_of_getElem? (i := 1124) (by decide +kernel)
theorem tw_1125 : Cond.static ⟨"ContractDeskLaw", "verify", "(LContractDesk;I[J)I"⟩ ∈ lw_tbl := List.mem_of_getElem? (i := 1125) (by decide +kernel)
theorem tw_1127 : Cond.methodLink "ContractDeskLaw" 24 ⟨"ContractDesk", "verify", "(I)I"⟩ ∈ lw_tbl := List.mem_of_getElem? (i := 1127) (by decide +kernel)
theorem tw_1128 : Cond.instanceMethod ⟨"ContractDesk", "verify", "(I)I"⟩ ∈ lw_tbl := List.mem_of_getElem? (i := 1128) (by decide +kernel)
theorem tw_1129 : Cond.selects "ContractDesk" ⟨"ContractDesk", "verify", "(I)I"⟩ ⟨"ContractDesk", "verify", "(I)I"⟩ ∈ lw_tbl := List.mem_of_getElem? (i := 1129) (by decide +kernel)
theorem tw_1131 : Cond.methodLink "ContractDesk" 148 ⟨"ContractDesk", "prepare", "(LContractDesk$Interaction;)Z"⟩ ∈ lw_tbl := List.mem_of_getElem? (i := 1131) (by decide +kernel)
theorem tw_1133 : Cond.instanceMethod ⟨"ContractDesk", "prepare", "(LContractDesk$Interaction;)Z"⟩ ∈ lw_tbl := List.mem_of_getElem? (i := 1133) (by decide +kernel)
theorem tw_1135 : Cond.methodLink "ContractDesk" 138 ⟨"ContractDesk", "setUp", "(I)V"⟩ ∈ lw_tbl := List.mem_of_getElem? (i := 1135) (by decide +kernel)
theorem tw_1137 : Cond.instanceMethod ⟨"ContractDesk", "setUp", "(I)V"⟩ ∈ lw_tbl := List.mem_of_getElem? (i := 1137) (by decide +kernel)
theorem tw_1139 : Cond.methodLink "ContractDesk" 135 ⟨"ContractDesk", "note", "(I)V"⟩ ∈ lw_tbl := List.mem_of_getElem? (i := 1139) (by decide +kernel)
theorem tw_1141 : Cond.instanceMethod ⟨"ContractDesk", "note", "(I)V"⟩ ∈ lw_tbl := List.mem_of_getElem? (i := 1141) (by decide +kernel)
theorem tw_1143 : Cond.methodLink "ContractDesk" 129 ⟨"java/lang/System", "arraycopy", "(Ljava/lang/Object;ILjava/lang/Object;II)V"⟩ ∈ lw_tbl := List.mem_of_getElem? (i := 1143) (by decide +kernel)
theorem tw_1144 : Cond.methodLink "ContractDesk" 141 ⟨"ContractDesk", "cleanUp", "(LContractDesk$Interaction;I)V"⟩ ∈ lw_tbl := List.mem_of_getElem? (i := 1144) (by decide +kernel)
theorem tw_1146 : Cond.instanceMethod ⟨"ContractDesk", "cleanUp", "(LContractDesk$Interaction;I)V"⟩ ∈ lw_tbl := List.mem_of_getElem? (i := 1146) (by decide +kernel)
theorem tw_1148 : Cond.methodLink "ContractDesk" 145 ⟨"ContractDesk", "tearDown", "(I)V"⟩ ∈ lw_tbl := List.mem_of_getElem? (i := 1148) (by decide +kernel)
theorem tw_1150 : Cond.instanceMethod ⟨"ContractDesk", "tearDown", "(I)V"⟩ ∈ lw_tbl := List.mem_of_getElem? (i := 1150) (by decide +kernel)
theorem tw_1152 : Cond.methodLink "ContractDesk" 158 ⟨"ContractDesk", "compare", "(LContractDesk$Interaction;LContractDesk$Value;LContractDesk$Value;I)V"⟩ ∈ lw_tbl := List.mem_of_getElem? (i := 1152) (by decide +kernel)
theorem tw_1154 : Cond.instanceMethod ⟨"ContractDesk", "compare", "(LContractDesk$Interaction;LContractDesk$Value;LContractDesk$Value;I)V"⟩ ∈ lw_tbl := List.mem_of_getElem? (i := 1154) (by decide +kernel)
theorem tw_1156 : Cond.classLink "ContractDesk" 177 "ContractDesk$Rule" ∈ lw_tbl := List.mem_of_getElem? (i := 1156) (by decide +kernel)
theorem tw_1157 : Cond.classLink "ContractDesk" 179 "ContractDesk$Group" ∈ lw_tbl := List.mem_of_getElem? (i := 1157) (by decide +kernel)
theorem tw_1158 : Cond.methodLink "ContractDesk" 181 ⟨"ContractDesk$Value", "isLike", "(LContractDesk$Value;)Z"⟩ ∈ lw_tbl := List.mem_of_getElem? (i := 1158) (by decide +kernel)
theorem tw_1159 : Cond.methodLink "ContractDesk" 184 ⟨"ContractDesk$Rule", "holds", "(LContractDesk$Value;LContractDesk$Value;)Z"⟩ ∈ lw_tbl := List.mem_of_getElem? (i := 1159) (by decide +kernel)
theorem tw_1160 : Cond.instanceMethod ⟨"ContractDesk$Rule", "holds", "(LContractDesk$Value;LContractDesk$Value;)Z"⟩ ∈ lw_tbl := List.mem_of_getElem? (i := 1160) (by decide +kernel)
theorem tw_1161 : Cond.selects "ContractDesk$Rule" ⟨"ContractDesk$Rule", "holds", "(LContractDesk$Value;LContractDesk$Value;)Z"⟩ ⟨"ContractDesk$Rule", "holds", "(LContractDesk$Value;LContractDesk$Value;)Z"⟩ ∈ lw_tbl := List.mem_of_getElem? (i := 1161) (by decide +kernel)
theorem tw_1163 : Cond.methodLink "ContractDesk$Rule" 31 ⟨"ContractDesk$Matcher", "holds", "(LContractDesk$Value;LContractDesk$Value;)Z"⟩ ∈ lw_tbl := List.mem_of_getElem? (i := 1163) (by decide +kernel)
theorem tw_1164 : Cond.declares ⟨"ContractDesk$Matcher", "holds", "(LContractDesk$Value;LContractDesk$Value;)Z"⟩ ∈ lw_tbl := List.mem_of_getElem? (i := 1164) (by decide +kernel)
theorem tw_1165 : Cond.sameMethod "ContractDesk$Matcher" "ContractDesk$Matcher" "holds" "(LContractDesk$Value;LContractDesk$Value;)Z" ∈ lw_tbl := List.mem_of_getElem? (i := 1165) (by decide +kernel)
theorem tw_1166 : Cond.selects "ContractDesk$Bound" ⟨"ContractDesk$Matcher", "holds", "(LContractDesk$Value;LContractDesk$Value;)Z"⟩ ⟨"ContractDesk$Bound", "holds", "(LContractDesk$Value;LContractDesk$Value;)Z"⟩ ∈ lw_tbl := List.mem_of_getElem? (i := 1166) (by decide +kernel)
theorem tw_1167 : Cond.instanceMethod ⟨"ContractDesk$Bound", "holds", "(LContractDesk$Value;LContractDesk$Value;)Z"⟩ ∈ lw_tbl := List.mem_of_getElem? (i := 1167) (by decide +kernel)
theorem tw_1169 : Cond.classLink "ContractDesk$Bound" 17 "ContractDesk$Group" ∈ lw_tbl := List.mem_of_getElem? (i := 1169) (by decide +kernel)
theorem tw_1170 : Cond.methodLink "ContractDesk$Bound" 19 ⟨"ContractDesk$Value", "kind", "()LContractDesk$Kind;"⟩ ∈ lw_tbl := List.mem_of_getElem? (i := 1170) (by decide +kernel)
theorem tw_1171 : Cond.fieldLink "ContractDesk$Bound" 25 "ContractDesk$Kind" "ARRAY" "LContractDesk$Kind;" ∈ lw_tbl := List.mem_of_getElem? (i := 1171) (by decide +kernel)
theorem tw_1172 : Cond.selects "ContractDesk$Inside" ⟨"ContractDesk$Matcher", "holds", "(LContractDesk$Value;LContractDesk$Value;)Z"⟩ ⟨"ContractDesk$Inside", "holds", "(LContractDesk$Value;LContractDesk$Value;)Z"⟩ ∈ lw_tbl := List.mem_of_getElem? (i := 1172) (by decide +kernel)
theorem tw_1173 : Cond.instanceMethod ⟨"ContractDesk$Inside", "holds", "(LContractDesk$Value;LContractDesk$Value;)Z"⟩ ∈ lw_tbl := List.mem_of_getElem? (i := 1173) (by decide +kernel)
theorem tw_1175 : Cond.classLink "ContractDesk$Inside" 18 "ContractDesk$Text" ∈ lw_tbl := List.mem_of_getElem? (i := 1175) (by decide +kernel)
theorem tw_1176 : Cond.methodLink "ContractDesk$Inside" 21 ⟨"java/lang/StringBuilder", "length", "()I"⟩ ∈ lw_tbl := List.mem_of_getElem? (i := 1176) (by decide +kernel)
theorem tw_1177 : Cond.methodLink "ContractDesk$Inside" 25 ⟨"ContractDesk$Text", "has", "(Ljava/lang/StringBuilder;I)Z"⟩ ∈ lw_tbl := List.mem_of_getElem? (i := 1177) (by decide +kernel)
theorem tw_1178 : Cond.selects "ContractDesk$Shape" ⟨"ContractDesk$Matcher", "holds", "(LContractDesk$Value;LContractDesk$Value;)Z"⟩ ⟨"ContractDesk$Shape", "holds", "(LContractDesk$Value;LContractDesk$Value;)Z"⟩ ∈ lw_tbl := List.mem_of_getElem? (i := 1178) (by decide +kernel)
theorem tw_1179 : Cond.instanceMethod ⟨"ContractDesk$Shape", "holds", "(LContractDesk$Value;LContractDesk$Value;)Z"⟩ ∈ lw_tbl := List.mem_of_getElem? (i := 1179) (by decide +kernel)
theorem tw_1181 : Cond.classLink "ContractDesk$Shape" 21 "ContractDesk$Text" ∈ lw_tbl := List.mem_of_getElem? (i := 1181) (by decide +kernel)
theorem tw_1182 : Cond.methodLink "ContractDesk$Shape" 26 ⟨"ContractDesk$Shape", "fits", "(Ljava/lang/StringBuilder;)Z"⟩ ∈ lw_tbl := List.mem_of_getElem? (i := 1182) (by decide +kernel)
theorem tw_1184 : Cond.instanceMethod ⟨"ContractDesk$Shape", "fits", "(Ljava/lang/StringBuilder;)Z"⟩ ∈ lw_tbl := List.mem_of_getElem? (i := 1184) (by decide +kernel)
theorem tw_1186 : Cond.methodLink "ContractDesk$Shape" 30 ⟨"ContractDesk$Shape", "skip", "(I)I"⟩ ∈ lw_tbl := List.mem_of_getElem? (i := 1186) (by decide +kernel)
theorem tw_1188 : Cond.instanceMethod ⟨"ContractDesk$Shape", "skip", "(I)I"⟩ ∈ lw_tbl := List.mem_of_getElem? (i := 1188) (by decide +kernel)
theorem tw_1190 : Cond.methodLink "ContractDesk$Shape" 34 ⟨"java/lang/StringBuilder", "length", "()I"⟩ ∈ lw_tbl := List.mem_of_getElem? (i := 1190) (by decide +kernel)
theorem tw_1191 : Cond.methodLink "ContractDesk$Shape" 38 ⟨"java/lang/StringBuilder", "charAt", "(I)C"⟩ ∈ lw_tbl := List.mem_of_getElem? (i := 1191) (by decide +kernel)
theorem tw_1192 : Cond.methodLink "ContractDesk$Shape" 42 ⟨"ContractDesk$Shape", "after", "(IC)I"⟩ ∈ lw_tbl := List.mem_of_getElem? (i := 1192) (by decide +kernel)
theorem tw_1194 : Cond.instanceMethod ⟨"ContractDesk$Shape", "after", "(IC)I"⟩ ∈ lw_tbl := List.mem_of_getElem? (i := 1194) (by decide +kernel)
theorem tw_1196 : Cond.selects "ContractDesk$Simple" ⟨"ContractDesk$Matcher", "holds", "(LContractDesk$Value;LContractDesk$Value;)Z"⟩ ⟨"ContractDesk$Simple", "holds", "(LContractDesk$Value;LContractDesk$Value;)Z"⟩ ∈ lw_tbl := List.mem_of_getElem? (i := 1196) (by decide +kernel)
theorem tw_1197 : Cond.instanceMethod ⟨"ContractDesk$Simple", "holds", "(LContractDesk$Value;LContractDesk$Value;)Z"⟩ ∈ lw_tbl := List.mem_of_getElem? (i := 1197) (by decide +kernel)
theorem tw_1199 : Cond.methodLink "ContractDesk$Simple" 13 ⟨"ContractDesk$Value", "isLike", "(LContractDesk$Value;)Z"⟩ ∈ lw_tbl := List.mem_of_getElem? (i := 1199) (by decide +kernel)
theorem tw_1200 : Cond.methodLink "ContractDesk$Simple" 19 ⟨"ContractDesk$Value", "same", "(LContractDesk$Value;)Z"⟩ ∈ lw_tbl := List.mem_of_getElem? (i := 1200) (by decide +kernel)
theorem tw_1201 : Cond.methodLink "ContractDesk$Simple" 22 ⟨"ContractDesk$Value", "kind", "()LContractDesk$Kind;"⟩ ∈ lw_tbl := List.mem_of_getElem? (i := 1201) (by decide +kernel)
theorem tw_1202 : Cond.fieldLink "ContractDesk$Simple" 26 "ContractDesk$Kind" "NULL" "LContractDesk$Kind;" ∈ lw_tbl := List.mem_of_getElem? (i := 1202) (by decide +kernel)
theorem tw_1203 : Cond.fieldLink "ContractDesk$Simple" 32 "ContractDesk$Kind" "NUMBER" "LContractDesk$Kind;" ∈ lw_tbl := List.mem_of_getElem? (i := 1203) (by decide +kernel)
theorem tw_1204 : Cond.methodLink "ContractDesk" 188 ⟨"ContractDesk", "list", "(II)V"⟩ ∈ lw_tbl := List.mem_of_getElem? (i := 1204) (by decide +kernel)
theorem tw_1206 : Cond.instanceMethod ⟨"ContractDesk", "list", "(II)V"⟩ ∈ lw_tbl := List.mem_of_getElem? (i := 1206) (by decide +kernel)
theorem tw_1208 : Cond.instantiable "ContractDesk$Mismatch" 2 ∈ lw_tbl := List.mem_of_getElem? (i := 1208) (by decide +kernel)
theorem tw_1209 : Cond.methodLinkNest "ContractDesk" 164 ⟨"ContractDesk$Mismatch", "<init>", "()V"⟩ "ContractDesk" ∈ lw_tbl := List.mem_of_getElem? (i := 1209) (by decide +kernel)
theorem tw_1210 : Cond.instanceMethod ⟨"ContractDesk$Mismatch", "<init>", "()V"⟩ ∈ lw_tbl := List.mem_of_getElem? (i := 1210) (by decide +kernel)
theorem tw_1212 : Cond.methodLink "ContractDesk$Mismatch" 1 ⟨"java/lang/Object", "<init>", "()V"⟩ ∈ lw_tbl := List.mem_of_getElem? (i := 1212) (by decide +kernel)
theorem tw_1213 : Cond.classLink "ContractDesk$Mismatch" 7 "java/lang/StringBuilder" ∈ lw_tbl := List.mem_of_getElem? (i := 1213) (by decide +kernel)
theorem tw_1214 : Cond.methodLink "ContractDesk$Mismatch" 9 ⟨"java/lang/StringBuilder", "<init>", "(I)V"⟩ ∈ lw_tbl := List.mem_of_getElem? (i := 1214) (by decide +kernel)
theorem tw_1215 : Cond.fieldLink "ContractDesk$Mismatch" 12 "ContractDesk$Mismatch" "place" "Ljava/lang/StringBuilder;" ∈ lw_tbl := List.mem_of_getElem? (i := 1215) (by decide +kernel)
theorem tw_1216 : Cond.fieldLink "ContractDesk" 168 "ContractDesk$Mismatch" "place" "Ljava/lang/StringBuilder;" ∈ lw_tbl := List.mem_of_getElem? (i := 1216) (by decide +kernel)
theorem tw_1217 : Cond.fieldLink "ContractDesk" 165 "ContractDesk$Mismatch" "kind" "I" ∈ lw_tbl := List.mem_of_getElem? (i := 1217) (by decide +kernel)
theorem tw_1223 : Cond.methodLink "ContractDesk" 170 ⟨"java/lang/StringBuilder", "setLength", "(I)V"⟩ ∈ lw_tbl := List.mem_of_getElem? (i := 1223) (by decide +kernel)
theorem tw_1224 : Cond.methodLink "ContractDesk" 173 ⟨"ContractDesk", "show", "(ILjava/lang/StringBuilder;)V"⟩ ∈ lw_tbl := List.mem_of_getElem? (i := 1224) (by decide +kernel)
theorem tw_1225 : Cond.static ⟨"ContractDesk", "show", "(ILjava/lang/StringBuilder;)V"⟩ ∈ lw_tbl := List.mem_of_getElem? (i := 1225) (by decide +kernel)
theorem tw_1227 : Cond.methodLink "ContractDesk" 192 ⟨"ContractDesk$Group", "kind", "()LContractDesk$Kind;"⟩ ∈ lw_tbl := List.mem_of_getElem? (i := 1227) (by decide +kernel)
theorem tw_1228 : Cond.fieldLink "ContractDesk" 195 "ContractDesk$Kind" "ARRAY" "LContractDesk$Kind;" ∈ lw_tbl := List.mem_of_getElem? (i := 1228) (by decide +kernel)
theorem tw_1229 : Cond.methodLink "ContractDesk" 201 ⟨"ContractDesk$Rule", "isLoose", "()Z"⟩ ∈ lw_tbl := List.mem_of_getElem? (i := 1229) (by decide +kernel)
theorem tw_1230 : Cond.instanceMethod ⟨"ContractDesk$Rule", "isLoose", "()Z"⟩ ∈ lw_tbl := List.mem_of_getElem? (i := 1230) (by decide +kernel)
theorem tw_1231 : Cond.selects "ContractDesk$Rule" ⟨"ContractDesk$Rule", "isLoose", "()Z"⟩ ⟨"ContractDesk$Rule", "isLoose", "()Z"⟩ ∈ lw_tbl := List.mem_of_getElem? (i := 1231) (by decide +kernel)
theorem tw_1233 : Cond.methodLink "ContractDesk$Rule" 27 ⟨"ContractDesk$Matcher", "isLoose", "()Z"⟩ ∈ lw_tbl := List.mem_of_getElem? (i := 1233) (by decide +kernel)
theorem tw_1234 : Cond.instanceMethod ⟨"ContractDesk$Matcher", "isLoose", "()Z"⟩ ∈ lw_tbl := List.mem_of_getElem? (i := 1234) (by decide +kernel)
theorem tw_1235 : Cond.sameMethod "ContractDesk$Matcher" "ContractDesk$Matcher" "isLoose" "()Z" ∈ lw_tbl := List.mem_of_getElem? (i := 1235) (by decide +kernel)
theorem tw_1236 : Cond.selects "ContractDesk$Bound" ⟨"ContractDesk$Matcher", "isLoose", "()Z"⟩ ⟨"ContractDesk$Bound", "isLoose", "()Z"⟩ ∈ lw_tbl := List.mem_of_getElem? (i := 1236) (by decide +kernel)
theorem tw_1237 : Cond.instanceMethod ⟨"ContractDesk$Bound", "isLoose", "()Z"⟩ ∈ lw_tbl := List.mem_of_getElem? (i := 1237) (by decide +kernel)
theorem tw_1239 : Cond.selects "ContractDesk$Inside" ⟨"ContractDesk$Matcher", "isLoose", "()Z"⟩ ⟨"ContractDesk$Matcher", "isLoose", "()Z"⟩ ∈ lw_tbl := List.mem_of_getElem? (i := 1239) (by decide +kernel)
theorem tw_1240 : Cond.selects "ContractDesk$Shape" ⟨"ContractDesk$Matcher", "isLoose", "()Z"⟩ ⟨"ContractDesk$Matcher", "isLoose", "()Z"⟩ ∈ lw_tbl := List.mem_of_getElem? (i := 1240) (by decide +kernel)
theorem tw_1241 : Cond.selects "ContractDesk$Simple" ⟨"ContractDesk$Matcher", "isLoose", "()Z"⟩ ⟨"ContractDesk$Simple", "isLoose", "()Z"⟩ ∈ lw_tbl := List.mem_of_getElem? (i := 1241) (by decide +kernel)
theorem tw_1242 : Cond.instanceMethod ⟨"ContractDesk$Simple", "isLoose", "()Z"⟩ ∈ lw_tbl := List.mem_of_getElem? (i := 1242) (by decide +kernel)
theorem tw_1245 : Cond.methodLink "ContractDesk" 205 ⟨"ContractDesk", "elements", "(LContractDesk$Interaction;LContractDesk$Group;LContractDesk$Group;ZI)V"⟩ ∈ lw_tbl := List.mem_of_getElem? (i := 1245) (by decide +kernel)
theorem tw_1247 : Cond.instanceMethod ⟨"ContractDesk", "elements", "(LContractDesk$Interaction;LContractDesk$Group;LContractDesk$Group;ZI)V"⟩ ∈ lw_tbl := List.mem_of_getElem? (i := 1247) (by decide +kernel)
theorem tw_1249 : Cond.methodLink "ContractDesk" 209 ⟨"ContractDesk", "members", "(LContractDesk$Interaction;LContractDesk$Group;LContractDesk$Group;I)V"⟩ ∈ lw_tbl := List.mem_of_getElem? (i := 1249) (by decide +kernel)
theorem tw_1251 : Cond.instanceMethod ⟨"ContractDesk", "members", "(LContractDesk$Interaction;LContractDesk$Group;LContractDesk$Group;I)V"⟩ ∈ lw_tbl := List.mem_of_getElem? (i := 1251) (by decide +kernel)
theorem tw_1253 : Cond.methodLink "ContractDesk" 231 ⟨"ContractDesk$Group", "find", "(C)LContractDesk$Value;"⟩ ∈ lw_tbl := List.mem_of_getElem? (i := 1253) (by decide +kernel)
theorem tw_1254 : Cond.classLink "ContractDeskLaw" 28 "ContractDeskModel" ∈ lw_tbl := List.mem_of_getElem? (i := 1254) (by decide +kernel)
theorem tw_1255 : Cond.instantiable "ContractDeskModel" 35 ∈ lw_tbl := List.mem_of_getElem? (i := 1255) (by decide +kernel)
theorem tw_1256 : Cond.methodLink "ContractDeskLaw" 30 ⟨"ContractDeskModel", "<init>", "()V"⟩ ∈ lw_tbl := List.mem_of_getElem? (i := 1256) (by decide +kernel)
theorem tw_1257 : Cond.instanceMethod ⟨"ContractDeskModel", "<init>", "()V"⟩ ∈ lw_tbl := List.mem_of_getElem? (i := 1257) (by decide +kernel)
theorem tw_1259 : Cond.methodLink "ContractDeskModel" 1 ⟨"java/lang/Object", "<init>", "()V"⟩ ∈ lw_tbl := List.mem_of_getElem? (i := 1259) (by decide +kernel)
theorem tw_1260 : Cond.fieldLink "ContractDeskModel" 93 "ContractDeskModel" "thrown" "I" ∈ lw_tbl := List.mem_of_getElem? (i := 1260) (by decide +kernel)
theorem tw_1261 : Cond.fieldLink "ContractDeskModel" 7 "ContractDeskModel" "all" "[C" ∈ lw_tbl := List.mem_of_getElem? (i := 1261) (by decide +kernel)
theorem tw_1262 : Cond.fieldLink "ContractDeskModel" 97 "ContractDeskModel" "typed" "I" ∈ lw_tbl := List.mem_of_getElem? (i := 1262) (by decide +kernel)
theorem tw_1263 : Cond.fieldLink "ContractDeskModel" 100 "ContractDeskModel" "made" "I" ∈ lw_tbl := List.mem_of_getElem? (i := 1263) (by decide +kernel)
theorem tw_1264 : Cond.fieldLink "ContractDeskModel" 13 "ContractDeskModel" "strict" "[Z" ∈ lw_tbl := List.mem_of_getElem? (i := 1264) (by decide +kernel)
theorem tw_1265 : Cond.fieldLink "ContractDeskModel" 17 "ContractDeskModel" "bodyLength" "[I" ∈ lw_tbl := List.mem_of_getElem? (i := 1265) (by decide +kernel)
theorem tw_1266 : Cond.fieldLink "ContractDeskModel" 21 "ContractDeskModel" "rules" "[I" ∈ lw_tbl := List.mem_of_getElem? (i := 1266) (by decide +kernel)
theorem tw_1267 : Cond.fieldLink "ContractDeskModel" 24 "ContractDeskModel" "ruleLength" "[I" ∈ lw_tbl := List.mem_of_getElem? (i := 1267) (by decide +kernel)
theorem tw_1268 : Cond.fieldLink "ContractDeskModel" 27 "ContractDeskModel" "needCount" "[I" ∈ lw_tbl := List.mem_of_getElem? (i := 1268) (by decide +kernel)
theorem tw_1269 : Cond.fieldLink "ContractDeskModel" 30 "ContractDeskModel" "need" "[I" ∈ lw_tbl := List.mem_of_getElem? (i := 1269) (by decide +kernel)
theorem tw_1270 : Cond.fieldLink "ContractDeskModel" 33 "ContractDeskModel" "handlers" "[I" ∈ lw_tbl := List.mem_of_getElem? (i := 1270) (by decide +kernel)
theorem tw_1271 : Cond.fieldLink "ContractDeskModel" 253 "ContractDeskModel" "events" "I" ∈ lw_tbl := List.mem_of_getElem? (i := 1271) (by decide +kernel)
theorem tw_1272 : Cond.fieldLink "ContractDeskModel" 36 "ContractDeskModel" "eventRow" "[I" ∈ lw_tbl := List.mem_of_getElem? (i := 1272) (by decide +kernel)
theorem tw_1273 : Cond.fieldLink "ContractDeskModel" 215 "ContractDeskModel" "listed" "I" ∈ lw_tbl := List.mem_of_getElem? (i := 1273) (by decide +kernel)
theorem tw_1274 : Cond.fieldLink "ContractDeskModel" 39 "ContractDeskModel" "kinds" "[I" ∈ lw_tbl := List.mem_of_getElem? (i := 1274) (by decide +kernel)
theorem tw_1275 : Cond.fieldLink "ContractDeskModel" 42 "ContractDeskModel" "letters" "[I" ∈ lw_tbl := List.mem_of_getElem? (i := 1275) (by decide +kernel)
theorem tw_1276 : Cond.fieldLink "ContractDeskModel" 45 "ContractDeskModel" "places" "[C" ∈ lw_tbl := List.mem_of_getElem? (i := 1276) (by decide +kernel)
theorem tw_1277 : Cond.fieldLink "ContractDeskModel" 48 "ContractDeskModel" "open" "[C" ∈ lw_tbl := List.mem_of_getElem? (i := 1277) (by decide +kernel)
theorem tw_1278 : Cond.fieldLink "ContractDeskModel" 51 "ContractDeskModel" "keys" "[I" ∈ lw_tbl := List.mem_of_getElem? (i := 1278) (by decide +kernel)
theorem tw_1279 : Cond.fieldLink "ContractDeskModel" 212 "ContractDeskModel" "spots" "I" ∈ lw_tbl := List.mem_of_getElem? (i := 1279) (by decide +kernel)
theorem tw_1280 : Cond.fieldLink "ContractDeskModel" 54 "ContractDeskModel" "around" "[I" ∈ lw_tbl := List.mem_of_getElem? (i := 1280) (by decide +kernel)
theorem tw_1281 : Cond.fieldLink "ContractDeskModel" 57 "ContractDeskModel" "step" "[I" ∈ lw_tbl := List.mem_of_getElem? (i := 1281) (by decide +kernel)
theorem tw_1282 : Cond.fieldLink "ContractDeskModel" 209 "ContractDeskModel" "pile" "I" ∈ lw_tbl := List.mem_of_getElem? (i := 1282) (by decide +kernel)
theorem tw_1283 : Cond.fieldLink "ContractDeskModel" 60 "ContractDeskModel" "job" "[I" ∈ lw_tbl := List.mem_of_getElem? (i := 1283) (by decide +kernel)
theorem tw_1284 : Cond.fieldLink "ContractDeskModel" 63 "ContractDeskModel" "left" "[I" ∈ lw_tbl := List.mem_of_getElem? (i := 1284) (by decide +kernel)
theorem tw_1285 : Cond.fieldLink "ContractDeskModel" 66 "ContractDeskModel" "right" "[I" ∈ lw_tbl := List.mem_of_getElem? (i := 1285) (by decide +kernel)
theorem tw_1286 : Cond.fieldLink "ContractDeskModel" 69 "ContractDeskModel" "spot" "[I" ∈ lw_tbl := List.mem_of_getElem? (i := 1286) (by decide +kernel)
theorem tw_1287 : Cond.fieldLink "ContractDeskModel" 180 "ContractDeskModel" "steps" "I" ∈ lw_tbl := List.mem_of_getElem? (i := 1287) (by decide +kernel)
theorem tw_1288 : Cond.fieldLink "ContractDeskModel" 72 "ContractDeskModel" "stepRow" "[I" ∈ lw_tbl := List.mem_of_getElem? (i := 1288) (by decide +kernel)
theorem tw_1289 : Cond.fieldLink "ContractDeskModel" 75 "ContractDeskModel" "here" "[Z" ∈ lw_tbl := List.mem_of_getElem? (i := 1289) (by decide +kernel)
theorem tw_1290 : Cond.fieldLink "ContractDeskModel" 78 "ContractDeskModel" "there" "[Z" ∈ lw_tbl := List.mem_of_getElem? (i := 1290) (by decide +kernel)
theorem tw_1291 : Cond.fieldLink "ContractDeskModel" 81 "ContractDeskModel" "items" "[C" ∈ lw_tbl := List.mem_of_getElem? (i := 1291) (by decide +kernel)
theorem tw_1292 : Cond.fieldLink "ContractDeskModel" 84 "ContractDeskModel" "often" "[C" ∈ lw_tbl := List.mem_of_getElem? (i := 1292) (by decide +kernel)
theorem tw_1293 : Cond.fieldLink "ContractDeskModel" 87 "ContractDeskModel" "one" "[I" ∈ lw_tbl := List.mem_of_getElem? (i := 1293) (by decide +kernel)
theorem tw_1294 : Cond.fieldLink "ContractDeskModel" 90 "ContractDeskModel" "other" "[I" ∈ lw_tbl := List.mem_of_getElem? (i := 1294) (by decide +kernel)
theorem tw_1366 : Cond.arrayClass .char ∈ lw_tbl := List.mem_of_getElem? (i := 1366) (by decide +kernel)
theorem tw_1367 : Cond.arrayClass .boolean ∈ lw_tbl := List.mem_of_getElem? (i := 1367) (by decide +kernel)
theorem tw_1368 : Cond.methodLink "ContractDeskLaw" 44 ⟨"ContractDeskModel", "thrown", "()I"⟩ ∈ lw_tbl := List.mem_of_getElem? (i := 1368) (by decide +kernel)
theorem tw_1369 : Cond.instanceMethod ⟨"ContractDeskModel", "thrown", "()I"⟩ ∈ lw_tbl := List.mem_of_getElem? (i := 1369) (by decide +kernel)
theorem tw_1370 : Cond.selects "ContractDeskModel" ⟨"ContractDeskModel", "thrown", "()I"⟩ ⟨"ContractDeskModel", "thrown", "()I"⟩ ∈ lw_tbl := List.mem_of_getElem? (i := 1370) (by decide +kernel)
theorem tw_1372 : Cond.methodLink "ContractDeskLaw" 37 ⟨"ContractDeskModel", "write", "(J)Z"⟩ ∈ lw_tbl := List.mem_of_getElem? (i := 1372) (by decide +kernel)
theorem tw_1373 : Cond.instanceMethod ⟨"ContractDeskModel", "write", "(J)Z"⟩ ∈ lw_tbl := List.mem_of_getElem? (i := 1373) (by decide +kernel)
theorem tw_1374 : Cond.selects "ContractDeskModel" ⟨"ContractDeskModel", "write", "(J)Z"⟩ ⟨"ContractDeskModel", "write", "(J)Z"⟩ ∈ lw_tbl := List.mem_of_getElem? (i := 1374) (by decide +kernel)
theorem tw_1376 : Cond.methodLink "ContractDeskLaw" 43 ⟨"ContractDeskModel", "make", "(Z)I"⟩ ∈ lw_tbl := List.mem_of_getElem? (i := 1376) (by decide +kernel)
theorem tw_1377 : Cond.instanceMethod ⟨"ContractDeskModel", "make", "(Z)I"⟩ ∈ lw_tbl := List.mem_of_getElem? (i := 1377) (by decide +kernel)
theorem tw_1378 : Cond.selects "ContractDeskModel" ⟨"ContractDeskModel", "make", "(Z)I"⟩ ⟨"ContractDeskModel", "make", "(Z)I"⟩ ∈ lw_tbl := List.mem_of_getElem? (i := 1378) (by decide +kernel)
theorem tw_1380 : Cond.methodLink "ContractDeskLaw" 51 ⟨"ContractDeskModel", "body", "(I)I"⟩ ∈ lw_tbl := List.mem_of_getElem? (i := 1380) (by decide +kernel)
theorem tw_1381 : Cond.instanceMethod ⟨"ContractDeskModel", "body", "(I)I"⟩ ∈ lw_tbl := List.mem_of_getElem? (i := 1381) (by decide +kernel)
theorem tw_1382 : Cond.selects "ContractDeskModel" ⟨"ContractDeskModel", "body", "(I)I"⟩ ⟨"ContractDeskModel", "body", "(I)I"⟩ ∈ lw_tbl := List.mem_of_getElem? (i := 1382) (by decide +kernel)
theorem tw_1384 : Cond.methodLink "ContractDeskModel" 146 ⟨"ContractDeskModel", "values", "()I"⟩ ∈ lw_tbl := List.mem_of_getElem? (i := 1384) (by decide +kernel)
theorem tw_1386 : Cond.instanceMethod ⟨"ContractDeskModel", "values", "()I"⟩ ∈ lw_tbl := List.mem_of_getElem? (i := 1386) (by decide +kernel)
theorem tw_1388 : Cond.methodLink "ContractDeskModel" 103 ⟨"ContractDeskModel", "at", "(I)C"⟩ ∈ lw_tbl := List.mem_of_getElem? (i := 1388) (by decide +kernel)
theorem tw_1390 : Cond.instanceMethod ⟨"ContractDeskModel", "at", "(I)C"⟩ ∈ lw_tbl := List.mem_of_getElem? (i := 1390) (by decide +kernel)
theorem tw_1392 : Cond.methodLink "ContractDeskModel" 111 ⟨"ContractDeskModel", "isLetter", "(C)Z"⟩ ∈ lw_tbl := List.mem_of_getElem? (i := 1392) (by decide +kernel)
theorem tw_1393 : Cond.static ⟨"ContractDeskModel", "isLetter", "(C)Z"⟩ ∈ lw_tbl := List.mem_of_getElem? (i := 1393) (by decide +kernel)
theorem tw_1395 : Cond.methodLink "ContractDeskModel" 118 ⟨"ContractDeskModel", "plainEnd", "(I)I"⟩ ∈ lw_tbl := List.mem_of_getElem? (i := 1395) (by decide +kernel)
theorem tw_1397 : Cond.instanceMethod ⟨"ContractDeskModel", "plainEnd", "(I)I"⟩ ∈ lw_tbl := List.mem_of_getElem? (i := 1397) (by decide +kernel)
theorem tw_1399 : Cond.methodLink "ContractDeskModel" 107 ⟨"ContractDeskModel", "word", "(ICCCC)Z"⟩ ∈ lw_tbl := List.mem_of_getElem? (i := 1399) (by decide +kernel)
theorem tw_1401 : Cond.instanceMethod ⟨"ContractDeskModel", "word", "(ICCCC)Z"⟩ ∈ lw_tbl := List.mem_of_getElem? (i := 1401) (by decide +kernel)
theorem tw_1403 : Cond.methodLink "ContractDeskModel" 115 ⟨"ContractDeskModel", "digit", "(C)Z"⟩ ∈ lw_tbl := List.mem_of_getElem? (i := 1403) (by decide +kernel)
theorem tw_1404 : Cond.static ⟨"ContractDeskModel", "digit", "(C)Z"⟩ ∈ lw_tbl := List.mem_of_getElem? (i := 1404) (by decide +kernel)
theorem tw_1406 : Cond.methodLink "ContractDeskModel" 150 ⟨"ContractDeskModel", "close", "()V"⟩ ∈ lw_tbl := List.mem_of_getElem? (i := 1406) (by decide +kernel)
theorem tw_1408 : Cond.instanceMethod ⟨"ContractDeskModel", "close", "()V"⟩ ∈ lw_tbl := List.mem_of_getElem? (i := 1408) (by decide +kernel)
theorem tw_1410 : Cond.methodLink "ContractDeskModel" 153 ⟨"ContractDeskModel", "isInteraction", "(I)Z"⟩ ∈ lw_tbl := List.mem_of_getElem? (i := 1410) (by decide +kernel)
theorem tw_1412 : Cond.instanceMethod ⟨"ContractDeskModel", "isInteraction", "(I)Z"⟩ ∈ lw_tbl := List.mem_of_getElem? (i := 1412) (by decide +kernel)
theorem tw_1414 : Cond.methodLink "ContractDeskModel" 157 ⟨"ContractDeskModel", "equal", "(II)Z"⟩ ∈ lw_tbl := List.mem_of_getElem? (i := 1414) (by decide +kernel)
theorem tw_1416 : Cond.instanceMethod ⟨"ContractDeskModel", "equal", "(II)Z"⟩ ∈ lw_tbl := List.mem_of_getElem? (i := 1416) (by decide +kernel)
theorem tw_1418 : Cond.methodLink "ContractDeskModel" 125 ⟨"ContractDeskModel", "kind", "(I)I"⟩ ∈ lw_tbl := List.mem_of_getElem? (i := 1418) (by decide +kernel)
theorem tw_1420 : Cond.instanceMethod ⟨"ContractDeskModel", "kind", "(I)I"⟩ ∈ lw_tbl := List.mem_of_getElem? (i := 1420) (by decide +kernel)
theorem tw_1422 : Cond.methodLink "ContractDeskModel" 138 ⟨"ContractDeskModel", "sameText", "(II)Z"⟩ ∈ lw_tbl := List.mem_of_getElem? (i := 1422) (by decide +kernel)
theorem tw_1424 : Cond.instanceMethod ⟨"ContractDeskModel", "sameText", "(II)Z"⟩ ∈ lw_tbl := List.mem_of_getElem? (i := 1424) (by decide +kernel)
theorem tw_1426 : Cond.methodLink "ContractDeskModel" 128 ⟨"ContractDeskModel", "end", "(I)I"⟩ ∈ lw_tbl := List.mem_of_getElem? (i := 1426) (by decide +kernel)
theorem tw_1428 : Cond.instanceMethod ⟨"ContractDeskModel", "end", "(I)I"⟩ ∈ lw_tbl := List.mem_of_getElem? (i := 1428) (by decide +kernel)
theorem tw_1430 : Cond.methodLink "ContractDeskModel" 122 ⟨"ContractDeskModel", "stops", "(C)Z"⟩ ∈ lw_tbl := List.mem_of_getElem? (i := 1430) (by decide +kernel)
theorem tw_1431 : Cond.static ⟨"ContractDeskModel", "stops", "(C)Z"⟩ ∈ lw_tbl := List.mem_of_getElem? (i := 1431) (by decide +kernel)
theorem tw_1433 : Cond.methodLink "ContractDeskModel" 135 ⟨"ContractDeskModel", "parts", "(I)I"⟩ ∈ lw_tbl := List.mem_of_getElem? (i := 1433) (by decide +kernel)
theorem tw_1435 : Cond.instanceMethod ⟨"ContractDeskModel", "parts", "(I)I"⟩ ∈ lw_tbl := List.mem_of_getElem? (i := 1435) (by decide +kernel)
theorem tw_1437 : Cond.methodLink "ContractDeskModel" 131 ⟨"ContractDeskModel", "part", "(II)I"⟩ ∈ lw_tbl := List.mem_of_getElem? (i := 1437) (by decide +kernel)
theorem tw_1439 : Cond.instanceMethod ⟨"ContractDeskModel", "part", "(II)I"⟩ ∈ lw_tbl := List.mem_of_getElem? (i := 1439) (by decide +kernel)
theorem tw_1441 : Cond.methodLink "ContractDeskModel" 142 ⟨"ContractDeskModel", "member", "(IC)I"⟩ ∈ lw_tbl := List.mem_of_getElem? (i := 1441) (by decide +kernel)
theorem tw_1443 : Cond.instanceMethod ⟨"ContractDeskModel", "member", "(IC)I"⟩ ∈ lw_tbl := List.mem_of_getElem? (i := 1443) (by decide +kernel)
theorem tw_1445 : Cond.methodLink "ContractDeskModel" 160 ⟨"ContractDeskModel", "keep", "(I)V"⟩ ∈ lw_tbl := List.mem_of_getElem? (i := 1445) (by decide +kernel)
theorem tw_1447 : Cond.instanceMethod ⟨"ContractDeskModel", "keep", "(I)V"⟩ ∈ lw_tbl := List.mem_of_getElem? (i := 1447) (by decide +kernel)
theorem tw_1449 : Cond.methodLink "ContractDeskLaw" 59 ⟨"ContractDeskModel", "needs", "(II)Z"⟩ ∈ lw_tbl := List.mem_of_getElem? (i := 1449) (by decide +kernel)
theorem tw_1450 : Cond.instanceMethod ⟨"ContractDeskModel", "needs", "(II)Z"⟩ ∈ lw_tbl := List.mem_of_getElem? (i := 1450) (by decide +kernel)
theorem tw_1451 : Cond.selects "ContractDeskModel" ⟨"ContractDeskModel", "needs", "(II)Z"⟩ ⟨"ContractDeskModel", "needs", "(II)Z"⟩ ∈ lw_tbl := List.mem_of_getElem? (i := 1451) (by decide +kernel)
theorem tw_1453 : Cond.methodLink "ContractDeskLaw" 63 ⟨"ContractDeskModel", "handler", "(II)Z"⟩ ∈ lw_tbl := List.mem_of_getElem? (i := 1453) (by decide +kernel)
theorem tw_1454 : Cond.instanceMethod ⟨"ContractDeskModel", "handler", "(II)Z"⟩ ∈ lw_tbl := List.mem_of_getElem? (i := 1454) (by decide +kernel)
theorem tw_1455 : Cond.selects "ContractDeskModel" ⟨"ContractDeskModel", "handler", "(II)Z"⟩ ⟨"ContractDeskModel", "handler", "(II)Z"⟩ ∈ lw_tbl := List.mem_of_getElem? (i := 1455) (by decide +kernel)
theorem tw_1457 : Cond.methodLink "ContractDeskLaw" 54 ⟨"ContractDeskModel", "rule", "(I)I"⟩ ∈ lw_tbl := List.mem_of_getElem? (i := 1457) (by decide +kernel)
theorem tw_1458 : Cond.instanceMethod ⟨"ContractDeskModel", "rule", "(I)I"⟩ ∈ lw_tbl := List.mem_of_getElem? (i := 1458) (by decide +kernel)
theorem tw_1459 : Cond.selects "ContractDeskModel" ⟨"ContractDeskModel", "rule", "(I)I"⟩ ⟨"ContractDeskModel", "rule", "(I)I"⟩ ∈ lw_tbl := List.mem_of_getElem? (i := 1459) (by decide +kernel)
theorem tw_1461 : Cond.methodLink "ContractDeskModel" 173 ⟨"ContractDeskModel", "isRule", "()Z"⟩ ∈ lw_tbl := List.mem_of_getElem? (i := 1461) (by decide +kernel)
theorem tw_1463 : Cond.instanceMethod ⟨"ContractDeskModel", "isRule", "()Z"⟩ ∈ lw_tbl := List.mem_of_getElem? (i := 1463) (by decide +kernel)
theorem tw_1465 : Cond.methodLink "ContractDeskModel" 167 ⟨"ContractDeskModel", "stepEnd", "(I)I"⟩ ∈ lw_tbl := List.mem_of_getElem? (i := 1465) (by decide +kernel)
theorem tw_1467 : Cond.instanceMethod ⟨"ContractDeskModel", "stepEnd", "(I)I"⟩ ∈ lw_tbl := List.mem_of_getElem? (i := 1467) (by decide +kernel)
theorem tw_1469 : Cond.methodLink "ContractDeskModel" 170 ⟨"ContractDeskModel", "matcherEnd", "(I)I"⟩ ∈ lw_tbl := List.mem_of_getElem? (i := 1469) (by decide +kernel)
theorem tw_1471 : Cond.instanceMethod ⟨"ContractDeskModel", "matcherEnd", "(I)I"⟩ ∈ lw_tbl := List.mem_of_getElem? (i := 1471) (by decide +kernel)
theorem tw_1473 : Cond.methodLink "ContractDeskModel" 164 ⟨"ContractDeskModel", "itemsEnd", "(I)I"⟩ ∈ lw_tbl := List.mem_of_getElem? (i := 1473) (by decide +kernel)
theorem tw_1475 : Cond.instanceMethod ⟨"ContractDeskModel", "itemsEnd", "(I)I"⟩ ∈ lw_tbl := List.mem_of_getElem? (i := 1475) (by decide +kernel)
theorem tw_1477 : Cond.methodLink "ContractDeskLaw" 67 ⟨"ContractDeskModel", "select", "(I)I"⟩ ∈ lw_tbl := List.mem_of_getElem? (i := 1477) (by decide +kernel)
theorem tw_1478 : Cond.instanceMethod ⟨"ContractDeskModel", "select", "(I)I"⟩ ∈ lw_tbl := List.mem_of_getElem? (i := 1478) (by decide +kernel)
theorem tw_1479 : Cond.selects "ContractDeskModel" ⟨"ContractDeskModel", "select", "(I)I"⟩ ⟨"ContractDeskModel", "select", "(I)I"⟩ ∈ lw_tbl := List.mem_of_getElem? (i := 1479) (by decide +kernel)
theorem tw_1481 : Cond.methodLink "ContractDeskModel" 186 ⟨"ContractDeskModel", "readPlace", "()Z"⟩ ∈ lw_tbl := List.mem_of_getElem? (i := 1481) (by decide +kernel)
theorem tw_1483 : Cond.instanceMethod ⟨"ContractDeskModel", "readPlace", "()Z"⟩ ∈ lw_tbl := List.mem_of_getElem? (i := 1483) (by decide +kernel)
theorem tw_1485 : Cond.methodLink "ContractDeskModel" 189 ⟨"ContractDeskModel", "selected", "(I)I"⟩ ∈ lw_tbl := List.mem_of_getElem? (i := 1485) (by decide +kernel)
theorem tw_1487 : Cond.instanceMethod ⟨"ContractDeskModel", "selected", "(I)I"⟩ ∈ lw_tbl := List.mem_of_getElem? (i := 1487) (by decide +kernel)
theorem tw_1489 : Cond.methodLink "ContractDeskModel" 183 ⟨"ContractDeskModel", "fits", "(I)I"⟩ ∈ lw_tbl := List.mem_of_getElem? (i := 1489) (by decide +kernel)
theorem tw_1491 : Cond.instanceMethod ⟨"ContractDeskModel", "fits", "(I)I"⟩ ∈ lw_tbl := List.mem_of_getElem? (i := 1491) (by decide +kernel)
theorem tw_1493 : Cond.methodLink "ContractDeskModel" 177 ⟨"ContractDeskModel", "colon", "(I)I"⟩ ∈ lw_tbl := List.mem_of_getElem? (i := 1493) (by decide +kernel)
theorem tw_1495 : Cond.instanceMethod ⟨"ContractDeskModel", "colon", "(I)I"⟩ ∈ lw_tbl := List.mem_of_getElem? (i := 1495) (by decide +kernel)
theorem tw_1497 : Cond.methodLink "ContractDeskLaw" 70 ⟨"ContractDeskModel", "verify", "(I)I"⟩ ∈ lw_tbl := List.mem_of_getElem? (i := 1497) (by decide +kernel)
theorem tw_1498 : Cond.instanceMethod ⟨"ContractDeskModel", "verify", "(I)I"⟩ ∈ lw_tbl := List.mem_of_getElem? (i := 1498) (by decide +kernel)
theorem tw_1499 : Cond.selects "ContractDeskModel" ⟨"ContractDeskModel", "verify", "(I)I"⟩ ⟨"ContractDeskModel", "verify", "(I)I"⟩ ∈ lw_tbl := List.mem_of_getElem? (i := 1499) (by decide +kernel)
theorem tw_1501 : Cond.methodLink "ContractDeskModel" 256 ⟨"ContractDeskModel", "verified", "(I)I"⟩ ∈ lw_tbl := List.mem_of_getElem? (i := 1501) (by decide +kernel)
theorem tw_1503 : Cond.instanceMethod ⟨"ContractDeskModel", "verified", "(I)I"⟩ ∈ lw_tbl := List.mem_of_getElem? (i := 1503) (by decide +kernel)
theorem tw_1505 : Cond.methodLink "ContractDeskModel" 250 ⟨"ContractDeskModel", "happen", "(II)V"⟩ ∈ lw_tbl := List.mem_of_getElem? (i := 1505) (by decide +kernel)
theorem tw_1507 : Cond.instanceMethod ⟨"ContractDeskModel", "happen", "(II)V"⟩ ∈ lw_tbl := List.mem_of_getElem? (i := 1507) (by decide +kernel)
theorem tw_1509 : Cond.methodLink "ContractDeskModel" 259 ⟨"ContractDeskModel", "compareAll", "(I)I"⟩ ∈ lw_tbl := List.mem_of_getElem? (i := 1509) (by decide +kernel)
theorem tw_1511 : Cond.instanceMethod ⟨"ContractDeskModel", "compareAll", "(I)I"⟩ ∈ lw_tbl := List.mem_of_getElem? (i := 1511) (by decide +kernel)
theorem tw_1513 : Cond.methodLink "ContractDeskModel" 240 ⟨"ContractDeskModel", "push", "(IIII)V"⟩ ∈ lw_tbl := List.mem_of_getElem? (i := 1513) (by decide +kernel)
theorem tw_1515 : Cond.instanceMethod ⟨"ContractDeskModel", "push", "(IIII)V"⟩ ∈ lw_tbl := List.mem_of_getElem? (i := 1515) (by decide +kernel)
theorem tw_1517 : Cond.methodLink "ContractDeskModel" 243 ⟨"ContractDeskModel", "lay", "(I)V"⟩ ∈ lw_tbl := List.mem_of_getElem? (i := 1517) (by decide +kernel)
theorem tw_1519 : Cond.instanceMethod ⟨"ContractDeskModel", "lay", "(I)V"⟩ ∈ lw_tbl := List.mem_of_getElem? (i := 1519) (by decide +kernel)
theorem tw_1521 : Cond.methodLink "ContractDeskModel" 226 ⟨"ContractDeskModel", "list", "(I)V"⟩ ∈ lw_tbl := List.mem_of_getElem? (i := 1521) (by decide +kernel)
theorem tw_1523 : Cond.instanceMethod ⟨"ContractDeskModel", "list", "(I)V"⟩ ∈ lw_tbl := List.mem_of_getElem? (i := 1523) (by decide +kernel)
theorem tw_1525 : Cond.methodLink "ContractDeskModel" 218 ⟨"ContractDeskModel", "put", "(II)V"⟩ ∈ lw_tbl := List.mem_of_getElem? (i := 1525) (by decide +kernel)
theorem tw_1527 : Cond.instanceMethod ⟨"ContractDeskModel", "put", "(II)V"⟩ ∈ lw_tbl := List.mem_of_getElem? (i := 1527) (by decide +kernel)
theorem tw_1529 : Cond.methodLink "ContractDeskModel" 246 ⟨"ContractDeskModel", "compared", "(IIII)I"⟩ ∈ lw_tbl := List.mem_of_getElem? (i := 1529) (by decide +kernel)
theorem tw_1531 : Cond.instanceMethod ⟨"ContractDeskModel", "compared", "(IIII)I"⟩ ∈ lw_tbl := List.mem_of_getElem? (i := 1531) (by decide +kernel)
theorem tw_1533 : Cond.methodLink "ContractDeskModel" 222 ⟨"ContractDeskModel", "outcome", "(III)I"⟩ ∈ lw_tbl := List.mem_of_getElem? (i := 1533) (by decide +kernel)
theorem tw_1535 : Cond.instanceMethod ⟨"ContractDeskModel", "outcome", "(III)I"⟩ ∈ lw_tbl := List.mem_of_getElem? (i := 1535) (by decide +kernel)
theorem tw_1537 : Cond.methodLink "ContractDeskModel" 202 ⟨"ContractDeskModel", "behind", "(II)I"⟩ ∈ lw_tbl := List.mem_of_getElem? (i := 1537) (by decide +kernel)
theorem tw_1539 : Cond.instanceMethod ⟨"ContractDeskModel", "behind", "(II)I"⟩ ∈ lw_tbl := List.mem_of_getElem? (i := 1539) (by decide +kernel)
theorem tw_1541 : Cond.methodLink "ContractDeskModel" 205 ⟨"ContractDeskModel", "holds", "(IIII)Z"⟩ ∈ lw_tbl := List.mem_of_getElem? (i := 1541) (by decide +kernel)
theorem tw_1543 : Cond.instanceMethod ⟨"ContractDeskModel", "holds", "(IIII)Z"⟩ ∈ lw_tbl := List.mem_of_getElem? (i := 1543) (by decide +kernel)
theorem tw_1545 : Cond.methodLink "ContractDeskModel" 195 ⟨"ContractDeskModel", "contains", "(III)Z"⟩ ∈ lw_tbl := List.mem_of_getElem? (i := 1545) (by decide +kernel)
theorem tw_1547 : Cond.instanceMethod ⟨"ContractDeskModel", "contains", "(III)Z"⟩ ∈ lw_tbl := List.mem_of_getElem? (i := 1547) (by decide +kernel)
theorem tw_1549 : Cond.methodLink "ContractDeskModel" 199 ⟨"ContractDeskModel", "isAs", "(III)Z"⟩ ∈ lw_tbl := List.mem_of_getElem? (i := 1549) (by decide +kernel)
theorem tw_1551 : Cond.instanceMethod ⟨"ContractDeskModel", "isAs", "(III)Z"⟩ ∈ lw_tbl := List.mem_of_getElem? (i := 1551) (by decide +kernel)
theorem tw_1553 : Cond.methodLink "ContractDeskModel" 192 ⟨"ContractDeskModel", "spread", "(I)V"⟩ ∈ lw_tbl := List.mem_of_getElem? (i := 1553) (by decide +kernel)
theorem tw_1555 : Cond.instanceMethod ⟨"ContractDeskModel", "spread", "(I)V"⟩ ∈ lw_tbl := List.mem_of_getElem? (i := 1555) (by decide +kernel)
theorem tw_1557 : Cond.methodLink "ContractDeskModel" 229 ⟨"ContractDeskModel", "elements", "(ZIII)I"⟩ ∈ lw_tbl := List.mem_of_getElem? (i := 1557) (by decide +kernel)
theorem tw_1559 : Cond.instanceMethod ⟨"ContractDeskModel", "elements", "(ZIII)I"⟩ ∈ lw_tbl := List.mem_of_getElem? (i := 1559) (by decide +kernel)
theorem tw_1561 : Cond.methodLink "ContractDeskModel" 237 ⟨"ContractDeskModel", "place", "(II)I"⟩ ∈ lw_tbl := List.mem_of_getElem? (i := 1561) (by decide +kernel)
theorem tw_1563 : Cond.instanceMethod ⟨"ContractDeskModel", "place", "(II)I"⟩ ∈ lw_tbl := List.mem_of_getElem? (i := 1563) (by decide +kernel)
theorem tw_1565 : Cond.methodLink "ContractDeskModel" 233 ⟨"ContractDeskModel", "members", "(IIII)V"⟩ ∈ lw_tbl := List.mem_of_getElem? (i := 1565) (by decide +kernel)
theorem tw_1567 : Cond.instanceMethod ⟨"ContractDeskModel", "members", "(IIII)V"⟩ ∈ lw_tbl := List.mem_of_getElem? (i := 1567) (by decide +kernel)
theorem tw_1569 : Cond.methodLink "ContractDeskModel" 262 ⟨"ContractDeskModel", "tear", "(II)V"⟩ ∈ lw_tbl := List.mem_of_getElem? (i := 1569) (by decide +kernel)
theorem tw_1571 : Cond.instanceMethod ⟨"ContractDeskModel", "tear", "(II)V"⟩ ∈ lw_tbl := List.mem_of_getElem? (i := 1571) (by decide +kernel)
theorem tw_1573 : Cond.methodLink "ContractDeskLaw" 74 ⟨"ContractDeskModel", "listed", "()I"⟩ ∈ lw_tbl := List.mem_of_getElem? (i := 1573) (by decide +kernel)
theorem tw_1574 : Cond.instanceMethod ⟨"ContractDeskModel", "listed", "()I"⟩ ∈ lw_tbl := List.mem_of_getElem? (i := 1574) (by decide +kernel)
theorem tw_1575 : Cond.selects "ContractDeskModel" ⟨"ContractDeskModel", "listed", "()I"⟩ ⟨"ContractDeskModel", "listed", "()I"⟩ ∈ lw_tbl := List.mem_of_getElem? (i := 1575) (by decide +kernel)
theorem tw_1577 : Cond.methodLink "ContractDeskLaw" 78 ⟨"ContractDeskModel", "mismatch", "(I)I"⟩ ∈ lw_tbl := List.mem_of_getElem? (i := 1577) (by decide +kernel)
theorem tw_1578 : Cond.instanceMethod ⟨"ContractDeskModel", "mismatch", "(I)I"⟩ ∈ lw_tbl := List.mem_of_getElem? (i := 1578) (by decide +kernel)
theorem tw_1579 : Cond.selects "ContractDeskModel" ⟨"ContractDeskModel", "mismatch", "(I)I"⟩ ⟨"ContractDeskModel", "mismatch", "(I)I"⟩ ∈ lw_tbl := List.mem_of_getElem? (i := 1579) (by decide +kernel)
theorem tw_1581 : Cond.methodLink "ContractDeskLaw" 83 ⟨"ContractDeskModel", "letter", "(II)I"⟩ ∈ lw_tbl := List.mem_of_getElem? (i := 1581) (by decide +kernel)
theorem tw_1582 : Cond.instanceMethod ⟨"ContractDeskModel", "letter", "(II)I"⟩ ∈ lw_tbl := List.mem_of_getElem? (i := 1582) (by decide +kernel)
theorem tw_1583 : Cond.selects "ContractDeskModel" ⟨"ContractDeskModel", "letter", "(II)I"⟩ ⟨"ContractDeskModel", "letter", "(II)I"⟩ ∈ lw_tbl := List.mem_of_getElem? (i := 1583) (by decide +kernel)
theorem tw_1585 : Cond.methodLink "ContractDeskLaw" 87 ⟨"ContractDeskModel", "event", "(I)I"⟩ ∈ lw_tbl := List.mem_of_getElem? (i := 1585) (by decide +kernel)
theorem tw_1586 : Cond.instanceMethod ⟨"ContractDeskModel", "event", "(I)I"⟩ ∈ lw_tbl := List.mem_of_getElem? (i := 1586) (by decide +kernel)
theorem tw_1587 : Cond.selects "ContractDeskModel" ⟨"ContractDeskModel", "event", "(I)I"⟩ ⟨"ContractDeskModel", "event", "(I)I"⟩ ∈ lw_tbl := List.mem_of_getElem? (i := 1587) (by decide +kernel)
theorem tw_1589 : Cond.constantLong "ContractDeskLaw" 31 4294967295 ∈ lw_tbl := List.mem_of_getElem? (i := 1589) (by decide +kernel)
theorem tw_1590 : Cond.arrayClass .long ∈ lw_tbl := List.mem_of_getElem? (i := 1590) (by decide +kernel)
theorem tw_1594 : Cond.sameMethod "java/lang/AbstractStringBuilder" "java/lang/AbstractStringBuilder" "ensureCapacityInternal" "(I)V" ∈ lw_tbl := List.mem_of_getElem? (i := 1594) (by decide +kernel)
theorem tw_1595 : Cond.sameMethod "java/lang/AbstractStringBuilder" "java/lang/AbstractStringBuilder" "newCapacity" "(I)I" ∈ lw_tbl := List.mem_of_getElem? (i := 1595) (by decide +kernel)
theorem tw_1600 : Cond.selects "java/lang/StringBuilder" ⟨"java/lang/StringBuilder", "length", "()I"⟩ ⟨"java/lang/StringBuilder", "length", "()I"⟩ ∈ lw_tbl := List.mem_of_getElem? (i := 1600) (by decide +kernel)
theorem tw_1601 : Cond.sameMethod "java/lang/AbstractStringBuilder" "java/lang/AbstractStringBuilder" "append" "(C)Ljava/lang/AbstractStringBuilder;" ∈ lw_tbl := List.mem_of_getElem? (i := 1601) (by decide +kernel)
theorem tw_1602 : Cond.sameMethod "java/lang/AbstractStringBuilder" "java/lang/AbstractStringBuilder" "setLength" "(I)V" ∈ lw_tbl := List.mem_of_getElem? (i := 1602) (by decide +kernel)
theorem tw_1603 : Cond.sameMethod "java/lang/AbstractStringBuilder" "java/lang/AbstractStringBuilder" "charAt" "(I)C" ∈ lw_tbl := List.mem_of_getElem? (i := 1603) (by decide +kernel)
theorem tw_1605 : Cond.selects "ContractDesk$Group" ⟨"ContractDesk$Value", "isLike", "(LContractDesk$Value;)Z"⟩ ⟨"ContractDesk$Value", "isLike", "(LContractDesk$Value;)Z"⟩ ∈ lw_tbl := List.mem_of_getElem? (i := 1605) (by decide +kernel)
theorem tw_1606 : Cond.selects "ContractDesk$Plain" ⟨"ContractDesk$Value", "isLike", "(LContractDesk$Value;)Z"⟩ ⟨"ContractDesk$Value", "isLike", "(LContractDesk$Value;)Z"⟩ ∈ lw_tbl := List.mem_of_getElem? (i := 1606) (by decide +kernel)
theorem tw_1607 : Cond.selects "ContractDesk$Text" ⟨"ContractDesk$Value", "isLike", "(LContractDesk$Value;)Z"⟩ ⟨"ContractDesk$Value", "isLike", "(LContractDesk$Value;)Z"⟩ ∈ lw_tbl := List.mem_of_getElem? (i := 1607) (by decide +kernel)
theorem tw_1608 : Cond.selects "ContractDesk$Group" ⟨"ContractDesk$Group", "kind", "()LContractDesk$Kind;"⟩ ⟨"ContractDesk$Group", "kind", "()LContractDesk$Kind;"⟩ ∈ lw_tbl := List.mem_of_getElem? (i := 1608) (by decide +kernel)
theorem ob_1 : Cond.instanceMethod objectInit ∈ lw_tbl := by decide +kernel
theorem ob_2 : Cond.code objectInit ⟨#[0xb1]⟩ 1 none ∈ lw_tbl := by decide +kernel
theorem ok_O : okO [4, 5, 14] = true := by decide +kernel
theorem okc_0 : okC [12] "ContractDesk$Group" = true := by decide +kernel
theorem okc_1 : okC [10] "ContractDesk$Text" = true := by decide +kernel
theorem okc_2 : okC [5] "ContractDesk$Rule" = true := by decide +kernel
theorem okc_3 : okC [11] "ContractDesk$Plain" = true := by decide +kernel
theorem okc_4 : okC [18] "java/lang/IllegalStateException" = true := by decide +kernel
theorem okc_5 : okC [17] "java/lang/IllegalArgumentException" = true := by decide +kernel
theorem okc_6 : okC [4] "ContractDesk$Interaction" = true := by decide +kernel
theorem okc_7 : okC [14] "ContractDesk$Mismatch" = true := by decide +kernel
theorem oknc_0 : okNC [10, 11] "ContractDesk$Group" = true := by decide +kernel
theorem oknc_1 : okNC [11, 12] "ContractDesk$Text" = true := by decide +kernel
theorem oknc_2 : okNC [10, 12] "ContractDesk$Plain" = true := by decide +kernel
theorem oknc_3 : okNC [17] "java/lang/IllegalStateException" = true := by decide +kernel
theorem oknc_4 : okNC [18] "java/lang/IllegalArgumentException" = true := by decide +kernel
theorem mt_0 : mtOk 0 := ⟨List.mem_of_getElem? (i := 120) (by decide +kernel), List.mem_of_getElem? (i := 72) (by decide +kernel), by decide +kernel, by decide +kernel⟩
theorem mt_1 : mtOk 1 := ⟨List.mem_of_getElem? (i := 123) (by decide +kernel), List.mem_of_getElem? (i := 71) (by decide +kernel), by decide +kernel, by decide +kernel⟩
theorem mt_2 : mtOk 2 := ⟨List.mem_of_getElem? (i := 168) (by decide +kernel), List.mem_of_getElem? (i := 78) (by decide +kernel), by decide +kernel, by decide +kernel⟩
theorem mt_3 : mtOk 3 := ⟨List.mem_of_getElem? (i := 171) (by decide +kernel), List.mem_of_getElem? (i := 77) (by decide +kernel), by decide +kernel, by decide +kernel⟩
theorem mt_4 : mtOk 4 := ⟨List.mem_of_getElem? (i := 174) (by decide +kernel), List.mem_of_getElem? (i := 76) (by decide +kernel), by decide +kernel, by decide +kernel⟩
theorem mt_5 : mtOk 5 := ⟨List.mem_of_getElem? (i := 239) (by decide +kernel), List.mem_of_getElem? (i := 71) (by decide +kernel), by decide +kernel, by decide +kernel⟩
theorem mt_6 : mtOk 6 := ⟨List.mem_of_getElem? (i := 243) (by decide +kernel), List.mem_of_getElem? (i := 71) (by decide +kernel), by decide +kernel, by decide +kernel⟩
theorem mt_7 : mtOk 7 := ⟨List.mem_of_getElem? (i := 246) (by decide +kernel), List.mem_of_getElem? (i := 83) (by decide +kernel), by decide +kernel, by decide +kernel⟩
theorem mt_9 : mtOk 9 := ⟨List.mem_of_getElem? (i := 257) (by decide +kernel), List.mem_of_getElem? (i := 85) (by decide +kernel), by decide +kernel, by decide +kernel⟩
theorem mt_11 : mtOk 11 := ⟨List.mem_of_getElem? (i := 275) (by decide +kernel), List.mem_of_getElem? (i := 71) (by decide +kernel), by decide +kernel, by decide +kernel⟩
theorem mt_12 : mtOk 12 := ⟨List.mem_of_getElem? (i := 516) (by decide +kernel), List.mem_of_getElem? (i := 72) (by decide +kernel), by decide +kernel, by decide +kernel⟩
theorem mt_13 : mtOk 13 := ⟨List.mem_of_getElem? (i := 519) (by decide +kernel), List.mem_of_getElem? (i := 71) (by decide +kernel), by decide +kernel, by decide +kernel⟩
theorem mt_14 : mtOk 14 := ⟨List.mem_of_getElem? (i := 522) (by decide +kernel), List.mem_of_getElem? (i := 88) (by decide +kernel), by decide +kernel, by decide +kernel⟩
theorem mt_15 : mtOk 15 := ⟨List.mem_of_getElem? (i := 393) (by decide +kernel), List.mem_of_getElem? (i := 72) (by decide +kernel), by decide +kernel, by decide +kernel⟩
theorem mt_16 : mtOk 16 := ⟨List.mem_of_getElem? (i := 395) (by decide +kernel), List.mem_of_getElem? (i := 71) (by decide +kernel), by decide +kernel, by decide +kernel⟩
theorem mt_17 : mtOk 17 := ⟨List.mem_of_getElem? (i := 576) (by decide +kernel), List.mem_of_getElem? (i := 72) (by decide +kernel), by decide +kernel, by decide +kernel⟩
theorem mt_18 : mtOk 18 := ⟨List.mem_of_getElem? (i := 579) (by decide +kernel), List.mem_of_getElem? (i := 71) (by decide +kernel), by decide +kernel, by decide +kernel⟩
theorem mt_19 : mtOk 19 := ⟨List.mem_of_getElem? (i := 600) (by decide +kernel), List.mem_of_getElem? (i := 72) (by decide +kernel), by decide +kernel, by decide +kernel⟩
theorem mt_20 : mtOk 20 := ⟨List.mem_of_getElem? (i := 603) (by decide +kernel), List.mem_of_getElem? (i := 71) (by decide +kernel), by decide +kernel, by decide +kernel⟩
theorem mt_21 : mtOk 21 := ⟨List.mem_of_getElem? (i := 531) (by decide +kernel), List.mem_of_getElem? (i := 73) (by decide +kernel), by decide +kernel, by decide +kernel⟩
theorem mt_22 : mtOk 22 := ⟨List.mem_of_getElem? (i := 534) (by decide +kernel), List.mem_of_getElem? (i := 87) (by decide +kernel), by decide +kernel, by decide +kernel⟩
theorem mt_23 : mtOk 23 := ⟨List.mem_of_getElem? (i := 546) (by decide +kernel), List.mem_of_getElem? (i := 78) (by decide +kernel), by decide +kernel, by decide +kernel⟩
theorem mt_24 : mtOk 24 := ⟨List.mem_of_getElem? (i := 550) (by decide +kernel), List.mem_of_getElem? (i := 78) (by decide +kernel), by decide +kernel, by decide +kernel⟩
theorem mt_25 : mtOk 25 := ⟨List.mem_of_getElem? (i := 553) (by decide +kernel), List.mem_of_getElem? (i := 93) (by decide +kernel), by decide +kernel, by decide +kernel⟩
theorem mt_26 : mtOk 26 := ⟨List.mem_of_getElem? (i := 558) (by decide +kernel), List.mem_of_getElem? (i := 78) (by decide +kernel), by decide +kernel, by decide +kernel⟩
theorem mt_27 : mtOk 27 := ⟨List.mem_of_getElem? (i := 736) (by decide +kernel), List.mem_of_getElem? (i := 78) (by decide +kernel), by decide +kernel, by decide +kernel⟩
theorem mt_28 : mtOk 28 := ⟨List.mem_of_getElem? (i := 740) (by decide +kernel), List.mem_of_getElem? (i := 78) (by decide +kernel), by decide +kernel, by decide +kernel⟩
theorem mt_29 : mtOk 29 := ⟨List.mem_of_getElem? (i := 305) (by decide +kernel), List.mem_of_getElem? (i := 73) (by decide +kernel), by decide +kernel, by decide +kernel⟩
theorem mt_30 : mtOk 30 := ⟨List.mem_of_getElem? (i := 309) (by decide +kernel), List.mem_of_getElem? (i := 73) (by decide +kernel), by decide +kernel, by decide +kernel⟩
theorem mt_31 : mtOk 31 := ⟨List.mem_of_getElem? (i := 925) (by decide +kernel), List.mem_of_getElem? (i := 73) (by decide +kernel), by decide +kernel, by decide +kernel⟩
theorem mt_32 : mtOk 32 := ⟨List.mem_of_getElem? (i := 929) (by decide +kernel), List.mem_of_getElem? (i := 73) (by decide +kernel), by decide +kernel, by decide +kernel⟩
theorem mt_33 : mtOk 33 := ⟨List.mem_of_getElem? (i := 932) (by decide +kernel), List.mem_of_getElem? (i := 88) (by decide +kernel), by decide +kernel, by decide +kernel⟩
theorem mt_34 : mtOk 34 := ⟨List.mem_of_getElem? (i := 112) (by decide +kernel), List.mem_of_getElem? (i := 70) (by decide +kernel), by decide +kernel, by decide +kernel⟩
theorem mt_35 : mtOk 35 := ⟨List.mem_of_getElem? (i := 792) (by decide +kernel), List.mem_of_getElem? (i := 70) (by decide +kernel), by decide +kernel, by decide +kernel⟩
theorem mt_36 : mtOk 36 := ⟨List.mem_of_getElem? (i := 1147) (by decide +kernel), List.mem_of_getElem? (i := 70) (by decide +kernel), by decide +kernel, by decide +kernel⟩
theorem mt_37 : mtOk 37 := ⟨List.mem_of_getElem? (i := 1155) (by decide +kernel), List.mem_of_getElem? (i := 70) (by decide +kernel), by decide +kernel, by decide +kernel⟩
theorem mt_38 : mtOk 38 := ⟨List.mem_of_getElem? (i := 1248) (by decide +kernel), List.mem_of_getElem? (i := 70) (by decide +kernel), by decide +kernel, by decide +kernel⟩
theorem mt_39 : mtOk 39 := ⟨List.mem_of_getElem? (i := 683) (by decide +kernel), List.mem_of_getElem? (i := 70) (by decide +kernel), by decide +kernel, by decide +kernel⟩
theorem mt_40 : mtOk 40 := ⟨List.mem_of_getElem? (i := 796) (by decide +kernel), List.mem_of_getElem? (i := 70) (by decide +kernel), by decide +kernel, by decide +kernel⟩
theorem mt_41 : mtOk 41 := ⟨List.mem_of_getElem? (i := 563) (by decide +kernel), List.mem_of_getElem? (i := 70) (by decide +kernel), by decide +kernel, by decide +kernel⟩
theorem mt_42 : mtOk 42 := ⟨List.mem_of_getElem? (i := 542) (by decide +kernel), List.mem_of_getElem? (i := 70) (by decide +kernel), by decide +kernel, by decide +kernel⟩
theorem mt_43 : mtOk 43 := ⟨List.mem_of_getElem? (i := 678) (by decide +kernel), List.mem_of_getElem? (i := 70) (by decide +kernel), by decide +kernel, by decide +kernel⟩
theorem mt_44 : mtOk 44 := ⟨List.mem_of_getElem? (i := 1207) (by decide +kernel), List.mem_of_getElem? (i := 70) (by decide +kernel), by decide +kernel, by decide +kernel⟩
theorem mt_45 : mtOk 45 := ⟨List.mem_of_getElem? (i := 669) (by decide +kernel), List.mem_of_getElem? (i := 70) (by decide +kernel), by decide +kernel, by decide +kernel⟩
theorem mt_46 : mtOk 46 := ⟨List.mem_of_getElem? (i := 691) (by decide +kernel), List.mem_of_getElem? (i := 70) (by decide +kernel), by decide +kernel, by decide +kernel⟩
theorem mt_47 : mtOk 47 := ⟨List.mem_of_getElem? (i := 1252) (by decide +kernel), List.mem_of_getElem? (i := 70) (by decide +kernel), by decide +kernel, by decide +kernel⟩
theorem mt_48 : mtOk 48 := ⟨List.mem_of_getElem? (i := 673) (by decide +kernel), List.mem_of_getElem? (i := 70) (by decide +kernel), by decide +kernel, by decide +kernel⟩
theorem mt_49 : mtOk 49 := ⟨List.mem_of_getElem? (i := 538) (by decide +kernel), List.mem_of_getElem? (i := 70) (by decide +kernel), by decide +kernel, by decide +kernel⟩
theorem mt_50 : mtOk 50 := ⟨List.mem_of_getElem? (i := 1142) (by decide +kernel), List.mem_of_getElem? (i := 70) (by decide +kernel), by decide +kernel, by decide +kernel⟩
theorem mt_51 : mtOk 51 := ⟨List.mem_of_getElem? (i := 1134) (by decide +kernel), List.mem_of_getElem? (i := 70) (by decide +kernel), by decide +kernel, by decide +kernel⟩
theorem mt_52 : mtOk 52 := ⟨List.mem_of_getElem? (i := 1008) (by decide +kernel), List.mem_of_getElem? (i := 70) (by decide +kernel), by decide +kernel, by decide +kernel⟩
theorem mt_53 : mtOk 53 := ⟨List.mem_of_getElem? (i := 567) (by decide +kernel), List.mem_of_getElem? (i := 70) (by decide +kernel), by decide +kernel, by decide +kernel⟩
theorem mt_54 : mtOk 54 := ⟨List.mem_of_getElem? (i := 1138) (by decide +kernel), List.mem_of_getElem? (i := 70) (by decide +kernel), by decide +kernel, by decide +kernel⟩
theorem mt_55 : mtOk 55 := ⟨List.mem_of_getElem? (i := 1226) (by decide +kernel), List.mem_of_getElem? (i := 70) (by decide +kernel), by decide +kernel, by decide +kernel⟩
theorem mt_56 : mtOk 56 := ⟨List.mem_of_getElem? (i := 1151) (by decide +kernel), List.mem_of_getElem? (i := 70) (by decide +kernel), by decide +kernel, by decide +kernel⟩
theorem mt_57 : mtOk 57 := ⟨List.mem_of_getElem? (i := 1130) (by decide +kernel), List.mem_of_getElem? (i := 70) (by decide +kernel), by decide +kernel, by decide +kernel⟩
theorem mt_58 : mtOk 58 := ⟨List.mem_of_getElem? (i := 510) (by decide +kernel), List.mem_of_getElem? (i := 70) (by decide +kernel), by decide +kernel, by decide +kernel⟩
theorem mt_59 : mtOk 59 := ⟨List.mem_of_getElem? (i := 1070) (by decide +kernel), List.mem_of_getElem? (i := 104) (by decide +kernel), by decide +kernel, by decide +kernel⟩
theorem mt_60 : mtOk 60 := ⟨List.mem_of_getElem? (i := 1168) (by decide +kernel), List.mem_of_getElem? (i := 104) (by decide +kernel), by decide +kernel, by decide +kernel⟩
theorem mt_61 : mtOk 61 := ⟨List.mem_of_getElem? (i := 1238) (by decide +kernel), List.mem_of_getElem? (i := 104) (by decide +kernel), by decide +kernel, by decide +kernel⟩
theorem mt_62 : mtOk 62 := ⟨List.mem_of_getElem? (i := 844) (by decide +kernel), List.mem_of_getElem? (i := 96) (by decide +kernel), by decide +kernel, by decide +kernel⟩
theorem mt_63 : mtOk 63 := ⟨List.mem_of_getElem? (i := 894) (by decide +kernel), List.mem_of_getElem? (i := 96) (by decide +kernel), by decide +kernel, by decide +kernel⟩
theorem mt_64 : mtOk 64 := ⟨List.mem_of_getElem? (i := 997) (by decide +kernel), List.mem_of_getElem? (i := 96) (by decide +kernel), by decide +kernel, by decide +kernel⟩
theorem mt_65 : mtOk 65 := ⟨List.mem_of_getElem? (i := 869) (by decide +kernel), List.mem_of_getElem? (i := 96) (by decide +kernel), by decide +kernel, by decide +kernel⟩
theorem mt_66 : mtOk 66 := ⟨List.mem_of_getElem? (i := 963) (by decide +kernel), List.mem_of_getElem? (i := 96) (by decide +kernel), by decide +kernel, by decide +kernel⟩
theorem mt_67 : mtOk 67 := ⟨List.mem_of_getElem? (i := 950) (by decide +kernel), List.mem_of_getElem? (i := 96) (by decide +kernel), by decide +kernel, by decide +kernel⟩
theorem mt_68 : mtOk 68 := ⟨List.mem_of_getElem? (i := 1088) (by decide +kernel), List.mem_of_getElem? (i := 105) (by decide +kernel), by decide +kernel, by decide +kernel⟩
theorem mt_69 : mtOk 69 := ⟨List.mem_of_getElem? (i := 1174) (by decide +kernel), List.mem_of_getElem? (i := 105) (by decide +kernel), by decide +kernel, by decide +kernel⟩
theorem mt_70 : mtOk 70 := ⟨List.mem_of_getElem? (i := 710) (by decide +kernel), List.mem_of_getElem? (i := 92) (by decide +kernel), by decide +kernel, by decide +kernel⟩
theorem mt_71 : mtOk 71 := ⟨List.mem_of_getElem? (i := 654) (by decide +kernel), List.mem_of_getElem? (i := 92) (by decide +kernel), by decide +kernel, by decide +kernel⟩
theorem mt_72 : mtOk 72 := ⟨List.mem_of_getElem? (i := 1057) (by decide +kernel), List.mem_of_getElem? (i := 102) (by decide +kernel), by decide +kernel, by decide +kernel⟩
theorem mt_73 : mtOk 73 := ⟨List.mem_of_getElem? (i := 1244) (by decide +kernel), List.mem_of_getElem? (i := 102) (by decide +kernel), by decide +kernel, by decide +kernel⟩
theorem mt_74 : mtOk 74 := ⟨List.mem_of_getElem? (i := 874) (by decide +kernel), List.mem_of_getElem? (i := 99) (by decide +kernel), by decide +kernel, by decide +kernel⟩
theorem mt_75 : mtOk 75 := ⟨List.mem_of_getElem? (i := 1211) (by decide +kernel), List.mem_of_getElem? (i := 107) (by decide +kernel), by decide +kernel, by decide +kernel⟩
theorem mt_76 : mtOk 76 := ⟨List.mem_of_getElem? (i := 905) (by decide +kernel), List.mem_of_getElem? (i := 100) (by decide +kernel), by decide +kernel, by decide +kernel⟩
theorem mt_77 : mtOk 77 := ⟨List.mem_of_getElem? (i := 966) (by decide +kernel), List.mem_of_getElem? (i := 100) (by decide +kernel), by decide +kernel, by decide +kernel⟩
theorem mt_78 : mtOk 78 := ⟨List.mem_of_getElem? (i := 976) (by decide +kernel), List.mem_of_getElem? (i := 100) (by decide +kernel), by decide +kernel, by decide +kernel⟩
theorem mt_79 : mtOk 79 := ⟨List.mem_of_getElem? (i := 153) (by decide +kernel), List.mem_of_getElem? (i := 75) (by decide +kernel), by decide +kernel, by decide +kernel⟩
theorem mt_80 : mtOk 80 := ⟨List.mem_of_getElem? (i := 646) (by decide +kernel), List.mem_of_getElem? (i := 75) (by decide +kernel), by decide +kernel, by decide +kernel⟩
theorem mt_81 : mtOk 81 := ⟨List.mem_of_getElem? (i := 642) (by decide +kernel), List.mem_of_getElem? (i := 75) (by decide +kernel), by decide +kernel, by decide +kernel⟩
theorem mt_82 : mtOk 82 := ⟨List.mem_of_getElem? (i := 944) (by decide +kernel), List.mem_of_getElem? (i := 75) (by decide +kernel), by decide +kernel, by decide +kernel⟩
theorem mt_83 : mtOk 83 := ⟨List.mem_of_getElem? (i := 615) (by decide +kernel), List.mem_of_getElem? (i := 75) (by decide +kernel), by decide +kernel, by decide +kernel⟩
theorem mt_84 : mtOk 84 := ⟨List.mem_of_getElem? (i := 835) (by decide +kernel), List.mem_of_getElem? (i := 75) (by decide +kernel), by decide +kernel, by decide +kernel⟩
theorem mt_85 : mtOk 85 := ⟨List.mem_of_getElem? (i := 623) (by decide +kernel), List.mem_of_getElem? (i := 75) (by decide +kernel), by decide +kernel, by decide +kernel⟩
theorem mt_86 : mtOk 86 := ⟨List.mem_of_getElem? (i := 1083) (by decide +kernel), List.mem_of_getElem? (i := 75) (by decide +kernel), by decide +kernel, by decide +kernel⟩
theorem mt_87 : mtOk 87 := ⟨List.mem_of_getElem? (i := 650) (by decide +kernel), List.mem_of_getElem? (i := 75) (by decide +kernel), by decide +kernel, by decide +kernel⟩
theorem mt_88 : mtOk 88 := ⟨List.mem_of_getElem? (i := 831) (by decide +kernel), List.mem_of_getElem? (i := 75) (by decide +kernel), by decide +kernel, by decide +kernel⟩
theorem mt_89 : mtOk 89 := ⟨List.mem_of_getElem? (i := 865) (by decide +kernel), List.mem_of_getElem? (i := 75) (by decide +kernel), by decide +kernel, by decide +kernel⟩
theorem mt_90 : mtOk 90 := ⟨List.mem_of_getElem? (i := 638) (by decide +kernel), List.mem_of_getElem? (i := 75) (by decide +kernel), by decide +kernel, by decide +kernel⟩
theorem mt_91 : mtOk 91 := ⟨List.mem_of_getElem? (i := 1049) (by decide +kernel), List.mem_of_getElem? (i := 75) (by decide +kernel), by decide +kernel, by decide +kernel⟩
theorem mt_92 : mtOk 92 := ⟨List.mem_of_getElem? (i := 898) (by decide +kernel), List.mem_of_getElem? (i := 75) (by decide +kernel), by decide +kernel, by decide +kernel⟩
theorem mt_93 : mtOk 93 := ⟨List.mem_of_getElem? (i := 1045) (by decide +kernel), List.mem_of_getElem? (i := 75) (by decide +kernel), by decide +kernel, by decide +kernel⟩
theorem mt_94 : mtOk 94 := ⟨List.mem_of_getElem? (i := 611) (by decide +kernel), List.mem_of_getElem? (i := 75) (by decide +kernel), by decide +kernel, by decide +kernel⟩
theorem mt_95 : mtOk 95 := ⟨List.mem_of_getElem? (i := 1012) (by decide +kernel), List.mem_of_getElem? (i := 75) (by decide +kernel), by decide +kernel, by decide +kernel⟩
theorem mt_96 : mtOk 96 := ⟨List.mem_of_getElem? (i := 1101) (by decide +kernel), List.mem_of_getElem? (i := 75) (by decide +kernel), by decide +kernel, by decide +kernel⟩
theorem mt_97 : mtOk 97 := ⟨List.mem_of_getElem? (i := 572) (by decide +kernel), List.mem_of_getElem? (i := 75) (by decide +kernel), by decide +kernel, by decide +kernel⟩
theorem mt_98 : mtOk 98 := ⟨List.mem_of_getElem? (i := 619) (by decide +kernel), List.mem_of_getElem? (i := 75) (by decide +kernel), by decide +kernel, by decide +kernel⟩
theorem mt_99 : mtOk 99 := ⟨List.mem_of_getElem? (i := 809) (by decide +kernel), List.mem_of_getElem? (i := 75) (by decide +kernel), by decide +kernel, by decide +kernel⟩
theorem mt_100 : mtOk 100 := ⟨List.mem_of_getElem? (i := 805) (by decide +kernel), List.mem_of_getElem? (i := 75) (by decide +kernel), by decide +kernel, by decide +kernel⟩
theorem mt_101 : mtOk 101 := ⟨List.mem_of_getElem? (i := 801) (by decide +kernel), List.mem_of_getElem? (i := 75) (by decide +kernel), by decide +kernel, by decide +kernel⟩
theorem mt_102 : mtOk 102 := ⟨List.mem_of_getElem? (i := 920) (by decide +kernel), List.mem_of_getElem? (i := 75) (by decide +kernel), by decide +kernel, by decide +kernel⟩
theorem mt_103 : mtOk 103 := ⟨List.mem_of_getElem? (i := 1017) (by decide +kernel), List.mem_of_getElem? (i := 101) (by decide +kernel), by decide +kernel, by decide +kernel⟩
theorem mt_104 : mtOk 104 := ⟨List.mem_of_getElem? (i := 1123) (by decide +kernel), List.mem_of_getElem? (i := 101) (by decide +kernel), by decide +kernel, by decide +kernel⟩
theorem mt_105 : mtOk 105 := ⟨List.mem_of_getElem? (i := 665) (by decide +kernel), List.mem_of_getElem? (i := 101) (by decide +kernel), by decide +kernel, by decide +kernel⟩
theorem mt_106 : mtOk 106 := ⟨List.mem_of_getElem? (i := 661) (by decide +kernel), List.mem_of_getElem? (i := 101) (by decide +kernel), by decide +kernel, by decide +kernel⟩
theorem mt_107 : mtOk 107 := ⟨List.mem_of_getElem? (i := 1162) (by decide +kernel), List.mem_of_getElem? (i := 101) (by decide +kernel), by decide +kernel, by decide +kernel⟩
theorem mt_108 : mtOk 108 := ⟨List.mem_of_getElem? (i := 1232) (by decide +kernel), List.mem_of_getElem? (i := 101) (by decide +kernel), by decide +kernel, by decide +kernel⟩
theorem mt_109 : mtOk 109 := ⟨List.mem_of_getElem? (i := 1106) (by decide +kernel), List.mem_of_getElem? (i := 106) (by decide +kernel), by decide +kernel, by decide +kernel⟩
theorem mt_110 : mtOk 110 := ⟨List.mem_of_getElem? (i := 1195) (by decide +kernel), List.mem_of_getElem? (i := 106) (by decide +kernel), by decide +kernel, by decide +kernel⟩
theorem mt_111 : mtOk 111 := ⟨List.mem_of_getElem? (i := 1185) (by decide +kernel), List.mem_of_getElem? (i := 106) (by decide +kernel), by decide +kernel, by decide +kernel⟩
theorem mt_112 : mtOk 112 := ⟨List.mem_of_getElem? (i := 1180) (by decide +kernel), List.mem_of_getElem? (i := 106) (by decide +kernel), by decide +kernel, by decide +kernel⟩
theorem mt_113 : mtOk 113 := ⟨List.mem_of_getElem? (i := 1189) (by decide +kernel), List.mem_of_getElem? (i := 106) (by decide +kernel), by decide +kernel, by decide +kernel⟩
theorem mt_114 : mtOk 114 := ⟨List.mem_of_getElem? (i := 1054) (by decide +kernel), List.mem_of_getElem? (i := 103) (by decide +kernel), by decide +kernel, by decide +kernel⟩
theorem mt_115 : mtOk 115 := ⟨List.mem_of_getElem? (i := 1198) (by decide +kernel), List.mem_of_getElem? (i := 103) (by decide +kernel), by decide +kernel, by decide +kernel⟩
theorem mt_116 : mtOk 116 := ⟨List.mem_of_getElem? (i := 1243) (by decide +kernel), List.mem_of_getElem? (i := 103) (by decide +kernel), by decide +kernel, by decide +kernel⟩
theorem mt_117 : mtOk 117 := ⟨List.mem_of_getElem? (i := 814) (by decide +kernel), List.mem_of_getElem? (i := 95) (by decide +kernel), by decide +kernel, by decide +kernel⟩
theorem mt_118 : mtOk 118 := ⟨List.mem_of_getElem? (i := 988) (by decide +kernel), List.mem_of_getElem? (i := 95) (by decide +kernel), by decide +kernel, by decide +kernel⟩
theorem mt_119 : mtOk 119 := ⟨List.mem_of_getElem? (i := 969) (by decide +kernel), List.mem_of_getElem? (i := 95) (by decide +kernel), by decide +kernel, by decide +kernel⟩
theorem mt_120 : mtOk 120 := ⟨List.mem_of_getElem? (i := 982) (by decide +kernel), List.mem_of_getElem? (i := 95) (by decide +kernel), by decide +kernel, by decide +kernel⟩
theorem mt_121 : mtOk 121 := ⟨List.mem_of_getElem? (i := 817) (by decide +kernel), List.mem_of_getElem? (i := 94) (by decide +kernel), by decide +kernel, by decide +kernel⟩
theorem mt_122 : mtOk 122 := ⟨List.mem_of_getElem? (i := 1001) (by decide +kernel), List.mem_of_getElem? (i := 94) (by decide +kernel), by decide +kernel, by decide +kernel⟩
theorem mt_123 : mtOk 123 := ⟨List.mem_of_getElem? (i := 957) (by decide +kernel), List.mem_of_getElem? (i := 94) (by decide +kernel), by decide +kernel, by decide +kernel⟩
theorem mt_124 : mtOk 124 := ⟨List.mem_of_getElem? (i := 787) (by decide +kernel), List.mem_of_getElem? (i := 69) (by decide +kernel), by decide +kernel, by decide +kernel⟩
theorem mt_125 : mtOk 125 := ⟨List.mem_of_getElem? (i := 686) (by decide +kernel), List.mem_of_getElem? (i := 69) (by decide +kernel), by decide +kernel, by decide +kernel⟩
theorem mt_126 : mtOk 126 := ⟨List.mem_of_getElem? (i := 1004) (by decide +kernel), List.mem_of_getElem? (i := 69) (by decide +kernel), by decide +kernel, by decide +kernel⟩
theorem mt_127 : mtOk 127 := ⟨List.mem_of_getElem? (i := 1126) (by decide +kernel), List.mem_of_getElem? (i := 69) (by decide +kernel), by decide +kernel, by decide +kernel⟩
theorem mt_128 : mtOk 128 := ⟨List.mem_of_getElem? (i := 1258) (by decide +kernel), List.mem_of_getElem? (i := 90) (by decide +kernel), by decide +kernel, by decide +kernel⟩
theorem mt_129 : mtOk 129 := ⟨List.mem_of_getElem? (i := 1391) (by decide +kernel), List.mem_of_getElem? (i := 90) (by decide +kernel), by decide +kernel, by decide +kernel⟩
theorem mt_130 : mtOk 130 := ⟨List.mem_of_getElem? (i := 1540) (by decide +kernel), List.mem_of_getElem? (i := 90) (by decide +kernel), by decide +kernel, by decide +kernel⟩
theorem mt_131 : mtOk 131 := ⟨List.mem_of_getElem? (i := 1383) (by decide +kernel), List.mem_of_getElem? (i := 90) (by decide +kernel), by decide +kernel, by decide +kernel⟩
theorem mt_132 : mtOk 132 := ⟨List.mem_of_getElem? (i := 1409) (by decide +kernel), List.mem_of_getElem? (i := 90) (by decide +kernel), by decide +kernel, by decide +kernel⟩
theorem mt_133 : mtOk 133 := ⟨List.mem_of_getElem? (i := 1496) (by decide +kernel), List.mem_of_getElem? (i := 90) (by decide +kernel), by decide +kernel, by decide +kernel⟩
theorem mt_134 : mtOk 134 := ⟨List.mem_of_getElem? (i := 1512) (by decide +kernel), List.mem_of_getElem? (i := 90) (by decide +kernel), by decide +kernel, by decide +kernel⟩
theorem mt_135 : mtOk 135 := ⟨List.mem_of_getElem? (i := 1532) (by decide +kernel), List.mem_of_getElem? (i := 90) (by decide +kernel), by decide +kernel, by decide +kernel⟩
theorem mt_136 : mtOk 136 := ⟨List.mem_of_getElem? (i := 1548) (by decide +kernel), List.mem_of_getElem? (i := 90) (by decide +kernel), by decide +kernel, by decide +kernel⟩
theorem mt_137 : mtOk 137 := ⟨List.mem_of_getElem? (i := 1405) (by decide +kernel), List.mem_of_getElem? (i := 90) (by decide +kernel), by decide +kernel, by decide +kernel⟩
theorem mt_138 : mtOk 138 := ⟨List.mem_of_getElem? (i := 1560) (by decide +kernel), List.mem_of_getElem? (i := 90) (by decide +kernel), by decide +kernel, by decide +kernel⟩
theorem mt_139 : mtOk 139 := ⟨List.mem_of_getElem? (i := 1429) (by decide +kernel), List.mem_of_getElem? (i := 90) (by decide +kernel), by decide +kernel, by decide +kernel⟩
theorem mt_140 : mtOk 140 := ⟨List.mem_of_getElem? (i := 1417) (by decide +kernel), List.mem_of_getElem? (i := 90) (by decide +kernel), by decide +kernel, by decide +kernel⟩
theorem mt_141 : mtOk 141 := ⟨List.mem_of_getElem? (i := 1588) (by decide +kernel), List.mem_of_getElem? (i := 90) (by decide +kernel), by decide +kernel, by decide +kernel⟩
theorem mt_142 : mtOk 142 := ⟨List.mem_of_getElem? (i := 1492) (by decide +kernel), List.mem_of_getElem? (i := 90) (by decide +kernel), by decide +kernel, by decide +kernel⟩
theorem mt_143 : mtOk 143 := ⟨List.mem_of_getElem? (i := 1456) (by decide +kernel), List.mem_of_getElem? (i := 90) (by decide +kernel), by decide +kernel, by decide +kernel⟩
theorem mt_144 : mtOk 144 := ⟨List.mem_of_getElem? (i := 1508) (by decide +kernel), List.mem_of_getElem? (i := 90) (by decide +kernel), by decide +kernel, by decide +kernel⟩
theorem mt_145 : mtOk 145 := ⟨List.mem_of_getElem? (i := 1544) (by decide +kernel), List.mem_of_getElem? (i := 90) (by decide +kernel), by decide +kernel, by decide +kernel⟩
theorem mt_146 : mtOk 146 := ⟨List.mem_of_getElem? (i := 1552) (by decide +kernel), List.mem_of_getElem? (i := 90) (by decide +kernel), by decide +kernel, by decide +kernel⟩
theorem mt_147 : mtOk 147 := ⟨List.mem_of_getElem? (i := 1413) (by decide +kernel), List.mem_of_getElem? (i := 90) (by decide +kernel), by decide +kernel, by decide +kernel⟩
theorem mt_148 : mtOk 148 := ⟨List.mem_of_getElem? (i := 1394) (by decide +kernel), List.mem_of_getElem? (i := 90) (by decide +kernel), by decide +kernel, by decide +kernel⟩
theorem mt_149 : mtOk 149 := ⟨List.mem_of_getElem? (i := 1464) (by decide +kernel), List.mem_of_getElem? (i := 90) (by decide +kernel), by decide +kernel, by decide +kernel⟩
theorem mt_150 : mtOk 150 := ⟨List.mem_of_getElem? (i := 1476) (by decide +kernel), List.mem_of_getElem? (i := 90) (by decide +kernel), by decide +kernel, by decide +kernel⟩
theorem mt_151 : mtOk 151 := ⟨List.mem_of_getElem? (i := 1448) (by decide +kernel), List.mem_of_getElem? (i := 90) (by decide +kernel), by decide +kernel, by decide +kernel⟩
theorem mt_152 : mtOk 152 := ⟨List.mem_of_getElem? (i := 1421) (by decide +kernel), List.mem_of_getElem? (i := 90) (by decide +kernel), by decide +kernel, by decide +kernel⟩
theorem mt_153 : mtOk 153 := ⟨List.mem_of_getElem? (i := 1520) (by decide +kernel), List.mem_of_getElem? (i := 90) (by decide +kernel), by decide +kernel, by decide +kernel⟩
theorem mt_154 : mtOk 154 := ⟨List.mem_of_getElem? (i := 1584) (by decide +kernel), List.mem_of_getElem? (i := 90) (by decide +kernel), by decide +kernel, by decide +kernel⟩
theorem mt_155 : mtOk 155 := ⟨List.mem_of_getElem? (i := 1524) (by decide +kernel), List.mem_of_getElem? (i := 90) (by decide +kernel), by decide +kernel, by decide +kernel⟩
theorem mt_156 : mtOk 156 := ⟨List.mem_of_getElem? (i := 1576) (by decide +kernel), List.mem_of_getElem? (i := 90) (by decide +kernel), by decide +kernel, by decide +kernel⟩
theorem mt_157 : mtOk 157 := ⟨List.mem_of_getElem? (i := 1379) (by decide +kernel), List.mem_of_getElem? (i := 90) (by decide +kernel), by decide +kernel, by decide +kernel⟩
theorem mt_158 : mtOk 158 := ⟨List.mem_of_getElem? (i := 1472) (by decide +kernel), List.mem_of_getElem? (i := 90) (by decide +kernel), by decide +kernel, by decide +kernel⟩
theorem mt_159 : mtOk 159 := ⟨List.mem_of_getElem? (i := 1444) (by decide +kernel), List.mem_of_getElem? (i := 90) (by decide +kernel), by decide +kernel, by decide +kernel⟩
theorem mt_160 : mtOk 160 := ⟨List.mem_of_getElem? (i := 1568) (by decide +kernel), List.mem_of_getElem? (i := 90) (by decide +kernel), by decide +kernel, by decide +kernel⟩
theorem mt_161 : mtOk 161 := ⟨List.mem_of_getElem? (i := 1580) (by decide +kernel), List.mem_of_getElem? (i := 90) (by decide +kernel), by decide +kernel, by decide +kernel⟩
theorem mt_162 : mtOk 162 := ⟨List.mem_of_getElem? (i := 1452) (by decide +kernel), List.mem_of_getElem? (i := 90) (by decide +kernel), by decide +kernel, by decide +kernel⟩
theorem mt_163 : mtOk 163 := ⟨List.mem_of_getElem? (i := 1536) (by decide +kernel), List.mem_of_getElem? (i := 90) (by decide +kernel), by decide +kernel, by decide +kernel⟩
theorem mt_164 : mtOk 164 := ⟨List.mem_of_getElem? (i := 1440) (by decide +kernel), List.mem_of_getElem? (i := 90) (by decide +kernel), by decide +kernel, by decide +kernel⟩
theorem mt_165 : mtOk 165 := ⟨List.mem_of_getElem? (i := 1436) (by decide +kernel), List.mem_of_getElem? (i := 90) (by decide +kernel), by decide +kernel, by decide +kernel⟩
theorem mt_166 : mtOk 166 := ⟨List.mem_of_getElem? (i := 1564) (by decide +kernel), List.mem_of_getElem? (i := 90) (by decide +kernel), by decide +kernel, by decide +kernel⟩
theorem mt_167 : mtOk 167 := ⟨List.mem_of_getElem? (i := 1398) (by decide +kernel), List.mem_of_getElem? (i := 90) (by decide +kernel), by decide +kernel, by decide +kernel⟩
theorem mt_168 : mtOk 168 := ⟨List.mem_of_getElem? (i := 1516) (by decide +kernel), List.mem_of_getElem? (i := 90) (by decide +kernel), by decide +kernel, by decide +kernel⟩
theorem mt_169 : mtOk 169 := ⟨List.mem_of_getElem? (i := 1528) (by decide +kernel), List.mem_of_getElem? (i := 90) (by decide +kernel), by decide +kernel, by decide +kernel⟩
theorem mt_170 : mtOk 170 := ⟨List.mem_of_getElem? (i := 1484) (by decide +kernel), List.mem_of_getElem? (i := 90) (by decide +kernel), by decide +kernel, by decide +kernel⟩
theorem mt_171 : mtOk 171 := ⟨List.mem_of_getElem? (i := 1460) (by decide +kernel), List.mem_of_getElem? (i := 90) (by decide +kernel), by decide +kernel, by decide +kernel⟩
theorem mt_172 : mtOk 172 := ⟨List.mem_of_getElem? (i := 1425) (by decide +kernel), List.mem_of_getElem? (i := 90) (by decide +kernel), by decide +kernel, by decide +kernel⟩
theorem mt_173 : mtOk 173 := ⟨List.mem_of_getElem? (i := 1480) (by decide +kernel), List.mem_of_getElem? (i := 90) (by decide +kernel), by decide +kernel, by decide +kernel⟩
theorem mt_174 : mtOk 174 := ⟨List.mem_of_getElem? (i := 1488) (by decide +kernel), List.mem_of_getElem? (i := 90) (by decide +kernel), by decide +kernel, by decide +kernel⟩
theorem mt_175 : mtOk 175 := ⟨List.mem_of_getElem? (i := 1556) (by decide +kernel), List.mem_of_getElem? (i := 90) (by decide +kernel), by decide +kernel, by decide +kernel⟩
theorem mt_176 : mtOk 176 := ⟨List.mem_of_getElem? (i := 1468) (by decide +kernel), List.mem_of_getElem? (i := 90) (by decide +kernel), by decide +kernel, by decide +kernel⟩
theorem mt_177 : mtOk 177 := ⟨List.mem_of_getElem? (i := 1432) (by decide +kernel), List.mem_of_getElem? (i := 90) (by decide +kernel), by decide +kernel, by decide +kernel⟩
theorem mt_178 : mtOk 178 := ⟨List.mem_of_getElem? (i := 1572) (by decide +kernel), List.mem_of_getElem? (i := 90) (by decide +kernel), by decide +kernel, by decide +kernel⟩
theorem mt_179 : mtOk 179 := ⟨List.mem_of_getElem? (i := 1371) (by decide +kernel), List.mem_of_getElem? (i := 90) (by decide +kernel), by decide +kernel, by decide +kernel⟩
theorem mt_180 : mtOk 180 := ⟨List.mem_of_getElem? (i := 1387) (by decide +kernel), List.mem_of_getElem? (i := 90) (by decide +kernel), by decide +kernel, by decide +kernel⟩
theorem mt_181 : mtOk 181 := ⟨List.mem_of_getElem? (i := 1504) (by decide +kernel), List.mem_of_getElem? (i := 90) (by decide +kernel), by decide +kernel, by decide +kernel⟩
theorem mt_182 : mtOk 182 := ⟨List.mem_of_getElem? (i := 1500) (by decide +kernel), List.mem_of_getElem? (i := 90) (by decide +kernel), by decide +kernel, by decide +kernel⟩
theorem mt_183 : mtOk 183 := ⟨List.mem_of_getElem? (i := 1402) (by decide +kernel), List.mem_of_getElem? (i := 90) (by decide +kernel), by decide +kernel, by decide +kernel⟩
theorem mt_184 : mtOk 184 := ⟨List.mem_of_getElem? (i := 1375) (by decide +kernel), List.mem_of_getElem? (i := 90) (by decide +kernel), by decide +kernel, by decide +kernel⟩
