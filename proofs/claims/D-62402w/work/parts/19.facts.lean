/-! printed by gen/blocks.py: facts of the methods -/
theorem mn_0 : (mi 0).1 = ⟨"java/lang/StringBuilder", "<init>", "(I)V"⟩ := by decide +kernel
theorem mc_0 : (mi 0).1.cls = "java/lang/StringBuilder" := by rw [mn_0]
theorem ml_0 : (mi 0).2.2.1 = 2 := by decide +kernel
theorem mr_0 : (mi 0).2.2.2.1 = none := by decide +kernel
theorem pm_0 : prm (mi 0).1 1 := by unfold prm; decide +kernel
theorem pn_0 : plainName (mi 0).1.cls = true := by rw [mc_0]; decide +kernel
theorem mn_1 : (mi 1).1 = ⟨"java/lang/AbstractStringBuilder", "<init>", "(I)V"⟩ := by decide +kernel
theorem mc_1 : (mi 1).1.cls = "java/lang/AbstractStringBuilder" := by rw [mn_1]
theorem ml_1 : (mi 1).2.2.1 = 2 := by decide +kernel
theorem mr_1 : (mi 1).2.2.2.1 = none := by decide +kernel
theorem pm_1 : prm (mi 1).1 1 := by unfold prm; decide +kernel
theorem pn_1 : plainName (mi 1).1.cls = true := by rw [mc_1]; decide +kernel
theorem mn_2 : (mi 2).1 = ⟨"java/util/ArrayList", "<init>", "(I)V"⟩ := by decide +kernel
theorem mc_2 : (mi 2).1.cls = "java/util/ArrayList" := by rw [mn_2]
theorem ml_2 : (mi 2).2.2.1 = 2 := by decide +kernel
theorem mr_2 : (mi 2).2.2.2.1 = none := by decide +kernel
theorem pm_2 : prm (mi 2).1 1 := by unfold prm; decide +kernel
theorem pn_2 : plainName (mi 2).1.cls = true := by rw [mc_2]; decide +kernel
theorem mn_3 : (mi 3).1 = ⟨"java/util/AbstractList", "<init>", "()V"⟩ := by decide +kernel
theorem mc_3 : (mi 3).1.cls = "java/util/AbstractList" := by rw [mn_3]
theorem ml_3 : (mi 3).2.2.1 = 1 := by decide +kernel
theorem mr_3 : (mi 3).2.2.2.1 = none := by decide +kernel
theorem pm_3 : prm (mi 3).1 0 := by unfold prm; decide +kernel
theorem pn_3 : plainName (mi 3).1.cls = true := by rw [mc_3]; decide +kernel
theorem mn_4 : (mi 4).1 = ⟨"java/util/AbstractCollection", "<init>", "()V"⟩ := by decide +kernel
theorem mc_4 : (mi 4).1.cls = "java/util/AbstractCollection" := by rw [mn_4]
theorem ml_4 : (mi 4).2.2.1 = 1 := by decide +kernel
theorem mr_4 : (mi 4).2.2.2.1 = none := by decide +kernel
theorem pm_4 : prm (mi 4).1 0 := by unfold prm; decide +kernel
theorem pn_4 : plainName (mi 4).1.cls = true := by rw [mc_4]; decide +kernel
theorem mn_5 : (mi 5).1 = ⟨"java/lang/AbstractStringBuilder", "ensureCapacityInternal", "(I)V"⟩ := by decide +kernel
theorem mc_5 : (mi 5).1.cls = "java/lang/AbstractStringBuilder" := by rw [mn_5]
theorem ml_5 : (mi 5).2.2.1 = 3 := by decide +kernel
theorem mr_5 : (mi 5).2.2.2.1 = none := by decide +kernel
theorem pm_5 : prm (mi 5).1 1 := by unfold prm; decide +kernel
theorem pn_5 : plainName (mi 5).1.cls = true := by rw [mc_5]; decide +kernel
theorem mn_6 : (mi 6).1 = ⟨"java/lang/AbstractStringBuilder", "newCapacity", "(I)I"⟩ := by decide +kernel
theorem mc_6 : (mi 6).1.cls = "java/lang/AbstractStringBuilder" := by rw [mn_6]
theorem ml_6 : (mi 6).2.2.1 = 6 := by decide +kernel
theorem mr_6 : (mi 6).2.2.2.1 = (some .int) := by decide +kernel
theorem pm_6 : prm (mi 6).1 1 := by unfold prm; decide +kernel
theorem pn_6 : plainName (mi 6).1.cls = true := by rw [mc_6]; decide +kernel
theorem mn_7 : (mi 7).1 = ⟨"jdk/internal/util/ArraysSupport", "newLength", "(III)I"⟩ := by decide +kernel
theorem mc_7 : (mi 7).1.cls = "jdk/internal/util/ArraysSupport" := by rw [mn_7]
theorem ml_7 : (mi 7).2.2.1 = 4 := by decide +kernel
theorem mr_7 : (mi 7).2.2.2.1 = (some .int) := by decide +kernel
theorem pm_7 : prm (mi 7).1 3 := by unfold prm; decide +kernel
theorem pn_7 : plainName (mi 7).1.cls = true := by rw [mc_7]; decide +kernel
theorem mn_8 : (mi 8).1 = ⟨"java/lang/Math", "max", "(II)I"⟩ := by decide +kernel
theorem mc_8 : (mi 8).1.cls = "java/lang/Math" := by rw [mn_8]
theorem ml_8 : (mi 8).2.2.1 = 2 := by decide +kernel
theorem mr_8 : (mi 8).2.2.2.1 = (some .int) := by decide +kernel
theorem pm_8 : prm (mi 8).1 2 := by unfold prm; decide +kernel
theorem mn_9 : (mi 9).1 = ⟨"java/util/Arrays", "copyOf", "([BI)[B"⟩ := by decide +kernel
theorem mc_9 : (mi 9).1.cls = "java/util/Arrays" := by rw [mn_9]
theorem ml_9 : (mi 9).2.2.1 = 3 := by decide +kernel
theorem mr_9 : (mi 9).2.2.2.1 = (some (.array .byte)) := by decide +kernel
theorem pm_9 : prm (mi 9).1 2 := by unfold prm; decide +kernel
theorem pn_9 : plainName (mi 9).1.cls = true := by rw [mc_9]; decide +kernel
theorem mn_10 : (mi 10).1 = ⟨"java/lang/Math", "min", "(II)I"⟩ := by decide +kernel
theorem mc_10 : (mi 10).1.cls = "java/lang/Math" := by rw [mn_10]
theorem ml_10 : (mi 10).2.2.1 = 2 := by decide +kernel
theorem mr_10 : (mi 10).2.2.2.1 = (some .int) := by decide +kernel
theorem pm_10 : prm (mi 10).1 2 := by unfold prm; decide +kernel
theorem mn_11 : (mi 11).1 = ⟨"java/lang/AbstractStringBuilder", "isLatin1", "()Z"⟩ := by decide +kernel
theorem mc_11 : (mi 11).1.cls = "java/lang/AbstractStringBuilder" := by rw [mn_11]
theorem ml_11 : (mi 11).2.2.1 = 1 := by decide +kernel
theorem mr_11 : (mi 11).2.2.2.1 = (some .boolean) := by decide +kernel
theorem pm_11 : prm (mi 11).1 0 := by unfold prm; decide +kernel
theorem pn_11 : plainName (mi 11).1.cls = true := by rw [mc_11]; decide +kernel
theorem mn_12 : (mi 12).1 = ⟨"java/lang/StringBuilder", "append", "(C)Ljava/lang/StringBuilder;"⟩ := by decide +kernel
theorem mc_12 : (mi 12).1.cls = "java/lang/StringBuilder" := by rw [mn_12]
theorem ml_12 : (mi 12).2.2.1 = 2 := by decide +kernel
theorem mr_12 : (mi 12).2.2.2.1 = (some (.object "java/lang/StringBuilder")) := by decide +kernel
theorem pm_12 : prm (mi 12).1 1 := by unfold prm; decide +kernel
theorem pn_12 : plainName (mi 12).1.cls = true := by rw [mc_12]; decide +kernel
theorem mn_13 : (mi 13).1 = ⟨"java/lang/AbstractStringBuilder", "append", "(C)Ljava/lang/AbstractStringBuilder;"⟩ := by decide +kernel
theorem mc_13 : (mi 13).1.cls = "java/lang/AbstractStringBuilder" := by rw [mn_13]
theorem ml_13 : (mi 13).2.2.1 = 2 := by decide +kernel
theorem mr_13 : (mi 13).2.2.2.1 = (some (.object "java/lang/AbstractStringBuilder")) := by decide +kernel
theorem pm_13 : prm (mi 13).1 1 := by unfold prm; decide +kernel
theorem pn_13 : plainName (mi 13).1.cls = true := by rw [mc_13]; decide +kernel
theorem mn_14 : (mi 14).1 = ⟨"java/lang/StringLatin1", "canEncode", "(C)Z"⟩ := by decide +kernel
theorem mc_14 : (mi 14).1.cls = "java/lang/StringLatin1" := by rw [mn_14]
theorem ml_14 : (mi 14).2.2.1 = 1 := by decide +kernel
theorem mr_14 : (mi 14).2.2.2.1 = (some .boolean) := by decide +kernel
theorem pm_14 : prm (mi 14).1 1 := by unfold prm; decide +kernel
theorem pn_14 : plainName (mi 14).1.cls = true := by rw [mc_14]; decide +kernel
theorem mn_15 : (mi 15).1 = ⟨"java/lang/StringBuilder", "length", "()I"⟩ := by decide +kernel
theorem mc_15 : (mi 15).1.cls = "java/lang/StringBuilder" := by rw [mn_15]
theorem ml_15 : (mi 15).2.2.1 = 1 := by decide +kernel
theorem mr_15 : (mi 15).2.2.2.1 = (some .int) := by decide +kernel
theorem pm_15 : prm (mi 15).1 0 := by unfold prm; decide +kernel
theorem pn_15 : plainName (mi 15).1.cls = true := by rw [mc_15]; decide +kernel
theorem mn_16 : (mi 16).1 = ⟨"java/lang/AbstractStringBuilder", "length", "()I"⟩ := by decide +kernel
theorem mc_16 : (mi 16).1.cls = "java/lang/AbstractStringBuilder" := by rw [mn_16]
theorem ml_16 : (mi 16).2.2.1 = 1 := by decide +kernel
theorem mr_16 : (mi 16).2.2.2.1 = (some .int) := by decide +kernel
theorem pm_16 : prm (mi 16).1 0 := by unfold prm; decide +kernel
theorem pn_16 : plainName (mi 16).1.cls = true := by rw [mc_16]; decide +kernel
theorem mn_17 : (mi 17).1 = ⟨"java/lang/StringBuilder", "setLength", "(I)V"⟩ := by decide +kernel
theorem mc_17 : (mi 17).1.cls = "java/lang/StringBuilder" := by rw [mn_17]
theorem ml_17 : (mi 17).2.2.1 = 2 := by decide +kernel
theorem mr_17 : (mi 17).2.2.2.1 = none := by decide +kernel
theorem pm_17 : prm (mi 17).1 1 := by unfold prm; decide +kernel
theorem pn_17 : plainName (mi 17).1.cls = true := by rw [mc_17]; decide +kernel
theorem mn_18 : (mi 18).1 = ⟨"java/lang/AbstractStringBuilder", "setLength", "(I)V"⟩ := by decide +kernel
theorem mc_18 : (mi 18).1.cls = "java/lang/AbstractStringBuilder" := by rw [mn_18]
theorem ml_18 : (mi 18).2.2.1 = 2 := by decide +kernel
theorem mr_18 : (mi 18).2.2.2.1 = none := by decide +kernel
theorem pm_18 : prm (mi 18).1 1 := by unfold prm; decide +kernel
theorem pn_18 : plainName (mi 18).1.cls = true := by rw [mc_18]; decide +kernel
theorem mn_19 : (mi 19).1 = ⟨"java/lang/StringBuilder", "charAt", "(I)C"⟩ := by decide +kernel
theorem mc_19 : (mi 19).1.cls = "java/lang/StringBuilder" := by rw [mn_19]
theorem ml_19 : (mi 19).2.2.1 = 2 := by decide +kernel
theorem mr_19 : (mi 19).2.2.2.1 = (some .char) := by decide +kernel
theorem pm_19 : prm (mi 19).1 1 := by unfold prm; decide +kernel
theorem pn_19 : plainName (mi 19).1.cls = true := by rw [mc_19]; decide +kernel
theorem mn_20 : (mi 20).1 = ⟨"java/lang/AbstractStringBuilder", "charAt", "(I)C"⟩ := by decide +kernel
theorem mc_20 : (mi 20).1.cls = "java/lang/AbstractStringBuilder" := by rw [mn_20]
theorem ml_20 : (mi 20).2.2.1 = 5 := by decide +kernel
theorem mr_20 : (mi 20).2.2.2.1 = (some .char) := by decide +kernel
theorem pm_20 : prm (mi 20).1 1 := by unfold prm; decide +kernel
theorem pn_20 : plainName (mi 20).1.cls = true := by rw [mc_20]; decide +kernel
theorem mn_21 : (mi 21).1 = ⟨"java/lang/String", "checkIndex", "(II)V"⟩ := by decide +kernel
theorem mc_21 : (mi 21).1.cls = "java/lang/String" := by rw [mn_21]
theorem ml_21 : (mi 21).2.2.1 = 2 := by decide +kernel
theorem mr_21 : (mi 21).2.2.2.1 = none := by decide +kernel
theorem pm_21 : prm (mi 21).1 2 := by unfold prm; decide +kernel
theorem pn_21 : plainName (mi 21).1.cls = true := by rw [mc_21]; decide +kernel
theorem mn_22 : (mi 22).1 = ⟨"jdk/internal/util/Preconditions", "checkIndex", "(IILjava/util/function/BiFunction;)I"⟩ := by decide +kernel
theorem mc_22 : (mi 22).1.cls = "jdk/internal/util/Preconditions" := by rw [mn_22]
theorem ml_22 : (mi 22).2.2.1 = 3 := by decide +kernel
theorem mr_22 : (mi 22).2.2.2.1 = (some .int) := by decide +kernel
theorem pm_22 : prm (mi 22).1 3 := by unfold prm; decide +kernel
theorem pn_22 : plainName (mi 22).1.cls = true := by rw [mc_22]; decide +kernel
theorem mn_23 : (mi 23).1 = ⟨"java/util/ArrayList", "size", "()I"⟩ := by decide +kernel
theorem mc_23 : (mi 23).1.cls = "java/util/ArrayList" := by rw [mn_23]
theorem ml_23 : (mi 23).2.2.1 = 1 := by decide +kernel
theorem mr_23 : (mi 23).2.2.2.1 = (some .int) := by decide +kernel
theorem pm_23 : prm (mi 23).1 0 := by unfold prm; decide +kernel
theorem pn_23 : plainName (mi 23).1.cls = true := by rw [mc_23]; decide +kernel
theorem mn_24 : (mi 24).1 = ⟨"java/util/ArrayList", "get", "(I)Ljava/lang/Object;"⟩ := by decide +kernel
theorem mc_24 : (mi 24).1.cls = "java/util/ArrayList" := by rw [mn_24]
theorem ml_24 : (mi 24).2.2.1 = 2 := by decide +kernel
theorem mr_24 : (mi 24).2.2.2.1 = (some (.object "java/lang/Object")) := by decide +kernel
theorem pm_24 : prm (mi 24).1 1 := by unfold prm; decide +kernel
theorem pn_24 : plainName (mi 24).1.cls = true := by rw [mc_24]; decide +kernel
theorem mn_25 : (mi 25).1 = ⟨"java/util/Objects", "checkIndex", "(II)I"⟩ := by decide +kernel
theorem mc_25 : (mi 25).1.cls = "java/util/Objects" := by rw [mn_25]
theorem ml_25 : (mi 25).2.2.1 = 2 := by decide +kernel
theorem mr_25 : (mi 25).2.2.2.1 = (some .int) := by decide +kernel
theorem pm_25 : prm (mi 25).1 2 := by unfold prm; decide +kernel
theorem pn_25 : plainName (mi 25).1.cls = true := by rw [mc_25]; decide +kernel
theorem mn_26 : (mi 26).1 = ⟨"java/util/ArrayList", "elementData", "(I)Ljava/lang/Object;"⟩ := by decide +kernel
theorem mc_26 : (mi 26).1.cls = "java/util/ArrayList" := by rw [mn_26]
theorem ml_26 : (mi 26).2.2.1 = 2 := by decide +kernel
theorem mr_26 : (mi 26).2.2.2.1 = (some (.object "java/lang/Object")) := by decide +kernel
theorem pm_26 : prm (mi 26).1 1 := by unfold prm; decide +kernel
theorem pn_26 : plainName (mi 26).1.cls = true := by rw [mc_26]; decide +kernel
theorem mn_27 : (mi 27).1 = ⟨"java/util/ArrayList", "add", "(Ljava/lang/Object;)Z"⟩ := by decide +kernel
theorem mc_27 : (mi 27).1.cls = "java/util/ArrayList" := by rw [mn_27]
theorem ml_27 : (mi 27).2.2.1 = 2 := by decide +kernel
theorem mr_27 : (mi 27).2.2.2.1 = (some .boolean) := by decide +kernel
theorem pm_27 : prm (mi 27).1 1 := by unfold prm; decide +kernel
theorem pn_27 : plainName (mi 27).1.cls = true := by rw [mc_27]; decide +kernel
theorem mn_28 : (mi 28).1 = ⟨"java/util/ArrayList", "add", "(Ljava/lang/Object;[Ljava/lang/Object;I)V"⟩ := by decide +kernel
theorem mc_28 : (mi 28).1.cls = "java/util/ArrayList" := by rw [mn_28]
theorem ml_28 : (mi 28).2.2.1 = 4 := by decide +kernel
theorem mr_28 : (mi 28).2.2.2.1 = none := by decide +kernel
theorem pm_28 : prm (mi 28).1 3 := by unfold prm; decide +kernel
theorem pn_28 : plainName (mi 28).1.cls = true := by rw [mc_28]; decide +kernel
theorem mn_29 : (mi 29).1 = ⟨"java/lang/String", "length", "()I"⟩ := by decide +kernel
theorem mc_29 : (mi 29).1.cls = "java/lang/String" := by rw [mn_29]
theorem ml_29 : (mi 29).2.2.1 = 1 := by decide +kernel
theorem mr_29 : (mi 29).2.2.2.1 = (some .int) := by decide +kernel
theorem pm_29 : prm (mi 29).1 0 := by unfold prm; decide +kernel
theorem pn_29 : plainName (mi 29).1.cls = true := by rw [mc_29]; decide +kernel
theorem mn_30 : (mi 30).1 = ⟨"java/lang/String", "coder", "()B"⟩ := by decide +kernel
theorem mc_30 : (mi 30).1.cls = "java/lang/String" := by rw [mn_30]
theorem ml_30 : (mi 30).2.2.1 = 1 := by decide +kernel
theorem mr_30 : (mi 30).2.2.2.1 = (some .byte) := by decide +kernel
theorem pm_30 : prm (mi 30).1 0 := by unfold prm; decide +kernel
theorem pn_30 : plainName (mi 30).1.cls = true := by rw [mc_30]; decide +kernel
theorem mn_31 : (mi 31).1 = ⟨"java/lang/String", "charAt", "(I)C"⟩ := by decide +kernel
theorem mc_31 : (mi 31).1.cls = "java/lang/String" := by rw [mn_31]
theorem ml_31 : (mi 31).2.2.1 = 2 := by decide +kernel
theorem mr_31 : (mi 31).2.2.2.1 = (some .char) := by decide +kernel
theorem pm_31 : prm (mi 31).1 1 := by unfold prm; decide +kernel
theorem pn_31 : plainName (mi 31).1.cls = true := by rw [mc_31]; decide +kernel
theorem mn_32 : (mi 32).1 = ⟨"java/lang/String", "isLatin1", "()Z"⟩ := by decide +kernel
theorem mc_32 : (mi 32).1.cls = "java/lang/String" := by rw [mn_32]
theorem ml_32 : (mi 32).2.2.1 = 1 := by decide +kernel
theorem mr_32 : (mi 32).2.2.2.1 = (some .boolean) := by decide +kernel
theorem pm_32 : prm (mi 32).1 0 := by unfold prm; decide +kernel
theorem pn_32 : plainName (mi 32).1.cls = true := by rw [mc_32]; decide +kernel
theorem mn_33 : (mi 33).1 = ⟨"java/lang/StringLatin1", "charAt", "([BI)C"⟩ := by decide +kernel
theorem mc_33 : (mi 33).1.cls = "java/lang/StringLatin1" := by rw [mn_33]
theorem ml_33 : (mi 33).2.2.1 = 2 := by decide +kernel
theorem mr_33 : (mi 33).2.2.2.1 = (some .char) := by decide +kernel
theorem pm_33 : prm (mi 33).1 2 := by unfold prm; decide +kernel
theorem pn_33 : plainName (mi 33).1.cls = true := by rw [mc_33]; decide +kernel
theorem mn_34 : (mi 34).1 = ⟨"ContractDesk", "<init>", "()V"⟩ := by decide +kernel
theorem mc_34 : (mi 34).1.cls = "ContractDesk" := by rw [mn_34]
theorem ml_34 : (mi 34).2.2.1 = 1 := by decide +kernel
theorem mr_34 : (mi 34).2.2.2.1 = none := by decide +kernel
theorem pm_34 : prm (mi 34).1 0 := by unfold prm; decide +kernel
theorem pn_34 : plainName (mi 34).1.cls = true := by rw [mc_34]; decide +kernel
theorem mn_35 : (mi 35).1 = ⟨"ContractDesk", "body", "(I)I"⟩ := by decide +kernel
theorem mc_35 : (mi 35).1.cls = "ContractDesk" := by rw [mn_35]
theorem ml_35 : (mi 35).2.2.1 = 4 := by decide +kernel
theorem mr_35 : (mi 35).2.2.2.1 = (some .int) := by decide +kernel
theorem pm_35 : prm (mi 35).1 1 := by unfold prm; decide +kernel
theorem pn_35 : plainName (mi 35).1.cls = true := by rw [mc_35]; decide +kernel
theorem mn_36 : (mi 36).1 = ⟨"ContractDesk", "cleanUp", "(LContractDesk$Interaction;I)V"⟩ := by decide +kernel
theorem mc_36 : (mi 36).1.cls = "ContractDesk" := by rw [mn_36]
theorem ml_36 : (mi 36).2.2.1 = 5 := by decide +kernel
theorem mr_36 : (mi 36).2.2.2.1 = none := by decide +kernel
theorem pm_36 : prm (mi 36).1 2 := by unfold prm; decide +kernel
theorem pn_36 : plainName (mi 36).1.cls = true := by rw [mc_36]; decide +kernel
theorem mh_36 : (mi 36).2.2.2.2 = [(8, 18, 21, 58)] := by decide +kernel
theorem mn_37 : (mi 37).1 = ⟨"ContractDesk", "compare", "(LContractDesk$Interaction;LContractDesk$Value;LContractDesk$Value;I)V"⟩ := by decide +kernel
theorem mc_37 : (mi 37).1.cls = "ContractDesk" := by rw [mn_37]
theorem ml_37 : (mi 37).2.2.1 = 10 := by decide +kernel
theorem mr_37 : (mi 37).2.2.2.1 = none := by decide +kernel
theorem pm_37 : prm (mi 37).1 4 := by unfold prm; decide +kernel
theorem pn_37 : plainName (mi 37).1.cls = true := by rw [mc_37]; decide +kernel
theorem mn_38 : (mi 38).1 = ⟨"ContractDesk", "elements", "(LContractDesk$Interaction;LContractDesk$Group;LContractDesk$Group;ZI)V"⟩ := by decide +kernel
theorem mc_38 : (mi 38).1.cls = "ContractDesk" := by rw [mn_38]
theorem ml_38 : (mi 38).2.2.1 = 9 := by decide +kernel
theorem mr_38 : (mi 38).2.2.2.1 = none := by decide +kernel
theorem pm_38 : prm (mi 38).1 5 := by unfold prm; decide +kernel
theorem pn_38 : plainName (mi 38).1.cls = true := by rw [mc_38]; decide +kernel
theorem mn_39 : (mi 39).1 = ⟨"ContractDesk", "event", "(I)I"⟩ := by decide +kernel
theorem mc_39 : (mi 39).1.cls = "ContractDesk" := by rw [mn_39]
theorem ml_39 : (mi 39).2.2.1 = 2 := by decide +kernel
theorem mr_39 : (mi 39).2.2.2.1 = (some .int) := by decide +kernel
theorem pm_39 : prm (mi 39).1 1 := by unfold prm; decide +kernel
theorem pn_39 : plainName (mi 39).1.cls = true := by rw [mc_39]; decide +kernel
theorem mn_40 : (mi 40).1 = ⟨"ContractDesk", "get", "(I)LContractDesk$Interaction;"⟩ := by decide +kernel
theorem mc_40 : (mi 40).1.cls = "ContractDesk" := by rw [mn_40]
theorem ml_40 : (mi 40).2.2.1 = 2 := by decide +kernel
theorem mr_40 : (mi 40).2.2.2.1 = (some (.object "ContractDesk$Interaction")) := by decide +kernel
theorem pm_40 : prm (mi 40).1 1 := by unfold prm; decide +kernel
theorem pn_40 : plainName (mi 40).1.cls = true := by rw [mc_40]; decide +kernel
theorem mn_41 : (mi 41).1 = ⟨"ContractDesk", "handler", "(II)Z"⟩ := by decide +kernel
theorem mc_41 : (mi 41).1.cls = "ContractDesk" := by rw [mn_41]
theorem ml_41 : (mi 41).2.2.1 = 3 := by decide +kernel
theorem mr_41 : (mi 41).2.2.2.1 = (some .boolean) := by decide +kernel
theorem pm_41 : prm (mi 41).1 2 := by unfold prm; decide +kernel
theorem pn_41 : plainName (mi 41).1.cls = true := by rw [mc_41]; decide +kernel
theorem mn_42 : (mi 42).1 = ⟨"ContractDesk", "isThere", "(I)Z"⟩ := by decide +kernel
theorem mc_42 : (mi 42).1.cls = "ContractDesk" := by rw [mn_42]
theorem ml_42 : (mi 42).2.2.1 = 2 := by decide +kernel
theorem mr_42 : (mi 42).2.2.2.1 = (some .boolean) := by decide +kernel
theorem pm_42 : prm (mi 42).1 1 := by unfold prm; decide +kernel
theorem pn_42 : plainName (mi 42).1.cls = true := by rw [mc_42]; decide +kernel
theorem mn_43 : (mi 43).1 = ⟨"ContractDesk", "letter", "(II)I"⟩ := by decide +kernel
theorem mc_43 : (mi 43).1.cls = "ContractDesk" := by rw [mn_43]
theorem ml_43 : (mi 43).2.2.1 = 4 := by decide +kernel
theorem mr_43 : (mi 43).2.2.2.1 = (some .int) := by decide +kernel
theorem pm_43 : prm (mi 43).1 2 := by unfold prm; decide +kernel
theorem pn_43 : plainName (mi 43).1.cls = true := by rw [mc_43]; decide +kernel
theorem mn_44 : (mi 44).1 = ⟨"ContractDesk", "list", "(II)V"⟩ := by decide +kernel
theorem mc_44 : (mi 44).1.cls = "ContractDesk" := by rw [mn_44]
theorem ml_44 : (mi 44).2.2.1 = 5 := by decide +kernel
theorem mr_44 : (mi 44).2.2.2.1 = none := by decide +kernel
theorem pm_44 : prm (mi 44).1 2 := by unfold prm; decide +kernel
theorem pn_44 : plainName (mi 44).1.cls = true := by rw [mc_44]; decide +kernel
theorem mn_45 : (mi 45).1 = ⟨"ContractDesk", "listed", "()I"⟩ := by decide +kernel
theorem mc_45 : (mi 45).1.cls = "ContractDesk" := by rw [mn_45]
theorem ml_45 : (mi 45).2.2.1 = 1 := by decide +kernel
theorem mr_45 : (mi 45).2.2.2.1 = (some .int) := by decide +kernel
theorem pm_45 : prm (mi 45).1 0 := by unfold prm; decide +kernel
theorem pn_45 : plainName (mi 45).1.cls = true := by rw [mc_45]; decide +kernel
theorem mn_46 : (mi 46).1 = ⟨"ContractDesk", "make", "(Z)I"⟩ := by decide +kernel
theorem mc_46 : (mi 46).1.cls = "ContractDesk" := by rw [mn_46]
theorem ml_46 : (mi 46).2.2.1 = 2 := by decide +kernel
theorem mr_46 : (mi 46).2.2.2.1 = (some .int) := by decide +kernel
theorem pm_46 : prm (mi 46).1 1 := by unfold prm; decide +kernel
theorem pn_46 : plainName (mi 46).1.cls = true := by rw [mc_46]; decide +kernel
theorem mn_47 : (mi 47).1 = ⟨"ContractDesk", "members", "(LContractDesk$Interaction;LContractDesk$Group;LContractDesk$Group;I)V"⟩ := by decide +kernel
theorem mc_47 : (mi 47).1.cls = "ContractDesk" := by rw [mn_47]
theorem ml_47 : (mi 47).2.2.1 = 7 := by decide +kernel
theorem mr_47 : (mi 47).2.2.2.1 = none := by decide +kernel
theorem pm_47 : prm (mi 47).1 4 := by unfold prm; decide +kernel
theorem pn_47 : plainName (mi 47).1.cls = true := by rw [mc_47]; decide +kernel
theorem mn_48 : (mi 48).1 = ⟨"ContractDesk", "mismatch", "(I)I"⟩ := by decide +kernel
theorem mc_48 : (mi 48).1.cls = "ContractDesk" := by rw [mn_48]
theorem ml_48 : (mi 48).2.2.1 = 2 := by decide +kernel
theorem mr_48 : (mi 48).2.2.2.1 = (some .int) := by decide +kernel
theorem pm_48 : prm (mi 48).1 1 := by unfold prm; decide +kernel
theorem pn_48 : plainName (mi 48).1.cls = true := by rw [mc_48]; decide +kernel
theorem mn_49 : (mi 49).1 = ⟨"ContractDesk", "needs", "(II)Z"⟩ := by decide +kernel
theorem mc_49 : (mi 49).1.cls = "ContractDesk" := by rw [mn_49]
theorem ml_49 : (mi 49).2.2.1 = 5 := by decide +kernel
theorem mr_49 : (mi 49).2.2.2.1 = (some .boolean) := by decide +kernel
theorem pm_49 : prm (mi 49).1 2 := by unfold prm; decide +kernel
theorem pn_49 : plainName (mi 49).1.cls = true := by rw [mc_49]; decide +kernel
theorem mn_50 : (mi 50).1 = ⟨"ContractDesk", "note", "(I)V"⟩ := by decide +kernel
theorem mc_50 : (mi 50).1.cls = "ContractDesk" := by rw [mn_50]
theorem ml_50 : (mi 50).2.2.1 = 3 := by decide +kernel
theorem mr_50 : (mi 50).2.2.2.1 = none := by decide +kernel
theorem pm_50 : prm (mi 50).1 1 := by unfold prm; decide +kernel
theorem pn_50 : plainName (mi 50).1.cls = true := by rw [mc_50]; decide +kernel
theorem mn_51 : (mi 51).1 = ⟨"ContractDesk", "prepare", "(LContractDesk$Interaction;)Z"⟩ := by decide +kernel
theorem mc_51 : (mi 51).1.cls = "ContractDesk" := by rw [mn_51]
theorem ml_51 : (mi 51).2.2.1 = 4 := by decide +kernel
theorem mr_51 : (mi 51).2.2.2.1 = (some .boolean) := by decide +kernel
theorem pm_51 : prm (mi 51).1 1 := by unfold prm; decide +kernel
theorem pn_51 : plainName (mi 51).1.cls = true := by rw [mc_51]; decide +kernel
theorem mh_51 : (mi 51).2.2.2.2 = [(2, 27, 28, 58), (2, 27, 47, 74)] := by decide +kernel
theorem mn_52 : (mi 52).1 = ⟨"ContractDesk", "rule", "(I)I"⟩ := by decide +kernel
theorem mc_52 : (mi 52).1.cls = "ContractDesk" := by rw [mn_52]
theorem ml_52 : (mi 52).2.2.1 = 4 := by decide +kernel
theorem mr_52 : (mi 52).2.2.2.1 = (some .int) := by decide +kernel
theorem pm_52 : prm (mi 52).1 1 := by unfold prm; decide +kernel
theorem pn_52 : plainName (mi 52).1.cls = true := by rw [mc_52]; decide +kernel
theorem mn_53 : (mi 53).1 = ⟨"ContractDesk", "select", "(I)I"⟩ := by decide +kernel
theorem mc_53 : (mi 53).1.cls = "ContractDesk" := by rw [mn_53]
theorem ml_53 : (mi 53).2.2.1 = 3 := by decide +kernel
theorem mr_53 : (mi 53).2.2.2.1 = (some .int) := by decide +kernel
theorem pm_53 : prm (mi 53).1 1 := by unfold prm; decide +kernel
theorem pn_53 : plainName (mi 53).1.cls = true := by rw [mc_53]; decide +kernel
theorem mh_53 : (mi 53).2.2.2.2 = [(21, 52, 53, 74)] := by decide +kernel
theorem mn_54 : (mi 54).1 = ⟨"ContractDesk", "setUp", "(I)V"⟩ := by decide +kernel
theorem mc_54 : (mi 54).1.cls = "ContractDesk" := by rw [mn_54]
theorem ml_54 : (mi 54).2.2.1 = 2 := by decide +kernel
theorem mr_54 : (mi 54).2.2.2.1 = none := by decide +kernel
theorem pm_54 : prm (mi 54).1 1 := by unfold prm; decide +kernel
theorem pn_54 : plainName (mi 54).1.cls = true := by rw [mc_54]; decide +kernel
theorem mn_55 : (mi 55).1 = ⟨"ContractDesk", "show", "(ILjava/lang/StringBuilder;)V"⟩ := by decide +kernel
theorem mc_55 : (mi 55).1.cls = "ContractDesk" := by rw [mn_55]
theorem ml_55 : (mi 55).2.2.1 = 3 := by decide +kernel
theorem mr_55 : (mi 55).2.2.2.1 = none := by decide +kernel
theorem pm_55 : prm (mi 55).1 2 := by unfold prm; decide +kernel
theorem pn_55 : plainName (mi 55).1.cls = true := by rw [mc_55]; decide +kernel
theorem mn_56 : (mi 56).1 = ⟨"ContractDesk", "tearDown", "(I)V"⟩ := by decide +kernel
theorem mc_56 : (mi 56).1.cls = "ContractDesk" := by rw [mn_56]
theorem ml_56 : (mi 56).2.2.1 = 2 := by decide +kernel
theorem mr_56 : (mi 56).2.2.2.1 = none := by decide +kernel
theorem pm_56 : prm (mi 56).1 1 := by unfold prm; decide +kernel
theorem pn_56 : plainName (mi 56).1.cls = true := by rw [mc_56]; decide +kernel
theorem mn_57 : (mi 57).1 = ⟨"ContractDesk", "verify", "(I)I"⟩ := by decide +kernel
theorem mc_57 : (mi 57).1.cls = "ContractDesk" := by rw [mn_57]
theorem ml_57 : (mi 57).2.2.1 = 4 := by decide +kernel
theorem mr_57 : (mi 57).2.2.2.1 = (some .int) := by decide +kernel
theorem pm_57 : prm (mi 57).1 1 := by unfold prm; decide +kernel
theorem pn_57 : plainName (mi 57).1.cls = true := by rw [mc_57]; decide +kernel
theorem mn_58 : (mi 58).1 = ⟨"ContractDesk", "write", "(J)Z"⟩ := by decide +kernel
theorem mc_58 : (mi 58).1.cls = "ContractDesk" := by rw [mn_58]
theorem ml_58 : (mi 58).2.2.1 = 6 := by decide +kernel
theorem mr_58 : (mi 58).2.2.2.1 = (some .boolean) := by decide +kernel
theorem pm_58 : prm (mi 58).1 1 := by unfold prm; decide +kernel
theorem pn_58 : plainName (mi 58).1.cls = true := by rw [mc_58]; decide +kernel
theorem mn_59 : (mi 59).1 = ⟨"ContractDesk$Bound", "<init>", "(ZI)V"⟩ := by decide +kernel
theorem mc_59 : (mi 59).1.cls = "ContractDesk$Bound" := by rw [mn_59]
theorem ml_59 : (mi 59).2.2.1 = 3 := by decide +kernel
theorem mr_59 : (mi 59).2.2.2.1 = none := by decide +kernel
theorem pm_59 : prm (mi 59).1 2 := by unfold prm; decide +kernel
theorem pn_59 : plainName (mi 59).1.cls = true := by rw [mc_59]; decide +kernel
theorem mn_60 : (mi 60).1 = ⟨"ContractDesk$Bound", "holds", "(LContractDesk$Value;LContractDesk$Value;)Z"⟩ := by decide +kernel
theorem mc_60 : (mi 60).1.cls = "ContractDesk$Bound" := by rw [mn_60]
theorem ml_60 : (mi 60).2.2.1 = 4 := by decide +kernel
theorem mr_60 : (mi 60).2.2.2.1 = (some .boolean) := by decide +kernel
theorem pm_60 : prm (mi 60).1 2 := by unfold prm; decide +kernel
theorem pn_60 : plainName (mi 60).1.cls = true := by rw [mc_60]; decide +kernel
theorem mn_61 : (mi 61).1 = ⟨"ContractDesk$Bound", "isLoose", "()Z"⟩ := by decide +kernel
theorem mc_61 : (mi 61).1.cls = "ContractDesk$Bound" := by rw [mn_61]
theorem ml_61 : (mi 61).2.2.1 = 1 := by decide +kernel
theorem mr_61 : (mi 61).2.2.2.1 = (some .boolean) := by decide +kernel
theorem pm_61 : prm (mi 61).1 0 := by unfold prm; decide +kernel
theorem pn_61 : plainName (mi 61).1.cls = true := by rw [mc_61]; decide +kernel
theorem mn_62 : (mi 62).1 = ⟨"ContractDesk$Group", "<init>", "(LContractDesk$Kind;)V"⟩ := by decide +kernel
theorem mc_62 : (mi 62).1.cls = "ContractDesk$Group" := by rw [mn_62]
theorem ml_62 : (mi 62).2.2.1 = 2 := by decide +kernel
theorem mr_62 : (mi 62).2.2.2.1 = none := by decide +kernel
theorem pm_62 : prm (mi 62).1 1 := by unfold prm; decide +kernel
theorem pn_62 : plainName (mi 62).1.cls = true := by rw [mc_62]; decide +kernel
theorem mn_63 : (mi 63).1 = ⟨"ContractDesk$Group", "add", "(LContractDesk$Member;)V"⟩ := by decide +kernel
theorem mc_63 : (mi 63).1.cls = "ContractDesk$Group" := by rw [mn_63]
theorem ml_63 : (mi 63).2.2.1 = 2 := by decide +kernel
theorem mr_63 : (mi 63).2.2.2.1 = none := by decide +kernel
theorem pm_63 : prm (mi 63).1 1 := by unfold prm; decide +kernel
theorem pn_63 : plainName (mi 63).1.cls = true := by rw [mc_63]; decide +kernel
theorem mn_64 : (mi 64).1 = ⟨"ContractDesk$Group", "count", "()I"⟩ := by decide +kernel
theorem mc_64 : (mi 64).1.cls = "ContractDesk$Group" := by rw [mn_64]
theorem ml_64 : (mi 64).2.2.1 = 3 := by decide +kernel
theorem mr_64 : (mi 64).2.2.2.1 = (some .int) := by decide +kernel
theorem pm_64 : prm (mi 64).1 0 := by unfold prm; decide +kernel
theorem pn_64 : plainName (mi 64).1.cls = true := by rw [mc_64]; decide +kernel
theorem mn_65 : (mi 65).1 = ⟨"ContractDesk$Group", "find", "(C)LContractDesk$Value;"⟩ := by decide +kernel
theorem mc_65 : (mi 65).1.cls = "ContractDesk$Group" := by rw [mn_65]
theorem ml_65 : (mi 65).2.2.1 = 3 := by decide +kernel
theorem mr_65 : (mi 65).2.2.2.1 = (some (.object "ContractDesk$Value")) := by decide +kernel
theorem pm_65 : prm (mi 65).1 1 := by unfold prm; decide +kernel
theorem pn_65 : plainName (mi 65).1.cls = true := by rw [mc_65]; decide +kernel
theorem mn_66 : (mi 66).1 = ⟨"ContractDesk$Group", "kind", "()LContractDesk$Kind;"⟩ := by decide +kernel
theorem mc_66 : (mi 66).1.cls = "ContractDesk$Group" := by rw [mn_66]
theorem ml_66 : (mi 66).2.2.1 = 1 := by decide +kernel
theorem mr_66 : (mi 66).2.2.2.1 = (some (.object "ContractDesk$Kind")) := by decide +kernel
theorem pm_66 : prm (mi 66).1 0 := by unfold prm; decide +kernel
theorem pn_66 : plainName (mi 66).1.cls = true := by rw [mc_66]; decide +kernel
theorem mn_67 : (mi 67).1 = ⟨"ContractDesk$Group", "same", "(LContractDesk$Value;)Z"⟩ := by decide +kernel
theorem mc_67 : (mi 67).1.cls = "ContractDesk$Group" := by rw [mn_67]
theorem ml_67 : (mi 67).2.2.1 = 6 := by decide +kernel
theorem mr_67 : (mi 67).2.2.2.1 = (some .boolean) := by decide +kernel
theorem pm_67 : prm (mi 67).1 1 := by unfold prm; decide +kernel
theorem pn_67 : plainName (mi 67).1.cls = true := by rw [mc_67]; decide +kernel
theorem mn_68 : (mi 68).1 = ⟨"ContractDesk$Inside", "<init>", "()V"⟩ := by decide +kernel
theorem mc_68 : (mi 68).1.cls = "ContractDesk$Inside" := by rw [mn_68]
theorem ml_68 : (mi 68).2.2.1 = 1 := by decide +kernel
theorem mr_68 : (mi 68).2.2.2.1 = none := by decide +kernel
theorem pm_68 : prm (mi 68).1 0 := by unfold prm; decide +kernel
theorem pn_68 : plainName (mi 68).1.cls = true := by rw [mc_68]; decide +kernel
theorem mn_69 : (mi 69).1 = ⟨"ContractDesk$Inside", "holds", "(LContractDesk$Value;LContractDesk$Value;)Z"⟩ := by decide +kernel
theorem mc_69 : (mi 69).1.cls = "ContractDesk$Inside" := by rw [mn_69]
theorem ml_69 : (mi 69).2.2.1 = 5 := by decide +kernel
theorem mr_69 : (mi 69).2.2.2.1 = (some .boolean) := by decide +kernel
theorem pm_69 : prm (mi 69).1 2 := by unfold prm; decide +kernel
theorem pn_69 : plainName (mi 69).1.cls = true := by rw [mc_69]; decide +kernel
theorem mn_70 : (mi 70).1 = ⟨"ContractDesk$Interaction", "<init>", "(Z)V"⟩ := by decide +kernel
theorem mc_70 : (mi 70).1.cls = "ContractDesk$Interaction" := by rw [mn_70]
theorem ml_70 : (mi 70).2.2.1 = 2 := by decide +kernel
theorem mr_70 : (mi 70).2.2.2.1 = none := by decide +kernel
theorem pm_70 : prm (mi 70).1 1 := by unfold prm; decide +kernel
theorem pn_70 : plainName (mi 70).1.cls = true := by rw [mc_70]; decide +kernel
theorem mn_71 : (mi 71).1 = ⟨"ContractDesk$Interaction", "select", "([II)I"⟩ := by decide +kernel
theorem mc_71 : (mi 71).1.cls = "ContractDesk$Interaction" := by rw [mn_71]
theorem ml_71 : (mi 71).2.2.1 = 6 := by decide +kernel
theorem mr_71 : (mi 71).2.2.2.1 = (some .int) := by decide +kernel
theorem pm_71 : prm (mi 71).1 2 := by unfold prm; decide +kernel
theorem pn_71 : plainName (mi 71).1.cls = true := by rw [mc_71]; decide +kernel
theorem mn_72 : (mi 72).1 = ⟨"ContractDesk$Matcher", "<init>", "()V"⟩ := by decide +kernel
theorem mc_72 : (mi 72).1.cls = "ContractDesk$Matcher" := by rw [mn_72]
theorem ml_72 : (mi 72).2.2.1 = 1 := by decide +kernel
theorem mr_72 : (mi 72).2.2.2.1 = none := by decide +kernel
theorem pm_72 : prm (mi 72).1 0 := by unfold prm; decide +kernel
theorem pn_72 : plainName (mi 72).1.cls = true := by rw [mc_72]; decide +kernel
theorem mn_73 : (mi 73).1 = ⟨"ContractDesk$Matcher", "isLoose", "()Z"⟩ := by decide +kernel
theorem mc_73 : (mi 73).1.cls = "ContractDesk$Matcher" := by rw [mn_73]
theorem ml_73 : (mi 73).2.2.1 = 1 := by decide +kernel
theorem mr_73 : (mi 73).2.2.2.1 = (some .boolean) := by decide +kernel
theorem pm_73 : prm (mi 73).1 0 := by unfold prm; decide +kernel
theorem pn_73 : plainName (mi 73).1.cls = true := by rw [mc_73]; decide +kernel
theorem mn_74 : (mi 74).1 = ⟨"ContractDesk$Member", "<init>", "(CLContractDesk$Value;)V"⟩ := by decide +kernel
theorem mc_74 : (mi 74).1.cls = "ContractDesk$Member" := by rw [mn_74]
theorem ml_74 : (mi 74).2.2.1 = 3 := by decide +kernel
theorem mr_74 : (mi 74).2.2.2.1 = none := by decide +kernel
theorem pm_74 : prm (mi 74).1 2 := by unfold prm; decide +kernel
theorem pn_74 : plainName (mi 74).1.cls = true := by rw [mc_74]; decide +kernel
theorem mn_75 : (mi 75).1 = ⟨"ContractDesk$Mismatch", "<init>", "()V"⟩ := by decide +kernel
theorem mc_75 : (mi 75).1.cls = "ContractDesk$Mismatch" := by rw [mn_75]
theorem ml_75 : (mi 75).2.2.1 = 1 := by decide +kernel
theorem mr_75 : (mi 75).2.2.2.1 = none := by decide +kernel
theorem pm_75 : prm (mi 75).1 0 := by unfold prm; decide +kernel
theorem pn_75 : plainName (mi 75).1.cls = true := by rw [mc_75]; decide +kernel
theorem mn_76 : (mi 76).1 = ⟨"ContractDesk$Plain", "<init>", "(LContractDesk$Kind;I)V"⟩ := by decide +kernel
theorem mc_76 : (mi 76).1.cls = "ContractDesk$Plain" := by rw [mn_76]
theorem ml_76 : (mi 76).2.2.1 = 3 := by decide +kernel
theorem mr_76 : (mi 76).2.2.2.1 = none := by decide +kernel
theorem pm_76 : prm (mi 76).1 2 := by unfold prm; decide +kernel
theorem pn_76 : plainName (mi 76).1.cls = true := by rw [mc_76]; decide +kernel
theorem mn_77 : (mi 77).1 = ⟨"ContractDesk$Plain", "kind", "()LContractDesk$Kind;"⟩ := by decide +kernel
theorem mc_77 : (mi 77).1.cls = "ContractDesk$Plain" := by rw [mn_77]
theorem ml_77 : (mi 77).2.2.1 = 1 := by decide +kernel
theorem mr_77 : (mi 77).2.2.2.1 = (some (.object "ContractDesk$Kind")) := by decide +kernel
theorem pm_77 : prm (mi 77).1 0 := by unfold prm; decide +kernel
theorem pn_77 : plainName (mi 77).1.cls = true := by rw [mc_77]; decide +kernel
theorem mn_78 : (mi 78).1 = ⟨"ContractDesk$Plain", "same", "(LContractDesk$Value;)Z"⟩ := by decide +kernel
theorem mc_78 : (mi 78).1.cls = "ContractDesk$Plain" := by rw [mn_78]
theorem ml_78 : (mi 78).2.2.1 = 2 := by decide +kernel
theorem mr_78 : (mi 78).2.2.2.1 = (some .boolean) := by decide +kernel
theorem pm_78 : prm (mi 78).1 1 := by unfold prm; decide +kernel
theorem pn_78 : plainName (mi 78).1.cls = true := by rw [mc_78]; decide +kernel
theorem mn_79 : (mi 79).1 = ⟨"ContractDesk$Reader", "<init>", "()V"⟩ := by decide +kernel
theorem mc_79 : (mi 79).1.cls = "ContractDesk$Reader" := by rw [mn_79]
theorem ml_79 : (mi 79).2.2.1 = 1 := by decide +kernel
theorem mr_79 : (mi 79).2.2.2.1 = none := by decide +kernel
theorem pm_79 : prm (mi 79).1 0 := by unfold prm; decide +kernel
theorem pn_79 : plainName (mi 79).1.cls = true := by rw [mc_79]; decide +kernel
theorem mn_80 : (mi 80).1 = ⟨"ContractDesk$Reader", "digit", "()I"⟩ := by decide +kernel
theorem mc_80 : (mi 80).1.cls = "ContractDesk$Reader" := by rw [mn_80]
theorem ml_80 : (mi 80).2.2.1 = 1 := by decide +kernel
theorem mr_80 : (mi 80).2.2.2.1 = (some .int) := by decide +kernel
theorem pm_80 : prm (mi 80).1 0 := by unfold prm; decide +kernel
theorem pn_80 : plainName (mi 80).1.cls = true := by rw [mc_80]; decide +kernel
theorem mn_81 : (mi 81).1 = ⟨"ContractDesk$Reader", "element", "()I"⟩ := by decide +kernel
theorem mc_81 : (mi 81).1.cls = "ContractDesk$Reader" := by rw [mn_81]
theorem ml_81 : (mi 81).2.2.1 = 2 := by decide +kernel
theorem mr_81 : (mi 81).2.2.2.1 = (some .int) := by decide +kernel
theorem pm_81 : prm (mi 81).1 0 := by unfold prm; decide +kernel
theorem pn_81 : plainName (mi 81).1.cls = true := by rw [mc_81]; decide +kernel
theorem mn_82 : (mi 82).1 = ⟨"ContractDesk$Reader", "end", "()V"⟩ := by decide +kernel
theorem mc_82 : (mi 82).1.cls = "ContractDesk$Reader" := by rw [mn_82]
theorem ml_82 : (mi 82).2.2.1 = 1 := by decide +kernel
theorem mr_82 : (mi 82).2.2.2.1 = none := by decide +kernel
theorem pm_82 : prm (mi 82).1 0 := by unfold prm; decide +kernel
theorem pn_82 : plainName (mi 82).1.cls = true := by rw [mc_82]; decide +kernel
theorem mn_83 : (mi 83).1 = ⟨"ContractDesk$Reader", "expect", "(C)V"⟩ := by decide +kernel
theorem mc_83 : (mi 83).1.cls = "ContractDesk$Reader" := by rw [mn_83]
theorem ml_83 : (mi 83).2.2.1 = 2 := by decide +kernel
theorem mr_83 : (mi 83).2.2.2.1 = none := by decide +kernel
theorem pm_83 : prm (mi 83).1 1 := by unfold prm; decide +kernel
theorem pn_83 : plainName (mi 83).1.cls = true := by rw [mc_83]; decide +kernel
theorem mn_84 : (mi 84).1 = ⟨"ContractDesk$Reader", "group", "(CI)LContractDesk$Value;"⟩ := by decide +kernel
theorem mc_84 : (mi 84).1.cls = "ContractDesk$Reader" := by rw [mn_84]
theorem ml_84 : (mi 84).2.2.1 = 7 := by decide +kernel
theorem mr_84 : (mi 84).2.2.2.1 = (some (.object "ContractDesk$Value")) := by decide +kernel
theorem pm_84 : prm (mi 84).1 2 := by unfold prm; decide +kernel
theorem pn_84 : plainName (mi 84).1.cls = true := by rw [mc_84]; decide +kernel
theorem mn_85 : (mi 85).1 = ⟨"ContractDesk$Reader", "here", "()C"⟩ := by decide +kernel
theorem mc_85 : (mi 85).1.cls = "ContractDesk$Reader" := by rw [mn_85]
theorem ml_85 : (mi 85).2.2.1 = 1 := by decide +kernel
theorem mr_85 : (mi 85).2.2.2.1 = (some .char) := by decide +kernel
theorem pm_85 : prm (mi 85).1 0 := by unfold prm; decide +kernel
theorem pn_85 : plainName (mi 85).1.cls = true := by rw [mc_85]; decide +kernel
theorem mn_86 : (mi 86).1 = ⟨"ContractDesk$Reader", "inside", "()LContractDesk$Matcher;"⟩ := by decide +kernel
theorem mc_86 : (mi 86).1.cls = "ContractDesk$Reader" := by rw [mn_86]
theorem ml_86 : (mi 86).2.2.1 = 2 := by decide +kernel
theorem mr_86 : (mi 86).2.2.2.1 = (some (.object "ContractDesk$Matcher")) := by decide +kernel
theorem pm_86 : prm (mi 86).1 0 := by unfold prm; decide +kernel
theorem pn_86 : plainName (mi 86).1.cls = true := by rw [mc_86]; decide +kernel
theorem mn_87 : (mi 87).1 = ⟨"ContractDesk$Reader", "isDigit", "()Z"⟩ := by decide +kernel
theorem mc_87 : (mi 87).1.cls = "ContractDesk$Reader" := by rw [mn_87]
theorem ml_87 : (mi 87).2.2.1 = 1 := by decide +kernel
theorem mr_87 : (mi 87).2.2.2.1 = (some .boolean) := by decide +kernel
theorem pm_87 : prm (mi 87).1 0 := by unfold prm; decide +kernel
theorem pn_87 : plainName (mi 87).1.cls = true := by rw [mc_87]; decide +kernel
theorem mn_88 : (mi 88).1 = ⟨"ContractDesk$Reader", "isLetter", "()Z"⟩ := by decide +kernel
theorem mc_88 : (mi 88).1.cls = "ContractDesk$Reader" := by rw [mn_88]
theorem ml_88 : (mi 88).2.2.1 = 1 := by decide +kernel
theorem mr_88 : (mi 88).2.2.2.1 = (some .boolean) := by decide +kernel
theorem pm_88 : prm (mi 88).1 0 := by unfold prm; decide +kernel
theorem pn_88 : plainName (mi 88).1.cls = true := by rw [mc_88]; decide +kernel
theorem mn_89 : (mi 89).1 = ⟨"ContractDesk$Reader", "key", "(LContractDesk$Group;)C"⟩ := by decide +kernel
theorem mc_89 : (mi 89).1.cls = "ContractDesk$Reader" := by rw [mn_89]
theorem ml_89 : (mi 89).2.2.1 = 3 := by decide +kernel
theorem mr_89 : (mi 89).2.2.2.1 = (some .char) := by decide +kernel
theorem pm_89 : prm (mi 89).1 1 := by unfold prm; decide +kernel
theorem pn_89 : plainName (mi 89).1.cls = true := by rw [mc_89]; decide +kernel
theorem mn_90 : (mi 90).1 = ⟨"ContractDesk$Reader", "letter", "()C"⟩ := by decide +kernel
theorem mc_90 : (mi 90).1.cls = "ContractDesk$Reader" := by rw [mn_90]
theorem ml_90 : (mi 90).2.2.1 = 2 := by decide +kernel
theorem mr_90 : (mi 90).2.2.2.1 = (some .char) := by decide +kernel
theorem pm_90 : prm (mi 90).1 0 := by unfold prm; decide +kernel
theorem pn_90 : plainName (mi 90).1.cls = true := by rw [mc_90]; decide +kernel
theorem mn_91 : (mi 91).1 = ⟨"ContractDesk$Reader", "matcher", "()LContractDesk$Matcher;"⟩ := by decide +kernel
theorem mc_91 : (mi 91).1.cls = "ContractDesk$Reader" := by rw [mn_91]
theorem ml_91 : (mi 91).2.2.1 = 2 := by decide +kernel
theorem mr_91 : (mi 91).2.2.2.1 = (some (.object "ContractDesk$Matcher")) := by decide +kernel
theorem pm_91 : prm (mi 91).1 0 := by unfold prm; decide +kernel
theorem pn_91 : plainName (mi 91).1.cls = true := by rw [mc_91]; decide +kernel
theorem mn_92 : (mi 92).1 = ⟨"ContractDesk$Reader", "number", "()LContractDesk$Value;"⟩ := by decide +kernel
theorem mc_92 : (mi 92).1.cls = "ContractDesk$Reader" := by rw [mn_92]
theorem ml_92 : (mi 92).2.2.1 = 5 := by decide +kernel
theorem mr_92 : (mi 92).2.2.2.1 = (some (.object "ContractDesk$Value")) := by decide +kernel
theorem pm_92 : prm (mi 92).1 0 := by unfold prm; decide +kernel
theorem pn_92 : plainName (mi 92).1.cls = true := by rw [mc_92]; decide +kernel
theorem mn_93 : (mi 93).1 = ⟨"ContractDesk$Reader", "patternStep", "()I"⟩ := by decide +kernel
theorem mc_93 : (mi 93).1.cls = "ContractDesk$Reader" := by rw [mn_93]
theorem ml_93 : (mi 93).2.2.1 = 2 := by decide +kernel
theorem mr_93 : (mi 93).2.2.2.1 = (some .int) := by decide +kernel
theorem pm_93 : prm (mi 93).1 0 := by unfold prm; decide +kernel
theorem pn_93 : plainName (mi 93).1.cls = true := by rw [mc_93]; decide +kernel
theorem mn_94 : (mi 94).1 = ⟨"ContractDesk$Reader", "place", "([I)I"⟩ := by decide +kernel
theorem mc_94 : (mi 94).1.cls = "ContractDesk$Reader" := by rw [mn_94]
theorem ml_94 : (mi 94).2.2.1 = 3 := by decide +kernel
theorem mr_94 : (mi 94).2.2.2.1 = (some .int) := by decide +kernel
theorem pm_94 : prm (mi 94).1 1 := by unfold prm; decide +kernel
theorem pn_94 : plainName (mi 94).1.cls = true := by rw [mc_94]; decide +kernel
theorem mn_95 : (mi 95).1 = ⟨"ContractDesk$Reader", "rule", "()LContractDesk$Rule;"⟩ := by decide +kernel
theorem mc_95 : (mi 95).1.cls = "ContractDesk$Reader" := by rw [mn_95]
theorem ml_95 : (mi 95).2.2.1 = 3 := by decide +kernel
theorem mr_95 : (mi 95).2.2.2.1 = (some (.object "ContractDesk$Rule")) := by decide +kernel
theorem pm_95 : prm (mi 95).1 0 := by unfold prm; decide +kernel
theorem pn_95 : plainName (mi 95).1.cls = true := by rw [mc_95]; decide +kernel
theorem mn_96 : (mi 96).1 = ⟨"ContractDesk$Reader", "shape", "()LContractDesk$Matcher;"⟩ := by decide +kernel
theorem mc_96 : (mi 96).1.cls = "ContractDesk$Reader" := by rw [mn_96]
theorem ml_96 : (mi 96).2.2.1 = 2 := by decide +kernel
theorem mr_96 : (mi 96).2.2.2.1 = (some (.object "ContractDesk$Matcher")) := by decide +kernel
theorem pm_96 : prm (mi 96).1 0 := by unfold prm; decide +kernel
theorem pn_96 : plainName (mi 96).1.cls = true := by rw [mc_96]; decide +kernel
theorem mn_97 : (mi 97).1 = ⟨"ContractDesk$Reader", "take", "(Ljava/lang/StringBuilder;)V"⟩ := by decide +kernel
theorem mc_97 : (mi 97).1.cls = "ContractDesk$Reader" := by rw [mn_97]
theorem ml_97 : (mi 97).2.2.1 = 3 := by decide +kernel
theorem mr_97 : (mi 97).2.2.2.1 = none := by decide +kernel
theorem pm_97 : prm (mi 97).1 1 := by unfold prm; decide +kernel
theorem pn_97 : plainName (mi 97).1.cls = true := by rw [mc_97]; decide +kernel
theorem mn_98 : (mi 98).1 = ⟨"ContractDesk$Reader", "takes", "(C)Z"⟩ := by decide +kernel
theorem mc_98 : (mi 98).1.cls = "ContractDesk$Reader" := by rw [mn_98]
theorem ml_98 : (mi 98).2.2.1 = 2 := by decide +kernel
theorem mr_98 : (mi 98).2.2.2.1 = (some .boolean) := by decide +kernel
theorem pm_98 : prm (mi 98).1 1 := by unfold prm; decide +kernel
theorem pn_98 : plainName (mi 98).1.cls = true := by rw [mc_98]; decide +kernel
theorem mn_99 : (mi 99).1 = ⟨"ContractDesk$Reader", "text", "()LContractDesk$Value;"⟩ := by decide +kernel
theorem mc_99 : (mi 99).1.cls = "ContractDesk$Reader" := by rw [mn_99]
theorem ml_99 : (mi 99).2.2.1 = 2 := by decide +kernel
theorem mr_99 : (mi 99).2.2.2.1 = (some (.object "ContractDesk$Value")) := by decide +kernel
theorem pm_99 : prm (mi 99).1 0 := by unfold prm; decide +kernel
theorem pn_99 : plainName (mi 99).1.cls = true := by rw [mc_99]; decide +kernel
theorem mn_100 : (mi 100).1 = ⟨"ContractDesk$Reader", "value", "(I)LContractDesk$Value;"⟩ := by decide +kernel
theorem mc_100 : (mi 100).1.cls = "ContractDesk$Reader" := by rw [mn_100]
theorem ml_100 : (mi 100).2.2.1 = 3 := by decide +kernel
theorem mr_100 : (mi 100).2.2.2.1 = (some (.object "ContractDesk$Value")) := by decide +kernel
theorem pm_100 : prm (mi 100).1 1 := by unfold prm; decide +kernel
theorem pn_100 : plainName (mi 100).1.cls = true := by rw [mc_100]; decide +kernel
theorem mn_101 : (mi 101).1 = ⟨"ContractDesk$Reader", "whole", "()LContractDesk$Value;"⟩ := by decide +kernel
theorem mc_101 : (mi 101).1.cls = "ContractDesk$Reader" := by rw [mn_101]
theorem ml_101 : (mi 101).2.2.1 = 2 := by decide +kernel
theorem mr_101 : (mi 101).2.2.2.1 = (some (.object "ContractDesk$Value")) := by decide +kernel
theorem pm_101 : prm (mi 101).1 0 := by unfold prm; decide +kernel
theorem pn_101 : plainName (mi 101).1.cls = true := by rw [mc_101]; decide +kernel
theorem mn_102 : (mi 102).1 = ⟨"ContractDesk$Reader", "word", "(LContractDesk$Kind;Ljava/lang/String;I)LContractDesk$Value;"⟩ := by decide +kernel
theorem mc_102 : (mi 102).1.cls = "ContractDesk$Reader" := by rw [mn_102]
theorem ml_102 : (mi 102).2.2.1 = 5 := by decide +kernel
theorem mr_102 : (mi 102).2.2.2.1 = (some (.object "ContractDesk$Value")) := by decide +kernel
theorem pm_102 : prm (mi 102).1 3 := by unfold prm; decide +kernel
theorem pn_102 : plainName (mi 102).1.cls = true := by rw [mc_102]; decide +kernel
theorem mn_103 : (mi 103).1 = ⟨"ContractDesk$Rule", "<init>", "()V"⟩ := by decide +kernel
theorem mc_103 : (mi 103).1.cls = "ContractDesk$Rule" := by rw [mn_103]
theorem ml_103 : (mi 103).2.2.1 = 1 := by decide +kernel
theorem mr_103 : (mi 103).2.2.2.1 = none := by decide +kernel
theorem pm_103 : prm (mi 103).1 0 := by unfold prm; decide +kernel
theorem pn_103 : plainName (mi 103).1.cls = true := by rw [mc_103]; decide +kernel
theorem mn_104 : (mi 104).1 = ⟨"ContractDesk$Rule", "add", "(LContractDesk$Matcher;)V"⟩ := by decide +kernel
theorem mc_104 : (mi 104).1.cls = "ContractDesk$Rule" := by rw [mn_104]
theorem ml_104 : (mi 104).2.2.1 = 2 := by decide +kernel
theorem mr_104 : (mi 104).2.2.2.1 = none := by decide +kernel
theorem pm_104 : prm (mi 104).1 1 := by unfold prm; decide +kernel
theorem pn_104 : plainName (mi 104).1.cls = true := by rw [mc_104]; decide +kernel
theorem mn_105 : (mi 105).1 = ⟨"ContractDesk$Rule", "beats", "(LContractDesk$Rule;)Z"⟩ := by decide +kernel
theorem mc_105 : (mi 105).1.cls = "ContractDesk$Rule" := by rw [mn_105]
theorem ml_105 : (mi 105).2.2.1 = 2 := by decide +kernel
theorem mr_105 : (mi 105).2.2.2.1 = (some .boolean) := by decide +kernel
theorem pm_105 : prm (mi 105).1 1 := by unfold prm; decide +kernel
theorem pn_105 : plainName (mi 105).1.cls = true := by rw [mc_105]; decide +kernel
theorem mn_106 : (mi 106).1 = ⟨"ContractDesk$Rule", "fits", "([II)Z"⟩ := by decide +kernel
theorem mc_106 : (mi 106).1.cls = "ContractDesk$Rule" := by rw [mn_106]
theorem ml_106 : (mi 106).2.2.1 = 5 := by decide +kernel
theorem mr_106 : (mi 106).2.2.2.1 = (some .boolean) := by decide +kernel
theorem pm_106 : prm (mi 106).1 2 := by unfold prm; decide +kernel
theorem pn_106 : plainName (mi 106).1.cls = true := by rw [mc_106]; decide +kernel
theorem mn_107 : (mi 107).1 = ⟨"ContractDesk$Rule", "holds", "(LContractDesk$Value;LContractDesk$Value;)Z"⟩ := by decide +kernel
theorem mc_107 : (mi 107).1.cls = "ContractDesk$Rule" := by rw [mn_107]
theorem ml_107 : (mi 107).2.2.1 = 4 := by decide +kernel
theorem mr_107 : (mi 107).2.2.2.1 = (some .boolean) := by decide +kernel
theorem pm_107 : prm (mi 107).1 2 := by unfold prm; decide +kernel
theorem pn_107 : plainName (mi 107).1.cls = true := by rw [mc_107]; decide +kernel
theorem mn_108 : (mi 108).1 = ⟨"ContractDesk$Rule", "isLoose", "()Z"⟩ := by decide +kernel
theorem mc_108 : (mi 108).1.cls = "ContractDesk$Rule" := by rw [mn_108]
theorem ml_108 : (mi 108).2.2.1 = 2 := by decide +kernel
theorem mr_108 : (mi 108).2.2.2.1 = (some .boolean) := by decide +kernel
theorem pm_108 : prm (mi 108).1 0 := by unfold prm; decide +kernel
theorem pn_108 : plainName (mi 108).1.cls = true := by rw [mc_108]; decide +kernel
theorem mn_109 : (mi 109).1 = ⟨"ContractDesk$Shape", "<init>", "()V"⟩ := by decide +kernel
theorem mc_109 : (mi 109).1.cls = "ContractDesk$Shape" := by rw [mn_109]
theorem ml_109 : (mi 109).2.2.1 = 1 := by decide +kernel
theorem mr_109 : (mi 109).2.2.2.1 = none := by decide +kernel
theorem pm_109 : prm (mi 109).1 0 := by unfold prm; decide +kernel
theorem pn_109 : plainName (mi 109).1.cls = true := by rw [mc_109]; decide +kernel
theorem mn_110 : (mi 110).1 = ⟨"ContractDesk$Shape", "after", "(IC)I"⟩ := by decide +kernel
theorem mc_110 : (mi 110).1.cls = "ContractDesk$Shape" := by rw [mn_110]
theorem ml_110 : (mi 110).2.2.1 = 3 := by decide +kernel
theorem mr_110 : (mi 110).2.2.2.1 = (some .int) := by decide +kernel
theorem pm_110 : prm (mi 110).1 2 := by unfold prm; decide +kernel
theorem pn_110 : plainName (mi 110).1.cls = true := by rw [mc_110]; decide +kernel
theorem mn_111 : (mi 111).1 = ⟨"ContractDesk$Shape", "fits", "(Ljava/lang/StringBuilder;)Z"⟩ := by decide +kernel
theorem mc_111 : (mi 111).1.cls = "ContractDesk$Shape" := by rw [mn_111]
theorem ml_111 : (mi 111).2.2.1 = 6 := by decide +kernel
theorem mr_111 : (mi 111).2.2.2.1 = (some .boolean) := by decide +kernel
theorem pm_111 : prm (mi 111).1 1 := by unfold prm; decide +kernel
theorem pn_111 : plainName (mi 111).1.cls = true := by rw [mc_111]; decide +kernel
theorem mn_112 : (mi 112).1 = ⟨"ContractDesk$Shape", "holds", "(LContractDesk$Value;LContractDesk$Value;)Z"⟩ := by decide +kernel
theorem mc_112 : (mi 112).1.cls = "ContractDesk$Shape" := by rw [mn_112]
theorem ml_112 : (mi 112).2.2.1 = 3 := by decide +kernel
theorem mr_112 : (mi 112).2.2.2.1 = (some .boolean) := by decide +kernel
theorem pm_112 : prm (mi 112).1 2 := by unfold prm; decide +kernel
theorem pn_112 : plainName (mi 112).1.cls = true := by rw [mc_112]; decide +kernel
theorem mn_113 : (mi 113).1 = ⟨"ContractDesk$Shape", "skip", "(I)I"⟩ := by decide +kernel
theorem mc_113 : (mi 113).1.cls = "ContractDesk$Shape" := by rw [mn_113]
theorem ml_113 : (mi 113).2.2.1 = 4 := by decide +kernel
theorem mr_113 : (mi 113).2.2.2.1 = (some .int) := by decide +kernel
theorem pm_113 : prm (mi 113).1 1 := by unfold prm; decide +kernel
theorem pn_113 : plainName (mi 113).1.cls = true := by rw [mc_113]; decide +kernel
theorem mn_114 : (mi 114).1 = ⟨"ContractDesk$Simple", "<init>", "(C)V"⟩ := by decide +kernel
theorem mc_114 : (mi 114).1.cls = "ContractDesk$Simple" := by rw [mn_114]
theorem ml_114 : (mi 114).2.2.1 = 2 := by decide +kernel
theorem mr_114 : (mi 114).2.2.2.1 = none := by decide +kernel
theorem pm_114 : prm (mi 114).1 1 := by unfold prm; decide +kernel
theorem pn_114 : plainName (mi 114).1.cls = true := by rw [mc_114]; decide +kernel
theorem mn_115 : (mi 115).1 = ⟨"ContractDesk$Simple", "holds", "(LContractDesk$Value;LContractDesk$Value;)Z"⟩ := by decide +kernel
theorem mc_115 : (mi 115).1.cls = "ContractDesk$Simple" := by rw [mn_115]
theorem ml_115 : (mi 115).2.2.1 = 3 := by decide +kernel
theorem mr_115 : (mi 115).2.2.2.1 = (some .boolean) := by decide +kernel
theorem pm_115 : prm (mi 115).1 2 := by unfold prm; decide +kernel
theorem pn_115 : plainName (mi 115).1.cls = true := by rw [mc_115]; decide +kernel
theorem mn_116 : (mi 116).1 = ⟨"ContractDesk$Simple", "isLoose", "()Z"⟩ := by decide +kernel
theorem mc_116 : (mi 116).1.cls = "ContractDesk$Simple" := by rw [mn_116]
theorem ml_116 : (mi 116).2.2.1 = 1 := by decide +kernel
theorem mr_116 : (mi 116).2.2.2.1 = (some .boolean) := by decide +kernel
theorem pm_116 : prm (mi 116).1 0 := by unfold prm; decide +kernel
theorem pn_116 : plainName (mi 116).1.cls = true := by rw [mc_116]; decide +kernel
theorem mn_117 : (mi 117).1 = ⟨"ContractDesk$Text", "<init>", "()V"⟩ := by decide +kernel
theorem mc_117 : (mi 117).1.cls = "ContractDesk$Text" := by rw [mn_117]
theorem ml_117 : (mi 117).2.2.1 = 1 := by decide +kernel
theorem mr_117 : (mi 117).2.2.2.1 = none := by decide +kernel
theorem pm_117 : prm (mi 117).1 0 := by unfold prm; decide +kernel
theorem pn_117 : plainName (mi 117).1.cls = true := by rw [mc_117]; decide +kernel
theorem mn_118 : (mi 118).1 = ⟨"ContractDesk$Text", "has", "(Ljava/lang/StringBuilder;I)Z"⟩ := by decide +kernel
theorem mc_118 : (mi 118).1.cls = "ContractDesk$Text" := by rw [mn_118]
theorem ml_118 : (mi 118).2.2.1 = 4 := by decide +kernel
theorem mr_118 : (mi 118).2.2.2.1 = (some .boolean) := by decide +kernel
theorem pm_118 : prm (mi 118).1 2 := by unfold prm; decide +kernel
theorem pn_118 : plainName (mi 118).1.cls = true := by rw [mc_118]; decide +kernel
theorem mn_119 : (mi 119).1 = ⟨"ContractDesk$Text", "kind", "()LContractDesk$Kind;"⟩ := by decide +kernel
theorem mc_119 : (mi 119).1.cls = "ContractDesk$Text" := by rw [mn_119]
theorem ml_119 : (mi 119).2.2.1 = 1 := by decide +kernel
theorem mr_119 : (mi 119).2.2.2.1 = (some (.object "ContractDesk$Kind")) := by decide +kernel
theorem pm_119 : prm (mi 119).1 0 := by unfold prm; decide +kernel
theorem pn_119 : plainName (mi 119).1.cls = true := by rw [mc_119]; decide +kernel
theorem mn_120 : (mi 120).1 = ⟨"ContractDesk$Text", "same", "(LContractDesk$Value;)Z"⟩ := by decide +kernel
theorem mc_120 : (mi 120).1.cls = "ContractDesk$Text" := by rw [mn_120]
theorem ml_120 : (mi 120).2.2.1 = 3 := by decide +kernel
theorem mr_120 : (mi 120).2.2.2.1 = (some .boolean) := by decide +kernel
theorem pm_120 : prm (mi 120).1 1 := by unfold prm; decide +kernel
theorem pn_120 : plainName (mi 120).1.cls = true := by rw [mc_120]; decide +kernel
theorem mn_121 : (mi 121).1 = ⟨"ContractDesk$Value", "<init>", "()V"⟩ := by decide +kernel
theorem mc_121 : (mi 121).1.cls = "ContractDesk$Value" := by rw [mn_121]
theorem ml_121 : (mi 121).2.2.1 = 1 := by decide +kernel
theorem mr_121 : (mi 121).2.2.2.1 = none := by decide +kernel
theorem pm_121 : prm (mi 121).1 0 := by unfold prm; decide +kernel
theorem pn_121 : plainName (mi 121).1.cls = true := by rw [mc_121]; decide +kernel
theorem mn_122 : (mi 122).1 = ⟨"ContractDesk$Value", "count", "()I"⟩ := by decide +kernel
theorem mc_122 : (mi 122).1.cls = "ContractDesk$Value" := by rw [mn_122]
theorem ml_122 : (mi 122).2.2.1 = 1 := by decide +kernel
theorem mr_122 : (mi 122).2.2.2.1 = (some .int) := by decide +kernel
theorem pm_122 : prm (mi 122).1 0 := by unfold prm; decide +kernel
theorem pn_122 : plainName (mi 122).1.cls = true := by rw [mc_122]; decide +kernel
theorem mn_123 : (mi 123).1 = ⟨"ContractDesk$Value", "isLike", "(LContractDesk$Value;)Z"⟩ := by decide +kernel
theorem mc_123 : (mi 123).1.cls = "ContractDesk$Value" := by rw [mn_123]
theorem ml_123 : (mi 123).2.2.1 = 2 := by decide +kernel
theorem mr_123 : (mi 123).2.2.2.1 = (some .boolean) := by decide +kernel
theorem pm_123 : prm (mi 123).1 1 := by unfold prm; decide +kernel
theorem pn_123 : plainName (mi 123).1.cls = true := by rw [mc_123]; decide +kernel
theorem mn_124 : (mi 124).1 = ⟨"ContractDeskLaw", "body", "(LContractDesk;I[J)I"⟩ := by decide +kernel
theorem mc_124 : (mi 124).1.cls = "ContractDeskLaw" := by rw [mn_124]
theorem ml_124 : (mi 124).2.2.1 = 4 := by decide +kernel
theorem mr_124 : (mi 124).2.2.2.1 = (some .int) := by decide +kernel
theorem pm_124 : prm (mi 124).1 3 := by unfold prm; decide +kernel
theorem pn_124 : plainName (mi 124).1.cls = true := by rw [mc_124]; decide +kernel
theorem mh_124 : (mi 124).2.2.2.2 = [(0, 9, 12, 19), (0, 9, 15, 13)] := by decide +kernel
theorem mn_125 : (mi 125).1 = ⟨"ContractDeskLaw", "make", "(LContractDesk;Z[J)I"⟩ := by decide +kernel
theorem mc_125 : (mi 125).1.cls = "ContractDeskLaw" := by rw [mn_125]
theorem ml_125 : (mi 125).2.2.1 = 4 := by decide +kernel
theorem mr_125 : (mi 125).2.2.2.1 = (some .int) := by decide +kernel
theorem pm_125 : prm (mi 125).1 3 := by unfold prm; decide +kernel
theorem pn_125 : plainName (mi 125).1.cls = true := by rw [mc_125]; decide +kernel
theorem mh_125 : (mi 125).2.2.2.2 = [(0, 9, 12, 13)] := by decide +kernel
theorem mn_126 : (mi 126).1 = ⟨"ContractDeskLaw", "rule", "(LContractDesk;I[J)I"⟩ := by decide +kernel
theorem mc_126 : (mi 126).1.cls = "ContractDeskLaw" := by rw [mn_126]
theorem ml_126 : (mi 126).2.2.1 = 4 := by decide +kernel
theorem mr_126 : (mi 126).2.2.2.1 = (some .int) := by decide +kernel
theorem pm_126 : prm (mi 126).1 3 := by unfold prm; decide +kernel
theorem pn_126 : plainName (mi 126).1.cls = true := by rw [mc_126]; decide +kernel
theorem mh_126 : (mi 126).2.2.2.2 = [(0, 9, 12, 19), (0, 9, 15, 13)] := by decide +kernel
theorem mn_127 : (mi 127).1 = ⟨"ContractDeskLaw", "verify", "(LContractDesk;I[J)I"⟩ := by decide +kernel
theorem mc_127 : (mi 127).1.cls = "ContractDeskLaw" := by rw [mn_127]
theorem ml_127 : (mi 127).2.2.1 = 4 := by decide +kernel
theorem mr_127 : (mi 127).2.2.2.1 = (some .int) := by decide +kernel
theorem pm_127 : prm (mi 127).1 3 := by unfold prm; decide +kernel
theorem pn_127 : plainName (mi 127).1.cls = true := by rw [mc_127]; decide +kernel
theorem mh_127 : (mi 127).2.2.2.2 = [(0, 9, 12, 19), (0, 9, 15, 13)] := by decide +kernel
theorem mn_128 : (mi 128).1 = ⟨"ContractDeskModel", "<init>", "()V"⟩ := by decide +kernel
theorem mc_128 : (mi 128).1.cls = "ContractDeskModel" := by rw [mn_128]
theorem ml_128 : (mi 128).2.2.1 = 1 := by decide +kernel
theorem mr_128 : (mi 128).2.2.2.1 = none := by decide +kernel
theorem pm_128 : prm (mi 128).1 0 := by unfold prm; decide +kernel
theorem pn_128 : plainName (mi 128).1.cls = true := by rw [mc_128]; decide +kernel
theorem mn_129 : (mi 129).1 = ⟨"ContractDeskModel", "at", "(I)C"⟩ := by decide +kernel
theorem mc_129 : (mi 129).1.cls = "ContractDeskModel" := by rw [mn_129]
theorem ml_129 : (mi 129).2.2.1 = 2 := by decide +kernel
theorem mr_129 : (mi 129).2.2.2.1 = (some .char) := by decide +kernel
theorem pm_129 : prm (mi 129).1 1 := by unfold prm; decide +kernel
theorem pn_129 : plainName (mi 129).1.cls = true := by rw [mc_129]; decide +kernel
theorem mn_130 : (mi 130).1 = ⟨"ContractDeskModel", "behind", "(II)I"⟩ := by decide +kernel
theorem mc_130 : (mi 130).1.cls = "ContractDeskModel" := by rw [mn_130]
theorem ml_130 : (mi 130).2.2.1 = 4 := by decide +kernel
theorem mr_130 : (mi 130).2.2.2.1 = (some .int) := by decide +kernel
theorem pm_130 : prm (mi 130).1 2 := by unfold prm; decide +kernel
theorem pn_130 : plainName (mi 130).1.cls = true := by rw [mc_130]; decide +kernel
theorem mn_131 : (mi 131).1 = ⟨"ContractDeskModel", "body", "(I)I"⟩ := by decide +kernel
theorem mc_131 : (mi 131).1.cls = "ContractDeskModel" := by rw [mn_131]
theorem ml_131 : (mi 131).2.2.1 = 5 := by decide +kernel
theorem mr_131 : (mi 131).2.2.2.1 = (some .int) := by decide +kernel
theorem pm_131 : prm (mi 131).1 1 := by unfold prm; decide +kernel
theorem pn_131 : plainName (mi 131).1.cls = true := by rw [mc_131]; decide +kernel
theorem mn_132 : (mi 132).1 = ⟨"ContractDeskModel", "close", "()V"⟩ := by decide +kernel
theorem mc_132 : (mi 132).1.cls = "ContractDeskModel" := by rw [mn_132]
theorem ml_132 : (mi 132).2.2.1 = 1 := by decide +kernel
theorem mr_132 : (mi 132).2.2.2.1 = none := by decide +kernel
theorem pm_132 : prm (mi 132).1 0 := by unfold prm; decide +kernel
theorem pn_132 : plainName (mi 132).1.cls = true := by rw [mc_132]; decide +kernel
theorem mn_133 : (mi 133).1 = ⟨"ContractDeskModel", "colon", "(I)I"⟩ := by decide +kernel
theorem mc_133 : (mi 133).1.cls = "ContractDeskModel" := by rw [mn_133]
theorem ml_133 : (mi 133).2.2.1 = 3 := by decide +kernel
theorem mr_133 : (mi 133).2.2.2.1 = (some .int) := by decide +kernel
theorem pm_133 : prm (mi 133).1 1 := by unfold prm; decide +kernel
theorem pn_133 : plainName (mi 133).1.cls = true := by rw [mc_133]; decide +kernel
theorem mn_134 : (mi 134).1 = ⟨"ContractDeskModel", "compareAll", "(I)I"⟩ := by decide +kernel
theorem mc_134 : (mi 134).1.cls = "ContractDeskModel" := by rw [mn_134]
theorem ml_134 : (mi 134).2.2.1 = 7 := by decide +kernel
theorem mr_134 : (mi 134).2.2.2.1 = (some .int) := by decide +kernel
theorem pm_134 : prm (mi 134).1 1 := by unfold prm; decide +kernel
theorem pn_134 : plainName (mi 134).1.cls = true := by rw [mc_134]; decide +kernel
theorem mn_135 : (mi 135).1 = ⟨"ContractDeskModel", "compared", "(IIII)I"⟩ := by decide +kernel
theorem mc_135 : (mi 135).1.cls = "ContractDeskModel" := by rw [mn_135]
theorem ml_135 : (mi 135).2.2.1 = 8 := by decide +kernel
theorem mr_135 : (mi 135).2.2.2.1 = (some .int) := by decide +kernel
theorem pm_135 : prm (mi 135).1 4 := by unfold prm; decide +kernel
theorem pn_135 : plainName (mi 135).1.cls = true := by rw [mc_135]; decide +kernel
theorem mn_136 : (mi 136).1 = ⟨"ContractDeskModel", "contains", "(III)Z"⟩ := by decide +kernel
theorem mc_136 : (mi 136).1.cls = "ContractDeskModel" := by rw [mn_136]
theorem ml_136 : (mi 136).2.2.1 = 9 := by decide +kernel
theorem mr_136 : (mi 136).2.2.2.1 = (some .boolean) := by decide +kernel
theorem pm_136 : prm (mi 136).1 3 := by unfold prm; decide +kernel
theorem pn_136 : plainName (mi 136).1.cls = true := by rw [mc_136]; decide +kernel
theorem mn_137 : (mi 137).1 = ⟨"ContractDeskModel", "digit", "(C)Z"⟩ := by decide +kernel
theorem mc_137 : (mi 137).1.cls = "ContractDeskModel" := by rw [mn_137]
theorem ml_137 : (mi 137).2.2.1 = 1 := by decide +kernel
theorem mr_137 : (mi 137).2.2.2.1 = (some .boolean) := by decide +kernel
theorem pm_137 : prm (mi 137).1 1 := by unfold prm; decide +kernel
theorem pn_137 : plainName (mi 137).1.cls = true := by rw [mc_137]; decide +kernel
theorem mn_138 : (mi 138).1 = ⟨"ContractDeskModel", "elements", "(ZIII)I"⟩ := by decide +kernel
theorem mc_138 : (mi 138).1.cls = "ContractDeskModel" := by rw [mn_138]
theorem ml_138 : (mi 138).2.2.1 = 11 := by decide +kernel
theorem mr_138 : (mi 138).2.2.2.1 = (some .int) := by decide +kernel
theorem pm_138 : prm (mi 138).1 4 := by unfold prm; decide +kernel
theorem pn_138 : plainName (mi 138).1.cls = true := by rw [mc_138]; decide +kernel
theorem mn_139 : (mi 139).1 = ⟨"ContractDeskModel", "end", "(I)I"⟩ := by decide +kernel
theorem mc_139 : (mi 139).1.cls = "ContractDeskModel" := by rw [mn_139]
theorem ml_139 : (mi 139).2.2.1 = 5 := by decide +kernel
theorem mr_139 : (mi 139).2.2.2.1 = (some .int) := by decide +kernel
theorem pm_139 : prm (mi 139).1 1 := by unfold prm; decide +kernel
theorem pn_139 : plainName (mi 139).1.cls = true := by rw [mc_139]; decide +kernel
theorem mn_140 : (mi 140).1 = ⟨"ContractDeskModel", "equal", "(II)Z"⟩ := by decide +kernel
theorem mc_140 : (mi 140).1.cls = "ContractDeskModel" := by rw [mn_140]
theorem ml_140 : (mi 140).2.2.1 = 10 := by decide +kernel
theorem mr_140 : (mi 140).2.2.2.1 = (some .boolean) := by decide +kernel
theorem pm_140 : prm (mi 140).1 2 := by unfold prm; decide +kernel
theorem pn_140 : plainName (mi 140).1.cls = true := by rw [mc_140]; decide +kernel
theorem mn_141 : (mi 141).1 = ⟨"ContractDeskModel", "event", "(I)I"⟩ := by decide +kernel
theorem mc_141 : (mi 141).1.cls = "ContractDeskModel" := by rw [mn_141]
theorem ml_141 : (mi 141).2.2.1 = 2 := by decide +kernel
theorem mr_141 : (mi 141).2.2.2.1 = (some .int) := by decide +kernel
theorem pm_141 : prm (mi 141).1 1 := by unfold prm; decide +kernel
theorem pn_141 : plainName (mi 141).1.cls = true := by rw [mc_141]; decide +kernel
theorem mn_142 : (mi 142).1 = ⟨"ContractDeskModel", "fits", "(I)I"⟩ := by decide +kernel
theorem mc_142 : (mi 142).1.cls = "ContractDeskModel" := by rw [mn_142]
theorem ml_142 : (mi 142).2.2.1 = 9 := by decide +kernel
theorem mr_142 : (mi 142).2.2.2.1 = (some .int) := by decide +kernel
theorem pm_142 : prm (mi 142).1 1 := by unfold prm; decide +kernel
theorem pn_142 : plainName (mi 142).1.cls = true := by rw [mc_142]; decide +kernel
theorem mn_143 : (mi 143).1 = ⟨"ContractDeskModel", "handler", "(II)Z"⟩ := by decide +kernel
theorem mc_143 : (mi 143).1.cls = "ContractDeskModel" := by rw [mn_143]
theorem ml_143 : (mi 143).2.2.1 = 3 := by decide +kernel
theorem mr_143 : (mi 143).2.2.2.1 = (some .boolean) := by decide +kernel
theorem pm_143 : prm (mi 143).1 2 := by unfold prm; decide +kernel
theorem pn_143 : plainName (mi 143).1.cls = true := by rw [mc_143]; decide +kernel
theorem mn_144 : (mi 144).1 = ⟨"ContractDeskModel", "happen", "(II)V"⟩ := by decide +kernel
theorem mc_144 : (mi 144).1.cls = "ContractDeskModel" := by rw [mn_144]
theorem ml_144 : (mi 144).2.2.1 = 3 := by decide +kernel
theorem mr_144 : (mi 144).2.2.2.1 = none := by decide +kernel
theorem pm_144 : prm (mi 144).1 2 := by unfold prm; decide +kernel
theorem pn_144 : plainName (mi 144).1.cls = true := by rw [mc_144]; decide +kernel
theorem mn_145 : (mi 145).1 = ⟨"ContractDeskModel", "holds", "(IIII)Z"⟩ := by decide +kernel
theorem mc_145 : (mi 145).1.cls = "ContractDeskModel" := by rw [mn_145]
theorem ml_145 : (mi 145).2.2.1 = 5 := by decide +kernel
theorem mr_145 : (mi 145).2.2.2.1 = (some .boolean) := by decide +kernel
theorem pm_145 : prm (mi 145).1 4 := by unfold prm; decide +kernel
theorem pn_145 : plainName (mi 145).1.cls = true := by rw [mc_145]; decide +kernel
theorem mn_146 : (mi 146).1 = ⟨"ContractDeskModel", "isAs", "(III)Z"⟩ := by decide +kernel
theorem mc_146 : (mi 146).1.cls = "ContractDeskModel" := by rw [mn_146]
theorem ml_146 : (mi 146).2.2.1 = 10 := by decide +kernel
theorem mr_146 : (mi 146).2.2.2.1 = (some .boolean) := by decide +kernel
theorem pm_146 : prm (mi 146).1 3 := by unfold prm; decide +kernel
theorem pn_146 : plainName (mi 146).1.cls = true := by rw [mc_146]; decide +kernel
theorem mn_147 : (mi 147).1 = ⟨"ContractDeskModel", "isInteraction", "(I)Z"⟩ := by decide +kernel
theorem mc_147 : (mi 147).1.cls = "ContractDeskModel" := by rw [mn_147]
theorem ml_147 : (mi 147).2.2.1 = 2 := by decide +kernel
theorem mr_147 : (mi 147).2.2.2.1 = (some .boolean) := by decide +kernel
theorem pm_147 : prm (mi 147).1 1 := by unfold prm; decide +kernel
theorem pn_147 : plainName (mi 147).1.cls = true := by rw [mc_147]; decide +kernel
theorem mn_148 : (mi 148).1 = ⟨"ContractDeskModel", "isLetter", "(C)Z"⟩ := by decide +kernel
theorem mc_148 : (mi 148).1.cls = "ContractDeskModel" := by rw [mn_148]
theorem ml_148 : (mi 148).2.2.1 = 1 := by decide +kernel
theorem mr_148 : (mi 148).2.2.2.1 = (some .boolean) := by decide +kernel
theorem pm_148 : prm (mi 148).1 1 := by unfold prm; decide +kernel
theorem pn_148 : plainName (mi 148).1.cls = true := by rw [mc_148]; decide +kernel
theorem mn_149 : (mi 149).1 = ⟨"ContractDeskModel", "isRule", "()Z"⟩ := by decide +kernel
theorem mc_149 : (mi 149).1.cls = "ContractDeskModel" := by rw [mn_149]
theorem ml_149 : (mi 149).2.2.1 = 7 := by decide +kernel
theorem mr_149 : (mi 149).2.2.2.1 = (some .boolean) := by decide +kernel
theorem pm_149 : prm (mi 149).1 0 := by unfold prm; decide +kernel
theorem pn_149 : plainName (mi 149).1.cls = true := by rw [mc_149]; decide +kernel
theorem mn_150 : (mi 150).1 = ⟨"ContractDeskModel", "itemsEnd", "(I)I"⟩ := by decide +kernel
theorem mc_150 : (mi 150).1.cls = "ContractDeskModel" := by rw [mn_150]
theorem ml_150 : (mi 150).2.2.1 = 4 := by decide +kernel
theorem mr_150 : (mi 150).2.2.2.1 = (some .int) := by decide +kernel
theorem pm_150 : prm (mi 150).1 1 := by unfold prm; decide +kernel
theorem pn_150 : plainName (mi 150).1.cls = true := by rw [mc_150]; decide +kernel
theorem mn_151 : (mi 151).1 = ⟨"ContractDeskModel", "keep", "(I)V"⟩ := by decide +kernel
theorem mc_151 : (mi 151).1.cls = "ContractDeskModel" := by rw [mn_151]
theorem ml_151 : (mi 151).2.2.1 = 3 := by decide +kernel
theorem mr_151 : (mi 151).2.2.2.1 = none := by decide +kernel
theorem pm_151 : prm (mi 151).1 1 := by unfold prm; decide +kernel
theorem pn_151 : plainName (mi 151).1.cls = true := by rw [mc_151]; decide +kernel
theorem mn_152 : (mi 152).1 = ⟨"ContractDeskModel", "kind", "(I)I"⟩ := by decide +kernel
theorem mc_152 : (mi 152).1.cls = "ContractDeskModel" := by rw [mn_152]
theorem ml_152 : (mi 152).2.2.1 = 3 := by decide +kernel
theorem mr_152 : (mi 152).2.2.2.1 = (some .int) := by decide +kernel
theorem pm_152 : prm (mi 152).1 1 := by unfold prm; decide +kernel
theorem pn_152 : plainName (mi 152).1.cls = true := by rw [mc_152]; decide +kernel
theorem mn_153 : (mi 153).1 = ⟨"ContractDeskModel", "lay", "(I)V"⟩ := by decide +kernel
theorem mc_153 : (mi 153).1.cls = "ContractDeskModel" := by rw [mn_153]
theorem ml_153 : (mi 153).2.2.1 = 4 := by decide +kernel
theorem mr_153 : (mi 153).2.2.2.1 = none := by decide +kernel
theorem pm_153 : prm (mi 153).1 1 := by unfold prm; decide +kernel
theorem pn_153 : plainName (mi 153).1.cls = true := by rw [mc_153]; decide +kernel
theorem mn_154 : (mi 154).1 = ⟨"ContractDeskModel", "letter", "(II)I"⟩ := by decide +kernel
theorem mc_154 : (mi 154).1.cls = "ContractDeskModel" := by rw [mn_154]
theorem ml_154 : (mi 154).2.2.1 = 3 := by decide +kernel
theorem mr_154 : (mi 154).2.2.2.1 = (some .int) := by decide +kernel
theorem pm_154 : prm (mi 154).1 2 := by unfold prm; decide +kernel
theorem pn_154 : plainName (mi 154).1.cls = true := by rw [mc_154]; decide +kernel
theorem mn_155 : (mi 155).1 = ⟨"ContractDeskModel", "list", "(I)V"⟩ := by decide +kernel
theorem mc_155 : (mi 155).1.cls = "ContractDeskModel" := by rw [mn_155]
theorem ml_155 : (mi 155).2.2.1 = 5 := by decide +kernel
theorem mr_155 : (mi 155).2.2.2.1 = none := by decide +kernel
theorem pm_155 : prm (mi 155).1 1 := by unfold prm; decide +kernel
theorem pn_155 : plainName (mi 155).1.cls = true := by rw [mc_155]; decide +kernel
theorem mn_156 : (mi 156).1 = ⟨"ContractDeskModel", "listed", "()I"⟩ := by decide +kernel
theorem mc_156 : (mi 156).1.cls = "ContractDeskModel" := by rw [mn_156]
theorem ml_156 : (mi 156).2.2.1 = 1 := by decide +kernel
theorem mr_156 : (mi 156).2.2.2.1 = (some .int) := by decide +kernel
theorem pm_156 : prm (mi 156).1 0 := by unfold prm; decide +kernel
theorem pn_156 : plainName (mi 156).1.cls = true := by rw [mc_156]; decide +kernel
theorem mn_157 : (mi 157).1 = ⟨"ContractDeskModel", "make", "(Z)I"⟩ := by decide +kernel
theorem mc_157 : (mi 157).1.cls = "ContractDeskModel" := by rw [mn_157]
theorem ml_157 : (mi 157).2.2.1 = 2 := by decide +kernel
theorem mr_157 : (mi 157).2.2.2.1 = (some .int) := by decide +kernel
theorem pm_157 : prm (mi 157).1 1 := by unfold prm; decide +kernel
theorem pn_157 : plainName (mi 157).1.cls = true := by rw [mc_157]; decide +kernel
theorem mn_158 : (mi 158).1 = ⟨"ContractDeskModel", "matcherEnd", "(I)I"⟩ := by decide +kernel
theorem mc_158 : (mi 158).1.cls = "ContractDeskModel" := by rw [mn_158]
theorem ml_158 : (mi 158).2.2.1 = 4 := by decide +kernel
theorem mr_158 : (mi 158).2.2.2.1 = (some .int) := by decide +kernel
theorem pm_158 : prm (mi 158).1 1 := by unfold prm; decide +kernel
theorem pn_158 : plainName (mi 158).1.cls = true := by rw [mc_158]; decide +kernel
theorem mn_159 : (mi 159).1 = ⟨"ContractDeskModel", "member", "(IC)I"⟩ := by decide +kernel
theorem mc_159 : (mi 159).1.cls = "ContractDeskModel" := by rw [mn_159]
theorem ml_159 : (mi 159).2.2.1 = 6 := by decide +kernel
theorem mr_159 : (mi 159).2.2.2.1 = (some .int) := by decide +kernel
theorem pm_159 : prm (mi 159).1 2 := by unfold prm; decide +kernel
theorem pn_159 : plainName (mi 159).1.cls = true := by rw [mc_159]; decide +kernel
theorem mn_160 : (mi 160).1 = ⟨"ContractDeskModel", "members", "(IIII)V"⟩ := by decide +kernel
theorem mc_160 : (mi 160).1.cls = "ContractDeskModel" := by rw [mn_160]
theorem ml_160 : (mi 160).2.2.1 = 11 := by decide +kernel
theorem mr_160 : (mi 160).2.2.2.1 = none := by decide +kernel
theorem pm_160 : prm (mi 160).1 4 := by unfold prm; decide +kernel
theorem pn_160 : plainName (mi 160).1.cls = true := by rw [mc_160]; decide +kernel
theorem mn_161 : (mi 161).1 = ⟨"ContractDeskModel", "mismatch", "(I)I"⟩ := by decide +kernel
theorem mc_161 : (mi 161).1.cls = "ContractDeskModel" := by rw [mn_161]
theorem ml_161 : (mi 161).2.2.1 = 2 := by decide +kernel
theorem mr_161 : (mi 161).2.2.2.1 = (some .int) := by decide +kernel
theorem pm_161 : prm (mi 161).1 1 := by unfold prm; decide +kernel
theorem pn_161 : plainName (mi 161).1.cls = true := by rw [mc_161]; decide +kernel
theorem mn_162 : (mi 162).1 = ⟨"ContractDeskModel", "needs", "(II)Z"⟩ := by decide +kernel
theorem mc_162 : (mi 162).1.cls = "ContractDeskModel" := by rw [mn_162]
theorem ml_162 : (mi 162).2.2.1 = 4 := by decide +kernel
theorem mr_162 : (mi 162).2.2.2.1 = (some .boolean) := by decide +kernel
theorem pm_162 : prm (mi 162).1 2 := by unfold prm; decide +kernel
theorem pn_162 : plainName (mi 162).1.cls = true := by rw [mc_162]; decide +kernel
theorem mn_163 : (mi 163).1 = ⟨"ContractDeskModel", "outcome", "(III)I"⟩ := by decide +kernel
theorem mc_163 : (mi 163).1.cls = "ContractDeskModel" := by rw [mn_163]
theorem ml_163 : (mi 163).2.2.1 = 12 := by decide +kernel
theorem mr_163 : (mi 163).2.2.2.1 = (some .int) := by decide +kernel
theorem pm_163 : prm (mi 163).1 3 := by unfold prm; decide +kernel
theorem pn_163 : plainName (mi 163).1.cls = true := by rw [mc_163]; decide +kernel
theorem mn_164 : (mi 164).1 = ⟨"ContractDeskModel", "part", "(II)I"⟩ := by decide +kernel
theorem mc_164 : (mi 164).1.cls = "ContractDeskModel" := by rw [mn_164]
theorem ml_164 : (mi 164).2.2.1 = 6 := by decide +kernel
theorem mr_164 : (mi 164).2.2.2.1 = (some .int) := by decide +kernel
theorem pm_164 : prm (mi 164).1 2 := by unfold prm; decide +kernel
theorem pn_164 : plainName (mi 164).1.cls = true := by rw [mc_164]; decide +kernel
theorem mn_165 : (mi 165).1 = ⟨"ContractDeskModel", "parts", "(I)I"⟩ := by decide +kernel
theorem mc_165 : (mi 165).1.cls = "ContractDeskModel" := by rw [mn_165]
theorem ml_165 : (mi 165).2.2.1 = 3 := by decide +kernel
theorem mr_165 : (mi 165).2.2.2.1 = (some .int) := by decide +kernel
theorem pm_165 : prm (mi 165).1 1 := by unfold prm; decide +kernel
theorem pn_165 : plainName (mi 165).1.cls = true := by rw [mc_165]; decide +kernel
theorem mn_166 : (mi 166).1 = ⟨"ContractDeskModel", "place", "(II)I"⟩ := by decide +kernel
theorem mc_166 : (mi 166).1.cls = "ContractDeskModel" := by rw [mn_166]
theorem ml_166 : (mi 166).2.2.1 = 3 := by decide +kernel
theorem mr_166 : (mi 166).2.2.2.1 = (some .int) := by decide +kernel
theorem pm_166 : prm (mi 166).1 2 := by unfold prm; decide +kernel
theorem pn_166 : plainName (mi 166).1.cls = true := by rw [mc_166]; decide +kernel
theorem mn_167 : (mi 167).1 = ⟨"ContractDeskModel", "plainEnd", "(I)I"⟩ := by decide +kernel
theorem mc_167 : (mi 167).1.cls = "ContractDeskModel" := by rw [mn_167]
theorem ml_167 : (mi 167).2.2.1 = 4 := by decide +kernel
theorem mr_167 : (mi 167).2.2.2.1 = (some .int) := by decide +kernel
theorem pm_167 : prm (mi 167).1 1 := by unfold prm; decide +kernel
theorem pn_167 : plainName (mi 167).1.cls = true := by rw [mc_167]; decide +kernel
theorem mn_168 : (mi 168).1 = ⟨"ContractDeskModel", "push", "(IIII)V"⟩ := by decide +kernel
theorem mc_168 : (mi 168).1.cls = "ContractDeskModel" := by rw [mn_168]
theorem ml_168 : (mi 168).2.2.1 = 5 := by decide +kernel
theorem mr_168 : (mi 168).2.2.2.1 = none := by decide +kernel
theorem pm_168 : prm (mi 168).1 4 := by unfold prm; decide +kernel
theorem pn_168 : plainName (mi 168).1.cls = true := by rw [mc_168]; decide +kernel
theorem mn_169 : (mi 169).1 = ⟨"ContractDeskModel", "put", "(II)V"⟩ := by decide +kernel
theorem mc_169 : (mi 169).1.cls = "ContractDeskModel" := by rw [mn_169]
theorem ml_169 : (mi 169).2.2.1 = 3 := by decide +kernel
theorem mr_169 : (mi 169).2.2.2.1 = none := by decide +kernel
theorem pm_169 : prm (mi 169).1 2 := by unfold prm; decide +kernel
theorem pn_169 : plainName (mi 169).1.cls = true := by rw [mc_169]; decide +kernel
theorem mn_170 : (mi 170).1 = ⟨"ContractDeskModel", "readPlace", "()Z"⟩ := by decide +kernel
theorem mc_170 : (mi 170).1.cls = "ContractDeskModel" := by rw [mn_170]
theorem ml_170 : (mi 170).2.2.1 = 5 := by decide +kernel
theorem mr_170 : (mi 170).2.2.2.1 = (some .boolean) := by decide +kernel
theorem pm_170 : prm (mi 170).1 0 := by unfold prm; decide +kernel
theorem pn_170 : plainName (mi 170).1.cls = true := by rw [mc_170]; decide +kernel
theorem mn_171 : (mi 171).1 = ⟨"ContractDeskModel", "rule", "(I)I"⟩ := by decide +kernel
theorem mc_171 : (mi 171).1.cls = "ContractDeskModel" := by rw [mn_171]
theorem ml_171 : (mi 171).2.2.1 = 5 := by decide +kernel
theorem mr_171 : (mi 171).2.2.2.1 = (some .int) := by decide +kernel
theorem pm_171 : prm (mi 171).1 1 := by unfold prm; decide +kernel
theorem pn_171 : plainName (mi 171).1.cls = true := by rw [mc_171]; decide +kernel
theorem mn_172 : (mi 172).1 = ⟨"ContractDeskModel", "sameText", "(II)Z"⟩ := by decide +kernel
theorem mc_172 : (mi 172).1.cls = "ContractDeskModel" := by rw [mn_172]
theorem ml_172 : (mi 172).2.2.1 = 6 := by decide +kernel
theorem mr_172 : (mi 172).2.2.2.1 = (some .boolean) := by decide +kernel
theorem pm_172 : prm (mi 172).1 2 := by unfold prm; decide +kernel
theorem pn_172 : plainName (mi 172).1.cls = true := by rw [mc_172]; decide +kernel
theorem mn_173 : (mi 173).1 = ⟨"ContractDeskModel", "select", "(I)I"⟩ := by decide +kernel
theorem mc_173 : (mi 173).1.cls = "ContractDeskModel" := by rw [mn_173]
theorem ml_173 : (mi 173).2.2.1 = 3 := by decide +kernel
theorem mr_173 : (mi 173).2.2.2.1 = (some .int) := by decide +kernel
theorem pm_173 : prm (mi 173).1 1 := by unfold prm; decide +kernel
theorem pn_173 : plainName (mi 173).1.cls = true := by rw [mc_173]; decide +kernel
theorem mn_174 : (mi 174).1 = ⟨"ContractDeskModel", "selected", "(I)I"⟩ := by decide +kernel
theorem mc_174 : (mi 174).1.cls = "ContractDeskModel" := by rw [mn_174]
theorem ml_174 : (mi 174).2.2.1 = 6 := by decide +kernel
theorem mr_174 : (mi 174).2.2.2.1 = (some .int) := by decide +kernel
theorem pm_174 : prm (mi 174).1 1 := by unfold prm; decide +kernel
theorem pn_174 : plainName (mi 174).1.cls = true := by rw [mc_174]; decide +kernel
theorem mn_175 : (mi 175).1 = ⟨"ContractDeskModel", "spread", "(I)V"⟩ := by decide +kernel
theorem mc_175 : (mi 175).1.cls = "ContractDeskModel" := by rw [mn_175]
theorem ml_175 : (mi 175).2.2.1 = 3 := by decide +kernel
theorem mr_175 : (mi 175).2.2.2.1 = none := by decide +kernel
theorem pm_175 : prm (mi 175).1 1 := by unfold prm; decide +kernel
theorem pn_175 : plainName (mi 175).1.cls = true := by rw [mc_175]; decide +kernel
theorem mn_176 : (mi 176).1 = ⟨"ContractDeskModel", "stepEnd", "(I)I"⟩ := by decide +kernel
theorem mc_176 : (mi 176).1.cls = "ContractDeskModel" := by rw [mn_176]
theorem ml_176 : (mi 176).2.2.1 = 2 := by decide +kernel
theorem mr_176 : (mi 176).2.2.2.1 = (some .int) := by decide +kernel
theorem pm_176 : prm (mi 176).1 1 := by unfold prm; decide +kernel
theorem pn_176 : plainName (mi 176).1.cls = true := by rw [mc_176]; decide +kernel
theorem mn_177 : (mi 177).1 = ⟨"ContractDeskModel", "stops", "(C)Z"⟩ := by decide +kernel
theorem mc_177 : (mi 177).1.cls = "ContractDeskModel" := by rw [mn_177]
theorem ml_177 : (mi 177).2.2.1 = 1 := by decide +kernel
theorem mr_177 : (mi 177).2.2.2.1 = (some .boolean) := by decide +kernel
theorem pm_177 : prm (mi 177).1 1 := by unfold prm; decide +kernel
theorem pn_177 : plainName (mi 177).1.cls = true := by rw [mc_177]; decide +kernel
theorem mn_178 : (mi 178).1 = ⟨"ContractDeskModel", "tear", "(II)V"⟩ := by decide +kernel
theorem mc_178 : (mi 178).1.cls = "ContractDeskModel" := by rw [mn_178]
theorem ml_178 : (mi 178).2.2.1 = 5 := by decide +kernel
theorem mr_178 : (mi 178).2.2.2.1 = none := by decide +kernel
theorem pm_178 : prm (mi 178).1 2 := by unfold prm; decide +kernel
theorem pn_178 : plainName (mi 178).1.cls = true := by rw [mc_178]; decide +kernel
theorem mn_179 : (mi 179).1 = ⟨"ContractDeskModel", "thrown", "()I"⟩ := by decide +kernel
theorem mc_179 : (mi 179).1.cls = "ContractDeskModel" := by rw [mn_179]
theorem ml_179 : (mi 179).2.2.1 = 1 := by decide +kernel
theorem mr_179 : (mi 179).2.2.2.1 = (some .int) := by decide +kernel
theorem pm_179 : prm (mi 179).1 0 := by unfold prm; decide +kernel
theorem pn_179 : plainName (mi 179).1.cls = true := by rw [mc_179]; decide +kernel
theorem mn_180 : (mi 180).1 = ⟨"ContractDeskModel", "values", "()I"⟩ := by decide +kernel
theorem mc_180 : (mi 180).1.cls = "ContractDeskModel" := by rw [mn_180]
theorem ml_180 : (mi 180).2.2.1 = 8 := by decide +kernel
theorem mr_180 : (mi 180).2.2.2.1 = (some .int) := by decide +kernel
theorem pm_180 : prm (mi 180).1 0 := by unfold prm; decide +kernel
theorem pn_180 : plainName (mi 180).1.cls = true := by rw [mc_180]; decide +kernel
theorem mn_181 : (mi 181).1 = ⟨"ContractDeskModel", "verified", "(I)I"⟩ := by decide +kernel
theorem mc_181 : (mi 181).1.cls = "ContractDeskModel" := by rw [mn_181]
theorem ml_181 : (mi 181).2.2.1 = 5 := by decide +kernel
theorem mr_181 : (mi 181).2.2.2.1 = (some .int) := by decide +kernel
theorem pm_181 : prm (mi 181).1 1 := by unfold prm; decide +kernel
theorem pn_181 : plainName (mi 181).1.cls = true := by rw [mc_181]; decide +kernel
theorem mn_182 : (mi 182).1 = ⟨"ContractDeskModel", "verify", "(I)I"⟩ := by decide +kernel
theorem mc_182 : (mi 182).1.cls = "ContractDeskModel" := by rw [mn_182]
theorem ml_182 : (mi 182).2.2.1 = 5 := by decide +kernel
theorem mr_182 : (mi 182).2.2.2.1 = (some .int) := by decide +kernel
theorem pm_182 : prm (mi 182).1 1 := by unfold prm; decide +kernel
theorem pn_182 : plainName (mi 182).1.cls = true := by rw [mc_182]; decide +kernel
theorem mn_183 : (mi 183).1 = ⟨"ContractDeskModel", "word", "(ICCCC)Z"⟩ := by decide +kernel
theorem mc_183 : (mi 183).1.cls = "ContractDeskModel" := by rw [mn_183]
theorem ml_183 : (mi 183).2.2.1 = 6 := by decide +kernel
theorem mr_183 : (mi 183).2.2.2.1 = (some .boolean) := by decide +kernel
theorem pm_183 : prm (mi 183).1 5 := by unfold prm; decide +kernel
theorem pn_183 : plainName (mi 183).1.cls = true := by rw [mc_183]; decide +kernel
theorem mn_184 : (mi 184).1 = ⟨"ContractDeskModel", "write", "(J)Z"⟩ := by decide +kernel
theorem mc_184 : (mi 184).1.cls = "ContractDeskModel" := by rw [mn_184]
theorem ml_184 : (mi 184).2.2.1 = 6 := by decide +kernel
theorem mr_184 : (mi 184).2.2.2.1 = (some .boolean) := by decide +kernel
theorem pm_184 : prm (mi 184).1 1 := by unfold prm; decide +kernel
theorem pn_184 : plainName (mi 184).1.cls = true := by rw [mc_184]; decide +kernel
theorem mn_185 : (mi 185).1 = ⟨"ContractDeskLaw", "law", "([I)Z"⟩ := by decide +kernel
theorem mc_185 : (mi 185).1.cls = "ContractDeskLaw" := by rw [mn_185]
theorem ml_185 : (mi 185).2.2.1 = 7 := by decide +kernel
theorem mr_185 : (mi 185).2.2.2.1 = (some .boolean) := by decide +kernel
theorem pm_185 : prm (mi 185).1 1 := by unfold prm; decide +kernel
theorem pn_185 : plainName (mi 185).1.cls = true := by rw [mc_185]; decide +kernel
