theorem dd_34_0 : decode (mi 34).2.1 0 = .ok (.aload_n 0, 1) := by decide +kernel
theorem st_34_0 : Sd 34 0 1 (i_ldR 0) := sd_aload_n (j := 0) dd_34_0 rfl
theorem dd_34_1 : decode (mi 34).2.1 1 = .ok (.invokespecial 1, 3) := by decide +kernel
theorem st_34_1 : Sd 34 1 3 (i_obj 1) := sd_obj dd_34_1 (by rw [mc_34]; exact tw_113) ob_1 ob_2 ml_34
theorem dd_34_4 : decode (mi 34).2.1 4 = .ok (.aload_n 0, 1) := by decide +kernel
theorem st_34_4 : Sd 34 4 1 (i_ldR 0) := sd_aload_n (j := 0) dd_34_4 rfl
theorem dd_34_5 : decode (mi 34).2.1 5 = .ok (.new 7, 3) := by decide +kernel
theorem st_34_5 : Sd 34 5 3 (i_new 15) := sd_new dd_34_5 (by rw [mc_34]; exact tw_116) (by exact tw_72) (by exact tw_117) (by decide) (by decide)
theorem dd_34_8 : decode (mi 34).2.1 8 = .ok (.dup, 1) := by decide +kernel
theorem st_34_8 : Sd 34 8 1 (i_dup) := sd_dup dd_34_8
theorem dd_34_9 : decode (mi 34).2.1 9 = .ok (.bipush 100, 2) := by decide +kernel
theorem st_34_9 : Sd 34 9 2 (i_ic 100) := sd_bipush dd_34_9 (by decide)
theorem dd_34_11 : decode (mi 34).2.1 11 = .ok (.invokespecial 11, 3) := by decide +kernel
theorem st_34_11 : Sd 34 11 3 (i_cI 0 2 1 []) := sd_init dd_34_11 (by rw [mc_34, mn_0]; exact tw_118) (by rw [mn_0]; exact tw_119) mt_0 pm_0 (by rw [mn_0]) (by decide +kernel) ml_34 (HsOk.nil (by decide +kernel))
theorem dd_34_14 : decode (mi 34).2.1 14 = .ok (.putfield 14, 3) := by decide +kernel
theorem st_34_14 : Sd 34 14 3 (i_pR 0 [1]) := sd_pR (ref := "ContractDesk") (decl := "ContractDesk") (name := "text") (desc := "Ljava/lang/StringBuilder;") dd_34_14 (by rw [mc_34]; exact tw_475) (Or.inl rfl) (by decide +kernel) (by decide +kernel)
theorem dd_34_17 : decode (mi 34).2.1 17 = .ok (.aload_n 0, 1) := by decide +kernel
theorem st_34_17 : Sd 34 17 1 (i_ldR 0) := sd_aload_n (j := 0) dd_34_17 rfl
theorem dd_34_18 : decode (mi 34).2.1 18 = .ok (.new 18, 3) := by decide +kernel
theorem st_34_18 : Sd 34 18 3 (i_new 3) := sd_new dd_34_18 (by rw [mc_34]; exact tw_149) (by exact tw_75) (by exact tw_150) (by decide) (by decide)
theorem dd_34_21 : decode (mi 34).2.1 21 = .ok (.dup, 1) := by decide +kernel
theorem st_34_21 : Sd 34 21 1 (i_dup) := sd_dup dd_34_21
theorem dd_34_22 : decode (mi 34).2.1 22 = .ok (.invokespecial 20, 3) := by decide +kernel
theorem st_34_22 : Sd 34 22 3 (i_cI 79 1 1 []) := sd_initN (host := "ContractDesk") dd_34_22 (by rw [mc_34, mn_79]; exact tw_151) (by rw [mn_79]; exact tw_152) mt_79 pm_79 (by rw [mn_79]) (by decide +kernel) ml_34 (HsOk.nil (by decide +kernel))
theorem dd_34_25 : decode (mi 34).2.1 25 = .ok (.putfield 21, 3) := by decide +kernel
theorem st_34_25 : Sd 34 25 3 (i_pR 1 [1]) := sd_pR (ref := "ContractDesk") (decl := "ContractDesk") (name := "reader") (desc := "LContractDesk$Reader;") dd_34_25 (by rw [mc_34]; exact tw_476) (Or.inl rfl) (by decide +kernel) (by decide +kernel)
theorem dd_34_28 : decode (mi 34).2.1 28 = .ok (.aload_n 0, 1) := by decide +kernel
theorem st_34_28 : Sd 34 28 1 (i_ldR 0) := sd_aload_n (j := 0) dd_34_28 rfl
theorem dd_34_29 : decode (mi 34).2.1 29 = .ok (.new 25, 3) := by decide +kernel
theorem st_34_29 : Sd 34 29 3 (i_new 16) := sd_new dd_34_29 (by rw [mc_34]; exact tw_164) (by exact tw_78) (by exact tw_165) (by decide) (by decide)
theorem dd_34_32 : decode (mi 34).2.1 32 = .ok (.dup, 1) := by decide +kernel
theorem st_34_32 : Sd 34 32 1 (i_dup) := sd_dup dd_34_32
theorem dd_34_33 : decode (mi 34).2.1 33 = .ok (.iconst 4, 1) := by decide +kernel
theorem st_34_33 : Sd 34 33 1 (i_ic 4) := sd_iconst dd_34_33
theorem dd_34_34 : decode (mi 34).2.1 34 = .ok (.invokespecial 27, 3) := by decide +kernel
theorem st_34_34 : Sd 34 34 3 (i_cI 2 2 1 []) := sd_init dd_34_34 (by rw [mc_34, mn_2]; exact tw_166) (by rw [mn_2]; exact tw_167) mt_2 pm_2 (by rw [mn_2]) (by decide +kernel) ml_34 (HsOk.nil (by decide +kernel))
theorem dd_34_37 : decode (mi 34).2.1 37 = .ok (.putfield 28, 3) := by decide +kernel
theorem st_34_37 : Sd 34 37 3 (i_pR 2 [1]) := sd_pR (ref := "ContractDesk") (decl := "ContractDesk") (name := "interactions") (desc := "Ljava/util/ArrayList;") dd_34_37 (by rw [mc_34]; exact tw_477) (Or.inl rfl) (by decide +kernel) (by decide +kernel)
theorem dd_34_40 : decode (mi 34).2.1 40 = .ok (.aload_n 0, 1) := by decide +kernel
theorem st_34_40 : Sd 34 40 1 (i_ldR 0) := sd_aload_n (j := 0) dd_34_40 rfl
theorem dd_34_41 : decode (mi 34).2.1 41 = .ok (.bipush 6, 2) := by decide +kernel
theorem st_34_41 : Sd 34 41 2 (i_ic 6) := sd_bipush dd_34_41 (by decide)
theorem dd_34_43 : decode (mi 34).2.1 43 = .ok (.newarray .int, 2) := by decide +kernel
theorem st_34_43 : Sd 34 43 2 (i_na 20) := sd_newarray dd_34_43 (by exact tw_506) rfl (by decide)
theorem dd_34_45 : decode (mi 34).2.1 45 = .ok (.putfield 32, 3) := by decide +kernel
theorem st_34_45 : Sd 34 45 3 (i_pR 3 [1]) := sd_pR (ref := "ContractDesk") (decl := "ContractDesk") (name := "handlers") (desc := "[I") dd_34_45 (by rw [mc_34]; exact tw_478) (Or.inl rfl) (by decide +kernel) (by decide +kernel)
theorem dd_34_48 : decode (mi 34).2.1 48 = .ok (.aload_n 0, 1) := by decide +kernel
theorem st_34_48 : Sd 34 48 1 (i_ldR 0) := sd_aload_n (j := 0) dd_34_48 rfl
theorem dd_34_49 : decode (mi 34).2.1 49 = .ok (.new 25, 3) := by decide +kernel
theorem st_34_49 : Sd 34 49 3 (i_new 16) := sd_new dd_34_49 (by rw [mc_34]; exact tw_164) (by exact tw_78) (by exact tw_165) (by decide) (by decide)
theorem dd_34_52 : decode (mi 34).2.1 52 = .ok (.dup, 1) := by decide +kernel
theorem st_34_52 : Sd 34 52 1 (i_dup) := sd_dup dd_34_52
theorem dd_34_53 : decode (mi 34).2.1 53 = .ok (.bipush 30, 2) := by decide +kernel
theorem st_34_53 : Sd 34 53 2 (i_ic 30) := sd_bipush dd_34_53 (by decide)
theorem dd_34_55 : decode (mi 34).2.1 55 = .ok (.invokespecial 27, 3) := by decide +kernel
theorem st_34_55 : Sd 34 55 3 (i_cI 2 2 1 []) := sd_init dd_34_55 (by rw [mc_34, mn_2]; exact tw_166) (by rw [mn_2]; exact tw_167) mt_2 pm_2 (by rw [mn_2]) (by decide +kernel) ml_34 (HsOk.nil (by decide +kernel))
theorem dd_34_58 : decode (mi 34).2.1 58 = .ok (.putfield 36, 3) := by decide +kernel
theorem st_34_58 : Sd 34 58 3 (i_pR 4 [1]) := sd_pR (ref := "ContractDesk") (decl := "ContractDesk") (name := "mismatches") (desc := "Ljava/util/ArrayList;") dd_34_58 (by rw [mc_34]; exact tw_479) (Or.inl rfl) (by decide +kernel) (by decide +kernel)
theorem dd_34_61 : decode (mi 34).2.1 61 = .ok (.aload_n 0, 1) := by decide +kernel
theorem st_34_61 : Sd 34 61 1 (i_ldR 0) := sd_aload_n (j := 0) dd_34_61 rfl
theorem dd_34_62 : decode (mi 34).2.1 62 = .ok (.bipush 60, 2) := by decide +kernel
theorem st_34_62 : Sd 34 62 2 (i_ic 60) := sd_bipush dd_34_62 (by decide)
theorem dd_34_64 : decode (mi 34).2.1 64 = .ok (.newarray .int, 2) := by decide +kernel
theorem st_34_64 : Sd 34 64 2 (i_na 20) := sd_newarray dd_34_64 (by exact tw_506) rfl (by decide)
theorem dd_34_66 : decode (mi 34).2.1 66 = .ok (.putfield 39, 3) := by decide +kernel
theorem st_34_66 : Sd 34 66 3 (i_pR 7 [1]) := sd_pR (ref := "ContractDesk") (decl := "ContractDesk") (name := "place") (desc := "[I") dd_34_66 (by rw [mc_34]; exact tw_482) (Or.inl rfl) (by decide +kernel) (by decide +kernel)
theorem dd_34_69 : decode (mi 34).2.1 69 = .ok (.aload_n 0, 1) := by decide +kernel
theorem st_34_69 : Sd 34 69 1 (i_ldR 0) := sd_aload_n (j := 0) dd_34_69 rfl
theorem dd_34_70 : decode (mi 34).2.1 70 = .ok (.bipush 16, 2) := by decide +kernel
theorem st_34_70 : Sd 34 70 2 (i_ic 16) := sd_bipush dd_34_70 (by decide)
theorem dd_34_72 : decode (mi 34).2.1 72 = .ok (.newarray .int, 2) := by decide +kernel
theorem st_34_72 : Sd 34 72 2 (i_na 20) := sd_newarray dd_34_72 (by exact tw_506) rfl (by decide)
theorem dd_34_74 : decode (mi 34).2.1 74 = .ok (.putfield 42, 3) := by decide +kernel
theorem st_34_74 : Sd 34 74 3 (i_pR 8 [1]) := sd_pR (ref := "ContractDesk") (decl := "ContractDesk") (name := "events") (desc := "[I") dd_34_74 (by rw [mc_34]; exact tw_483) (Or.inl rfl) (by decide +kernel) (by decide +kernel)
theorem dd_34_77 : decode (mi 34).2.1 77 = .ok (.return_, 1) := by decide +kernel
theorem st_34_77 : Sd 34 77 1 (i_ret) := sd_ret dd_34_77 mr_34
def bk_34_0 : Tr := sq (i_ldR 0) (sq (i_obj 1) (sq (i_ldR 0) (sq (i_new 15) (sq (i_dup) (sq (i_ic 100) (sq (i_cI 0 2 1 []) (sq (i_pR 0 [1]) (sq (i_ldR 0) (sq (i_new 3) (sq (i_dup) (sq (i_cI 79 1 1 []) (sq (i_pR 1 [1]) (sq (i_ldR 0) (sq (i_new 16) (sq (i_dup) (sq (i_ic 4) (sq (i_cI 2 2 1 []) (sq (i_pR 2 [1]) (sq (i_ldR 0) (sq (i_ic 6) (sq (i_na 20) (sq (i_pR 3 [1]) (sq (i_ldR 0) (sq (i_new 16) (sq (i_dup) (sq (i_ic 30) (sq (i_cI 2 2 1 []) (sq (i_pR 4 [1]) (sq (i_ldR 0) (sq (i_ic 60) (sq (i_na 20) (sq (i_pR 7 [1]) (sq (i_ldR 0) (sq (i_ic 16) (sq (i_na 20) (sq (i_pR 8 [1]) (i_ret)))))))))))))))))))))))))))))))))))))
theorem sb_34_0 : Sd 34 0 78 bk_34_0 := Sd.sq st_34_0 (Sd.sq st_34_1 (Sd.sq st_34_4 (Sd.sq st_34_5 (Sd.sq st_34_8 (Sd.sq st_34_9 (Sd.sq st_34_11 (Sd.sq st_34_14 (Sd.sq st_34_17 (Sd.sq st_34_18 (Sd.sq st_34_21 (Sd.sq st_34_22 (Sd.sq st_34_25 (Sd.sq st_34_28 (Sd.sq st_34_29 (Sd.sq st_34_32 (Sd.sq st_34_33 (Sd.sq st_34_34 (Sd.sq st_34_37 (Sd.sq st_34_40 (Sd.sq st_34_41 (Sd.sq st_34_43 (Sd.sq st_34_45 (Sd.sq st_34_48 (Sd.sq st_34_49 (Sd.sq st_34_52 (Sd.sq st_34_53 (Sd.sq st_34_55 (Sd.sq st_34_58 (Sd.sq st_34_61 (Sd.sq st_34_62 (Sd.sq st_34_64 (Sd.sq st_34_66 (Sd.sq st_34_69 (Sd.sq st_34_70 (Sd.sq st_34_72 (Sd.sq st_34_74 (st_34_77)))))))))))))))))))))))))))))))))))))
theorem dd_35_0 : decode (mi 35).2.1 0 = .ok (.aload_n 0, 1) := by decide +kernel
theorem st_35_0 : Sd 35 0 1 (i_ldR 0) := sd_aload_n (j := 0) dd_35_0 rfl
theorem dd_35_1 : decode (mi 35).2.1 1 = .ok (.getfield 21, 3) := by decide +kernel
theorem st_35_1 : Sd 35 1 3 (i_gR 1 [1]) := sd_gR (ref := "ContractDesk") (decl := "ContractDesk") (name := "reader") (desc := "LContractDesk$Reader;") dd_35_1 (by rw [mc_35]; exact tw_476) (Or.inl rfl) (by decide +kernel)
theorem dd_35_4 : decode (mi 35).2.1 4 = .ok (.aload_n 0, 1) := by decide +kernel
theorem st_35_4 : Sd 35 4 1 (i_ldR 0) := sd_aload_n (j := 0) dd_35_4 rfl
theorem dd_35_5 : decode (mi 35).2.1 5 = .ok (.getfield 14, 3) := by decide +kernel
theorem st_35_5 : Sd 35 5 3 (i_gR 0 [1]) := sd_gR (ref := "ContractDesk") (decl := "ContractDesk") (name := "text") (desc := "Ljava/lang/StringBuilder;") dd_35_5 (by rw [mc_35]; exact tw_475) (Or.inl rfl) (by decide +kernel)
theorem dd_35_8 : decode (mi 35).2.1 8 = .ok (.invokevirtual 81, 3) := by decide +kernel
theorem st_35_8 : Sd 35 8 3 (i_cV [(3, 97)] 2 4 []) := sd_virt ⟨"ContractDesk$Reader", "take", "(Ljava/lang/StringBuilder;)V"⟩ dd_35_8 (by rw [mc_35]; exact tw_569) (fun t j h => by simp only [List.mem_cons, List.not_mem_nil, or_false, Prod.mk.injEq] at h; obtain ⟨rfl, rfl⟩ := h; exact mn_97) (fun t j h => by simp only [List.mem_cons, List.not_mem_nil, or_false, Prod.mk.injEq] at h; obtain ⟨rfl, rfl⟩ := h; exact ⟨by rw [mn_97]; exact tw_571, by rw [mn_97]; exact tw_570, mt_97, by decide, by decide⟩) (by unfold prm; decide +kernel) ml_35 (HsOk.nil (by decide +kernel))
theorem dd_35_11 : decode (mi 35).2.1 11 = .ok (.aload_n 0, 1) := by decide +kernel
theorem st_35_11 : Sd 35 11 1 (i_ldR 0) := sd_aload_n (j := 0) dd_35_11 rfl
theorem dd_35_12 : decode (mi 35).2.1 12 = .ok (.iload_n 1, 1) := by decide +kernel
theorem st_35_12 : Sd 35 12 1 (i_ldI 1) := sd_iload_n (j := 1) dd_35_12 rfl
theorem dd_35_13 : decode (mi 35).2.1 13 = .ok (.invokevirtual 85, 3) := by decide +kernel
theorem st_35_13 : Sd 35 13 3 (i_cV [(1, 40)] 2 4 []) := sd_virt ⟨"ContractDesk", "get", "(I)LContractDesk$Interaction;"⟩ dd_35_13 (by rw [mc_35]; exact tw_793) (fun t j h => by simp only [List.mem_cons, List.not_mem_nil, or_false, Prod.mk.injEq] at h; obtain ⟨rfl, rfl⟩ := h; exact mn_40) (fun t j h => by simp only [List.mem_cons, List.not_mem_nil, or_false, Prod.mk.injEq] at h; obtain ⟨rfl, rfl⟩ := h; exact ⟨by rw [mn_40]; exact tw_6, by rw [mn_40]; exact tw_795, mt_40, by decide, by decide⟩) (by unfold prm; decide +kernel) ml_35 (HsOk.nil (by decide +kernel))
theorem dd_35_16 : decode (mi 35).2.1 16 = .ok (.astore_n 2, 1) := by decide +kernel
theorem st_35_16 : Sd 35 16 1 (i_stR 2) := sd_astore_n (j := 2) dd_35_16 rfl
theorem dd_35_17 : decode (mi 35).2.1 17 = .ok (.aload_n 0, 1) := by decide +kernel
theorem st_35_17 : Sd 35 17 1 (i_ldR 0) := sd_aload_n (j := 0) dd_35_17 rfl
theorem dd_35_18 : decode (mi 35).2.1 18 = .ok (.getfield 21, 3) := by decide +kernel
theorem st_35_18 : Sd 35 18 3 (i_gR 1 [1]) := sd_gR (ref := "ContractDesk") (decl := "ContractDesk") (name := "reader") (desc := "LContractDesk$Reader;") dd_35_18 (by rw [mc_35]; exact tw_476) (Or.inl rfl) (by decide +kernel)
theorem dd_35_21 : decode (mi 35).2.1 21 = .ok (.invokevirtual 88, 3) := by decide +kernel
theorem st_35_21 : Sd 35 21 3 (i_cV [(3, 101)] 1 4 []) := sd_virt ⟨"ContractDesk$Reader", "whole", "()LContractDesk$Value;"⟩ dd_35_21 (by rw [mc_35]; exact tw_798) (fun t j h => by simp only [List.mem_cons, List.not_mem_nil, or_false, Prod.mk.injEq] at h; obtain ⟨rfl, rfl⟩ := h; exact mn_101) (fun t j h => by simp only [List.mem_cons, List.not_mem_nil, or_false, Prod.mk.injEq] at h; obtain ⟨rfl, rfl⟩ := h; exact ⟨by rw [mn_101]; exact tw_800, by rw [mn_101]; exact tw_799, mt_101, by decide, by decide⟩) (by unfold prm; decide +kernel) ml_35 (HsOk.nil (by decide +kernel))
theorem dd_35_24 : decode (mi 35).2.1 24 = .ok (.astore_n 3, 1) := by decide +kernel
theorem st_35_24 : Sd 35 24 1 (i_stR 3) := sd_astore_n (j := 3) dd_35_24 rfl
theorem dd_35_25 : decode (mi 35).2.1 25 = .ok (.aload_n 2, 1) := by decide +kernel
theorem st_35_25 : Sd 35 25 1 (i_ldR 2) := sd_aload_n (j := 2) dd_35_25 rfl
theorem dd_35_26 : decode (mi 35).2.1 26 = .ok (.getfield 92, 3) := by decide +kernel
theorem st_35_26 : Sd 35 26 3 (i_gR 3 [4]) := sd_gR (ref := "ContractDesk$Interaction") (decl := "ContractDesk$Interaction") (name := "body") (desc := "LContractDesk$Value;") dd_35_26 (by rw [mc_35]; exact tw_720) (Or.inl rfl) (by decide +kernel)
theorem dd_35_29 : decode (mi 35).2.1 29 = .ok (.ifnull 22, 3) := by decide +kernel
theorem st_35_29 : Sd 35 29 3 (i_nul 51) := sd_ifnull dd_35_29 (by decide)
theorem dd_35_32 : decode (mi 35).2.1 32 = .ok (.aload_n 2, 1) := by decide +kernel
theorem st_35_32 : Sd 35 32 1 (i_ldR 2) := sd_aload_n (j := 2) dd_35_32 rfl
theorem dd_35_33 : decode (mi 35).2.1 33 = .ok (.getfield 92, 3) := by decide +kernel
theorem st_35_33 : Sd 35 33 3 (i_gR 3 [4]) := sd_gR (ref := "ContractDesk$Interaction") (decl := "ContractDesk$Interaction") (name := "body") (desc := "LContractDesk$Value;") dd_35_33 (by rw [mc_35]; exact tw_720) (Or.inl rfl) (by decide +kernel)
theorem dd_35_36 : decode (mi 35).2.1 36 = .ok (.aload_n 3, 1) := by decide +kernel
theorem st_35_36 : Sd 35 36 1 (i_ldR 3) := sd_aload_n (j := 3) dd_35_36 rfl
theorem dd_35_37 : decode (mi 35).2.1 37 = .ok (.invokevirtual 96, 3) := by decide +kernel
theorem st_35_37 : Sd 35 37 3 (i_cV [(10, 120), (11, 78), (12, 67)] 2 4 []) := sd_virtU ⟨"ContractDesk$Value", "same", "(LContractDesk$Value;)Z"⟩ "ContractDesk$Value" dd_35_37 (by rw [mc_35]; exact tw_945) (by exact tw_947) (Or.inl tw_946) (by decide) (fun t j h => by simp only [List.mem_cons, List.not_mem_nil, or_false, Prod.mk.injEq] at h; rcases h with ⟨rfl, rfl⟩ | ⟨rfl, rfl⟩ | ⟨rfl, rfl⟩; exact ⟨by rw [mn_120]; exact tw_991, by rw [mn_120]; exact tw_981, mt_120, by decide, by decide⟩; exact ⟨by rw [mn_78]; exact tw_990, by rw [mn_78]; exact tw_975, mt_78, by decide, by decide⟩; exact ⟨by rw [mn_67]; exact tw_948, by rw [mn_67]; exact tw_949, mt_67, by decide, by decide⟩) (by unfold prm; decide +kernel) ml_35 (HsOk.nil (by decide +kernel))
theorem dd_35_40 : decode (mi 35).2.1 40 = .ok (.ifCond .ne 11, 3) := by decide +kernel
theorem st_35_40 : Sd 35 40 3 (i_zne 51) := sd_if_ne dd_35_40 (by decide)
theorem dd_35_43 : decode (mi 35).2.1 43 = .ok (.new 58, 3) := by decide +kernel
theorem st_35_43 : Sd 35 43 3 (i_new 18) := sd_new dd_35_43 (by rw [mc_35]; exact tw_692) (by exact tw_91) (by exact tw_693) (by decide) (by decide)
theorem dd_35_46 : decode (mi 35).2.1 46 = .ok (.dup, 1) := by decide +kernel
theorem st_35_46 : Sd 35 46 1 (i_dup) := sd_dup dd_35_46
theorem dd_35_47 : decode (mi 35).2.1 47 = .ok (.invokespecial 60, 3) := by decide +kernel
theorem st_35_47 : Sd 35 47 3 (i_exc 18 4) := sd_exc dd_35_47 (by decide) (by rw [mc_35]; exact tw_701) ml_35
theorem dd_35_50 : decode (mi 35).2.1 50 = .ok (.athrow, 1) := by decide +kernel
theorem st_35_50 : Sd 35 50 1 (i_throw) := sd_athrow dd_35_50 (by decide +kernel)
def bk_35_0 : Tr := sq (i_ldR 0) (sq (i_gR 1 [1]) (sq (i_ldR 0) (sq (i_gR 0 [1]) (sq (i_cV [(3, 97)] 2 4 []) (sq (i_ldR 0) (sq (i_ldI 1) (sq (i_cV [(1, 40)] 2 4 []) (sq (i_stR 2) (sq (i_ldR 0) (sq (i_gR 1 [1]) (sq (i_cV [(3, 101)] 1 4 []) (sq (i_stR 3) (sq (i_ldR 2) (sq (i_gR 3 [4]) (sq (i_nul 51) (sq (i_ldR 2) (sq (i_gR 3 [4]) (sq (i_ldR 3) (sq (i_cV [(10, 120), (11, 78), (12, 67)] 2 4 []) (sq (i_zne 51) (sq (i_new 18) (sq (i_dup) (sq (i_exc 18 4) (i_throw))))))))))))))))))))))))
theorem sb_35_0 : Sd 35 0 51 bk_35_0 := Sd.sq st_35_0 (Sd.sq st_35_1 (Sd.sq st_35_4 (Sd.sq st_35_5 (Sd.sq st_35_8 (Sd.sq st_35_11 (Sd.sq st_35_12 (Sd.sq st_35_13 (Sd.sq st_35_16 (Sd.sq st_35_17 (Sd.sq st_35_18 (Sd.sq st_35_21 (Sd.sq st_35_24 (Sd.sq st_35_25 (Sd.sq st_35_26 (Sd.sq st_35_29 (Sd.sq st_35_32 (Sd.sq st_35_33 (Sd.sq st_35_36 (Sd.sq st_35_37 (Sd.sq st_35_40 (Sd.sq st_35_43 (Sd.sq st_35_46 (Sd.sq st_35_47 (st_35_50))))))))))))))))))))))))
theorem dd_35_51 : decode (mi 35).2.1 51 = .ok (.aload_n 2, 1) := by decide +kernel
theorem st_35_51 : Sd 35 51 1 (i_ldR 2) := sd_aload_n (j := 2) dd_35_51 rfl
theorem dd_35_52 : decode (mi 35).2.1 52 = .ok (.getfield 92, 3) := by decide +kernel
theorem st_35_52 : Sd 35 52 3 (i_gR 3 [4]) := sd_gR (ref := "ContractDesk$Interaction") (decl := "ContractDesk$Interaction") (name := "body") (desc := "LContractDesk$Value;") dd_35_52 (by rw [mc_35]; exact tw_720) (Or.inl rfl) (by decide +kernel)
theorem dd_35_55 : decode (mi 35).2.1 55 = .ok (.ifnonnull 8, 3) := by decide +kernel
theorem st_35_55 : Sd 35 55 3 (i_nol 63) := sd_ifnonnull dd_35_55 (by decide)
theorem dd_35_58 : decode (mi 35).2.1 58 = .ok (.aload_n 2, 1) := by decide +kernel
theorem st_35_58 : Sd 35 58 1 (i_ldR 2) := sd_aload_n (j := 2) dd_35_58 rfl
theorem dd_35_59 : decode (mi 35).2.1 59 = .ok (.aload_n 3, 1) := by decide +kernel
theorem st_35_59 : Sd 35 59 1 (i_ldR 3) := sd_aload_n (j := 3) dd_35_59 rfl
theorem dd_35_60 : decode (mi 35).2.1 60 = .ok (.putfield 92, 3) := by decide +kernel
theorem st_35_60 : Sd 35 60 3 (i_pR 3 [4]) := sd_pR (ref := "ContractDesk$Interaction") (decl := "ContractDesk$Interaction") (name := "body") (desc := "LContractDesk$Value;") dd_35_60 (by rw [mc_35]; exact tw_720) (Or.inl rfl) (by decide +kernel) (by decide +kernel)
def bk_35_51 : Tr := sq (i_ldR 2) (sq (i_gR 3 [4]) (sq (i_nol 63) (sq (i_ldR 2) (sq (i_ldR 3) (sq (i_pR 3 [4]) (i_fall 63))))))
theorem sb_35_51 : Sd 35 51 12 bk_35_51 := Sd.sq st_35_51 (Sd.sq st_35_52 (Sd.sq st_35_55 (Sd.sq st_35_58 (Sd.sq st_35_59 (Sd.sq st_35_60 (sd_fall rfl))))))
theorem dd_35_63 : decode (mi 35).2.1 63 = .ok (.aload_n 3, 1) := by decide +kernel
theorem st_35_63 : Sd 35 63 1 (i_ldR 3) := sd_aload_n (j := 3) dd_35_63 rfl
theorem dd_35_64 : decode (mi 35).2.1 64 = .ok (.invokevirtual 102, 3) := by decide +kernel
theorem st_35_64 : Sd 35 64 3 (i_cV [(10, 122), (11, 122), (12, 64)] 1 4 []) := sd_virtU ⟨"ContractDesk$Value", "count", "()I"⟩ "ContractDesk$Value" dd_35_64 (by rw [mc_35]; exact tw_992) (by exact tw_994) (Or.inr ⟨122, mn_122, tw_993, mt_122.1⟩) (by decide) (fun t j h => by simp only [List.mem_cons, List.not_mem_nil, or_false, Prod.mk.injEq] at h; rcases h with ⟨rfl, rfl⟩ | ⟨rfl, rfl⟩ | ⟨rfl, rfl⟩; exact ⟨by rw [mn_122]; exact tw_1000, by rw [mn_122]; exact tw_993, mt_122, by decide, by decide⟩; exact ⟨by rw [mn_122]; exact tw_999, by rw [mn_122]; exact tw_993, mt_122, by decide, by decide⟩; exact ⟨by rw [mn_64]; exact tw_995, by rw [mn_64]; exact tw_996, mt_64, by decide, by decide⟩) (by unfold prm; decide +kernel) ml_35 (HsOk.nil (by decide +kernel))
theorem dd_35_67 : decode (mi 35).2.1 67 = .ok (.ireturn, 1) := by decide +kernel
theorem st_35_67 : Sd 35 67 1 (i_rI 0) := sd_ireturn dd_35_67 (by decide) mr_35
def bk_35_63 : Tr := sq (i_ldR 3) (sq (i_cV [(10, 122), (11, 122), (12, 64)] 1 4 []) (i_rI 0))
theorem sb_35_63 : Sd 35 63 5 bk_35_63 := Sd.sq st_35_63 (Sd.sq st_35_64 (st_35_67))
theorem dd_36_0 : decode (mi 36).2.1 0 = .ok (.iload_n 2, 1) := by decide +kernel
theorem st_36_0 : Sd 36 0 1 (i_ldI 2) := sd_iload_n (j := 2) dd_36_0 rfl
theorem dd_36_1 : decode (mi 36).2.1 1 = .ok (.iconst 1, 1) := by decide +kernel
theorem st_36_1 : Sd 36 1 1 (i_ic 1) := sd_iconst dd_36_1
theorem dd_36_2 : decode (mi 36).2.1 2 = .ok (.isub, 1) := by decide +kernel
theorem st_36_2 : Sd 36 2 1 (i_isub) := sd_isub dd_36_2
theorem dd_36_3 : decode (mi 36).2.1 3 = .ok (.istore_n 3, 1) := by decide +kernel
theorem st_36_3 : Sd 36 3 1 (i_stI 3) := sd_istore_n (j := 3) dd_36_3 rfl
def bk_36_0 : Tr := sq (i_ldI 2) (sq (i_ic 1) (sq (i_isub) (sq (i_stI 3) (i_fall 4))))
theorem sb_36_0 : Sd 36 0 4 bk_36_0 := Sd.sq st_36_0 (Sd.sq st_36_1 (Sd.sq st_36_2 (Sd.sq st_36_3 (sd_fall rfl))))
theorem dd_36_4 : decode (mi 36).2.1 4 = .ok (.iload_n 3, 1) := by decide +kernel
theorem st_36_4 : Sd 36 4 1 (i_ldI 3) := sd_iload_n (j := 3) dd_36_4 rfl
theorem dd_36_5 : decode (mi 36).2.1 5 = .ok (.ifCond .lt 39, 3) := by decide +kernel
theorem st_36_5 : Sd 36 5 3 (i_zlt 44) := sd_if_lt dd_36_5 (by decide)
theorem dd_36_8 : decode (mi 36).2.1 8 = .ok (.aload_n 0, 1) := by decide +kernel
theorem st_36_8 : Sd 36 8 1 (i_ldR 0) := sd_aload_n (j := 0) dd_36_8 rfl
theorem dd_36_9 : decode (mi 36).2.1 9 = .ok (.aload_n 1, 1) := by decide +kernel
theorem st_36_9 : Sd 36 9 1 (i_ldR 1) := sd_aload_n (j := 1) dd_36_9 rfl
theorem dd_36_10 : decode (mi 36).2.1 10 = .ok (.getfield 116, 3) := by decide +kernel
theorem st_36_10 : Sd 36 10 3 (i_gR 2 [4]) := sd_gR (ref := "ContractDesk$Interaction") (decl := "ContractDesk$Interaction") (name := "states") (desc := "[I") dd_36_10 (by rw [mc_36]; exact tw_719) (Or.inl rfl) (by decide +kernel)
theorem dd_36_13 : decode (mi 36).2.1 13 = .ok (.iload_n 3, 1) := by decide +kernel
theorem st_36_13 : Sd 36 13 1 (i_ldI 3) := sd_iload_n (j := 3) dd_36_13 rfl
theorem dd_36_14 : decode (mi 36).2.1 14 = .ok (.iaload, 1) := by decide +kernel
theorem st_36_14 : Sd 36 14 1 (i_aI [20]) := sd_iaload dd_36_14 (by decide)
theorem dd_36_15 : decode (mi 36).2.1 15 = .ok (.invokevirtual 145, 3) := by decide +kernel
theorem st_36_15 : Sd 36 15 3 (i_cV [(1, 56)] 2 5 [(21, [18], [17])]) := sd_virt ⟨"ContractDesk", "tearDown", "(I)V"⟩ dd_36_15 (by rw [mc_36]; exact tw_1148) (fun t j h => by simp only [List.mem_cons, List.not_mem_nil, or_false, Prod.mk.injEq] at h; obtain ⟨rfl, rfl⟩ := h; exact mn_56) (fun t j h => by simp only [List.mem_cons, List.not_mem_nil, or_false, Prod.mk.injEq] at h; obtain ⟨rfl, rfl⟩ := h; exact ⟨by rw [mn_56]; exact tw_21, by rw [mn_56]; exact tw_1150, mt_56, by decide, by decide⟩) (by unfold prm; decide +kernel) ml_36 (HsOk.cons (by rw [mh_36]; exact (HG.cov (nm := "java/lang/IllegalStateException") (by decide) rfl (by decide) (by rw [mc_36]; exact tw_692) okc_4 oknc_3 HG.nil)))
theorem dd_36_18 : decode (mi 36).2.1 18 = .ok (.goto 20, 3) := by decide +kernel
theorem st_36_18 : Sd 36 18 3 (i_goto 38) := sd_goto dd_36_18 (by decide)
def bk_36_4 : Tr := sq (i_ldI 3) (sq (i_zlt 44) (sq (i_ldR 0) (sq (i_ldR 1) (sq (i_gR 2 [4]) (sq (i_ldI 3) (sq (i_aI [20]) (sq (i_cV [(1, 56)] 2 5 [(21, [18], [17])]) (i_goto 38))))))))
theorem sb_36_4 : Sd 36 4 17 bk_36_4 := Sd.sq st_36_4 (Sd.sq st_36_5 (Sd.sq st_36_8 (Sd.sq st_36_9 (Sd.sq st_36_10 (Sd.sq st_36_13 (Sd.sq st_36_14 (Sd.sq st_36_15 (st_36_18))))))))
theorem dd_36_21 : decode (mi 36).2.1 21 = .ok (.astore 4, 2) := by decide +kernel
theorem st_36_21 : Sd 36 21 2 (i_stR 4) := sd_astore dd_36_21
theorem dd_36_23 : decode (mi 36).2.1 23 = .ok (.aload_n 0, 1) := by decide +kernel
theorem st_36_23 : Sd 36 23 1 (i_ldR 0) := sd_aload_n (j := 0) dd_36_23 rfl
theorem dd_36_24 : decode (mi 36).2.1 24 = .ok (.bipush 10, 2) := by decide +kernel
theorem st_36_24 : Sd 36 24 2 (i_ic 10) := sd_bipush dd_36_24 (by decide)
theorem dd_36_26 : decode (mi 36).2.1 26 = .ok (.aload_n 1, 1) := by decide +kernel
theorem st_36_26 : Sd 36 26 1 (i_ldR 1) := sd_aload_n (j := 1) dd_36_26 rfl
theorem dd_36_27 : decode (mi 36).2.1 27 = .ok (.getfield 116, 3) := by decide +kernel
theorem st_36_27 : Sd 36 27 3 (i_gR 2 [4]) := sd_gR (ref := "ContractDesk$Interaction") (decl := "ContractDesk$Interaction") (name := "states") (desc := "[I") dd_36_27 (by rw [mc_36]; exact tw_719) (Or.inl rfl) (by decide +kernel)
theorem dd_36_30 : decode (mi 36).2.1 30 = .ok (.iload_n 3, 1) := by decide +kernel
theorem st_36_30 : Sd 36 30 1 (i_ldI 3) := sd_iload_n (j := 3) dd_36_30 rfl
theorem dd_36_31 : decode (mi 36).2.1 31 = .ok (.iaload, 1) := by decide +kernel
theorem st_36_31 : Sd 36 31 1 (i_aI [20]) := sd_iaload dd_36_31 (by decide)
theorem dd_36_32 : decode (mi 36).2.1 32 = .ok (.imul, 1) := by decide +kernel
theorem st_36_32 : Sd 36 32 1 (i_imul) := sd_imul dd_36_32
theorem dd_36_33 : decode (mi 36).2.1 33 = .ok (.iconst 3, 1) := by decide +kernel
theorem st_36_33 : Sd 36 33 1 (i_ic 3) := sd_iconst dd_36_33
theorem dd_36_34 : decode (mi 36).2.1 34 = .ok (.iadd, 1) := by decide +kernel
theorem st_36_34 : Sd 36 34 1 (i_iadd) := sd_iadd dd_36_34
theorem dd_36_35 : decode (mi 36).2.1 35 = .ok (.invokevirtual 135, 3) := by decide +kernel
theorem st_36_35 : Sd 36 35 3 (i_cV [(1, 50)] 2 5 []) := sd_virt ⟨"ContractDesk", "note", "(I)V"⟩ dd_36_35 (by rw [mc_36]; exact tw_1139) (fun t j h => by simp only [List.mem_cons, List.not_mem_nil, or_false, Prod.mk.injEq] at h; obtain ⟨rfl, rfl⟩ := h; exact mn_50) (fun t j h => by simp only [List.mem_cons, List.not_mem_nil, or_false, Prod.mk.injEq] at h; obtain ⟨rfl, rfl⟩ := h; exact ⟨by rw [mn_50]; exact tw_19, by rw [mn_50]; exact tw_1141, mt_50, by decide, by decide⟩) (by unfold prm; decide +kernel) ml_36 (HsOk.nil (by decide +kernel))
def bk_36_21 : Tr := sq (i_stR 4) (sq (i_ldR 0) (sq (i_ic 10) (sq (i_ldR 1) (sq (i_gR 2 [4]) (sq (i_ldI 3) (sq (i_aI [20]) (sq (i_imul) (sq (i_ic 3) (sq (i_iadd) (sq (i_cV [(1, 50)] 2 5 []) (i_fall 38)))))))))))
theorem sb_36_21 : Sd 36 21 17 bk_36_21 := Sd.sq st_36_21 (Sd.sq st_36_23 (Sd.sq st_36_24 (Sd.sq st_36_26 (Sd.sq st_36_27 (Sd.sq st_36_30 (Sd.sq st_36_31 (Sd.sq st_36_32 (Sd.sq st_36_33 (Sd.sq st_36_34 (Sd.sq st_36_35 (sd_fall rfl)))))))))))
theorem dd_36_38 : decode (mi 36).2.1 38 = .ok (.iinc 3 (-1), 3) := by decide +kernel
theorem st_36_38 : Sd 36 38 3 (i_inc 3 (-1)) := sd_iinc dd_36_38
theorem dd_36_41 : decode (mi 36).2.1 41 = .ok (.goto (-37), 3) := by decide +kernel
theorem st_36_41 : Sd 36 41 3 (i_goto 4) := sd_goto dd_36_41 (by decide)
def bk_36_38 : Tr := sq (i_inc 3 (-1)) (i_goto 4)
theorem sb_36_38 : Sd 36 38 6 bk_36_38 := Sd.sq st_36_38 (st_36_41)
theorem dd_36_44 : decode (mi 36).2.1 44 = .ok (.return_, 1) := by decide +kernel
theorem st_36_44 : Sd 36 44 1 (i_ret) := sd_ret dd_36_44 mr_36
def bk_36_44 : Tr := i_ret
theorem sb_36_44 : Sd 36 44 1 bk_36_44 := st_36_44
theorem dd_37_0 : decode (mi 37).2.1 0 = .ok (.aload_n 1, 1) := by decide +kernel
theorem st_37_0 : Sd 37 0 1 (i_ldR 1) := sd_aload_n (j := 1) dd_37_0 rfl
theorem dd_37_1 : decode (mi 37).2.1 1 = .ok (.aload_n 0, 1) := by decide +kernel
theorem st_37_1 : Sd 37 1 1 (i_ldR 0) := sd_aload_n (j := 0) dd_37_1 rfl
theorem dd_37_2 : decode (mi 37).2.1 2 = .ok (.getfield 39, 3) := by decide +kernel
theorem st_37_2 : Sd 37 2 3 (i_gR 7 [1]) := sd_gR (ref := "ContractDesk") (decl := "ContractDesk") (name := "place") (desc := "[I") dd_37_2 (by rw [mc_37]; exact tw_482) (Or.inl rfl) (by decide +kernel)
theorem dd_37_5 : decode (mi 37).2.1 5 = .ok (.iload 4, 2) := by decide +kernel
theorem st_37_5 : Sd 37 5 2 (i_ldI 4) := sd_iload dd_37_5
theorem dd_37_7 : decode (mi 37).2.1 7 = .ok (.invokevirtual 122, 3) := by decide +kernel
theorem st_37_7 : Sd 37 7 3 (i_cV [(4, 71)] 3 10 []) := sd_virt ⟨"ContractDesk$Interaction", "select", "([II)I"⟩ dd_37_7 (by rw [mc_37]; exact tw_651) (fun t j h => by simp only [List.mem_cons, List.not_mem_nil, or_false, Prod.mk.injEq] at h; obtain ⟨rfl, rfl⟩ := h; exact mn_71) (fun t j h => by simp only [List.mem_cons, List.not_mem_nil, or_false, Prod.mk.injEq] at h; obtain ⟨rfl, rfl⟩ := h; exact ⟨by rw [mn_71]; exact tw_653, by rw [mn_71]; exact tw_652, mt_71, by decide, by decide⟩) (by unfold prm; decide +kernel) ml_37 (HsOk.nil (by decide +kernel))
theorem dd_37_10 : decode (mi 37).2.1 10 = .ok (.istore 5, 2) := by decide +kernel
theorem st_37_10 : Sd 37 10 2 (i_stI 5) := sd_istore dd_37_10
theorem dd_37_12 : decode (mi 37).2.1 12 = .ok (.iload 5, 2) := by decide +kernel
theorem st_37_12 : Sd 37 12 2 (i_ldI 5) := sd_iload dd_37_12
theorem dd_37_14 : decode (mi 37).2.1 14 = .ok (.iconst (-1), 1) := by decide +kernel
theorem st_37_14 : Sd 37 14 1 (i_ic (-1)) := sd_iconst dd_37_14
theorem dd_37_15 : decode (mi 37).2.1 15 = .ok (.if_icmp .ne 7, 3) := by decide +kernel
theorem st_37_15 : Sd 37 15 3 (i_cne 22) := sd_icmp_ne dd_37_15 (by decide)
theorem dd_37_18 : decode (mi 37).2.1 18 = .ok (.aconst_null, 1) := by decide +kernel
theorem st_37_18 : Sd 37 18 1 (i_null) := sd_null dd_37_18
theorem dd_37_19 : decode (mi 37).2.1 19 = .ok (.goto 15, 3) := by decide +kernel
theorem st_37_19 : Sd 37 19 3 (i_goto 34) := sd_goto dd_37_19 (by decide)
def bk_37_0 : Tr := sq (i_ldR 1) (sq (i_ldR 0) (sq (i_gR 7 [1]) (sq (i_ldI 4) (sq (i_cV [(4, 71)] 3 10 []) (sq (i_stI 5) (sq (i_ldI 5) (sq (i_ic (-1)) (sq (i_cne 22) (sq (i_null) (i_goto 34))))))))))
theorem sb_37_0 : Sd 37 0 22 bk_37_0 := Sd.sq st_37_0 (Sd.sq st_37_1 (Sd.sq st_37_2 (Sd.sq st_37_5 (Sd.sq st_37_7 (Sd.sq st_37_10 (Sd.sq st_37_12 (Sd.sq st_37_14 (Sd.sq st_37_15 (Sd.sq st_37_18 (st_37_19))))))))))
theorem dd_37_22 : decode (mi 37).2.1 22 = .ok (.aload_n 1, 1) := by decide +kernel
theorem st_37_22 : Sd 37 22 1 (i_ldR 1) := sd_aload_n (j := 1) dd_37_22 rfl
theorem dd_37_23 : decode (mi 37).2.1 23 = .ok (.getfield 109, 3) := by decide +kernel
theorem st_37_23 : Sd 37 23 3 (i_gR 1 [4]) := sd_gR (ref := "ContractDesk$Interaction") (decl := "ContractDesk$Interaction") (name := "rules") (desc := "Ljava/util/ArrayList;") dd_37_23 (by rw [mc_37]; exact tw_717) (Or.inl rfl) (by decide +kernel)
theorem dd_37_26 : decode (mi 37).2.1 26 = .ok (.iload 5, 2) := by decide +kernel
theorem st_37_26 : Sd 37 26 2 (i_ldI 5) := sd_iload dd_37_26
theorem dd_37_28 : decode (mi 37).2.1 28 = .ok (.invokevirtual 77, 3) := by decide +kernel
theorem st_37_28 : Sd 37 28 3 (i_cV [(16, 24)] 2 10 []) := sd_virt ⟨"java/util/ArrayList", "get", "(I)Ljava/lang/Object;"⟩ dd_37_28 (by rw [mc_37]; exact tw_547) (fun t j h => by simp only [List.mem_cons, List.not_mem_nil, or_false, Prod.mk.injEq] at h; obtain ⟨rfl, rfl⟩ := h; exact mn_24) (fun t j h => by simp only [List.mem_cons, List.not_mem_nil, or_false, Prod.mk.injEq] at h; obtain ⟨rfl, rfl⟩ := h; exact ⟨by rw [mn_24]; exact tw_549, by rw [mn_24]; exact tw_548, mt_24, by decide, by decide⟩) (by unfold prm; decide +kernel) ml_37 (HsOk.nil (by decide +kernel))
theorem dd_37_31 : decode (mi 37).2.1 31 = .ok (.checkcast 177, 3) := by decide +kernel
theorem st_37_31 : Sd 37 31 3 (i_cast [5]) := sd_checkcast (nm := "ContractDesk$Rule") dd_37_31 (by rw [mc_37]; exact tw_1156) okc_2
def bk_37_22 : Tr := sq (i_ldR 1) (sq (i_gR 1 [4]) (sq (i_ldI 5) (sq (i_cV [(16, 24)] 2 10 []) (sq (i_cast [5]) (i_fall 34)))))
theorem sb_37_22 : Sd 37 22 12 bk_37_22 := Sd.sq st_37_22 (Sd.sq st_37_23 (Sd.sq st_37_26 (Sd.sq st_37_28 (Sd.sq st_37_31 (sd_fall rfl)))))
theorem dd_37_34 : decode (mi 37).2.1 34 = .ok (.astore 6, 2) := by decide +kernel
theorem st_37_34 : Sd 37 34 2 (i_stR 6) := sd_astore dd_37_34
theorem dd_37_36 : decode (mi 37).2.1 36 = .ok (.aload_n 2, 1) := by decide +kernel
theorem st_37_36 : Sd 37 36 1 (i_ldR 2) := sd_aload_n (j := 2) dd_37_36 rfl
theorem dd_37_37 : decode (mi 37).2.1 37 = .ok (.instanceof 179, 3) := by decide +kernel
theorem st_37_37 : Sd 37 37 3 (i_inst [12] [10, 11]) := sd_instanceof (nm := "ContractDesk$Group") dd_37_37 (by rw [mc_37]; exact tw_1157) okc_0 oknc_0
theorem dd_37_40 : decode (mi 37).2.1 40 = .ok (.ifCond .eq 22, 3) := by decide +kernel
theorem st_37_40 : Sd 37 40 3 (i_zeq 62) := sd_if_eq dd_37_40 (by decide)
theorem dd_37_43 : decode (mi 37).2.1 43 = .ok (.aload_n 3, 1) := by decide +kernel
theorem st_37_43 : Sd 37 43 1 (i_ldR 3) := sd_aload_n (j := 3) dd_37_43 rfl
theorem dd_37_44 : decode (mi 37).2.1 44 = .ok (.instanceof 179, 3) := by decide +kernel
theorem st_37_44 : Sd 37 44 3 (i_inst [12] [10, 11]) := sd_instanceof (nm := "ContractDesk$Group") dd_37_44 (by rw [mc_37]; exact tw_1157) okc_0 oknc_0
theorem dd_37_47 : decode (mi 37).2.1 47 = .ok (.ifCond .eq 15, 3) := by decide +kernel
theorem st_37_47 : Sd 37 47 3 (i_zeq 62) := sd_if_eq dd_37_47 (by decide)
theorem dd_37_50 : decode (mi 37).2.1 50 = .ok (.aload_n 3, 1) := by decide +kernel
theorem st_37_50 : Sd 37 50 1 (i_ldR 3) := sd_aload_n (j := 3) dd_37_50 rfl
theorem dd_37_51 : decode (mi 37).2.1 51 = .ok (.aload_n 2, 1) := by decide +kernel
theorem st_37_51 : Sd 37 51 1 (i_ldR 2) := sd_aload_n (j := 2) dd_37_51 rfl
theorem dd_37_52 : decode (mi 37).2.1 52 = .ok (.invokevirtual 181, 3) := by decide +kernel
theorem st_37_52 : Sd 37 52 3 (i_cV [(10, 123), (11, 123), (12, 123)] 2 10 []) := sd_virt ⟨"ContractDesk$Value", "isLike", "(LContractDesk$Value;)Z"⟩ dd_37_52 (by rw [mc_37]; exact tw_1158) (fun t j h => by simp only [List.mem_cons, List.not_mem_nil, or_false, Prod.mk.injEq] at h; rcases h with ⟨rfl, rfl⟩ | ⟨rfl, rfl⟩ | ⟨rfl, rfl⟩; exact mn_123; exact mn_123; exact mn_123) (fun t j h => by simp only [List.mem_cons, List.not_mem_nil, or_false, Prod.mk.injEq] at h; rcases h with ⟨rfl, rfl⟩ | ⟨rfl, rfl⟩ | ⟨rfl, rfl⟩; exact ⟨by rw [mn_123]; exact tw_1607, by rw [mn_123]; exact tw_956, mt_123, by decide, by decide⟩; exact ⟨by rw [mn_123]; exact tw_1606, by rw [mn_123]; exact tw_956, mt_123, by decide, by decide⟩; exact ⟨by rw [mn_123]; exact tw_1605, by rw [mn_123]; exact tw_956, mt_123, by decide, by decide⟩) (by unfold prm; decide +kernel) ml_37 (HsOk.nil (by decide +kernel))
theorem dd_37_55 : decode (mi 37).2.1 55 = .ok (.ifCond .eq 7, 3) := by decide +kernel
theorem st_37_55 : Sd 37 55 3 (i_zeq 62) := sd_if_eq dd_37_55 (by decide)
theorem dd_37_58 : decode (mi 37).2.1 58 = .ok (.iconst 1, 1) := by decide +kernel
theorem st_37_58 : Sd 37 58 1 (i_ic 1) := sd_iconst dd_37_58
theorem dd_37_59 : decode (mi 37).2.1 59 = .ok (.goto 4, 3) := by decide +kernel
theorem st_37_59 : Sd 37 59 3 (i_goto 63) := sd_goto dd_37_59 (by decide)
def bk_37_34 : Tr := sq (i_stR 6) (sq (i_ldR 2) (sq (i_inst [12] [10, 11]) (sq (i_zeq 62) (sq (i_ldR 3) (sq (i_inst [12] [10, 11]) (sq (i_zeq 62) (sq (i_ldR 3) (sq (i_ldR 2) (sq (i_cV [(10, 123), (11, 123), (12, 123)] 2 10 []) (sq (i_zeq 62) (sq (i_ic 1) (i_goto 63))))))))))))
theorem sb_37_34 : Sd 37 34 28 bk_37_34 := Sd.sq st_37_34 (Sd.sq st_37_36 (Sd.sq st_37_37 (Sd.sq st_37_40 (Sd.sq st_37_43 (Sd.sq st_37_44 (Sd.sq st_37_47 (Sd.sq st_37_50 (Sd.sq st_37_51 (Sd.sq st_37_52 (Sd.sq st_37_55 (Sd.sq st_37_58 (st_37_59))))))))))))
theorem dd_37_62 : decode (mi 37).2.1 62 = .ok (.iconst 0, 1) := by decide +kernel
theorem st_37_62 : Sd 37 62 1 (i_ic 0) := sd_iconst dd_37_62
def bk_37_62 : Tr := sq (i_ic 0) (i_fall 63)
theorem sb_37_62 : Sd 37 62 1 bk_37_62 := Sd.sq st_37_62 (sd_fall rfl)
theorem dd_37_63 : decode (mi 37).2.1 63 = .ok (.istore 7, 2) := by decide +kernel
theorem st_37_63 : Sd 37 63 2 (i_stI 7) := sd_istore dd_37_63
theorem dd_37_65 : decode (mi 37).2.1 65 = .ok (.aload 6, 2) := by decide +kernel
theorem st_37_65 : Sd 37 65 2 (i_ldR 6) := sd_aload dd_37_65
theorem dd_37_67 : decode (mi 37).2.1 67 = .ok (.ifnonnull 19, 3) := by decide +kernel
theorem st_37_67 : Sd 37 67 3 (i_nol 86) := sd_ifnonnull dd_37_67 (by decide)
theorem dd_37_70 : decode (mi 37).2.1 70 = .ok (.iload 7, 2) := by decide +kernel
theorem st_37_70 : Sd 37 70 2 (i_ldI 7) := sd_iload dd_37_70
theorem dd_37_72 : decode (mi 37).2.1 72 = .ok (.ifCond .ne 41, 3) := by decide +kernel
theorem st_37_72 : Sd 37 72 3 (i_zne 113) := sd_if_ne dd_37_72 (by decide)
theorem dd_37_75 : decode (mi 37).2.1 75 = .ok (.aload_n 2, 1) := by decide +kernel
theorem st_37_75 : Sd 37 75 1 (i_ldR 2) := sd_aload_n (j := 2) dd_37_75 rfl
theorem dd_37_76 : decode (mi 37).2.1 76 = .ok (.aload_n 3, 1) := by decide +kernel
theorem st_37_76 : Sd 37 76 1 (i_ldR 3) := sd_aload_n (j := 3) dd_37_76 rfl
theorem dd_37_77 : decode (mi 37).2.1 77 = .ok (.invokevirtual 96, 3) := by decide +kernel
theorem st_37_77 : Sd 37 77 3 (i_cV [(10, 120), (11, 78), (12, 67)] 2 10 []) := sd_virtU ⟨"ContractDesk$Value", "same", "(LContractDesk$Value;)Z"⟩ "ContractDesk$Value" dd_37_77 (by rw [mc_37]; exact tw_945) (by exact tw_947) (Or.inl tw_946) (by decide) (fun t j h => by simp only [List.mem_cons, List.not_mem_nil, or_false, Prod.mk.injEq] at h; rcases h with ⟨rfl, rfl⟩ | ⟨rfl, rfl⟩ | ⟨rfl, rfl⟩; exact ⟨by rw [mn_120]; exact tw_991, by rw [mn_120]; exact tw_981, mt_120, by decide, by decide⟩; exact ⟨by rw [mn_78]; exact tw_990, by rw [mn_78]; exact tw_975, mt_78, by decide, by decide⟩; exact ⟨by rw [mn_67]; exact tw_948, by rw [mn_67]; exact tw_949, mt_67, by decide, by decide⟩) (by unfold prm; decide +kernel) ml_37 (HsOk.nil (by decide +kernel))
theorem dd_37_80 : decode (mi 37).2.1 80 = .ok (.ifCond .ne 33, 3) := by decide +kernel
theorem st_37_80 : Sd 37 80 3 (i_zne 113) := sd_if_ne dd_37_80 (by decide)
theorem dd_37_83 : decode (mi 37).2.1 83 = .ok (.goto 13, 3) := by decide +kernel
theorem st_37_83 : Sd 37 83 3 (i_goto 96) := sd_goto dd_37_83 (by decide)
def bk_37_63 : Tr := sq (i_stI 7) (sq (i_ldR 6) (sq (i_nol 86) (sq (i_ldI 7) (sq (i_zne 113) (sq (i_ldR 2) (sq (i_ldR 3) (sq (i_cV [(10, 120), (11, 78), (12, 67)] 2 10 []) (sq (i_zne 113) (i_goto 96)))))))))
theorem sb_37_63 : Sd 37 63 23 bk_37_63 := Sd.sq st_37_63 (Sd.sq st_37_65 (Sd.sq st_37_67 (Sd.sq st_37_70 (Sd.sq st_37_72 (Sd.sq st_37_75 (Sd.sq st_37_76 (Sd.sq st_37_77 (Sd.sq st_37_80 (st_37_83)))))))))
theorem dd_37_86 : decode (mi 37).2.1 86 = .ok (.aload 6, 2) := by decide +kernel
theorem st_37_86 : Sd 37 86 2 (i_ldR 6) := sd_aload dd_37_86
theorem dd_37_88 : decode (mi 37).2.1 88 = .ok (.aload_n 2, 1) := by decide +kernel
theorem st_37_88 : Sd 37 88 1 (i_ldR 2) := sd_aload_n (j := 2) dd_37_88 rfl
theorem dd_37_89 : decode (mi 37).2.1 89 = .ok (.aload_n 3, 1) := by decide +kernel
theorem st_37_89 : Sd 37 89 1 (i_ldR 3) := sd_aload_n (j := 3) dd_37_89 rfl
theorem dd_37_90 : decode (mi 37).2.1 90 = .ok (.invokevirtual 184, 3) := by decide +kernel
theorem st_37_90 : Sd 37 90 3 (i_cV [(5, 107)] 3 10 []) := sd_virt ⟨"ContractDesk$Rule", "holds", "(LContractDesk$Value;LContractDesk$Value;)Z"⟩ dd_37_90 (by rw [mc_37]; exact tw_1159) (fun t j h => by simp only [List.mem_cons, List.not_mem_nil, or_false, Prod.mk.injEq] at h; obtain ⟨rfl, rfl⟩ := h; exact mn_107) (fun t j h => by simp only [List.mem_cons, List.not_mem_nil, or_false, Prod.mk.injEq] at h; obtain ⟨rfl, rfl⟩ := h; exact ⟨by rw [mn_107]; exact tw_1161, by rw [mn_107]; exact tw_1160, mt_107, by decide, by decide⟩) (by unfold prm; decide +kernel) ml_37 (HsOk.nil (by decide +kernel))
theorem dd_37_93 : decode (mi 37).2.1 93 = .ok (.ifCond .ne 20, 3) := by decide +kernel
theorem st_37_93 : Sd 37 93 3 (i_zne 113) := sd_if_ne dd_37_93 (by decide)
def bk_37_86 : Tr := sq (i_ldR 6) (sq (i_ldR 2) (sq (i_ldR 3) (sq (i_cV [(5, 107)] 3 10 []) (sq (i_zne 113) (i_fall 96)))))
theorem sb_37_86 : Sd 37 86 10 bk_37_86 := Sd.sq st_37_86 (Sd.sq st_37_88 (Sd.sq st_37_89 (Sd.sq st_37_90 (Sd.sq st_37_93 (sd_fall rfl)))))
theorem dd_37_96 : decode (mi 37).2.1 96 = .ok (.aload_n 0, 1) := by decide +kernel
theorem st_37_96 : Sd 37 96 1 (i_ldR 0) := sd_aload_n (j := 0) dd_37_96 rfl
theorem dd_37_97 : decode (mi 37).2.1 97 = .ok (.aload 6, 2) := by decide +kernel
theorem st_37_97 : Sd 37 97 2 (i_ldR 6) := sd_aload dd_37_97
theorem dd_37_99 : decode (mi 37).2.1 99 = .ok (.ifnonnull 7, 3) := by decide +kernel
theorem st_37_99 : Sd 37 99 3 (i_nol 106) := sd_ifnonnull dd_37_99 (by decide)
theorem dd_37_102 : decode (mi 37).2.1 102 = .ok (.iconst 1, 1) := by decide +kernel
theorem st_37_102 : Sd 37 102 1 (i_ic 1) := sd_iconst dd_37_102
theorem dd_37_103 : decode (mi 37).2.1 103 = .ok (.goto 4, 3) := by decide +kernel
theorem st_37_103 : Sd 37 103 3 (i_goto 107) := sd_goto dd_37_103 (by decide)
def bk_37_96 : Tr := sq (i_ldR 0) (sq (i_ldR 6) (sq (i_nol 106) (sq (i_ic 1) (i_goto 107))))
theorem sb_37_96 : Sd 37 96 10 bk_37_96 := Sd.sq st_37_96 (Sd.sq st_37_97 (Sd.sq st_37_99 (Sd.sq st_37_102 (st_37_103))))
theorem dd_37_106 : decode (mi 37).2.1 106 = .ok (.iconst 5, 1) := by decide +kernel
theorem st_37_106 : Sd 37 106 1 (i_ic 5) := sd_iconst dd_37_106
def bk_37_106 : Tr := sq (i_ic 5) (i_fall 107)
theorem sb_37_106 : Sd 37 106 1 bk_37_106 := Sd.sq st_37_106 (sd_fall rfl)
theorem dd_37_107 : decode (mi 37).2.1 107 = .ok (.iload 4, 2) := by decide +kernel
theorem st_37_107 : Sd 37 107 2 (i_ldI 4) := sd_iload dd_37_107
theorem dd_37_109 : decode (mi 37).2.1 109 = .ok (.invokevirtual 188, 3) := by decide +kernel
theorem st_37_109 : Sd 37 109 3 (i_cV [(1, 44)] 3 10 []) := sd_virt ⟨"ContractDesk", "list", "(II)V"⟩ dd_37_109 (by rw [mc_37]; exact tw_1204) (fun t j h => by simp only [List.mem_cons, List.not_mem_nil, or_false, Prod.mk.injEq] at h; obtain ⟨rfl, rfl⟩ := h; exact mn_44) (fun t j h => by simp only [List.mem_cons, List.not_mem_nil, or_false, Prod.mk.injEq] at h; obtain ⟨rfl, rfl⟩ := h; exact ⟨by rw [mn_44]; exact tw_26, by rw [mn_44]; exact tw_1206, mt_44, by decide, by decide⟩) (by unfold prm; decide +kernel) ml_37 (HsOk.nil (by decide +kernel))
theorem dd_37_112 : decode (mi 37).2.1 112 = .ok (.return_, 1) := by decide +kernel
theorem st_37_112 : Sd 37 112 1 (i_ret) := sd_ret dd_37_112 mr_37
def bk_37_107 : Tr := sq (i_ldI 4) (sq (i_cV [(1, 44)] 3 10 []) (i_ret))
theorem sb_37_107 : Sd 37 107 6 bk_37_107 := Sd.sq st_37_107 (Sd.sq st_37_109 (st_37_112))
theorem dd_37_113 : decode (mi 37).2.1 113 = .ok (.iload 7, 2) := by decide +kernel
theorem st_37_113 : Sd 37 113 2 (i_ldI 7) := sd_iload dd_37_113
theorem dd_37_115 : decode (mi 37).2.1 115 = .ok (.ifCond .eq 17, 3) := by decide +kernel
theorem st_37_115 : Sd 37 115 3 (i_zeq 132) := sd_if_eq dd_37_115 (by decide)
theorem dd_37_118 : decode (mi 37).2.1 118 = .ok (.aload_n 2, 1) := by decide +kernel
theorem st_37_118 : Sd 37 118 1 (i_ldR 2) := sd_aload_n (j := 2) dd_37_118 rfl
theorem dd_37_119 : decode (mi 37).2.1 119 = .ok (.instanceof 179, 3) := by decide +kernel
theorem st_37_119 : Sd 37 119 3 (i_inst [12] [10, 11]) := sd_instanceof (nm := "ContractDesk$Group") dd_37_119 (by rw [mc_37]; exact tw_1157) okc_0 oknc_0
theorem dd_37_122 : decode (mi 37).2.1 122 = .ok (.ifCond .eq 10, 3) := by decide +kernel
theorem st_37_122 : Sd 37 122 3 (i_zeq 132) := sd_if_eq dd_37_122 (by decide)
theorem dd_37_125 : decode (mi 37).2.1 125 = .ok (.aload_n 3, 1) := by decide +kernel
theorem st_37_125 : Sd 37 125 1 (i_ldR 3) := sd_aload_n (j := 3) dd_37_125 rfl
theorem dd_37_126 : decode (mi 37).2.1 126 = .ok (.instanceof 179, 3) := by decide +kernel
theorem st_37_126 : Sd 37 126 3 (i_inst [12] [10, 11]) := sd_instanceof (nm := "ContractDesk$Group") dd_37_126 (by rw [mc_37]; exact tw_1157) okc_0 oknc_0
theorem dd_37_129 : decode (mi 37).2.1 129 = .ok (.ifCond .ne 4, 3) := by decide +kernel
theorem st_37_129 : Sd 37 129 3 (i_zne 133) := sd_if_ne dd_37_129 (by decide)
def bk_37_113 : Tr := sq (i_ldI 7) (sq (i_zeq 132) (sq (i_ldR 2) (sq (i_inst [12] [10, 11]) (sq (i_zeq 132) (sq (i_ldR 3) (sq (i_inst [12] [10, 11]) (sq (i_zne 133) (i_fall 132))))))))
theorem sb_37_113 : Sd 37 113 19 bk_37_113 := Sd.sq st_37_113 (Sd.sq st_37_115 (Sd.sq st_37_118 (Sd.sq st_37_119 (Sd.sq st_37_122 (Sd.sq st_37_125 (Sd.sq st_37_126 (Sd.sq st_37_129 (sd_fall rfl))))))))
theorem dd_37_132 : decode (mi 37).2.1 132 = .ok (.return_, 1) := by decide +kernel
theorem st_37_132 : Sd 37 132 1 (i_ret) := sd_ret dd_37_132 mr_37
def bk_37_132 : Tr := i_ret
theorem sb_37_132 : Sd 37 132 1 bk_37_132 := st_37_132
theorem dd_37_133 : decode (mi 37).2.1 133 = .ok (.aload_n 2, 1) := by decide +kernel
theorem st_37_133 : Sd 37 133 1 (i_ldR 2) := sd_aload_n (j := 2) dd_37_133 rfl
theorem dd_37_134 : decode (mi 37).2.1 134 = .ok (.checkcast 179, 3) := by decide +kernel
theorem st_37_134 : Sd 37 134 3 (i_cast [12]) := sd_checkcast (nm := "ContractDesk$Group") dd_37_134 (by rw [mc_37]; exact tw_1157) okc_0
theorem dd_37_137 : decode (mi 37).2.1 137 = .ok (.astore 8, 2) := by decide +kernel
theorem st_37_137 : Sd 37 137 2 (i_stR 8) := sd_astore dd_37_137
theorem dd_37_139 : decode (mi 37).2.1 139 = .ok (.aload_n 3, 1) := by decide +kernel
theorem st_37_139 : Sd 37 139 1 (i_ldR 3) := sd_aload_n (j := 3) dd_37_139 rfl
theorem dd_37_140 : decode (mi 37).2.1 140 = .ok (.checkcast 179, 3) := by decide +kernel
theorem st_37_140 : Sd 37 140 3 (i_cast [12]) := sd_checkcast (nm := "ContractDesk$Group") dd_37_140 (by rw [mc_37]; exact tw_1157) okc_0
theorem dd_37_143 : decode (mi 37).2.1 143 = .ok (.astore 9, 2) := by decide +kernel
theorem st_37_143 : Sd 37 143 2 (i_stR 9) := sd_astore dd_37_143
theorem dd_37_145 : decode (mi 37).2.1 145 = .ok (.aload 8, 2) := by decide +kernel
theorem st_37_145 : Sd 37 145 2 (i_ldR 8) := sd_aload dd_37_145
theorem dd_37_147 : decode (mi 37).2.1 147 = .ok (.invokevirtual 192, 3) := by decide +kernel
theorem st_37_147 : Sd 37 147 3 (i_cV [(12, 66)] 1 10 []) := sd_virt ⟨"ContractDesk$Group", "kind", "()LContractDesk$Kind;"⟩ dd_37_147 (by rw [mc_37]; exact tw_1227) (fun t j h => by simp only [List.mem_cons, List.not_mem_nil, or_false, Prod.mk.injEq] at h; obtain ⟨rfl, rfl⟩ := h; exact mn_66) (fun t j h => by simp only [List.mem_cons, List.not_mem_nil, or_false, Prod.mk.injEq] at h; obtain ⟨rfl, rfl⟩ := h; exact ⟨by rw [mn_66]; exact tw_1608, by rw [mn_66]; exact tw_962, mt_66, by decide, by decide⟩) (by unfold prm; decide +kernel) ml_37 (HsOk.nil (by decide +kernel))
theorem dd_37_150 : decode (mi 37).2.1 150 = .ok (.getstatic 195, 3) := by decide +kernel
theorem st_37_150 : Sd 37 150 3 (i_gs 4) := sd_gs (n := 4) dd_37_150 (by rw [mc_37]; exact tw_1228) (by decide)
theorem dd_37_153 : decode (mi 37).2.1 153 = .ok (.if_acmp .ne 35, 3) := by decide +kernel
theorem st_37_153 : Sd 37 153 3 (i_ane 188) := sd_acmp_ne dd_37_153 (by decide)
theorem dd_37_156 : decode (mi 37).2.1 156 = .ok (.aload_n 0, 1) := by decide +kernel
theorem st_37_156 : Sd 37 156 1 (i_ldR 0) := sd_aload_n (j := 0) dd_37_156 rfl
theorem dd_37_157 : decode (mi 37).2.1 157 = .ok (.aload_n 1, 1) := by decide +kernel
theorem st_37_157 : Sd 37 157 1 (i_ldR 1) := sd_aload_n (j := 1) dd_37_157 rfl
theorem dd_37_158 : decode (mi 37).2.1 158 = .ok (.aload 8, 2) := by decide +kernel
theorem st_37_158 : Sd 37 158 2 (i_ldR 8) := sd_aload dd_37_158
theorem dd_37_160 : decode (mi 37).2.1 160 = .ok (.aload 9, 2) := by decide +kernel
theorem st_37_160 : Sd 37 160 2 (i_ldR 9) := sd_aload dd_37_160
theorem dd_37_162 : decode (mi 37).2.1 162 = .ok (.aload 6, 2) := by decide +kernel
theorem st_37_162 : Sd 37 162 2 (i_ldR 6) := sd_aload dd_37_162
theorem dd_37_164 : decode (mi 37).2.1 164 = .ok (.ifnull 15, 3) := by decide +kernel
theorem st_37_164 : Sd 37 164 3 (i_nul 179) := sd_ifnull dd_37_164 (by decide)
theorem dd_37_167 : decode (mi 37).2.1 167 = .ok (.aload 6, 2) := by decide +kernel
theorem st_37_167 : Sd 37 167 2 (i_ldR 6) := sd_aload dd_37_167
theorem dd_37_169 : decode (mi 37).2.1 169 = .ok (.invokevirtual 201, 3) := by decide +kernel
theorem st_37_169 : Sd 37 169 3 (i_cV [(5, 108)] 1 10 []) := sd_virt ⟨"ContractDesk$Rule", "isLoose", "()Z"⟩ dd_37_169 (by rw [mc_37]; exact tw_1229) (fun t j h => by simp only [List.mem_cons, List.not_mem_nil, or_false, Prod.mk.injEq] at h; obtain ⟨rfl, rfl⟩ := h; exact mn_108) (fun t j h => by simp only [List.mem_cons, List.not_mem_nil, or_false, Prod.mk.injEq] at h; obtain ⟨rfl, rfl⟩ := h; exact ⟨by rw [mn_108]; exact tw_1231, by rw [mn_108]; exact tw_1230, mt_108, by decide, by decide⟩) (by unfold prm; decide +kernel) ml_37 (HsOk.nil (by decide +kernel))
theorem dd_37_172 : decode (mi 37).2.1 172 = .ok (.ifCond .eq 7, 3) := by decide +kernel
theorem st_37_172 : Sd 37 172 3 (i_zeq 179) := sd_if_eq dd_37_172 (by decide)
theorem dd_37_175 : decode (mi 37).2.1 175 = .ok (.iconst 1, 1) := by decide +kernel
theorem st_37_175 : Sd 37 175 1 (i_ic 1) := sd_iconst dd_37_175
theorem dd_37_176 : decode (mi 37).2.1 176 = .ok (.goto 4, 3) := by decide +kernel
theorem st_37_176 : Sd 37 176 3 (i_goto 180) := sd_goto dd_37_176 (by decide)
def bk_37_133 : Tr := sq (i_ldR 2) (sq (i_cast [12]) (sq (i_stR 8) (sq (i_ldR 3) (sq (i_cast [12]) (sq (i_stR 9) (sq (i_ldR 8) (sq (i_cV [(12, 66)] 1 10 []) (sq (i_gs 4) (sq (i_ane 188) (sq (i_ldR 0) (sq (i_ldR 1) (sq (i_ldR 8) (sq (i_ldR 9) (sq (i_ldR 6) (sq (i_nul 179) (sq (i_ldR 6) (sq (i_cV [(5, 108)] 1 10 []) (sq (i_zeq 179) (sq (i_ic 1) (i_goto 180))))))))))))))))))))
theorem sb_37_133 : Sd 37 133 46 bk_37_133 := Sd.sq st_37_133 (Sd.sq st_37_134 (Sd.sq st_37_137 (Sd.sq st_37_139 (Sd.sq st_37_140 (Sd.sq st_37_143 (Sd.sq st_37_145 (Sd.sq st_37_147 (Sd.sq st_37_150 (Sd.sq st_37_153 (Sd.sq st_37_156 (Sd.sq st_37_157 (Sd.sq st_37_158 (Sd.sq st_37_160 (Sd.sq st_37_162 (Sd.sq st_37_164 (Sd.sq st_37_167 (Sd.sq st_37_169 (Sd.sq st_37_172 (Sd.sq st_37_175 (st_37_176))))))))))))))))))))
theorem dd_37_179 : decode (mi 37).2.1 179 = .ok (.iconst 0, 1) := by decide +kernel
theorem st_37_179 : Sd 37 179 1 (i_ic 0) := sd_iconst dd_37_179
def bk_37_179 : Tr := sq (i_ic 0) (i_fall 180)
theorem sb_37_179 : Sd 37 179 1 bk_37_179 := Sd.sq st_37_179 (sd_fall rfl)
theorem dd_37_180 : decode (mi 37).2.1 180 = .ok (.iload 4, 2) := by decide +kernel
theorem st_37_180 : Sd 37 180 2 (i_ldI 4) := sd_iload dd_37_180
theorem dd_37_182 : decode (mi 37).2.1 182 = .ok (.invokevirtual 205, 3) := by decide +kernel
theorem st_37_182 : Sd 37 182 3 (i_cV [(1, 38)] 6 10 []) := sd_virt ⟨"ContractDesk", "elements", "(LContractDesk$Interaction;LContractDesk$Group;LContractDesk$Group;ZI)V"⟩ dd_37_182 (by rw [mc_37]; exact tw_1245) (fun t j h => by simp only [List.mem_cons, List.not_mem_nil, or_false, Prod.mk.injEq] at h; obtain ⟨rfl, rfl⟩ := h; exact mn_38) (fun t j h => by simp only [List.mem_cons, List.not_mem_nil, or_false, Prod.mk.injEq] at h; obtain ⟨rfl, rfl⟩ := h; exact ⟨by rw [mn_38]; exact tw_27, by rw [mn_38]; exact tw_1247, mt_38, by decide, by decide⟩) (by unfold prm; decide +kernel) ml_37 (HsOk.nil (by decide +kernel))
theorem dd_37_185 : decode (mi 37).2.1 185 = .ok (.goto 14, 3) := by decide +kernel
theorem st_37_185 : Sd 37 185 3 (i_goto 199) := sd_goto dd_37_185 (by decide)
def bk_37_180 : Tr := sq (i_ldI 4) (sq (i_cV [(1, 38)] 6 10 []) (i_goto 199))
theorem sb_37_180 : Sd 37 180 8 bk_37_180 := Sd.sq st_37_180 (Sd.sq st_37_182 (st_37_185))
theorem dd_37_188 : decode (mi 37).2.1 188 = .ok (.aload_n 0, 1) := by decide +kernel
theorem st_37_188 : Sd 37 188 1 (i_ldR 0) := sd_aload_n (j := 0) dd_37_188 rfl
theorem dd_37_189 : decode (mi 37).2.1 189 = .ok (.aload_n 1, 1) := by decide +kernel
theorem st_37_189 : Sd 37 189 1 (i_ldR 1) := sd_aload_n (j := 1) dd_37_189 rfl
theorem dd_37_190 : decode (mi 37).2.1 190 = .ok (.aload 8, 2) := by decide +kernel
theorem st_37_190 : Sd 37 190 2 (i_ldR 8) := sd_aload dd_37_190
theorem dd_37_192 : decode (mi 37).2.1 192 = .ok (.aload 9, 2) := by decide +kernel
theorem st_37_192 : Sd 37 192 2 (i_ldR 9) := sd_aload dd_37_192
theorem dd_37_194 : decode (mi 37).2.1 194 = .ok (.iload 4, 2) := by decide +kernel
theorem st_37_194 : Sd 37 194 2 (i_ldI 4) := sd_iload dd_37_194
theorem dd_37_196 : decode (mi 37).2.1 196 = .ok (.invokevirtual 209, 3) := by decide +kernel
theorem st_37_196 : Sd 37 196 3 (i_cV [(1, 47)] 5 10 []) := sd_virt ⟨"ContractDesk", "members", "(LContractDesk$Interaction;LContractDesk$Group;LContractDesk$Group;I)V"⟩ dd_37_196 (by rw [mc_37]; exact tw_1249) (fun t j h => by simp only [List.mem_cons, List.not_mem_nil, or_false, Prod.mk.injEq] at h; obtain ⟨rfl, rfl⟩ := h; exact mn_47) (fun t j h => by simp only [List.mem_cons, List.not_mem_nil, or_false, Prod.mk.injEq] at h; obtain ⟨rfl, rfl⟩ := h; exact ⟨by rw [mn_47]; exact tw_28, by rw [mn_47]; exact tw_1251, mt_47, by decide, by decide⟩) (by unfold prm; decide +kernel) ml_37 (HsOk.nil (by decide +kernel))
def bk_37_188 : Tr := sq (i_ldR 0) (sq (i_ldR 1) (sq (i_ldR 8) (sq (i_ldR 9) (sq (i_ldI 4) (sq (i_cV [(1, 47)] 5 10 []) (i_fall 199))))))
theorem sb_37_188 : Sd 37 188 11 bk_37_188 := Sd.sq st_37_188 (Sd.sq st_37_189 (Sd.sq st_37_190 (Sd.sq st_37_192 (Sd.sq st_37_194 (Sd.sq st_37_196 (sd_fall rfl))))))
theorem dd_37_199 : decode (mi 37).2.1 199 = .ok (.return_, 1) := by decide +kernel
theorem st_37_199 : Sd 37 199 1 (i_ret) := sd_ret dd_37_199 mr_37
def bk_37_199 : Tr := i_ret
theorem sb_37_199 : Sd 37 199 1 bk_37_199 := st_37_199
theorem dd_38_0 : decode (mi 38).2.1 0 = .ok (.iload 4, 2) := by decide +kernel
theorem st_38_0 : Sd 38 0 2 (i_ldI 4) := sd_iload dd_38_0
theorem dd_38_2 : decode (mi 38).2.1 2 = .ok (.ifCond .ne 21, 3) := by decide +kernel
theorem st_38_2 : Sd 38 2 3 (i_zne 23) := sd_if_ne dd_38_2 (by decide)
theorem dd_38_5 : decode (mi 38).2.1 5 = .ok (.aload_n 2, 1) := by decide +kernel
theorem st_38_5 : Sd 38 5 1 (i_ldR 2) := sd_aload_n (j := 2) dd_38_5 rfl
theorem dd_38_6 : decode (mi 38).2.1 6 = .ok (.getfield 213, 3) := by decide +kernel
theorem st_38_6 : Sd 38 6 3 (i_gI 3 [12]) := sd_gI (ref := "ContractDesk$Group") (decl := "ContractDesk$Group") (name := "size") (desc := "I") dd_38_6 (by rw [mc_38]; exact tw_852) (Or.inl rfl) (by decide +kernel)
theorem dd_38_9 : decode (mi 38).2.1 9 = .ok (.aload_n 3, 1) := by decide +kernel
theorem st_38_9 : Sd 38 9 1 (i_ldR 3) := sd_aload_n (j := 3) dd_38_9 rfl
theorem dd_38_10 : decode (mi 38).2.1 10 = .ok (.getfield 213, 3) := by decide +kernel
theorem st_38_10 : Sd 38 10 3 (i_gI 3 [12]) := sd_gI (ref := "ContractDesk$Group") (decl := "ContractDesk$Group") (name := "size") (desc := "I") dd_38_10 (by rw [mc_38]; exact tw_852) (Or.inl rfl) (by decide +kernel)
theorem dd_38_13 : decode (mi 38).2.1 13 = .ok (.if_icmp .eq 10, 3) := by decide +kernel
theorem st_38_13 : Sd 38 13 3 (i_ceq 23) := sd_icmp_eq dd_38_13 (by decide)
theorem dd_38_16 : decode (mi 38).2.1 16 = .ok (.aload_n 0, 1) := by decide +kernel
theorem st_38_16 : Sd 38 16 1 (i_ldR 0) := sd_aload_n (j := 0) dd_38_16 rfl
theorem dd_38_17 : decode (mi 38).2.1 17 = .ok (.iconst 2, 1) := by decide +kernel
theorem st_38_17 : Sd 38 17 1 (i_ic 2) := sd_iconst dd_38_17
theorem dd_38_18 : decode (mi 38).2.1 18 = .ok (.iload 5, 2) := by decide +kernel
theorem st_38_18 : Sd 38 18 2 (i_ldI 5) := sd_iload dd_38_18
theorem dd_38_20 : decode (mi 38).2.1 20 = .ok (.invokevirtual 188, 3) := by decide +kernel
theorem st_38_20 : Sd 38 20 3 (i_cV [(1, 44)] 3 9 []) := sd_virt ⟨"ContractDesk", "list", "(II)V"⟩ dd_38_20 (by rw [mc_38]; exact tw_1204) (fun t j h => by simp only [List.mem_cons, List.not_mem_nil, or_false, Prod.mk.injEq] at h; obtain ⟨rfl, rfl⟩ := h; exact mn_44) (fun t j h => by simp only [List.mem_cons, List.not_mem_nil, or_false, Prod.mk.injEq] at h; obtain ⟨rfl, rfl⟩ := h; exact ⟨by rw [mn_44]; exact tw_26, by rw [mn_44]; exact tw_1206, mt_44, by decide, by decide⟩) (by unfold prm; decide +kernel) ml_38 (HsOk.nil (by decide +kernel))
def bk_38_0 : Tr := sq (i_ldI 4) (sq (i_zne 23) (sq (i_ldR 2) (sq (i_gI 3 [12]) (sq (i_ldR 3) (sq (i_gI 3 [12]) (sq (i_ceq 23) (sq (i_ldR 0) (sq (i_ic 2) (sq (i_ldI 5) (sq (i_cV [(1, 44)] 3 9 []) (i_fall 23)))))))))))
theorem sb_38_0 : Sd 38 0 23 bk_38_0 := Sd.sq st_38_0 (Sd.sq st_38_2 (Sd.sq st_38_5 (Sd.sq st_38_6 (Sd.sq st_38_9 (Sd.sq st_38_10 (Sd.sq st_38_13 (Sd.sq st_38_16 (Sd.sq st_38_17 (Sd.sq st_38_18 (Sd.sq st_38_20 (sd_fall rfl)))))))))))
theorem dd_38_23 : decode (mi 38).2.1 23 = .ok (.aload_n 2, 1) := by decide +kernel
theorem st_38_23 : Sd 38 23 1 (i_ldR 2) := sd_aload_n (j := 2) dd_38_23 rfl
theorem dd_38_24 : decode (mi 38).2.1 24 = .ok (.getfield 215, 3) := by decide +kernel
theorem st_38_24 : Sd 38 24 3 (i_gR 1 [12]) := sd_gR (ref := "ContractDesk$Group") (decl := "ContractDesk$Group") (name := "first") (desc := "LContractDesk$Member;") dd_38_24 (by rw [mc_38]; exact tw_848) (Or.inl rfl) (by decide +kernel)
theorem dd_38_27 : decode (mi 38).2.1 27 = .ok (.astore 6, 2) := by decide +kernel
theorem st_38_27 : Sd 38 27 2 (i_stR 6) := sd_astore dd_38_27
theorem dd_38_29 : decode (mi 38).2.1 29 = .ok (.iconst 0, 1) := by decide +kernel
theorem st_38_29 : Sd 38 29 1 (i_ic 0) := sd_iconst dd_38_29
theorem dd_38_30 : decode (mi 38).2.1 30 = .ok (.istore 7, 2) := by decide +kernel
theorem st_38_30 : Sd 38 30 2 (i_stI 7) := sd_istore dd_38_30
theorem dd_38_32 : decode (mi 38).2.1 32 = .ok (.aload_n 3, 1) := by decide +kernel
theorem st_38_32 : Sd 38 32 1 (i_ldR 3) := sd_aload_n (j := 3) dd_38_32 rfl
theorem dd_38_33 : decode (mi 38).2.1 33 = .ok (.getfield 215, 3) := by decide +kernel
theorem st_38_33 : Sd 38 33 3 (i_gR 1 [12]) := sd_gR (ref := "ContractDesk$Group") (decl := "ContractDesk$Group") (name := "first") (desc := "LContractDesk$Member;") dd_38_33 (by rw [mc_38]; exact tw_848) (Or.inl rfl) (by decide +kernel)
theorem dd_38_36 : decode (mi 38).2.1 36 = .ok (.astore 8, 2) := by decide +kernel
theorem st_38_36 : Sd 38 36 2 (i_stR 8) := sd_astore dd_38_36
def bk_38_23 : Tr := sq (i_ldR 2) (sq (i_gR 1 [12]) (sq (i_stR 6) (sq (i_ic 0) (sq (i_stI 7) (sq (i_ldR 3) (sq (i_gR 1 [12]) (sq (i_stR 8) (i_fall 38))))))))
theorem sb_38_23 : Sd 38 23 15 bk_38_23 := Sd.sq st_38_23 (Sd.sq st_38_24 (Sd.sq st_38_27 (Sd.sq st_38_29 (Sd.sq st_38_30 (Sd.sq st_38_32 (Sd.sq st_38_33 (Sd.sq st_38_36 (sd_fall rfl))))))))
theorem dd_38_38 : decode (mi 38).2.1 38 = .ok (.aload 8, 2) := by decide +kernel
theorem st_38_38 : Sd 38 38 2 (i_ldR 8) := sd_aload dd_38_38
theorem dd_38_40 : decode (mi 38).2.1 40 = .ok (.ifnull 73, 3) := by decide +kernel
theorem st_38_40 : Sd 38 40 3 (i_nul 113) := sd_ifnull dd_38_40 (by decide)
theorem dd_38_43 : decode (mi 38).2.1 43 = .ok (.aload 6, 2) := by decide +kernel
theorem st_38_43 : Sd 38 43 2 (i_ldR 6) := sd_aload dd_38_43
theorem dd_38_45 : decode (mi 38).2.1 45 = .ok (.ifnull 68, 3) := by decide +kernel
theorem st_38_45 : Sd 38 45 3 (i_nul 113) := sd_ifnull dd_38_45 (by decide)
theorem dd_38_48 : decode (mi 38).2.1 48 = .ok (.aload_n 0, 1) := by decide +kernel
theorem st_38_48 : Sd 38 48 1 (i_ldR 0) := sd_aload_n (j := 0) dd_38_48 rfl
theorem dd_38_49 : decode (mi 38).2.1 49 = .ok (.getfield 39, 3) := by decide +kernel
theorem st_38_49 : Sd 38 49 3 (i_gR 7 [1]) := sd_gR (ref := "ContractDesk") (decl := "ContractDesk") (name := "place") (desc := "[I") dd_38_49 (by rw [mc_38]; exact tw_482) (Or.inl rfl) (by decide +kernel)
theorem dd_38_52 : decode (mi 38).2.1 52 = .ok (.iload 5, 2) := by decide +kernel
theorem st_38_52 : Sd 38 52 2 (i_ldI 5) := sd_iload dd_38_52
theorem dd_38_54 : decode (mi 38).2.1 54 = .ok (.sipush 1000, 3) := by decide +kernel
theorem st_38_54 : Sd 38 54 3 (i_ic 1000) := sd_sipush dd_38_54 (by decide)
theorem dd_38_57 : decode (mi 38).2.1 57 = .ok (.iload 7, 2) := by decide +kernel
theorem st_38_57 : Sd 38 57 2 (i_ldI 7) := sd_iload dd_38_57
theorem dd_38_59 : decode (mi 38).2.1 59 = .ok (.iadd, 1) := by decide +kernel
theorem st_38_59 : Sd 38 59 1 (i_iadd) := sd_iadd dd_38_59
theorem dd_38_60 : decode (mi 38).2.1 60 = .ok (.iastore, 1) := by decide +kernel
theorem st_38_60 : Sd 38 60 1 (i_sI [20] 0) := sd_iastore dd_38_60 (by decide)
theorem dd_38_61 : decode (mi 38).2.1 61 = .ok (.aload_n 0, 1) := by decide +kernel
theorem st_38_61 : Sd 38 61 1 (i_ldR 0) := sd_aload_n (j := 0) dd_38_61 rfl
theorem dd_38_62 : decode (mi 38).2.1 62 = .ok (.aload_n 1, 1) := by decide +kernel
theorem st_38_62 : Sd 38 62 1 (i_ldR 1) := sd_aload_n (j := 1) dd_38_62 rfl
theorem dd_38_63 : decode (mi 38).2.1 63 = .ok (.aload 6, 2) := by decide +kernel
theorem st_38_63 : Sd 38 63 2 (i_ldR 6) := sd_aload dd_38_63
theorem dd_38_65 : decode (mi 38).2.1 65 = .ok (.getfield 219, 3) := by decide +kernel
theorem st_38_65 : Sd 38 65 3 (i_gR 1 [13]) := sd_gR (ref := "ContractDesk$Member") (decl := "ContractDesk$Member") (name := "value") (desc := "LContractDesk$Value;") dd_38_65 (by rw [mc_38]; exact tw_881) (Or.inl rfl) (by decide +kernel)
theorem dd_38_68 : decode (mi 38).2.1 68 = .ok (.aload 8, 2) := by decide +kernel
theorem st_38_68 : Sd 38 68 2 (i_ldR 8) := sd_aload dd_38_68
theorem dd_38_70 : decode (mi 38).2.1 70 = .ok (.getfield 219, 3) := by decide +kernel
theorem st_38_70 : Sd 38 70 3 (i_gR 1 [13]) := sd_gR (ref := "ContractDesk$Member") (decl := "ContractDesk$Member") (name := "value") (desc := "LContractDesk$Value;") dd_38_70 (by rw [mc_38]; exact tw_881) (Or.inl rfl) (by decide +kernel)
theorem dd_38_73 : decode (mi 38).2.1 73 = .ok (.iload 5, 2) := by decide +kernel
theorem st_38_73 : Sd 38 73 2 (i_ldI 5) := sd_iload dd_38_73
theorem dd_38_75 : decode (mi 38).2.1 75 = .ok (.iconst 1, 1) := by decide +kernel
theorem st_38_75 : Sd 38 75 1 (i_ic 1) := sd_iconst dd_38_75
theorem dd_38_76 : decode (mi 38).2.1 76 = .ok (.iadd, 1) := by decide +kernel
theorem st_38_76 : Sd 38 76 1 (i_iadd) := sd_iadd dd_38_76
theorem dd_38_77 : decode (mi 38).2.1 77 = .ok (.invokevirtual 158, 3) := by decide +kernel
theorem st_38_77 : Sd 38 77 3 (i_cV [(1, 37)] 5 9 []) := sd_virt ⟨"ContractDesk", "compare", "(LContractDesk$Interaction;LContractDesk$Value;LContractDesk$Value;I)V"⟩ dd_38_77 (by rw [mc_38]; exact tw_1152) (fun t j h => by simp only [List.mem_cons, List.not_mem_nil, or_false, Prod.mk.injEq] at h; obtain ⟨rfl, rfl⟩ := h; exact mn_37) (fun t j h => by simp only [List.mem_cons, List.not_mem_nil, or_false, Prod.mk.injEq] at h; obtain ⟨rfl, rfl⟩ := h; exact ⟨by rw [mn_37]; exact tw_22, by rw [mn_37]; exact tw_1154, mt_37, by decide, by decide⟩) (by unfold prm; decide +kernel) ml_38 (HsOk.nil (by decide +kernel))
theorem dd_38_80 : decode (mi 38).2.1 80 = .ok (.iload 4, 2) := by decide +kernel
theorem st_38_80 : Sd 38 80 2 (i_ldI 4) := sd_iload dd_38_80
theorem dd_38_82 : decode (mi 38).2.1 82 = .ok (.ifCond .eq 11, 3) := by decide +kernel
theorem st_38_82 : Sd 38 82 3 (i_zeq 93) := sd_if_eq dd_38_82 (by decide)
theorem dd_38_85 : decode (mi 38).2.1 85 = .ok (.aload 6, 2) := by decide +kernel
theorem st_38_85 : Sd 38 85 2 (i_ldR 6) := sd_aload dd_38_85
theorem dd_38_87 : decode (mi 38).2.1 87 = .ok (.getfield 224, 3) := by decide +kernel
theorem st_38_87 : Sd 38 87 3 (i_gR 2 [13]) := sd_gR (ref := "ContractDesk$Member") (decl := "ContractDesk$Member") (name := "next") (desc := "LContractDesk$Member;") dd_38_87 (by rw [mc_38]; exact tw_883) (Or.inl rfl) (by decide +kernel)
theorem dd_38_90 : decode (mi 38).2.1 90 = .ok (.ifnull 10, 3) := by decide +kernel
theorem st_38_90 : Sd 38 90 3 (i_nul 100) := sd_ifnull dd_38_90 (by decide)
def bk_38_38 : Tr := sq (i_ldR 8) (sq (i_nul 113) (sq (i_ldR 6) (sq (i_nul 113) (sq (i_ldR 0) (sq (i_gR 7 [1]) (sq (i_ldI 5) (sq (i_ic 1000) (sq (i_ldI 7) (sq (i_iadd) (sq (i_sI [20] 0) (sq (i_ldR 0) (sq (i_ldR 1) (sq (i_ldR 6) (sq (i_gR 1 [13]) (sq (i_ldR 8) (sq (i_gR 1 [13]) (sq (i_ldI 5) (sq (i_ic 1) (sq (i_iadd) (sq (i_cV [(1, 37)] 5 9 []) (sq (i_ldI 4) (sq (i_zeq 93) (sq (i_ldR 6) (sq (i_gR 2 [13]) (sq (i_nul 100) (i_fall 93))))))))))))))))))))))))))
theorem sb_38_38 : Sd 38 38 55 bk_38_38 := Sd.sq st_38_38 (Sd.sq st_38_40 (Sd.sq st_38_43 (Sd.sq st_38_45 (Sd.sq st_38_48 (Sd.sq st_38_49 (Sd.sq st_38_52 (Sd.sq st_38_54 (Sd.sq st_38_57 (Sd.sq st_38_59 (Sd.sq st_38_60 (Sd.sq st_38_61 (Sd.sq st_38_62 (Sd.sq st_38_63 (Sd.sq st_38_65 (Sd.sq st_38_68 (Sd.sq st_38_70 (Sd.sq st_38_73 (Sd.sq st_38_75 (Sd.sq st_38_76 (Sd.sq st_38_77 (Sd.sq st_38_80 (Sd.sq st_38_82 (Sd.sq st_38_85 (Sd.sq st_38_87 (Sd.sq st_38_90 (sd_fall rfl))))))))))))))))))))))))))
theorem dd_38_93 : decode (mi 38).2.1 93 = .ok (.aload 6, 2) := by decide +kernel
theorem st_38_93 : Sd 38 93 2 (i_ldR 6) := sd_aload dd_38_93
theorem dd_38_95 : decode (mi 38).2.1 95 = .ok (.getfield 224, 3) := by decide +kernel
theorem st_38_95 : Sd 38 95 3 (i_gR 2 [13]) := sd_gR (ref := "ContractDesk$Member") (decl := "ContractDesk$Member") (name := "next") (desc := "LContractDesk$Member;") dd_38_95 (by rw [mc_38]; exact tw_883) (Or.inl rfl) (by decide +kernel)
theorem dd_38_98 : decode (mi 38).2.1 98 = .ok (.astore 6, 2) := by decide +kernel
theorem st_38_98 : Sd 38 98 2 (i_stR 6) := sd_astore dd_38_98
def bk_38_93 : Tr := sq (i_ldR 6) (sq (i_gR 2 [13]) (sq (i_stR 6) (i_fall 100)))
theorem sb_38_93 : Sd 38 93 7 bk_38_93 := Sd.sq st_38_93 (Sd.sq st_38_95 (Sd.sq st_38_98 (sd_fall rfl)))
theorem dd_38_100 : decode (mi 38).2.1 100 = .ok (.iinc 7 1, 3) := by decide +kernel
theorem st_38_100 : Sd 38 100 3 (i_inc 7 1) := sd_iinc dd_38_100
theorem dd_38_103 : decode (mi 38).2.1 103 = .ok (.aload 8, 2) := by decide +kernel
theorem st_38_103 : Sd 38 103 2 (i_ldR 8) := sd_aload dd_38_103
theorem dd_38_105 : decode (mi 38).2.1 105 = .ok (.getfield 224, 3) := by decide +kernel
theorem st_38_105 : Sd 38 105 3 (i_gR 2 [13]) := sd_gR (ref := "ContractDesk$Member") (decl := "ContractDesk$Member") (name := "next") (desc := "LContractDesk$Member;") dd_38_105 (by rw [mc_38]; exact tw_883) (Or.inl rfl) (by decide +kernel)
theorem dd_38_108 : decode (mi 38).2.1 108 = .ok (.astore 8, 2) := by decide +kernel
theorem st_38_108 : Sd 38 108 2 (i_stR 8) := sd_astore dd_38_108
theorem dd_38_110 : decode (mi 38).2.1 110 = .ok (.goto (-72), 3) := by decide +kernel
theorem st_38_110 : Sd 38 110 3 (i_goto 38) := sd_goto dd_38_110 (by decide)
def bk_38_100 : Tr := sq (i_inc 7 1) (sq (i_ldR 8) (sq (i_gR 2 [13]) (sq (i_stR 8) (i_goto 38))))
theorem sb_38_100 : Sd 38 100 13 bk_38_100 := Sd.sq st_38_100 (Sd.sq st_38_103 (Sd.sq st_38_105 (Sd.sq st_38_108 (st_38_110))))
theorem dd_38_113 : decode (mi 38).2.1 113 = .ok (.return_, 1) := by decide +kernel
theorem st_38_113 : Sd 38 113 1 (i_ret) := sd_ret dd_38_113 mr_38
def bk_38_113 : Tr := i_ret
theorem sb_38_113 : Sd 38 113 1 bk_38_113 := st_38_113
theorem dd_39_0 : decode (mi 39).2.1 0 = .ok (.iload_n 1, 1) := by decide +kernel
theorem st_39_0 : Sd 39 0 1 (i_ldI 1) := sd_iload_n (j := 1) dd_39_0 rfl
theorem dd_39_1 : decode (mi 39).2.1 1 = .ok (.iconst (-1), 1) := by decide +kernel
theorem st_39_1 : Sd 39 1 1 (i_ic (-1)) := sd_iconst dd_39_1
theorem dd_39_2 : decode (mi 39).2.1 2 = .ok (.if_icmp .ne 10, 3) := by decide +kernel
theorem st_39_2 : Sd 39 2 3 (i_cne 12) := sd_icmp_ne dd_39_2 (by decide)
theorem dd_39_5 : decode (mi 39).2.1 5 = .ok (.aload_n 0, 1) := by decide +kernel
theorem st_39_5 : Sd 39 5 1 (i_ldR 0) := sd_aload_n (j := 0) dd_39_5 rfl
theorem dd_39_6 : decode (mi 39).2.1 6 = .ok (.getfield 126, 3) := by decide +kernel
theorem st_39_6 : Sd 39 6 3 (i_gI 9 [1]) := sd_gI (ref := "ContractDesk") (decl := "ContractDesk") (name := "eventCount") (desc := "I") dd_39_6 (by rw [mc_39]; exact tw_484) (Or.inl rfl) (by decide +kernel)
theorem dd_39_9 : decode (mi 39).2.1 9 = .ok (.goto 25, 3) := by decide +kernel
theorem st_39_9 : Sd 39 9 3 (i_goto 34) := sd_goto dd_39_9 (by decide)
def bk_39_0 : Tr := sq (i_ldI 1) (sq (i_ic (-1)) (sq (i_cne 12) (sq (i_ldR 0) (sq (i_gI 9 [1]) (i_goto 34)))))
theorem sb_39_0 : Sd 39 0 12 bk_39_0 := Sd.sq st_39_0 (Sd.sq st_39_1 (Sd.sq st_39_2 (Sd.sq st_39_5 (Sd.sq st_39_6 (st_39_9)))))
theorem dd_39_12 : decode (mi 39).2.1 12 = .ok (.iload_n 1, 1) := by decide +kernel
theorem st_39_12 : Sd 39 12 1 (i_ldI 1) := sd_iload_n (j := 1) dd_39_12 rfl
theorem dd_39_13 : decode (mi 39).2.1 13 = .ok (.ifCond .lt 11, 3) := by decide +kernel
theorem st_39_13 : Sd 39 13 3 (i_zlt 24) := sd_if_lt dd_39_13 (by decide)
theorem dd_39_16 : decode (mi 39).2.1 16 = .ok (.iload_n 1, 1) := by decide +kernel
theorem st_39_16 : Sd 39 16 1 (i_ldI 1) := sd_iload_n (j := 1) dd_39_16 rfl
theorem dd_39_17 : decode (mi 39).2.1 17 = .ok (.aload_n 0, 1) := by decide +kernel
theorem st_39_17 : Sd 39 17 1 (i_ldR 0) := sd_aload_n (j := 0) dd_39_17 rfl
theorem dd_39_18 : decode (mi 39).2.1 18 = .ok (.getfield 126, 3) := by decide +kernel
theorem st_39_18 : Sd 39 18 3 (i_gI 9 [1]) := sd_gI (ref := "ContractDesk") (decl := "ContractDesk") (name := "eventCount") (desc := "I") dd_39_18 (by rw [mc_39]; exact tw_484) (Or.inl rfl) (by decide +kernel)
theorem dd_39_21 : decode (mi 39).2.1 21 = .ok (.if_icmp .lt 7, 3) := by decide +kernel
theorem st_39_21 : Sd 39 21 3 (i_clt 28) := sd_icmp_lt dd_39_21 (by decide)
def bk_39_12 : Tr := sq (i_ldI 1) (sq (i_zlt 24) (sq (i_ldI 1) (sq (i_ldR 0) (sq (i_gI 9 [1]) (sq (i_clt 28) (i_fall 24))))))
theorem sb_39_12 : Sd 39 12 12 bk_39_12 := Sd.sq st_39_12 (Sd.sq st_39_13 (Sd.sq st_39_16 (Sd.sq st_39_17 (Sd.sq st_39_18 (Sd.sq st_39_21 (sd_fall rfl))))))
theorem dd_39_24 : decode (mi 39).2.1 24 = .ok (.iconst (-1), 1) := by decide +kernel
theorem st_39_24 : Sd 39 24 1 (i_ic (-1)) := sd_iconst dd_39_24
theorem dd_39_25 : decode (mi 39).2.1 25 = .ok (.goto 9, 3) := by decide +kernel
theorem st_39_25 : Sd 39 25 3 (i_goto 34) := sd_goto dd_39_25 (by decide)
def bk_39_24 : Tr := sq (i_ic (-1)) (i_goto 34)
theorem sb_39_24 : Sd 39 24 4 bk_39_24 := Sd.sq st_39_24 (st_39_25)
theorem dd_39_28 : decode (mi 39).2.1 28 = .ok (.aload_n 0, 1) := by decide +kernel
theorem st_39_28 : Sd 39 28 1 (i_ldR 0) := sd_aload_n (j := 0) dd_39_28 rfl
theorem dd_39_29 : decode (mi 39).2.1 29 = .ok (.getfield 42, 3) := by decide +kernel
theorem st_39_29 : Sd 39 29 3 (i_gR 8 [1]) := sd_gR (ref := "ContractDesk") (decl := "ContractDesk") (name := "events") (desc := "[I") dd_39_29 (by rw [mc_39]; exact tw_483) (Or.inl rfl) (by decide +kernel)
theorem dd_39_32 : decode (mi 39).2.1 32 = .ok (.iload_n 1, 1) := by decide +kernel
theorem st_39_32 : Sd 39 32 1 (i_ldI 1) := sd_iload_n (j := 1) dd_39_32 rfl
theorem dd_39_33 : decode (mi 39).2.1 33 = .ok (.iaload, 1) := by decide +kernel
theorem st_39_33 : Sd 39 33 1 (i_aI [20]) := sd_iaload dd_39_33 (by decide)
def bk_39_28 : Tr := sq (i_ldR 0) (sq (i_gR 8 [1]) (sq (i_ldI 1) (sq (i_aI [20]) (i_fall 34))))
theorem sb_39_28 : Sd 39 28 6 bk_39_28 := Sd.sq st_39_28 (Sd.sq st_39_29 (Sd.sq st_39_32 (Sd.sq st_39_33 (sd_fall rfl))))
theorem dd_39_34 : decode (mi 39).2.1 34 = .ok (.ireturn, 1) := by decide +kernel
theorem st_39_34 : Sd 39 34 1 (i_rI 0) := sd_ireturn dd_39_34 (by decide) mr_39
def bk_39_34 : Tr := i_rI 0
theorem sb_39_34 : Sd 39 34 1 bk_39_34 := st_39_34
theorem dd_40_0 : decode (mi 40).2.1 0 = .ok (.aload_n 0, 1) := by decide +kernel
theorem st_40_0 : Sd 40 0 1 (i_ldR 0) := sd_aload_n (j := 0) dd_40_0 rfl
theorem dd_40_1 : decode (mi 40).2.1 1 = .ok (.iload_n 1, 1) := by decide +kernel
theorem st_40_1 : Sd 40 1 1 (i_ldI 1) := sd_iload_n (j := 1) dd_40_1 rfl
theorem dd_40_2 : decode (mi 40).2.1 2 = .ok (.invokevirtual 70, 3) := by decide +kernel
theorem st_40_2 : Sd 40 2 3 (i_cV [(1, 42)] 2 2 []) := sd_virt ⟨"ContractDesk", "isThere", "(I)Z"⟩ dd_40_2 (by rw [mc_40]; exact tw_539) (fun t j h => by simp only [List.mem_cons, List.not_mem_nil, or_false, Prod.mk.injEq] at h; obtain ⟨rfl, rfl⟩ := h; exact mn_42) (fun t j h => by simp only [List.mem_cons, List.not_mem_nil, or_false, Prod.mk.injEq] at h; obtain ⟨rfl, rfl⟩ := h; exact ⟨by rw [mn_42]; exact tw_1, by rw [mn_42]; exact tw_541, mt_42, by decide, by decide⟩) (by unfold prm; decide +kernel) ml_40 (HsOk.nil (by decide +kernel))
theorem dd_40_5 : decode (mi 40).2.1 5 = .ok (.ifCond .ne 11, 3) := by decide +kernel
theorem st_40_5 : Sd 40 5 3 (i_zne 16) := sd_if_ne dd_40_5 (by decide)
theorem dd_40_8 : decode (mi 40).2.1 8 = .ok (.new 74, 3) := by decide +kernel
theorem st_40_8 : Sd 40 8 3 (i_new 17) := sd_new dd_40_8 (by rw [mc_40]; exact tw_568) (by exact tw_82) (by exact tw_181) (by decide) (by decide)
theorem dd_40_11 : decode (mi 40).2.1 11 = .ok (.dup, 1) := by decide +kernel
theorem st_40_11 : Sd 40 11 1 (i_dup) := sd_dup dd_40_11
theorem dd_40_12 : decode (mi 40).2.1 12 = .ok (.invokespecial 76, 3) := by decide +kernel
theorem st_40_12 : Sd 40 12 3 (i_exc 17 2) := sd_exc dd_40_12 (by decide) (by rw [mc_40]; exact tw_797) ml_40
theorem dd_40_15 : decode (mi 40).2.1 15 = .ok (.athrow, 1) := by decide +kernel
theorem st_40_15 : Sd 40 15 1 (i_throw) := sd_athrow dd_40_15 (by decide +kernel)
def bk_40_0 : Tr := sq (i_ldR 0) (sq (i_ldI 1) (sq (i_cV [(1, 42)] 2 2 []) (sq (i_zne 16) (sq (i_new 17) (sq (i_dup) (sq (i_exc 17 2) (i_throw)))))))
theorem sb_40_0 : Sd 40 0 16 bk_40_0 := Sd.sq st_40_0 (Sd.sq st_40_1 (Sd.sq st_40_2 (Sd.sq st_40_5 (Sd.sq st_40_8 (Sd.sq st_40_11 (Sd.sq st_40_12 (st_40_15)))))))
theorem dd_40_16 : decode (mi 40).2.1 16 = .ok (.aload_n 0, 1) := by decide +kernel
theorem st_40_16 : Sd 40 16 1 (i_ldR 0) := sd_aload_n (j := 0) dd_40_16 rfl
theorem dd_40_17 : decode (mi 40).2.1 17 = .ok (.getfield 28, 3) := by decide +kernel
theorem st_40_17 : Sd 40 17 3 (i_gR 2 [1]) := sd_gR (ref := "ContractDesk") (decl := "ContractDesk") (name := "interactions") (desc := "Ljava/util/ArrayList;") dd_40_17 (by rw [mc_40]; exact tw_477) (Or.inl rfl) (by decide +kernel)
theorem dd_40_20 : decode (mi 40).2.1 20 = .ok (.iload_n 1, 1) := by decide +kernel
theorem st_40_20 : Sd 40 20 1 (i_ldI 1) := sd_iload_n (j := 1) dd_40_20 rfl
theorem dd_40_21 : decode (mi 40).2.1 21 = .ok (.invokevirtual 77, 3) := by decide +kernel
theorem st_40_21 : Sd 40 21 3 (i_cV [(16, 24)] 2 2 []) := sd_virt ⟨"java/util/ArrayList", "get", "(I)Ljava/lang/Object;"⟩ dd_40_21 (by rw [mc_40]; exact tw_547) (fun t j h => by simp only [List.mem_cons, List.not_mem_nil, or_false, Prod.mk.injEq] at h; obtain ⟨rfl, rfl⟩ := h; exact mn_24) (fun t j h => by simp only [List.mem_cons, List.not_mem_nil, or_false, Prod.mk.injEq] at h; obtain ⟨rfl, rfl⟩ := h; exact ⟨by rw [mn_24]; exact tw_549, by rw [mn_24]; exact tw_548, mt_24, by decide, by decide⟩) (by unfold prm; decide +kernel) ml_40 (HsOk.nil (by decide +kernel))
theorem dd_40_24 : decode (mi 40).2.1 24 = .ok (.checkcast 61, 3) := by decide +kernel
theorem st_40_24 : Sd 40 24 3 (i_cast [4]) := sd_checkcast (nm := "ContractDesk$Interaction") dd_40_24 (by rw [mc_40]; exact tw_559) okc_6
theorem dd_40_27 : decode (mi 40).2.1 27 = .ok (.areturn, 1) := by decide +kernel
theorem st_40_27 : Sd 40 27 1 (i_rR) := sd_areturn dd_40_27 mr_40 (Or.inl ⟨_, rfl⟩)
def bk_40_16 : Tr := sq (i_ldR 0) (sq (i_gR 2 [1]) (sq (i_ldI 1) (sq (i_cV [(16, 24)] 2 2 []) (sq (i_cast [4]) (i_rR)))))
theorem sb_40_16 : Sd 40 16 12 bk_40_16 := Sd.sq st_40_16 (Sd.sq st_40_17 (Sd.sq st_40_20 (Sd.sq st_40_21 (Sd.sq st_40_24 (st_40_27)))))
theorem dd_41_0 : decode (mi 41).2.1 0 = .ok (.iload_n 1, 1) := by decide +kernel
theorem st_41_0 : Sd 41 0 1 (i_ldI 1) := sd_iload_n (j := 1) dd_41_0 rfl
theorem dd_41_1 : decode (mi 41).2.1 1 = .ok (.ifCond .lt 18, 3) := by decide +kernel
theorem st_41_1 : Sd 41 1 3 (i_zlt 19) := sd_if_lt dd_41_1 (by decide)
theorem dd_41_4 : decode (mi 41).2.1 4 = .ok (.iload_n 1, 1) := by decide +kernel
theorem st_41_4 : Sd 41 4 1 (i_ldI 1) := sd_iload_n (j := 1) dd_41_4 rfl
theorem dd_41_5 : decode (mi 41).2.1 5 = .ok (.bipush 6, 2) := by decide +kernel
theorem st_41_5 : Sd 41 5 2 (i_ic 6) := sd_bipush dd_41_5 (by decide)
theorem dd_41_7 : decode (mi 41).2.1 7 = .ok (.if_icmp .ge 12, 3) := by decide +kernel
theorem st_41_7 : Sd 41 7 3 (i_cge 19) := sd_icmp_ge dd_41_7 (by decide)
theorem dd_41_10 : decode (mi 41).2.1 10 = .ok (.iload_n 2, 1) := by decide +kernel
theorem st_41_10 : Sd 41 10 1 (i_ldI 2) := sd_iload_n (j := 2) dd_41_10 rfl
theorem dd_41_11 : decode (mi 41).2.1 11 = .ok (.ifCond .lt 8, 3) := by decide +kernel
theorem st_41_11 : Sd 41 11 3 (i_zlt 19) := sd_if_lt dd_41_11 (by decide)
theorem dd_41_14 : decode (mi 41).2.1 14 = .ok (.iload_n 2, 1) := by decide +kernel
theorem st_41_14 : Sd 41 14 1 (i_ldI 2) := sd_iload_n (j := 2) dd_41_14 rfl
theorem dd_41_15 : decode (mi 41).2.1 15 = .ok (.iconst 3, 1) := by decide +kernel
theorem st_41_15 : Sd 41 15 1 (i_ic 3) := sd_iconst dd_41_15
theorem dd_41_16 : decode (mi 41).2.1 16 = .ok (.if_icmp .le 5, 3) := by decide +kernel
theorem st_41_16 : Sd 41 16 3 (i_cle 21) := sd_icmp_le dd_41_16 (by decide)
def bk_41_0 : Tr := sq (i_ldI 1) (sq (i_zlt 19) (sq (i_ldI 1) (sq (i_ic 6) (sq (i_cge 19) (sq (i_ldI 2) (sq (i_zlt 19) (sq (i_ldI 2) (sq (i_ic 3) (sq (i_cle 21) (i_fall 19))))))))))
theorem sb_41_0 : Sd 41 0 19 bk_41_0 := Sd.sq st_41_0 (Sd.sq st_41_1 (Sd.sq st_41_4 (Sd.sq st_41_5 (Sd.sq st_41_7 (Sd.sq st_41_10 (Sd.sq st_41_11 (Sd.sq st_41_14 (Sd.sq st_41_15 (Sd.sq st_41_16 (sd_fall rfl))))))))))
theorem dd_41_19 : decode (mi 41).2.1 19 = .ok (.iconst 0, 1) := by decide +kernel
theorem st_41_19 : Sd 41 19 1 (i_ic 0) := sd_iconst dd_41_19
theorem dd_41_20 : decode (mi 41).2.1 20 = .ok (.ireturn, 1) := by decide +kernel
theorem st_41_20 : Sd 41 20 1 (i_rI 2) := sd_ireturn dd_41_20 (by decide) mr_41
def bk_41_19 : Tr := sq (i_ic 0) (i_rI 2)
theorem sb_41_19 : Sd 41 19 2 bk_41_19 := Sd.sq st_41_19 (st_41_20)
theorem dd_41_21 : decode (mi 41).2.1 21 = .ok (.aload_n 0, 1) := by decide +kernel
theorem st_41_21 : Sd 41 21 1 (i_ldR 0) := sd_aload_n (j := 0) dd_41_21 rfl
theorem dd_41_22 : decode (mi 41).2.1 22 = .ok (.getfield 32, 3) := by decide +kernel
theorem st_41_22 : Sd 41 22 3 (i_gR 3 [1]) := sd_gR (ref := "ContractDesk") (decl := "ContractDesk") (name := "handlers") (desc := "[I") dd_41_22 (by rw [mc_41]; exact tw_478) (Or.inl rfl) (by decide +kernel)
theorem dd_41_25 : decode (mi 41).2.1 25 = .ok (.iload_n 1, 1) := by decide +kernel
theorem st_41_25 : Sd 41 25 1 (i_ldI 1) := sd_iload_n (j := 1) dd_41_25 rfl
theorem dd_41_26 : decode (mi 41).2.1 26 = .ok (.iload_n 2, 1) := by decide +kernel
theorem st_41_26 : Sd 41 26 1 (i_ldI 2) := sd_iload_n (j := 2) dd_41_26 rfl
theorem dd_41_27 : decode (mi 41).2.1 27 = .ok (.iastore, 1) := by decide +kernel
theorem st_41_27 : Sd 41 27 1 (i_sI [20] 0) := sd_iastore dd_41_27 (by decide)
theorem dd_41_28 : decode (mi 41).2.1 28 = .ok (.iconst 1, 1) := by decide +kernel
theorem st_41_28 : Sd 41 28 1 (i_ic 1) := sd_iconst dd_41_28
theorem dd_41_29 : decode (mi 41).2.1 29 = .ok (.ireturn, 1) := by decide +kernel
theorem st_41_29 : Sd 41 29 1 (i_rI 2) := sd_ireturn dd_41_29 (by decide) mr_41
def bk_41_21 : Tr := sq (i_ldR 0) (sq (i_gR 3 [1]) (sq (i_ldI 1) (sq (i_ldI 2) (sq (i_sI [20] 0) (sq (i_ic 1) (i_rI 2))))))
theorem sb_41_21 : Sd 41 21 9 bk_41_21 := Sd.sq st_41_21 (Sd.sq st_41_22 (Sd.sq st_41_25 (Sd.sq st_41_26 (Sd.sq st_41_27 (Sd.sq st_41_28 (st_41_29))))))
theorem dd_42_0 : decode (mi 42).2.1 0 = .ok (.iload_n 1, 1) := by decide +kernel
theorem st_42_0 : Sd 42 0 1 (i_ldI 1) := sd_iload_n (j := 1) dd_42_0 rfl
theorem dd_42_1 : decode (mi 42).2.1 1 = .ok (.ifCond .lt 18, 3) := by decide +kernel
theorem st_42_1 : Sd 42 1 3 (i_zlt 19) := sd_if_lt dd_42_1 (by decide)
theorem dd_42_4 : decode (mi 42).2.1 4 = .ok (.iload_n 1, 1) := by decide +kernel
theorem st_42_4 : Sd 42 4 1 (i_ldI 1) := sd_iload_n (j := 1) dd_42_4 rfl
theorem dd_42_5 : decode (mi 42).2.1 5 = .ok (.aload_n 0, 1) := by decide +kernel
theorem st_42_5 : Sd 42 5 1 (i_ldR 0) := sd_aload_n (j := 0) dd_42_5 rfl
theorem dd_42_6 : decode (mi 42).2.1 6 = .ok (.getfield 28, 3) := by decide +kernel
theorem st_42_6 : Sd 42 6 3 (i_gR 2 [1]) := sd_gR (ref := "ContractDesk") (decl := "ContractDesk") (name := "interactions") (desc := "Ljava/util/ArrayList;") dd_42_6 (by rw [mc_42]; exact tw_477) (Or.inl rfl) (by decide +kernel)
theorem dd_42_9 : decode (mi 42).2.1 9 = .ok (.invokevirtual 55, 3) := by decide +kernel
theorem st_42_9 : Sd 42 9 3 (i_cV [(16, 23)] 1 2 []) := sd_virt ⟨"java/util/ArrayList", "size", "()I"⟩ dd_42_9 (by rw [mc_42]; exact tw_543) (fun t j h => by simp only [List.mem_cons, List.not_mem_nil, or_false, Prod.mk.injEq] at h; obtain ⟨rfl, rfl⟩ := h; exact mn_23) (fun t j h => by simp only [List.mem_cons, List.not_mem_nil, or_false, Prod.mk.injEq] at h; obtain ⟨rfl, rfl⟩ := h; exact ⟨by rw [mn_23]; exact tw_545, by rw [mn_23]; exact tw_544, mt_23, by decide, by decide⟩) (by unfold prm; decide +kernel) ml_42 (HsOk.nil (by decide +kernel))
theorem dd_42_12 : decode (mi 42).2.1 12 = .ok (.if_icmp .ge 7, 3) := by decide +kernel
theorem st_42_12 : Sd 42 12 3 (i_cge 19) := sd_icmp_ge dd_42_12 (by decide)
theorem dd_42_15 : decode (mi 42).2.1 15 = .ok (.iconst 1, 1) := by decide +kernel
theorem st_42_15 : Sd 42 15 1 (i_ic 1) := sd_iconst dd_42_15
theorem dd_42_16 : decode (mi 42).2.1 16 = .ok (.goto 4, 3) := by decide +kernel
theorem st_42_16 : Sd 42 16 3 (i_goto 20) := sd_goto dd_42_16 (by decide)
def bk_42_0 : Tr := sq (i_ldI 1) (sq (i_zlt 19) (sq (i_ldI 1) (sq (i_ldR 0) (sq (i_gR 2 [1]) (sq (i_cV [(16, 23)] 1 2 []) (sq (i_cge 19) (sq (i_ic 1) (i_goto 20))))))))
theorem sb_42_0 : Sd 42 0 19 bk_42_0 := Sd.sq st_42_0 (Sd.sq st_42_1 (Sd.sq st_42_4 (Sd.sq st_42_5 (Sd.sq st_42_6 (Sd.sq st_42_9 (Sd.sq st_42_12 (Sd.sq st_42_15 (st_42_16))))))))
theorem dd_42_19 : decode (mi 42).2.1 19 = .ok (.iconst 0, 1) := by decide +kernel
theorem st_42_19 : Sd 42 19 1 (i_ic 0) := sd_iconst dd_42_19
def bk_42_19 : Tr := sq (i_ic 0) (i_fall 20)
theorem sb_42_19 : Sd 42 19 1 bk_42_19 := Sd.sq st_42_19 (sd_fall rfl)
theorem dd_42_20 : decode (mi 42).2.1 20 = .ok (.ireturn, 1) := by decide +kernel
theorem st_42_20 : Sd 42 20 1 (i_rI 2) := sd_ireturn dd_42_20 (by decide) mr_42
def bk_42_20 : Tr := i_rI 2
theorem sb_42_20 : Sd 42 20 1 bk_42_20 := st_42_20
theorem dd_43_0 : decode (mi 43).2.1 0 = .ok (.iload_n 1, 1) := by decide +kernel
theorem st_43_0 : Sd 43 0 1 (i_ldI 1) := sd_iload_n (j := 1) dd_43_0 rfl
theorem dd_43_1 : decode (mi 43).2.1 1 = .ok (.ifCond .lt 11, 3) := by decide +kernel
theorem st_43_1 : Sd 43 1 3 (i_zlt 12) := sd_if_lt dd_43_1 (by decide)
theorem dd_43_4 : decode (mi 43).2.1 4 = .ok (.iload_n 1, 1) := by decide +kernel
theorem st_43_4 : Sd 43 4 1 (i_ldI 1) := sd_iload_n (j := 1) dd_43_4 rfl
theorem dd_43_5 : decode (mi 43).2.1 5 = .ok (.aload_n 0, 1) := by decide +kernel
theorem st_43_5 : Sd 43 5 1 (i_ldR 0) := sd_aload_n (j := 0) dd_43_5 rfl
theorem dd_43_6 : decode (mi 43).2.1 6 = .ok (.getfield 152, 3) := by decide +kernel
theorem st_43_6 : Sd 43 6 3 (i_gI 5 [1]) := sd_gI (ref := "ContractDesk") (decl := "ContractDesk") (name := "listed") (desc := "I") dd_43_6 (by rw [mc_43]; exact tw_480) (Or.inl rfl) (by decide +kernel)
theorem dd_43_9 : decode (mi 43).2.1 9 = .ok (.if_icmp .lt 5, 3) := by decide +kernel
theorem st_43_9 : Sd 43 9 3 (i_clt 14) := sd_icmp_lt dd_43_9 (by decide)
def bk_43_0 : Tr := sq (i_ldI 1) (sq (i_zlt 12) (sq (i_ldI 1) (sq (i_ldR 0) (sq (i_gI 5 [1]) (sq (i_clt 14) (i_fall 12))))))
theorem sb_43_0 : Sd 43 0 12 bk_43_0 := Sd.sq st_43_0 (Sd.sq st_43_1 (Sd.sq st_43_4 (Sd.sq st_43_5 (Sd.sq st_43_6 (Sd.sq st_43_9 (sd_fall rfl))))))
theorem dd_43_12 : decode (mi 43).2.1 12 = .ok (.iconst (-1), 1) := by decide +kernel
theorem st_43_12 : Sd 43 12 1 (i_ic (-1)) := sd_iconst dd_43_12
theorem dd_43_13 : decode (mi 43).2.1 13 = .ok (.ireturn, 1) := by decide +kernel
theorem st_43_13 : Sd 43 13 1 (i_rI 0) := sd_ireturn dd_43_13 (by decide) mr_43
def bk_43_12 : Tr := sq (i_ic (-1)) (i_rI 0)
theorem sb_43_12 : Sd 43 12 2 bk_43_12 := Sd.sq st_43_12 (st_43_13)
theorem dd_43_14 : decode (mi 43).2.1 14 = .ok (.aload_n 0, 1) := by decide +kernel
theorem st_43_14 : Sd 43 14 1 (i_ldR 0) := sd_aload_n (j := 0) dd_43_14 rfl
theorem dd_43_15 : decode (mi 43).2.1 15 = .ok (.getfield 36, 3) := by decide +kernel
theorem st_43_15 : Sd 43 15 3 (i_gR 4 [1]) := sd_gR (ref := "ContractDesk") (decl := "ContractDesk") (name := "mismatches") (desc := "Ljava/util/ArrayList;") dd_43_15 (by rw [mc_43]; exact tw_479) (Or.inl rfl) (by decide +kernel)
theorem dd_43_18 : decode (mi 43).2.1 18 = .ok (.iload_n 1, 1) := by decide +kernel
theorem st_43_18 : Sd 43 18 1 (i_ldI 1) := sd_iload_n (j := 1) dd_43_18 rfl
theorem dd_43_19 : decode (mi 43).2.1 19 = .ok (.invokevirtual 77, 3) := by decide +kernel
theorem st_43_19 : Sd 43 19 3 (i_cV [(16, 24)] 2 4 []) := sd_virt ⟨"java/util/ArrayList", "get", "(I)Ljava/lang/Object;"⟩ dd_43_19 (by rw [mc_43]; exact tw_547) (fun t j h => by simp only [List.mem_cons, List.not_mem_nil, or_false, Prod.mk.injEq] at h; obtain ⟨rfl, rfl⟩ := h; exact mn_24) (fun t j h => by simp only [List.mem_cons, List.not_mem_nil, or_false, Prod.mk.injEq] at h; obtain ⟨rfl, rfl⟩ := h; exact ⟨by rw [mn_24]; exact tw_549, by rw [mn_24]; exact tw_548, mt_24, by decide, by decide⟩) (by unfold prm; decide +kernel) ml_43 (HsOk.nil (by decide +kernel))
theorem dd_43_22 : decode (mi 43).2.1 22 = .ok (.checkcast 162, 3) := by decide +kernel
theorem st_43_22 : Sd 43 22 3 (i_cast [14]) := sd_checkcast (nm := "ContractDesk$Mismatch") dd_43_22 (by rw [mc_43]; exact tw_674) okc_7
theorem dd_43_25 : decode (mi 43).2.1 25 = .ok (.getfield 168, 3) := by decide +kernel
theorem st_43_25 : Sd 43 25 3 (i_gR 0 [14]) := sd_gR (ref := "ContractDesk$Mismatch") (decl := "ContractDesk$Mismatch") (name := "place") (desc := "Ljava/lang/StringBuilder;") dd_43_25 (by rw [mc_43]; exact tw_1216) (Or.inl rfl) (by decide +kernel)
theorem dd_43_28 : decode (mi 43).2.1 28 = .ok (.astore_n 3, 1) := by decide +kernel
theorem st_43_28 : Sd 43 28 1 (i_stR 3) := sd_astore_n (j := 3) dd_43_28 rfl
theorem dd_43_29 : decode (mi 43).2.1 29 = .ok (.iload_n 2, 1) := by decide +kernel
theorem st_43_29 : Sd 43 29 1 (i_ldI 2) := sd_iload_n (j := 2) dd_43_29 rfl
theorem dd_43_30 : decode (mi 43).2.1 30 = .ok (.ifCond .lt 11, 3) := by decide +kernel
theorem st_43_30 : Sd 43 30 3 (i_zlt 41) := sd_if_lt dd_43_30 (by decide)
theorem dd_43_33 : decode (mi 43).2.1 33 = .ok (.iload_n 2, 1) := by decide +kernel
theorem st_43_33 : Sd 43 33 1 (i_ldI 2) := sd_iload_n (j := 2) dd_43_33 rfl
theorem dd_43_34 : decode (mi 43).2.1 34 = .ok (.aload_n 3, 1) := by decide +kernel
theorem st_43_34 : Sd 43 34 1 (i_ldR 3) := sd_aload_n (j := 3) dd_43_34 rfl
theorem dd_43_35 : decode (mi 43).2.1 35 = .ok (.invokevirtual 47, 3) := by decide +kernel
theorem st_43_35 : Sd 43 35 3 (i_cV [(15, 15)] 1 4 []) := sd_virt ⟨"java/lang/StringBuilder", "length", "()I"⟩ dd_43_35 (by rw [mc_43]; exact tw_512) (fun t j h => by simp only [List.mem_cons, List.not_mem_nil, or_false, Prod.mk.injEq] at h; obtain ⟨rfl, rfl⟩ := h; exact mn_15) (fun t j h => by simp only [List.mem_cons, List.not_mem_nil, or_false, Prod.mk.injEq] at h; obtain ⟨rfl, rfl⟩ := h; exact ⟨by rw [mn_15]; exact tw_1600, by rw [mn_15]; exact tw_392, mt_15, by decide, by decide⟩) (by unfold prm; decide +kernel) ml_43 (HsOk.nil (by decide +kernel))
theorem dd_43_38 : decode (mi 43).2.1 38 = .ok (.if_icmp .lt 7, 3) := by decide +kernel
theorem st_43_38 : Sd 43 38 3 (i_clt 45) := sd_icmp_lt dd_43_38 (by decide)
def bk_43_14 : Tr := sq (i_ldR 0) (sq (i_gR 4 [1]) (sq (i_ldI 1) (sq (i_cV [(16, 24)] 2 4 []) (sq (i_cast [14]) (sq (i_gR 0 [14]) (sq (i_stR 3) (sq (i_ldI 2) (sq (i_zlt 41) (sq (i_ldI 2) (sq (i_ldR 3) (sq (i_cV [(15, 15)] 1 4 []) (sq (i_clt 45) (i_fall 41)))))))))))))
theorem sb_43_14 : Sd 43 14 27 bk_43_14 := Sd.sq st_43_14 (Sd.sq st_43_15 (Sd.sq st_43_18 (Sd.sq st_43_19 (Sd.sq st_43_22 (Sd.sq st_43_25 (Sd.sq st_43_28 (Sd.sq st_43_29 (Sd.sq st_43_30 (Sd.sq st_43_33 (Sd.sq st_43_34 (Sd.sq st_43_35 (Sd.sq st_43_38 (sd_fall rfl)))))))))))))
theorem dd_43_41 : decode (mi 43).2.1 41 = .ok (.iconst (-1), 1) := by decide +kernel
theorem st_43_41 : Sd 43 41 1 (i_ic (-1)) := sd_iconst dd_43_41
theorem dd_43_42 : decode (mi 43).2.1 42 = .ok (.goto 8, 3) := by decide +kernel
theorem st_43_42 : Sd 43 42 3 (i_goto 50) := sd_goto dd_43_42 (by decide)
def bk_43_41 : Tr := sq (i_ic (-1)) (i_goto 50)
theorem sb_43_41 : Sd 43 41 4 bk_43_41 := Sd.sq st_43_41 (st_43_42)
theorem dd_43_45 : decode (mi 43).2.1 45 = .ok (.aload_n 3, 1) := by decide +kernel
theorem st_43_45 : Sd 43 45 1 (i_ldR 3) := sd_aload_n (j := 3) dd_43_45 rfl
theorem dd_43_46 : decode (mi 43).2.1 46 = .ok (.iload_n 2, 1) := by decide +kernel
theorem st_43_46 : Sd 43 46 1 (i_ldI 2) := sd_iload_n (j := 2) dd_43_46 rfl
theorem dd_43_47 : decode (mi 43).2.1 47 = .ok (.invokevirtual 239, 3) := by decide +kernel
theorem st_43_47 : Sd 43 47 3 (i_cV [(15, 19)] 2 4 []) := sd_virt ⟨"java/lang/StringBuilder", "charAt", "(I)C"⟩ dd_43_47 (by rw [mc_43]; exact tw_679) (fun t j h => by simp only [List.mem_cons, List.not_mem_nil, or_false, Prod.mk.injEq] at h; obtain ⟨rfl, rfl⟩ := h; exact mn_19) (fun t j h => by simp only [List.mem_cons, List.not_mem_nil, or_false, Prod.mk.injEq] at h; obtain ⟨rfl, rfl⟩ := h; exact ⟨by rw [mn_19]; exact tw_599, by rw [mn_19]; exact tw_598, mt_19, by decide, by decide⟩) (by unfold prm; decide +kernel) ml_43 (HsOk.nil (by decide +kernel))
def bk_43_45 : Tr := sq (i_ldR 3) (sq (i_ldI 2) (sq (i_cV [(15, 19)] 2 4 []) (i_fall 50)))
theorem sb_43_45 : Sd 43 45 5 bk_43_45 := Sd.sq st_43_45 (Sd.sq st_43_46 (Sd.sq st_43_47 (sd_fall rfl)))
theorem dd_43_50 : decode (mi 43).2.1 50 = .ok (.ireturn, 1) := by decide +kernel
theorem st_43_50 : Sd 43 50 1 (i_rI 0) := sd_ireturn dd_43_50 (by decide) mr_43
def bk_43_50 : Tr := i_rI 0
theorem sb_43_50 : Sd 43 50 1 bk_43_50 := st_43_50
theorem dd_44_0 : decode (mi 44).2.1 0 = .ok (.aload_n 0, 1) := by decide +kernel
theorem st_44_0 : Sd 44 0 1 (i_ldR 0) := sd_aload_n (j := 0) dd_44_0 rfl
theorem dd_44_1 : decode (mi 44).2.1 1 = .ok (.dup, 1) := by decide +kernel
theorem st_44_1 : Sd 44 1 1 (i_dup) := sd_dup dd_44_1
theorem dd_44_2 : decode (mi 44).2.1 2 = .ok (.getfield 155, 3) := by decide +kernel
theorem st_44_2 : Sd 44 2 3 (i_gI 6 [1]) := sd_gI (ref := "ContractDesk") (decl := "ContractDesk") (name := "found") (desc := "I") dd_44_2 (by rw [mc_44]; exact tw_481) (Or.inl rfl) (by decide +kernel)
theorem dd_44_5 : decode (mi 44).2.1 5 = .ok (.iconst 1, 1) := by decide +kernel
theorem st_44_5 : Sd 44 5 1 (i_ic 1) := sd_iconst dd_44_5
theorem dd_44_6 : decode (mi 44).2.1 6 = .ok (.iadd, 1) := by decide +kernel
theorem st_44_6 : Sd 44 6 1 (i_iadd) := sd_iadd dd_44_6
theorem dd_44_7 : decode (mi 44).2.1 7 = .ok (.putfield 155, 3) := by decide +kernel
theorem st_44_7 : Sd 44 7 3 (i_pI 6 [1] 0) := sd_pI (ref := "ContractDesk") (decl := "ContractDesk") (name := "found") (desc := "I") dd_44_7 (by rw [mc_44]; exact tw_481) (Or.inl rfl) (by decide +kernel) (by decide +kernel) (by decide)
theorem dd_44_10 : decode (mi 44).2.1 10 = .ok (.aload_n 0, 1) := by decide +kernel
theorem st_44_10 : Sd 44 10 1 (i_ldR 0) := sd_aload_n (j := 0) dd_44_10 rfl
theorem dd_44_11 : decode (mi 44).2.1 11 = .ok (.getfield 152, 3) := by decide +kernel
theorem st_44_11 : Sd 44 11 3 (i_gI 5 [1]) := sd_gI (ref := "ContractDesk") (decl := "ContractDesk") (name := "listed") (desc := "I") dd_44_11 (by rw [mc_44]; exact tw_480) (Or.inl rfl) (by decide +kernel)
theorem dd_44_14 : decode (mi 44).2.1 14 = .ok (.bipush 30, 2) := by decide +kernel
theorem st_44_14 : Sd 44 14 2 (i_ic 30) := sd_bipush dd_44_14 (by decide)
theorem dd_44_16 : decode (mi 44).2.1 16 = .ok (.if_icmp .ne 4, 3) := by decide +kernel
theorem st_44_16 : Sd 44 16 3 (i_cne 20) := sd_icmp_ne dd_44_16 (by decide)
theorem dd_44_19 : decode (mi 44).2.1 19 = .ok (.return_, 1) := by decide +kernel
theorem st_44_19 : Sd 44 19 1 (i_ret) := sd_ret dd_44_19 mr_44
def bk_44_0 : Tr := sq (i_ldR 0) (sq (i_dup) (sq (i_gI 6 [1]) (sq (i_ic 1) (sq (i_iadd) (sq (i_pI 6 [1] 0) (sq (i_ldR 0) (sq (i_gI 5 [1]) (sq (i_ic 30) (sq (i_cne 20) (i_ret))))))))))
theorem sb_44_0 : Sd 44 0 20 bk_44_0 := Sd.sq st_44_0 (Sd.sq st_44_1 (Sd.sq st_44_2 (Sd.sq st_44_5 (Sd.sq st_44_6 (Sd.sq st_44_7 (Sd.sq st_44_10 (Sd.sq st_44_11 (Sd.sq st_44_14 (Sd.sq st_44_16 (st_44_19))))))))))
theorem dd_44_20 : decode (mi 44).2.1 20 = .ok (.aload_n 0, 1) := by decide +kernel
theorem st_44_20 : Sd 44 20 1 (i_ldR 0) := sd_aload_n (j := 0) dd_44_20 rfl
theorem dd_44_21 : decode (mi 44).2.1 21 = .ok (.getfield 152, 3) := by decide +kernel
theorem st_44_21 : Sd 44 21 3 (i_gI 5 [1]) := sd_gI (ref := "ContractDesk") (decl := "ContractDesk") (name := "listed") (desc := "I") dd_44_21 (by rw [mc_44]; exact tw_480) (Or.inl rfl) (by decide +kernel)
theorem dd_44_24 : decode (mi 44).2.1 24 = .ok (.aload_n 0, 1) := by decide +kernel
theorem st_44_24 : Sd 44 24 1 (i_ldR 0) := sd_aload_n (j := 0) dd_44_24 rfl
theorem dd_44_25 : decode (mi 44).2.1 25 = .ok (.getfield 36, 3) := by decide +kernel
theorem st_44_25 : Sd 44 25 3 (i_gR 4 [1]) := sd_gR (ref := "ContractDesk") (decl := "ContractDesk") (name := "mismatches") (desc := "Ljava/util/ArrayList;") dd_44_25 (by rw [mc_44]; exact tw_479) (Or.inl rfl) (by decide +kernel)
theorem dd_44_28 : decode (mi 44).2.1 28 = .ok (.invokevirtual 55, 3) := by decide +kernel
theorem st_44_28 : Sd 44 28 3 (i_cV [(16, 23)] 1 5 []) := sd_virt ⟨"java/util/ArrayList", "size", "()I"⟩ dd_44_28 (by rw [mc_44]; exact tw_543) (fun t j h => by simp only [List.mem_cons, List.not_mem_nil, or_false, Prod.mk.injEq] at h; obtain ⟨rfl, rfl⟩ := h; exact mn_23) (fun t j h => by simp only [List.mem_cons, List.not_mem_nil, or_false, Prod.mk.injEq] at h; obtain ⟨rfl, rfl⟩ := h; exact ⟨by rw [mn_23]; exact tw_545, by rw [mn_23]; exact tw_544, mt_23, by decide, by decide⟩) (by unfold prm; decide +kernel) ml_44 (HsOk.nil (by decide +kernel))
theorem dd_44_31 : decode (mi 44).2.1 31 = .ok (.if_icmp .ne 18, 3) := by decide +kernel
theorem st_44_31 : Sd 44 31 3 (i_cne 49) := sd_icmp_ne dd_44_31 (by decide)
theorem dd_44_34 : decode (mi 44).2.1 34 = .ok (.aload_n 0, 1) := by decide +kernel
theorem st_44_34 : Sd 44 34 1 (i_ldR 0) := sd_aload_n (j := 0) dd_44_34 rfl
theorem dd_44_35 : decode (mi 44).2.1 35 = .ok (.getfield 36, 3) := by decide +kernel
theorem st_44_35 : Sd 44 35 3 (i_gR 4 [1]) := sd_gR (ref := "ContractDesk") (decl := "ContractDesk") (name := "mismatches") (desc := "Ljava/util/ArrayList;") dd_44_35 (by rw [mc_44]; exact tw_479) (Or.inl rfl) (by decide +kernel)
theorem dd_44_38 : decode (mi 44).2.1 38 = .ok (.new 162, 3) := by decide +kernel
theorem st_44_38 : Sd 44 38 3 (i_new 14) := sd_new dd_44_38 (by rw [mc_44]; exact tw_674) (by exact tw_107) (by exact tw_1208) (by decide) (by decide)
theorem dd_44_41 : decode (mi 44).2.1 41 = .ok (.dup, 1) := by decide +kernel
theorem st_44_41 : Sd 44 41 1 (i_dup) := sd_dup dd_44_41
theorem dd_44_42 : decode (mi 44).2.1 42 = .ok (.invokespecial 164, 3) := by decide +kernel
theorem st_44_42 : Sd 44 42 3 (i_cI 75 1 5 []) := sd_initN (host := "ContractDesk") dd_44_42 (by rw [mc_44, mn_75]; exact tw_1209) (by rw [mn_75]; exact tw_1210) mt_75 pm_75 (by rw [mn_75]) (by decide +kernel) ml_44 (HsOk.nil (by decide +kernel))
theorem dd_44_45 : decode (mi 44).2.1 45 = .ok (.invokevirtual 66, 3) := by decide +kernel
theorem st_44_45 : Sd 44 45 3 (i_cV [(16, 27)] 2 5 []) := sd_virt ⟨"java/util/ArrayList", "add", "(Ljava/lang/Object;)Z"⟩ dd_44_45 (by rw [mc_44]; exact tw_733) (fun t j h => by simp only [List.mem_cons, List.not_mem_nil, or_false, Prod.mk.injEq] at h; obtain ⟨rfl, rfl⟩ := h; exact mn_27) (fun t j h => by simp only [List.mem_cons, List.not_mem_nil, or_false, Prod.mk.injEq] at h; obtain ⟨rfl, rfl⟩ := h; exact ⟨by rw [mn_27]; exact tw_735, by rw [mn_27]; exact tw_734, mt_27, by decide, by decide⟩) (by unfold prm; decide +kernel) ml_44 (HsOk.nil (by decide +kernel))
theorem dd_44_48 : decode (mi 44).2.1 48 = .ok (.pop, 1) := by decide +kernel
theorem st_44_48 : Sd 44 48 1 (i_pop) := sd_pop dd_44_48
def bk_44_20 : Tr := sq (i_ldR 0) (sq (i_gI 5 [1]) (sq (i_ldR 0) (sq (i_gR 4 [1]) (sq (i_cV [(16, 23)] 1 5 []) (sq (i_cne 49) (sq (i_ldR 0) (sq (i_gR 4 [1]) (sq (i_new 14) (sq (i_dup) (sq (i_cI 75 1 5 []) (sq (i_cV [(16, 27)] 2 5 []) (sq (i_pop) (i_fall 49)))))))))))))
theorem sb_44_20 : Sd 44 20 29 bk_44_20 := Sd.sq st_44_20 (Sd.sq st_44_21 (Sd.sq st_44_24 (Sd.sq st_44_25 (Sd.sq st_44_28 (Sd.sq st_44_31 (Sd.sq st_44_34 (Sd.sq st_44_35 (Sd.sq st_44_38 (Sd.sq st_44_41 (Sd.sq st_44_42 (Sd.sq st_44_45 (Sd.sq st_44_48 (sd_fall rfl)))))))))))))
theorem dd_44_49 : decode (mi 44).2.1 49 = .ok (.aload_n 0, 1) := by decide +kernel
theorem st_44_49 : Sd 44 49 1 (i_ldR 0) := sd_aload_n (j := 0) dd_44_49 rfl
theorem dd_44_50 : decode (mi 44).2.1 50 = .ok (.getfield 36, 3) := by decide +kernel
theorem st_44_50 : Sd 44 50 3 (i_gR 4 [1]) := sd_gR (ref := "ContractDesk") (decl := "ContractDesk") (name := "mismatches") (desc := "Ljava/util/ArrayList;") dd_44_50 (by rw [mc_44]; exact tw_479) (Or.inl rfl) (by decide +kernel)
theorem dd_44_53 : decode (mi 44).2.1 53 = .ok (.aload_n 0, 1) := by decide +kernel
theorem st_44_53 : Sd 44 53 1 (i_ldR 0) := sd_aload_n (j := 0) dd_44_53 rfl
theorem dd_44_54 : decode (mi 44).2.1 54 = .ok (.getfield 152, 3) := by decide +kernel
theorem st_44_54 : Sd 44 54 3 (i_gI 5 [1]) := sd_gI (ref := "ContractDesk") (decl := "ContractDesk") (name := "listed") (desc := "I") dd_44_54 (by rw [mc_44]; exact tw_480) (Or.inl rfl) (by decide +kernel)
theorem dd_44_57 : decode (mi 44).2.1 57 = .ok (.invokevirtual 77, 3) := by decide +kernel
theorem st_44_57 : Sd 44 57 3 (i_cV [(16, 24)] 2 5 []) := sd_virt ⟨"java/util/ArrayList", "get", "(I)Ljava/lang/Object;"⟩ dd_44_57 (by rw [mc_44]; exact tw_547) (fun t j h => by simp only [List.mem_cons, List.not_mem_nil, or_false, Prod.mk.injEq] at h; obtain ⟨rfl, rfl⟩ := h; exact mn_24) (fun t j h => by simp only [List.mem_cons, List.not_mem_nil, or_false, Prod.mk.injEq] at h; obtain ⟨rfl, rfl⟩ := h; exact ⟨by rw [mn_24]; exact tw_549, by rw [mn_24]; exact tw_548, mt_24, by decide, by decide⟩) (by unfold prm; decide +kernel) ml_44 (HsOk.nil (by decide +kernel))
theorem dd_44_60 : decode (mi 44).2.1 60 = .ok (.checkcast 162, 3) := by decide +kernel
theorem st_44_60 : Sd 44 60 3 (i_cast [14]) := sd_checkcast (nm := "ContractDesk$Mismatch") dd_44_60 (by rw [mc_44]; exact tw_674) okc_7
theorem dd_44_63 : decode (mi 44).2.1 63 = .ok (.astore_n 3, 1) := by decide +kernel
theorem st_44_63 : Sd 44 63 1 (i_stR 3) := sd_astore_n (j := 3) dd_44_63 rfl
theorem dd_44_64 : decode (mi 44).2.1 64 = .ok (.aload_n 0, 1) := by decide +kernel
theorem st_44_64 : Sd 44 64 1 (i_ldR 0) := sd_aload_n (j := 0) dd_44_64 rfl
theorem dd_44_65 : decode (mi 44).2.1 65 = .ok (.dup, 1) := by decide +kernel
theorem st_44_65 : Sd 44 65 1 (i_dup) := sd_dup dd_44_65
theorem dd_44_66 : decode (mi 44).2.1 66 = .ok (.getfield 152, 3) := by decide +kernel
theorem st_44_66 : Sd 44 66 3 (i_gI 5 [1]) := sd_gI (ref := "ContractDesk") (decl := "ContractDesk") (name := "listed") (desc := "I") dd_44_66 (by rw [mc_44]; exact tw_480) (Or.inl rfl) (by decide +kernel)
theorem dd_44_69 : decode (mi 44).2.1 69 = .ok (.iconst 1, 1) := by decide +kernel
theorem st_44_69 : Sd 44 69 1 (i_ic 1) := sd_iconst dd_44_69
theorem dd_44_70 : decode (mi 44).2.1 70 = .ok (.iadd, 1) := by decide +kernel
theorem st_44_70 : Sd 44 70 1 (i_iadd) := sd_iadd dd_44_70
theorem dd_44_71 : decode (mi 44).2.1 71 = .ok (.putfield 152, 3) := by decide +kernel
theorem st_44_71 : Sd 44 71 3 (i_pI 5 [1] 0) := sd_pI (ref := "ContractDesk") (decl := "ContractDesk") (name := "listed") (desc := "I") dd_44_71 (by rw [mc_44]; exact tw_480) (Or.inl rfl) (by decide +kernel) (by decide +kernel) (by decide)
theorem dd_44_74 : decode (mi 44).2.1 74 = .ok (.aload_n 3, 1) := by decide +kernel
theorem st_44_74 : Sd 44 74 1 (i_ldR 3) := sd_aload_n (j := 3) dd_44_74 rfl
theorem dd_44_75 : decode (mi 44).2.1 75 = .ok (.iload_n 1, 1) := by decide +kernel
theorem st_44_75 : Sd 44 75 1 (i_ldI 1) := sd_iload_n (j := 1) dd_44_75 rfl
theorem dd_44_76 : decode (mi 44).2.1 76 = .ok (.putfield 165, 3) := by decide +kernel
theorem st_44_76 : Sd 44 76 3 (i_pI 1 [14] 0) := sd_pI (ref := "ContractDesk$Mismatch") (decl := "ContractDesk$Mismatch") (name := "kind") (desc := "I") dd_44_76 (by rw [mc_44]; exact tw_1217) (Or.inl rfl) (by decide +kernel) (by decide +kernel) (by decide)
theorem dd_44_79 : decode (mi 44).2.1 79 = .ok (.aload_n 3, 1) := by decide +kernel
theorem st_44_79 : Sd 44 79 1 (i_ldR 3) := sd_aload_n (j := 3) dd_44_79 rfl
theorem dd_44_80 : decode (mi 44).2.1 80 = .ok (.getfield 168, 3) := by decide +kernel
theorem st_44_80 : Sd 44 80 3 (i_gR 0 [14]) := sd_gR (ref := "ContractDesk$Mismatch") (decl := "ContractDesk$Mismatch") (name := "place") (desc := "Ljava/lang/StringBuilder;") dd_44_80 (by rw [mc_44]; exact tw_1216) (Or.inl rfl) (by decide +kernel)
theorem dd_44_83 : decode (mi 44).2.1 83 = .ok (.iconst 0, 1) := by decide +kernel
theorem st_44_83 : Sd 44 83 1 (i_ic 0) := sd_iconst dd_44_83
theorem dd_44_84 : decode (mi 44).2.1 84 = .ok (.invokevirtual 170, 3) := by decide +kernel
theorem st_44_84 : Sd 44 84 3 (i_cV [(15, 17)] 2 5 []) := sd_virt ⟨"java/lang/StringBuilder", "setLength", "(I)V"⟩ dd_44_84 (by rw [mc_44]; exact tw_1223) (fun t j h => by simp only [List.mem_cons, List.not_mem_nil, or_false, Prod.mk.injEq] at h; obtain ⟨rfl, rfl⟩ := h; exact mn_17) (fun t j h => by simp only [List.mem_cons, List.not_mem_nil, or_false, Prod.mk.injEq] at h; obtain ⟨rfl, rfl⟩ := h; exact ⟨by rw [mn_17]; exact tw_575, by rw [mn_17]; exact tw_574, mt_17, by decide, by decide⟩) (by unfold prm; decide +kernel) ml_44 (HsOk.nil (by decide +kernel))
theorem dd_44_87 : decode (mi 44).2.1 87 = .ok (.aload_n 3, 1) := by decide +kernel
theorem st_44_87 : Sd 44 87 1 (i_ldR 3) := sd_aload_n (j := 3) dd_44_87 rfl
theorem dd_44_88 : decode (mi 44).2.1 88 = .ok (.getfield 168, 3) := by decide +kernel
theorem st_44_88 : Sd 44 88 3 (i_gR 0 [14]) := sd_gR (ref := "ContractDesk$Mismatch") (decl := "ContractDesk$Mismatch") (name := "place") (desc := "Ljava/lang/StringBuilder;") dd_44_88 (by rw [mc_44]; exact tw_1216) (Or.inl rfl) (by decide +kernel)
theorem dd_44_91 : decode (mi 44).2.1 91 = .ok (.bipush 36, 2) := by decide +kernel
theorem st_44_91 : Sd 44 91 2 (i_ic 36) := sd_bipush dd_44_91 (by decide)
theorem dd_44_93 : decode (mi 44).2.1 93 = .ok (.invokevirtual 51, 3) := by decide +kernel
theorem st_44_93 : Sd 44 93 3 (i_cV [(15, 12)] 2 5 []) := sd_virt ⟨"java/lang/StringBuilder", "append", "(C)Ljava/lang/StringBuilder;"⟩ dd_44_93 (by rw [mc_44]; exact tw_513) (fun t j h => by simp only [List.mem_cons, List.not_mem_nil, or_false, Prod.mk.injEq] at h; obtain ⟨rfl, rfl⟩ := h; exact mn_12) (fun t j h => by simp only [List.mem_cons, List.not_mem_nil, or_false, Prod.mk.injEq] at h; obtain ⟨rfl, rfl⟩ := h; exact ⟨by rw [mn_12]; exact tw_515, by rw [mn_12]; exact tw_514, mt_12, by decide, by decide⟩) (by unfold prm; decide +kernel) ml_44 (HsOk.nil (by decide +kernel))
theorem dd_44_96 : decode (mi 44).2.1 96 = .ok (.pop, 1) := by decide +kernel
theorem st_44_96 : Sd 44 96 1 (i_pop) := sd_pop dd_44_96
theorem dd_44_97 : decode (mi 44).2.1 97 = .ok (.iconst 0, 1) := by decide +kernel
theorem st_44_97 : Sd 44 97 1 (i_ic 0) := sd_iconst dd_44_97
theorem dd_44_98 : decode (mi 44).2.1 98 = .ok (.istore 4, 2) := by decide +kernel
theorem st_44_98 : Sd 44 98 2 (i_stI 4) := sd_istore dd_44_98
def bk_44_49 : Tr := sq (i_ldR 0) (sq (i_gR 4 [1]) (sq (i_ldR 0) (sq (i_gI 5 [1]) (sq (i_cV [(16, 24)] 2 5 []) (sq (i_cast [14]) (sq (i_stR 3) (sq (i_ldR 0) (sq (i_dup) (sq (i_gI 5 [1]) (sq (i_ic 1) (sq (i_iadd) (sq (i_pI 5 [1] 0) (sq (i_ldR 3) (sq (i_ldI 1) (sq (i_pI 1 [14] 0) (sq (i_ldR 3) (sq (i_gR 0 [14]) (sq (i_ic 0) (sq (i_cV [(15, 17)] 2 5 []) (sq (i_ldR 3) (sq (i_gR 0 [14]) (sq (i_ic 36) (sq (i_cV [(15, 12)] 2 5 []) (sq (i_pop) (sq (i_ic 0) (sq (i_stI 4) (i_fall 100)))))))))))))))))))))))))))
theorem sb_44_49 : Sd 44 49 51 bk_44_49 := Sd.sq st_44_49 (Sd.sq st_44_50 (Sd.sq st_44_53 (Sd.sq st_44_54 (Sd.sq st_44_57 (Sd.sq st_44_60 (Sd.sq st_44_63 (Sd.sq st_44_64 (Sd.sq st_44_65 (Sd.sq st_44_66 (Sd.sq st_44_69 (Sd.sq st_44_70 (Sd.sq st_44_71 (Sd.sq st_44_74 (Sd.sq st_44_75 (Sd.sq st_44_76 (Sd.sq st_44_79 (Sd.sq st_44_80 (Sd.sq st_44_83 (Sd.sq st_44_84 (Sd.sq st_44_87 (Sd.sq st_44_88 (Sd.sq st_44_91 (Sd.sq st_44_93 (Sd.sq st_44_96 (Sd.sq st_44_97 (Sd.sq st_44_98 (sd_fall rfl)))))))))))))))))))))))))))
theorem dd_44_100 : decode (mi 44).2.1 100 = .ok (.iload 4, 2) := by decide +kernel
theorem st_44_100 : Sd 44 100 2 (i_ldI 4) := sd_iload dd_44_100
theorem dd_44_102 : decode (mi 44).2.1 102 = .ok (.iload_n 2, 1) := by decide +kernel
theorem st_44_102 : Sd 44 102 1 (i_ldI 2) := sd_iload_n (j := 2) dd_44_102 rfl
theorem dd_44_103 : decode (mi 44).2.1 103 = .ok (.if_icmp .ge 23, 3) := by decide +kernel
theorem st_44_103 : Sd 44 103 3 (i_cge 126) := sd_icmp_ge dd_44_103 (by decide)
theorem dd_44_106 : decode (mi 44).2.1 106 = .ok (.aload_n 0, 1) := by decide +kernel
theorem st_44_106 : Sd 44 106 1 (i_ldR 0) := sd_aload_n (j := 0) dd_44_106 rfl
theorem dd_44_107 : decode (mi 44).2.1 107 = .ok (.getfield 39, 3) := by decide +kernel
theorem st_44_107 : Sd 44 107 3 (i_gR 7 [1]) := sd_gR (ref := "ContractDesk") (decl := "ContractDesk") (name := "place") (desc := "[I") dd_44_107 (by rw [mc_44]; exact tw_482) (Or.inl rfl) (by decide +kernel)
theorem dd_44_110 : decode (mi 44).2.1 110 = .ok (.iload 4, 2) := by decide +kernel
theorem st_44_110 : Sd 44 110 2 (i_ldI 4) := sd_iload dd_44_110
theorem dd_44_112 : decode (mi 44).2.1 112 = .ok (.iaload, 1) := by decide +kernel
theorem st_44_112 : Sd 44 112 1 (i_aI [20]) := sd_iaload dd_44_112 (by decide)
theorem dd_44_113 : decode (mi 44).2.1 113 = .ok (.aload_n 3, 1) := by decide +kernel
theorem st_44_113 : Sd 44 113 1 (i_ldR 3) := sd_aload_n (j := 3) dd_44_113 rfl
theorem dd_44_114 : decode (mi 44).2.1 114 = .ok (.getfield 168, 3) := by decide +kernel
theorem st_44_114 : Sd 44 114 3 (i_gR 0 [14]) := sd_gR (ref := "ContractDesk$Mismatch") (decl := "ContractDesk$Mismatch") (name := "place") (desc := "Ljava/lang/StringBuilder;") dd_44_114 (by rw [mc_44]; exact tw_1216) (Or.inl rfl) (by decide +kernel)
theorem dd_44_117 : decode (mi 44).2.1 117 = .ok (.invokestatic 173, 3) := by decide +kernel
theorem st_44_117 : Sd 44 117 3 (i_cS 55 2 5 []) := sd_static dd_44_117 (by rw [mc_44, mn_55]; exact tw_1224) (by rw [mn_55]; exact tw_1225) mt_55 pm_55 ml_44 (HsOk.nil (by decide +kernel))
theorem dd_44_120 : decode (mi 44).2.1 120 = .ok (.iinc 4 1, 3) := by decide +kernel
theorem st_44_120 : Sd 44 120 3 (i_inc 4 1) := sd_iinc dd_44_120
theorem dd_44_123 : decode (mi 44).2.1 123 = .ok (.goto (-23), 3) := by decide +kernel
theorem st_44_123 : Sd 44 123 3 (i_goto 100) := sd_goto dd_44_123 (by decide)
def bk_44_100 : Tr := sq (i_ldI 4) (sq (i_ldI 2) (sq (i_cge 126) (sq (i_ldR 0) (sq (i_gR 7 [1]) (sq (i_ldI 4) (sq (i_aI [20]) (sq (i_ldR 3) (sq (i_gR 0 [14]) (sq (i_cS 55 2 5 []) (sq (i_inc 4 1) (i_goto 100)))))))))))
theorem sb_44_100 : Sd 44 100 26 bk_44_100 := Sd.sq st_44_100 (Sd.sq st_44_102 (Sd.sq st_44_103 (Sd.sq st_44_106 (Sd.sq st_44_107 (Sd.sq st_44_110 (Sd.sq st_44_112 (Sd.sq st_44_113 (Sd.sq st_44_114 (Sd.sq st_44_117 (Sd.sq st_44_120 (st_44_123)))))))))))
theorem dd_44_126 : decode (mi 44).2.1 126 = .ok (.return_, 1) := by decide +kernel
theorem st_44_126 : Sd 44 126 1 (i_ret) := sd_ret dd_44_126 mr_44
def bk_44_126 : Tr := i_ret
theorem sb_44_126 : Sd 44 126 1 bk_44_126 := st_44_126
theorem dd_45_0 : decode (mi 45).2.1 0 = .ok (.aload_n 0, 1) := by decide +kernel
theorem st_45_0 : Sd 45 0 1 (i_ldR 0) := sd_aload_n (j := 0) dd_45_0 rfl
theorem dd_45_1 : decode (mi 45).2.1 1 = .ok (.getfield 152, 3) := by decide +kernel
theorem st_45_1 : Sd 45 1 3 (i_gI 5 [1]) := sd_gI (ref := "ContractDesk") (decl := "ContractDesk") (name := "listed") (desc := "I") dd_45_1 (by rw [mc_45]; exact tw_480) (Or.inl rfl) (by decide +kernel)
theorem dd_45_4 : decode (mi 45).2.1 4 = .ok (.ireturn, 1) := by decide +kernel
theorem st_45_4 : Sd 45 4 1 (i_rI 0) := sd_ireturn dd_45_4 (by decide) mr_45
def bk_45_0 : Tr := sq (i_ldR 0) (sq (i_gI 5 [1]) (i_rI 0))
theorem sb_45_0 : Sd 45 0 5 bk_45_0 := Sd.sq st_45_0 (Sd.sq st_45_1 (st_45_4))
theorem dd_46_0 : decode (mi 46).2.1 0 = .ok (.aload_n 0, 1) := by decide +kernel
theorem st_46_0 : Sd 46 0 1 (i_ldR 0) := sd_aload_n (j := 0) dd_46_0 rfl
theorem dd_46_1 : decode (mi 46).2.1 1 = .ok (.getfield 28, 3) := by decide +kernel
theorem st_46_1 : Sd 46 1 3 (i_gR 2 [1]) := sd_gR (ref := "ContractDesk") (decl := "ContractDesk") (name := "interactions") (desc := "Ljava/util/ArrayList;") dd_46_1 (by rw [mc_46]; exact tw_477) (Or.inl rfl) (by decide +kernel)
theorem dd_46_4 : decode (mi 46).2.1 4 = .ok (.invokevirtual 55, 3) := by decide +kernel
theorem st_46_4 : Sd 46 4 3 (i_cV [(16, 23)] 1 2 []) := sd_virt ⟨"java/util/ArrayList", "size", "()I"⟩ dd_46_4 (by rw [mc_46]; exact tw_543) (fun t j h => by simp only [List.mem_cons, List.not_mem_nil, or_false, Prod.mk.injEq] at h; obtain ⟨rfl, rfl⟩ := h; exact mn_23) (fun t j h => by simp only [List.mem_cons, List.not_mem_nil, or_false, Prod.mk.injEq] at h; obtain ⟨rfl, rfl⟩ := h; exact ⟨by rw [mn_23]; exact tw_545, by rw [mn_23]; exact tw_544, mt_23, by decide, by decide⟩) (by unfold prm; decide +kernel) ml_46 (HsOk.nil (by decide +kernel))
theorem dd_46_7 : decode (mi 46).2.1 7 = .ok (.iconst 4, 1) := by decide +kernel
theorem st_46_7 : Sd 46 7 1 (i_ic 4) := sd_iconst dd_46_7
theorem dd_46_8 : decode (mi 46).2.1 8 = .ok (.if_icmp .lt 11, 3) := by decide +kernel
theorem st_46_8 : Sd 46 8 3 (i_clt 19) := sd_icmp_lt dd_46_8 (by decide)
theorem dd_46_11 : decode (mi 46).2.1 11 = .ok (.new 58, 3) := by decide +kernel
theorem st_46_11 : Sd 46 11 3 (i_new 18) := sd_new dd_46_11 (by rw [mc_46]; exact tw_692) (by exact tw_91) (by exact tw_693) (by decide) (by decide)
theorem dd_46_14 : decode (mi 46).2.1 14 = .ok (.dup, 1) := by decide +kernel
theorem st_46_14 : Sd 46 14 1 (i_dup) := sd_dup dd_46_14
theorem dd_46_15 : decode (mi 46).2.1 15 = .ok (.invokespecial 60, 3) := by decide +kernel
theorem st_46_15 : Sd 46 15 3 (i_exc 18 2) := sd_exc dd_46_15 (by decide) (by rw [mc_46]; exact tw_701) ml_46
theorem dd_46_18 : decode (mi 46).2.1 18 = .ok (.athrow, 1) := by decide +kernel
theorem st_46_18 : Sd 46 18 1 (i_throw) := sd_athrow dd_46_18 (by decide +kernel)
def bk_46_0 : Tr := sq (i_ldR 0) (sq (i_gR 2 [1]) (sq (i_cV [(16, 23)] 1 2 []) (sq (i_ic 4) (sq (i_clt 19) (sq (i_new 18) (sq (i_dup) (sq (i_exc 18 2) (i_throw))))))))
theorem sb_46_0 : Sd 46 0 19 bk_46_0 := Sd.sq st_46_0 (Sd.sq st_46_1 (Sd.sq st_46_4 (Sd.sq st_46_7 (Sd.sq st_46_8 (Sd.sq st_46_11 (Sd.sq st_46_14 (Sd.sq st_46_15 (st_46_18))))))))
theorem dd_46_19 : decode (mi 46).2.1 19 = .ok (.aload_n 0, 1) := by decide +kernel
theorem st_46_19 : Sd 46 19 1 (i_ldR 0) := sd_aload_n (j := 0) dd_46_19 rfl
theorem dd_46_20 : decode (mi 46).2.1 20 = .ok (.getfield 28, 3) := by decide +kernel
theorem st_46_20 : Sd 46 20 3 (i_gR 2 [1]) := sd_gR (ref := "ContractDesk") (decl := "ContractDesk") (name := "interactions") (desc := "Ljava/util/ArrayList;") dd_46_20 (by rw [mc_46]; exact tw_477) (Or.inl rfl) (by decide +kernel)
theorem dd_46_23 : decode (mi 46).2.1 23 = .ok (.new 61, 3) := by decide +kernel
theorem st_46_23 : Sd 46 23 3 (i_new 4) := sd_new dd_46_23 (by rw [mc_46]; exact tw_559) (by exact tw_92) (by exact tw_707) (by decide) (by decide)
theorem dd_46_26 : decode (mi 46).2.1 26 = .ok (.dup, 1) := by decide +kernel
theorem st_46_26 : Sd 46 26 1 (i_dup) := sd_dup dd_46_26
theorem dd_46_27 : decode (mi 46).2.1 27 = .ok (.iload_n 1, 1) := by decide +kernel
theorem st_46_27 : Sd 46 27 1 (i_ldI 1) := sd_iload_n (j := 1) dd_46_27 rfl
theorem dd_46_28 : decode (mi 46).2.1 28 = .ok (.invokespecial 63, 3) := by decide +kernel
theorem st_46_28 : Sd 46 28 3 (i_cI 70 2 2 []) := sd_init dd_46_28 (by rw [mc_46, mn_70]; exact tw_708) (by rw [mn_70]; exact tw_709) mt_70 pm_70 (by rw [mn_70]) (by decide +kernel) ml_46 (HsOk.nil (by decide +kernel))
theorem dd_46_31 : decode (mi 46).2.1 31 = .ok (.invokevirtual 66, 3) := by decide +kernel
theorem st_46_31 : Sd 46 31 3 (i_cV [(16, 27)] 2 2 []) := sd_virt ⟨"java/util/ArrayList", "add", "(Ljava/lang/Object;)Z"⟩ dd_46_31 (by rw [mc_46]; exact tw_733) (fun t j h => by simp only [List.mem_cons, List.not_mem_nil, or_false, Prod.mk.injEq] at h; obtain ⟨rfl, rfl⟩ := h; exact mn_27) (fun t j h => by simp only [List.mem_cons, List.not_mem_nil, or_false, Prod.mk.injEq] at h; obtain ⟨rfl, rfl⟩ := h; exact ⟨by rw [mn_27]; exact tw_735, by rw [mn_27]; exact tw_734, mt_27, by decide, by decide⟩) (by unfold prm; decide +kernel) ml_46 (HsOk.nil (by decide +kernel))
theorem dd_46_34 : decode (mi 46).2.1 34 = .ok (.pop, 1) := by decide +kernel
theorem st_46_34 : Sd 46 34 1 (i_pop) := sd_pop dd_46_34
theorem dd_46_35 : decode (mi 46).2.1 35 = .ok (.aload_n 0, 1) := by decide +kernel
theorem st_46_35 : Sd 46 35 1 (i_ldR 0) := sd_aload_n (j := 0) dd_46_35 rfl
theorem dd_46_36 : decode (mi 46).2.1 36 = .ok (.getfield 28, 3) := by decide +kernel
theorem st_46_36 : Sd 46 36 3 (i_gR 2 [1]) := sd_gR (ref := "ContractDesk") (decl := "ContractDesk") (name := "interactions") (desc := "Ljava/util/ArrayList;") dd_46_36 (by rw [mc_46]; exact tw_477) (Or.inl rfl) (by decide +kernel)
theorem dd_46_39 : decode (mi 46).2.1 39 = .ok (.invokevirtual 55, 3) := by decide +kernel
theorem st_46_39 : Sd 46 39 3 (i_cV [(16, 23)] 1 2 []) := sd_virt ⟨"java/util/ArrayList", "size", "()I"⟩ dd_46_39 (by rw [mc_46]; exact tw_543) (fun t j h => by simp only [List.mem_cons, List.not_mem_nil, or_false, Prod.mk.injEq] at h; obtain ⟨rfl, rfl⟩ := h; exact mn_23) (fun t j h => by simp only [List.mem_cons, List.not_mem_nil, or_false, Prod.mk.injEq] at h; obtain ⟨rfl, rfl⟩ := h; exact ⟨by rw [mn_23]; exact tw_545, by rw [mn_23]; exact tw_544, mt_23, by decide, by decide⟩) (by unfold prm; decide +kernel) ml_46 (HsOk.nil (by decide +kernel))
theorem dd_46_42 : decode (mi 46).2.1 42 = .ok (.iconst 1, 1) := by decide +kernel
theorem st_46_42 : Sd 46 42 1 (i_ic 1) := sd_iconst dd_46_42
theorem dd_46_43 : decode (mi 46).2.1 43 = .ok (.isub, 1) := by decide +kernel
theorem st_46_43 : Sd 46 43 1 (i_isub) := sd_isub dd_46_43
theorem dd_46_44 : decode (mi 46).2.1 44 = .ok (.ireturn, 1) := by decide +kernel
theorem st_46_44 : Sd 46 44 1 (i_rI 0) := sd_ireturn dd_46_44 (by decide) mr_46
def bk_46_19 : Tr := sq (i_ldR 0) (sq (i_gR 2 [1]) (sq (i_new 4) (sq (i_dup) (sq (i_ldI 1) (sq (i_cI 70 2 2 []) (sq (i_cV [(16, 27)] 2 2 []) (sq (i_pop) (sq (i_ldR 0) (sq (i_gR 2 [1]) (sq (i_cV [(16, 23)] 1 2 []) (sq (i_ic 1) (sq (i_isub) (i_rI 0)))))))))))))
theorem sb_46_19 : Sd 46 19 26 bk_46_19 := Sd.sq st_46_19 (Sd.sq st_46_20 (Sd.sq st_46_23 (Sd.sq st_46_26 (Sd.sq st_46_27 (Sd.sq st_46_28 (Sd.sq st_46_31 (Sd.sq st_46_34 (Sd.sq st_46_35 (Sd.sq st_46_36 (Sd.sq st_46_39 (Sd.sq st_46_42 (Sd.sq st_46_43 (st_46_44)))))))))))))
theorem dd_47_0 : decode (mi 47).2.1 0 = .ok (.aload_n 2, 1) := by decide +kernel
theorem st_47_0 : Sd 47 0 1 (i_ldR 2) := sd_aload_n (j := 2) dd_47_0 rfl
theorem dd_47_1 : decode (mi 47).2.1 1 = .ok (.getfield 215, 3) := by decide +kernel
theorem st_47_1 : Sd 47 1 3 (i_gR 1 [12]) := sd_gR (ref := "ContractDesk$Group") (decl := "ContractDesk$Group") (name := "first") (desc := "LContractDesk$Member;") dd_47_1 (by rw [mc_47]; exact tw_848) (Or.inl rfl) (by decide +kernel)
theorem dd_47_4 : decode (mi 47).2.1 4 = .ok (.astore 5, 2) := by decide +kernel
theorem st_47_4 : Sd 47 4 2 (i_stR 5) := sd_astore dd_47_4
def bk_47_0 : Tr := sq (i_ldR 2) (sq (i_gR 1 [12]) (sq (i_stR 5) (i_fall 6)))
theorem sb_47_0 : Sd 47 0 6 bk_47_0 := Sd.sq st_47_0 (Sd.sq st_47_1 (Sd.sq st_47_4 (sd_fall rfl)))
theorem dd_47_6 : decode (mi 47).2.1 6 = .ok (.aload 5, 2) := by decide +kernel
theorem st_47_6 : Sd 47 6 2 (i_ldR 5) := sd_aload dd_47_6
theorem dd_47_8 : decode (mi 47).2.1 8 = .ok (.ifnull 69, 3) := by decide +kernel
theorem st_47_8 : Sd 47 8 3 (i_nul 77) := sd_ifnull dd_47_8 (by decide)
theorem dd_47_11 : decode (mi 47).2.1 11 = .ok (.aload_n 0, 1) := by decide +kernel
theorem st_47_11 : Sd 47 11 1 (i_ldR 0) := sd_aload_n (j := 0) dd_47_11 rfl
theorem dd_47_12 : decode (mi 47).2.1 12 = .ok (.getfield 39, 3) := by decide +kernel
theorem st_47_12 : Sd 47 12 3 (i_gR 7 [1]) := sd_gR (ref := "ContractDesk") (decl := "ContractDesk") (name := "place") (desc := "[I") dd_47_12 (by rw [mc_47]; exact tw_482) (Or.inl rfl) (by decide +kernel)
theorem dd_47_15 : decode (mi 47).2.1 15 = .ok (.iload 4, 2) := by decide +kernel
theorem st_47_15 : Sd 47 15 2 (i_ldI 4) := sd_iload dd_47_15
theorem dd_47_17 : decode (mi 47).2.1 17 = .ok (.aload 5, 2) := by decide +kernel
theorem st_47_17 : Sd 47 17 2 (i_ldR 5) := sd_aload dd_47_17
theorem dd_47_19 : decode (mi 47).2.1 19 = .ok (.getfield 227, 3) := by decide +kernel
theorem st_47_19 : Sd 47 19 3 (i_gI 0 [13]) := sd_gI (ref := "ContractDesk$Member") (decl := "ContractDesk$Member") (name := "key") (desc := "C") dd_47_19 (by rw [mc_47]; exact tw_878) (Or.inl rfl) (by decide +kernel)
theorem dd_47_22 : decode (mi 47).2.1 22 = .ok (.iastore, 1) := by decide +kernel
theorem st_47_22 : Sd 47 22 1 (i_sI [20] 0) := sd_iastore dd_47_22 (by decide)
theorem dd_47_23 : decode (mi 47).2.1 23 = .ok (.aload_n 3, 1) := by decide +kernel
theorem st_47_23 : Sd 47 23 1 (i_ldR 3) := sd_aload_n (j := 3) dd_47_23 rfl
theorem dd_47_24 : decode (mi 47).2.1 24 = .ok (.aload 5, 2) := by decide +kernel
theorem st_47_24 : Sd 47 24 2 (i_ldR 5) := sd_aload dd_47_24
theorem dd_47_26 : decode (mi 47).2.1 26 = .ok (.getfield 227, 3) := by decide +kernel
theorem st_47_26 : Sd 47 26 3 (i_gI 0 [13]) := sd_gI (ref := "ContractDesk$Member") (decl := "ContractDesk$Member") (name := "key") (desc := "C") dd_47_26 (by rw [mc_47]; exact tw_878) (Or.inl rfl) (by decide +kernel)
theorem dd_47_29 : decode (mi 47).2.1 29 = .ok (.invokevirtual 231, 3) := by decide +kernel
theorem st_47_29 : Sd 47 29 3 (i_cV [(12, 65)] 2 7 []) := sd_virt ⟨"ContractDesk$Group", "find", "(C)LContractDesk$Value;"⟩ dd_47_29 (by rw [mc_47]; exact tw_1253) (fun t j h => by simp only [List.mem_cons, List.not_mem_nil, or_false, Prod.mk.injEq] at h; obtain ⟨rfl, rfl⟩ := h; exact mn_65) (fun t j h => by simp only [List.mem_cons, List.not_mem_nil, or_false, Prod.mk.injEq] at h; obtain ⟨rfl, rfl⟩ := h; exact ⟨by rw [mn_65]; exact tw_868, by rw [mn_65]; exact tw_867, mt_65, by decide, by decide⟩) (by unfold prm; decide +kernel) ml_47 (HsOk.nil (by decide +kernel))
theorem dd_47_32 : decode (mi 47).2.1 32 = .ok (.astore 6, 2) := by decide +kernel
theorem st_47_32 : Sd 47 32 2 (i_stR 6) := sd_astore dd_47_32
theorem dd_47_34 : decode (mi 47).2.1 34 = .ok (.aload 6, 2) := by decide +kernel
theorem st_47_34 : Sd 47 34 2 (i_ldR 6) := sd_aload dd_47_34
theorem dd_47_36 : decode (mi 47).2.1 36 = .ok (.ifnonnull 15, 3) := by decide +kernel
theorem st_47_36 : Sd 47 36 3 (i_nol 51) := sd_ifnonnull dd_47_36 (by decide)
theorem dd_47_39 : decode (mi 47).2.1 39 = .ok (.aload_n 0, 1) := by decide +kernel
theorem st_47_39 : Sd 47 39 1 (i_ldR 0) := sd_aload_n (j := 0) dd_47_39 rfl
theorem dd_47_40 : decode (mi 47).2.1 40 = .ok (.iconst 3, 1) := by decide +kernel
theorem st_47_40 : Sd 47 40 1 (i_ic 3) := sd_iconst dd_47_40
theorem dd_47_41 : decode (mi 47).2.1 41 = .ok (.iload 4, 2) := by decide +kernel
theorem st_47_41 : Sd 47 41 2 (i_ldI 4) := sd_iload dd_47_41
theorem dd_47_43 : decode (mi 47).2.1 43 = .ok (.iconst 1, 1) := by decide +kernel
theorem st_47_43 : Sd 47 43 1 (i_ic 1) := sd_iconst dd_47_43
theorem dd_47_44 : decode (mi 47).2.1 44 = .ok (.iadd, 1) := by decide +kernel
theorem st_47_44 : Sd 47 44 1 (i_iadd) := sd_iadd dd_47_44
theorem dd_47_45 : decode (mi 47).2.1 45 = .ok (.invokevirtual 188, 3) := by decide +kernel
theorem st_47_45 : Sd 47 45 3 (i_cV [(1, 44)] 3 7 []) := sd_virt ⟨"ContractDesk", "list", "(II)V"⟩ dd_47_45 (by rw [mc_47]; exact tw_1204) (fun t j h => by simp only [List.mem_cons, List.not_mem_nil, or_false, Prod.mk.injEq] at h; obtain ⟨rfl, rfl⟩ := h; exact mn_44) (fun t j h => by simp only [List.mem_cons, List.not_mem_nil, or_false, Prod.mk.injEq] at h; obtain ⟨rfl, rfl⟩ := h; exact ⟨by rw [mn_44]; exact tw_26, by rw [mn_44]; exact tw_1206, mt_44, by decide, by decide⟩) (by unfold prm; decide +kernel) ml_47 (HsOk.nil (by decide +kernel))
theorem dd_47_48 : decode (mi 47).2.1 48 = .ok (.goto 19, 3) := by decide +kernel
theorem st_47_48 : Sd 47 48 3 (i_goto 67) := sd_goto dd_47_48 (by decide)
def bk_47_6 : Tr := sq (i_ldR 5) (sq (i_nul 77) (sq (i_ldR 0) (sq (i_gR 7 [1]) (sq (i_ldI 4) (sq (i_ldR 5) (sq (i_gI 0 [13]) (sq (i_sI [20] 0) (sq (i_ldR 3) (sq (i_ldR 5) (sq (i_gI 0 [13]) (sq (i_cV [(12, 65)] 2 7 []) (sq (i_stR 6) (sq (i_ldR 6) (sq (i_nol 51) (sq (i_ldR 0) (sq (i_ic 3) (sq (i_ldI 4) (sq (i_ic 1) (sq (i_iadd) (sq (i_cV [(1, 44)] 3 7 []) (i_goto 67)))))))))))))))))))))
theorem sb_47_6 : Sd 47 6 45 bk_47_6 := Sd.sq st_47_6 (Sd.sq st_47_8 (Sd.sq st_47_11 (Sd.sq st_47_12 (Sd.sq st_47_15 (Sd.sq st_47_17 (Sd.sq st_47_19 (Sd.sq st_47_22 (Sd.sq st_47_23 (Sd.sq st_47_24 (Sd.sq st_47_26 (Sd.sq st_47_29 (Sd.sq st_47_32 (Sd.sq st_47_34 (Sd.sq st_47_36 (Sd.sq st_47_39 (Sd.sq st_47_40 (Sd.sq st_47_41 (Sd.sq st_47_43 (Sd.sq st_47_44 (Sd.sq st_47_45 (st_47_48)))))))))))))))))))))
theorem dd_47_51 : decode (mi 47).2.1 51 = .ok (.aload_n 0, 1) := by decide +kernel
theorem st_47_51 : Sd 47 51 1 (i_ldR 0) := sd_aload_n (j := 0) dd_47_51 rfl
theorem dd_47_52 : decode (mi 47).2.1 52 = .ok (.aload_n 1, 1) := by decide +kernel
theorem st_47_52 : Sd 47 52 1 (i_ldR 1) := sd_aload_n (j := 1) dd_47_52 rfl
theorem dd_47_53 : decode (mi 47).2.1 53 = .ok (.aload 5, 2) := by decide +kernel
theorem st_47_53 : Sd 47 53 2 (i_ldR 5) := sd_aload dd_47_53
theorem dd_47_55 : decode (mi 47).2.1 55 = .ok (.getfield 219, 3) := by decide +kernel
theorem st_47_55 : Sd 47 55 3 (i_gR 1 [13]) := sd_gR (ref := "ContractDesk$Member") (decl := "ContractDesk$Member") (name := "value") (desc := "LContractDesk$Value;") dd_47_55 (by rw [mc_47]; exact tw_881) (Or.inl rfl) (by decide +kernel)
theorem dd_47_58 : decode (mi 47).2.1 58 = .ok (.aload 6, 2) := by decide +kernel
theorem st_47_58 : Sd 47 58 2 (i_ldR 6) := sd_aload dd_47_58
theorem dd_47_60 : decode (mi 47).2.1 60 = .ok (.iload 4, 2) := by decide +kernel
theorem st_47_60 : Sd 47 60 2 (i_ldI 4) := sd_iload dd_47_60
theorem dd_47_62 : decode (mi 47).2.1 62 = .ok (.iconst 1, 1) := by decide +kernel
theorem st_47_62 : Sd 47 62 1 (i_ic 1) := sd_iconst dd_47_62
theorem dd_47_63 : decode (mi 47).2.1 63 = .ok (.iadd, 1) := by decide +kernel
theorem st_47_63 : Sd 47 63 1 (i_iadd) := sd_iadd dd_47_63
theorem dd_47_64 : decode (mi 47).2.1 64 = .ok (.invokevirtual 158, 3) := by decide +kernel
theorem st_47_64 : Sd 47 64 3 (i_cV [(1, 37)] 5 7 []) := sd_virt ⟨"ContractDesk", "compare", "(LContractDesk$Interaction;LContractDesk$Value;LContractDesk$Value;I)V"⟩ dd_47_64 (by rw [mc_47]; exact tw_1152) (fun t j h => by simp only [List.mem_cons, List.not_mem_nil, or_false, Prod.mk.injEq] at h; obtain ⟨rfl, rfl⟩ := h; exact mn_37) (fun t j h => by simp only [List.mem_cons, List.not_mem_nil, or_false, Prod.mk.injEq] at h; obtain ⟨rfl, rfl⟩ := h; exact ⟨by rw [mn_37]; exact tw_22, by rw [mn_37]; exact tw_1154, mt_37, by decide, by decide⟩) (by unfold prm; decide +kernel) ml_47 (HsOk.nil (by decide +kernel))
def bk_47_51 : Tr := sq (i_ldR 0) (sq (i_ldR 1) (sq (i_ldR 5) (sq (i_gR 1 [13]) (sq (i_ldR 6) (sq (i_ldI 4) (sq (i_ic 1) (sq (i_iadd) (sq (i_cV [(1, 37)] 5 7 []) (i_fall 67)))))))))
theorem sb_47_51 : Sd 47 51 16 bk_47_51 := Sd.sq st_47_51 (Sd.sq st_47_52 (Sd.sq st_47_53 (Sd.sq st_47_55 (Sd.sq st_47_58 (Sd.sq st_47_60 (Sd.sq st_47_62 (Sd.sq st_47_63 (Sd.sq st_47_64 (sd_fall rfl)))))))))
theorem dd_47_67 : decode (mi 47).2.1 67 = .ok (.aload 5, 2) := by decide +kernel
theorem st_47_67 : Sd 47 67 2 (i_ldR 5) := sd_aload dd_47_67
theorem dd_47_69 : decode (mi 47).2.1 69 = .ok (.getfield 224, 3) := by decide +kernel
theorem st_47_69 : Sd 47 69 3 (i_gR 2 [13]) := sd_gR (ref := "ContractDesk$Member") (decl := "ContractDesk$Member") (name := "next") (desc := "LContractDesk$Member;") dd_47_69 (by rw [mc_47]; exact tw_883) (Or.inl rfl) (by decide +kernel)
theorem dd_47_72 : decode (mi 47).2.1 72 = .ok (.astore 5, 2) := by decide +kernel
theorem st_47_72 : Sd 47 72 2 (i_stR 5) := sd_astore dd_47_72
theorem dd_47_74 : decode (mi 47).2.1 74 = .ok (.goto (-68), 3) := by decide +kernel
theorem st_47_74 : Sd 47 74 3 (i_goto 6) := sd_goto dd_47_74 (by decide)
def bk_47_67 : Tr := sq (i_ldR 5) (sq (i_gR 2 [13]) (sq (i_stR 5) (i_goto 6)))
theorem sb_47_67 : Sd 47 67 10 bk_47_67 := Sd.sq st_47_67 (Sd.sq st_47_69 (Sd.sq st_47_72 (st_47_74)))
theorem dd_47_77 : decode (mi 47).2.1 77 = .ok (.aload_n 3, 1) := by decide +kernel
theorem st_47_77 : Sd 47 77 1 (i_ldR 3) := sd_aload_n (j := 3) dd_47_77 rfl
theorem dd_47_78 : decode (mi 47).2.1 78 = .ok (.getfield 215, 3) := by decide +kernel
theorem st_47_78 : Sd 47 78 3 (i_gR 1 [12]) := sd_gR (ref := "ContractDesk$Group") (decl := "ContractDesk$Group") (name := "first") (desc := "LContractDesk$Member;") dd_47_78 (by rw [mc_47]; exact tw_848) (Or.inl rfl) (by decide +kernel)
theorem dd_47_81 : decode (mi 47).2.1 81 = .ok (.astore 5, 2) := by decide +kernel
theorem st_47_81 : Sd 47 81 2 (i_stR 5) := sd_astore dd_47_81
def bk_47_77 : Tr := sq (i_ldR 3) (sq (i_gR 1 [12]) (sq (i_stR 5) (i_fall 83)))
theorem sb_47_77 : Sd 47 77 6 bk_47_77 := Sd.sq st_47_77 (Sd.sq st_47_78 (Sd.sq st_47_81 (sd_fall rfl)))
theorem dd_47_83 : decode (mi 47).2.1 83 = .ok (.aload 5, 2) := by decide +kernel
theorem st_47_83 : Sd 47 83 2 (i_ldR 5) := sd_aload dd_47_83
theorem dd_47_85 : decode (mi 47).2.1 85 = .ok (.ifnull 53, 3) := by decide +kernel
theorem st_47_85 : Sd 47 85 3 (i_nul 138) := sd_ifnull dd_47_85 (by decide)
theorem dd_47_88 : decode (mi 47).2.1 88 = .ok (.aload_n 1, 1) := by decide +kernel
theorem st_47_88 : Sd 47 88 1 (i_ldR 1) := sd_aload_n (j := 1) dd_47_88 rfl
theorem dd_47_89 : decode (mi 47).2.1 89 = .ok (.getfield 235, 3) := by decide +kernel
theorem st_47_89 : Sd 47 89 3 (i_gI 0 [4]) := sd_gI (ref := "ContractDesk$Interaction") (decl := "ContractDesk$Interaction") (name := "strict") (desc := "Z") dd_47_89 (by rw [mc_47]; exact tw_715) (Or.inl rfl) (by decide +kernel)
theorem dd_47_92 : decode (mi 47).2.1 92 = .ok (.ifCond .eq 46, 3) := by decide +kernel
theorem st_47_92 : Sd 47 92 3 (i_zeq 138) := sd_if_eq dd_47_92 (by decide)
theorem dd_47_95 : decode (mi 47).2.1 95 = .ok (.aload_n 0, 1) := by decide +kernel
theorem st_47_95 : Sd 47 95 1 (i_ldR 0) := sd_aload_n (j := 0) dd_47_95 rfl
theorem dd_47_96 : decode (mi 47).2.1 96 = .ok (.getfield 39, 3) := by decide +kernel
theorem st_47_96 : Sd 47 96 3 (i_gR 7 [1]) := sd_gR (ref := "ContractDesk") (decl := "ContractDesk") (name := "place") (desc := "[I") dd_47_96 (by rw [mc_47]; exact tw_482) (Or.inl rfl) (by decide +kernel)
theorem dd_47_99 : decode (mi 47).2.1 99 = .ok (.iload 4, 2) := by decide +kernel
theorem st_47_99 : Sd 47 99 2 (i_ldI 4) := sd_iload dd_47_99
theorem dd_47_101 : decode (mi 47).2.1 101 = .ok (.aload 5, 2) := by decide +kernel
theorem st_47_101 : Sd 47 101 2 (i_ldR 5) := sd_aload dd_47_101
theorem dd_47_103 : decode (mi 47).2.1 103 = .ok (.getfield 227, 3) := by decide +kernel
theorem st_47_103 : Sd 47 103 3 (i_gI 0 [13]) := sd_gI (ref := "ContractDesk$Member") (decl := "ContractDesk$Member") (name := "key") (desc := "C") dd_47_103 (by rw [mc_47]; exact tw_878) (Or.inl rfl) (by decide +kernel)
theorem dd_47_106 : decode (mi 47).2.1 106 = .ok (.iastore, 1) := by decide +kernel
theorem st_47_106 : Sd 47 106 1 (i_sI [20] 0) := sd_iastore dd_47_106 (by decide)
theorem dd_47_107 : decode (mi 47).2.1 107 = .ok (.aload_n 2, 1) := by decide +kernel
theorem st_47_107 : Sd 47 107 1 (i_ldR 2) := sd_aload_n (j := 2) dd_47_107 rfl
theorem dd_47_108 : decode (mi 47).2.1 108 = .ok (.aload 5, 2) := by decide +kernel
theorem st_47_108 : Sd 47 108 2 (i_ldR 5) := sd_aload dd_47_108
theorem dd_47_110 : decode (mi 47).2.1 110 = .ok (.getfield 227, 3) := by decide +kernel
theorem st_47_110 : Sd 47 110 3 (i_gI 0 [13]) := sd_gI (ref := "ContractDesk$Member") (decl := "ContractDesk$Member") (name := "key") (desc := "C") dd_47_110 (by rw [mc_47]; exact tw_878) (Or.inl rfl) (by decide +kernel)
theorem dd_47_113 : decode (mi 47).2.1 113 = .ok (.invokevirtual 231, 3) := by decide +kernel
theorem st_47_113 : Sd 47 113 3 (i_cV [(12, 65)] 2 7 []) := sd_virt ⟨"ContractDesk$Group", "find", "(C)LContractDesk$Value;"⟩ dd_47_113 (by rw [mc_47]; exact tw_1253) (fun t j h => by simp only [List.mem_cons, List.not_mem_nil, or_false, Prod.mk.injEq] at h; obtain ⟨rfl, rfl⟩ := h; exact mn_65) (fun t j h => by simp only [List.mem_cons, List.not_mem_nil, or_false, Prod.mk.injEq] at h; obtain ⟨rfl, rfl⟩ := h; exact ⟨by rw [mn_65]; exact tw_868, by rw [mn_65]; exact tw_867, mt_65, by decide, by decide⟩) (by unfold prm; decide +kernel) ml_47 (HsOk.nil (by decide +kernel))
theorem dd_47_116 : decode (mi 47).2.1 116 = .ok (.ifnonnull 12, 3) := by decide +kernel
theorem st_47_116 : Sd 47 116 3 (i_nol 128) := sd_ifnonnull dd_47_116 (by decide)
theorem dd_47_119 : decode (mi 47).2.1 119 = .ok (.aload_n 0, 1) := by decide +kernel
theorem st_47_119 : Sd 47 119 1 (i_ldR 0) := sd_aload_n (j := 0) dd_47_119 rfl
theorem dd_47_120 : decode (mi 47).2.1 120 = .ok (.iconst 4, 1) := by decide +kernel
theorem st_47_120 : Sd 47 120 1 (i_ic 4) := sd_iconst dd_47_120
theorem dd_47_121 : decode (mi 47).2.1 121 = .ok (.iload 4, 2) := by decide +kernel
theorem st_47_121 : Sd 47 121 2 (i_ldI 4) := sd_iload dd_47_121
theorem dd_47_123 : decode (mi 47).2.1 123 = .ok (.iconst 1, 1) := by decide +kernel
theorem st_47_123 : Sd 47 123 1 (i_ic 1) := sd_iconst dd_47_123
theorem dd_47_124 : decode (mi 47).2.1 124 = .ok (.iadd, 1) := by decide +kernel
theorem st_47_124 : Sd 47 124 1 (i_iadd) := sd_iadd dd_47_124
theorem dd_47_125 : decode (mi 47).2.1 125 = .ok (.invokevirtual 188, 3) := by decide +kernel
theorem st_47_125 : Sd 47 125 3 (i_cV [(1, 44)] 3 7 []) := sd_virt ⟨"ContractDesk", "list", "(II)V"⟩ dd_47_125 (by rw [mc_47]; exact tw_1204) (fun t j h => by simp only [List.mem_cons, List.not_mem_nil, or_false, Prod.mk.injEq] at h; obtain ⟨rfl, rfl⟩ := h; exact mn_44) (fun t j h => by simp only [List.mem_cons, List.not_mem_nil, or_false, Prod.mk.injEq] at h; obtain ⟨rfl, rfl⟩ := h; exact ⟨by rw [mn_44]; exact tw_26, by rw [mn_44]; exact tw_1206, mt_44, by decide, by decide⟩) (by unfold prm; decide +kernel) ml_47 (HsOk.nil (by decide +kernel))
def bk_47_83 : Tr := sq (i_ldR 5) (sq (i_nul 138) (sq (i_ldR 1) (sq (i_gI 0 [4]) (sq (i_zeq 138) (sq (i_ldR 0) (sq (i_gR 7 [1]) (sq (i_ldI 4) (sq (i_ldR 5) (sq (i_gI 0 [13]) (sq (i_sI [20] 0) (sq (i_ldR 2) (sq (i_ldR 5) (sq (i_gI 0 [13]) (sq (i_cV [(12, 65)] 2 7 []) (sq (i_nol 128) (sq (i_ldR 0) (sq (i_ic 4) (sq (i_ldI 4) (sq (i_ic 1) (sq (i_iadd) (sq (i_cV [(1, 44)] 3 7 []) (i_fall 128))))))))))))))))))))))
theorem sb_47_83 : Sd 47 83 45 bk_47_83 := Sd.sq st_47_83 (Sd.sq st_47_85 (Sd.sq st_47_88 (Sd.sq st_47_89 (Sd.sq st_47_92 (Sd.sq st_47_95 (Sd.sq st_47_96 (Sd.sq st_47_99 (Sd.sq st_47_101 (Sd.sq st_47_103 (Sd.sq st_47_106 (Sd.sq st_47_107 (Sd.sq st_47_108 (Sd.sq st_47_110 (Sd.sq st_47_113 (Sd.sq st_47_116 (Sd.sq st_47_119 (Sd.sq st_47_120 (Sd.sq st_47_121 (Sd.sq st_47_123 (Sd.sq st_47_124 (Sd.sq st_47_125 (sd_fall rfl))))))))))))))))))))))
theorem dd_47_128 : decode (mi 47).2.1 128 = .ok (.aload 5, 2) := by decide +kernel
theorem st_47_128 : Sd 47 128 2 (i_ldR 5) := sd_aload dd_47_128
theorem dd_47_130 : decode (mi 47).2.1 130 = .ok (.getfield 224, 3) := by decide +kernel
theorem st_47_130 : Sd 47 130 3 (i_gR 2 [13]) := sd_gR (ref := "ContractDesk$Member") (decl := "ContractDesk$Member") (name := "next") (desc := "LContractDesk$Member;") dd_47_130 (by rw [mc_47]; exact tw_883) (Or.inl rfl) (by decide +kernel)
theorem dd_47_133 : decode (mi 47).2.1 133 = .ok (.astore 5, 2) := by decide +kernel
theorem st_47_133 : Sd 47 133 2 (i_stR 5) := sd_astore dd_47_133
theorem dd_47_135 : decode (mi 47).2.1 135 = .ok (.goto (-52), 3) := by decide +kernel
theorem st_47_135 : Sd 47 135 3 (i_goto 83) := sd_goto dd_47_135 (by decide)
def bk_47_128 : Tr := sq (i_ldR 5) (sq (i_gR 2 [13]) (sq (i_stR 5) (i_goto 83)))
theorem sb_47_128 : Sd 47 128 10 bk_47_128 := Sd.sq st_47_128 (Sd.sq st_47_130 (Sd.sq st_47_133 (st_47_135)))
theorem dd_47_138 : decode (mi 47).2.1 138 = .ok (.return_, 1) := by decide +kernel
theorem st_47_138 : Sd 47 138 1 (i_ret) := sd_ret dd_47_138 mr_47
def bk_47_138 : Tr := i_ret
theorem sb_47_138 : Sd 47 138 1 bk_47_138 := st_47_138
theorem dd_48_0 : decode (mi 48).2.1 0 = .ok (.iload_n 1, 1) := by decide +kernel
theorem st_48_0 : Sd 48 0 1 (i_ldI 1) := sd_iload_n (j := 1) dd_48_0 rfl
theorem dd_48_1 : decode (mi 48).2.1 1 = .ok (.ifCond .lt 11, 3) := by decide +kernel
theorem st_48_1 : Sd 48 1 3 (i_zlt 12) := sd_if_lt dd_48_1 (by decide)
theorem dd_48_4 : decode (mi 48).2.1 4 = .ok (.iload_n 1, 1) := by decide +kernel
theorem st_48_4 : Sd 48 4 1 (i_ldI 1) := sd_iload_n (j := 1) dd_48_4 rfl
theorem dd_48_5 : decode (mi 48).2.1 5 = .ok (.aload_n 0, 1) := by decide +kernel
theorem st_48_5 : Sd 48 5 1 (i_ldR 0) := sd_aload_n (j := 0) dd_48_5 rfl
theorem dd_48_6 : decode (mi 48).2.1 6 = .ok (.getfield 152, 3) := by decide +kernel
theorem st_48_6 : Sd 48 6 3 (i_gI 5 [1]) := sd_gI (ref := "ContractDesk") (decl := "ContractDesk") (name := "listed") (desc := "I") dd_48_6 (by rw [mc_48]; exact tw_480) (Or.inl rfl) (by decide +kernel)
theorem dd_48_9 : decode (mi 48).2.1 9 = .ok (.if_icmp .lt 7, 3) := by decide +kernel
theorem st_48_9 : Sd 48 9 3 (i_clt 16) := sd_icmp_lt dd_48_9 (by decide)
def bk_48_0 : Tr := sq (i_ldI 1) (sq (i_zlt 12) (sq (i_ldI 1) (sq (i_ldR 0) (sq (i_gI 5 [1]) (sq (i_clt 16) (i_fall 12))))))
theorem sb_48_0 : Sd 48 0 12 bk_48_0 := Sd.sq st_48_0 (Sd.sq st_48_1 (Sd.sq st_48_4 (Sd.sq st_48_5 (Sd.sq st_48_6 (Sd.sq st_48_9 (sd_fall rfl))))))
theorem dd_48_12 : decode (mi 48).2.1 12 = .ok (.iconst (-1), 1) := by decide +kernel
theorem st_48_12 : Sd 48 12 1 (i_ic (-1)) := sd_iconst dd_48_12
theorem dd_48_13 : decode (mi 48).2.1 13 = .ok (.goto 17, 3) := by decide +kernel
theorem st_48_13 : Sd 48 13 3 (i_goto 30) := sd_goto dd_48_13 (by decide)
def bk_48_12 : Tr := sq (i_ic (-1)) (i_goto 30)
theorem sb_48_12 : Sd 48 12 4 bk_48_12 := Sd.sq st_48_12 (st_48_13)
theorem dd_48_16 : decode (mi 48).2.1 16 = .ok (.aload_n 0, 1) := by decide +kernel
theorem st_48_16 : Sd 48 16 1 (i_ldR 0) := sd_aload_n (j := 0) dd_48_16 rfl
theorem dd_48_17 : decode (mi 48).2.1 17 = .ok (.getfield 36, 3) := by decide +kernel
theorem st_48_17 : Sd 48 17 3 (i_gR 4 [1]) := sd_gR (ref := "ContractDesk") (decl := "ContractDesk") (name := "mismatches") (desc := "Ljava/util/ArrayList;") dd_48_17 (by rw [mc_48]; exact tw_479) (Or.inl rfl) (by decide +kernel)
theorem dd_48_20 : decode (mi 48).2.1 20 = .ok (.iload_n 1, 1) := by decide +kernel
theorem st_48_20 : Sd 48 20 1 (i_ldI 1) := sd_iload_n (j := 1) dd_48_20 rfl
theorem dd_48_21 : decode (mi 48).2.1 21 = .ok (.invokevirtual 77, 3) := by decide +kernel
theorem st_48_21 : Sd 48 21 3 (i_cV [(16, 24)] 2 2 []) := sd_virt ⟨"java/util/ArrayList", "get", "(I)Ljava/lang/Object;"⟩ dd_48_21 (by rw [mc_48]; exact tw_547) (fun t j h => by simp only [List.mem_cons, List.not_mem_nil, or_false, Prod.mk.injEq] at h; obtain ⟨rfl, rfl⟩ := h; exact mn_24) (fun t j h => by simp only [List.mem_cons, List.not_mem_nil, or_false, Prod.mk.injEq] at h; obtain ⟨rfl, rfl⟩ := h; exact ⟨by rw [mn_24]; exact tw_549, by rw [mn_24]; exact tw_548, mt_24, by decide, by decide⟩) (by unfold prm; decide +kernel) ml_48 (HsOk.nil (by decide +kernel))
theorem dd_48_24 : decode (mi 48).2.1 24 = .ok (.checkcast 162, 3) := by decide +kernel
theorem st_48_24 : Sd 48 24 3 (i_cast [14]) := sd_checkcast (nm := "ContractDesk$Mismatch") dd_48_24 (by rw [mc_48]; exact tw_674) okc_7
theorem dd_48_27 : decode (mi 48).2.1 27 = .ok (.getfield 165, 3) := by decide +kernel
theorem st_48_27 : Sd 48 27 3 (i_gI 1 [14]) := sd_gI (ref := "ContractDesk$Mismatch") (decl := "ContractDesk$Mismatch") (name := "kind") (desc := "I") dd_48_27 (by rw [mc_48]; exact tw_1217) (Or.inl rfl) (by decide +kernel)
def bk_48_16 : Tr := sq (i_ldR 0) (sq (i_gR 4 [1]) (sq (i_ldI 1) (sq (i_cV [(16, 24)] 2 2 []) (sq (i_cast [14]) (sq (i_gI 1 [14]) (i_fall 30))))))
theorem sb_48_16 : Sd 48 16 14 bk_48_16 := Sd.sq st_48_16 (Sd.sq st_48_17 (Sd.sq st_48_20 (Sd.sq st_48_21 (Sd.sq st_48_24 (Sd.sq st_48_27 (sd_fall rfl))))))
theorem dd_48_30 : decode (mi 48).2.1 30 = .ok (.ireturn, 1) := by decide +kernel
theorem st_48_30 : Sd 48 30 1 (i_rI 0) := sd_ireturn dd_48_30 (by decide) mr_48
def bk_48_30 : Tr := i_rI 0
theorem sb_48_30 : Sd 48 30 1 bk_48_30 := st_48_30
theorem dd_49_0 : decode (mi 49).2.1 0 = .ok (.aload_n 0, 1) := by decide +kernel
theorem st_49_0 : Sd 49 0 1 (i_ldR 0) := sd_aload_n (j := 0) dd_49_0 rfl
theorem dd_49_1 : decode (mi 49).2.1 1 = .ok (.iload_n 1, 1) := by decide +kernel
theorem st_49_1 : Sd 49 1 1 (i_ldI 1) := sd_iload_n (j := 1) dd_49_1 rfl
theorem dd_49_2 : decode (mi 49).2.1 2 = .ok (.invokevirtual 70, 3) := by decide +kernel
theorem st_49_2 : Sd 49 2 3 (i_cV [(1, 42)] 2 5 []) := sd_virt ⟨"ContractDesk", "isThere", "(I)Z"⟩ dd_49_2 (by rw [mc_49]; exact tw_539) (fun t j h => by simp only [List.mem_cons, List.not_mem_nil, or_false, Prod.mk.injEq] at h; obtain ⟨rfl, rfl⟩ := h; exact mn_42) (fun t j h => by simp only [List.mem_cons, List.not_mem_nil, or_false, Prod.mk.injEq] at h; obtain ⟨rfl, rfl⟩ := h; exact ⟨by rw [mn_42]; exact tw_1, by rw [mn_42]; exact tw_541, mt_42, by decide, by decide⟩) (by unfold prm; decide +kernel) ml_49 (HsOk.nil (by decide +kernel))
theorem dd_49_5 : decode (mi 49).2.1 5 = .ok (.ifCond .eq 13, 3) := by decide +kernel
theorem st_49_5 : Sd 49 5 3 (i_zeq 18) := sd_if_eq dd_49_5 (by decide)
theorem dd_49_8 : decode (mi 49).2.1 8 = .ok (.iload_n 2, 1) := by decide +kernel
theorem st_49_8 : Sd 49 8 1 (i_ldI 2) := sd_iload_n (j := 2) dd_49_8 rfl
theorem dd_49_9 : decode (mi 49).2.1 9 = .ok (.ifCond .lt 9, 3) := by decide +kernel
theorem st_49_9 : Sd 49 9 3 (i_zlt 18) := sd_if_lt dd_49_9 (by decide)
theorem dd_49_12 : decode (mi 49).2.1 12 = .ok (.iload_n 2, 1) := by decide +kernel
theorem st_49_12 : Sd 49 12 1 (i_ldI 2) := sd_iload_n (j := 2) dd_49_12 rfl
theorem dd_49_13 : decode (mi 49).2.1 13 = .ok (.bipush 6, 2) := by decide +kernel
theorem st_49_13 : Sd 49 13 2 (i_ic 6) := sd_bipush dd_49_13 (by decide)
theorem dd_49_15 : decode (mi 49).2.1 15 = .ok (.if_icmp .lt 5, 3) := by decide +kernel
theorem st_49_15 : Sd 49 15 3 (i_clt 20) := sd_icmp_lt dd_49_15 (by decide)
def bk_49_0 : Tr := sq (i_ldR 0) (sq (i_ldI 1) (sq (i_cV [(1, 42)] 2 5 []) (sq (i_zeq 18) (sq (i_ldI 2) (sq (i_zlt 18) (sq (i_ldI 2) (sq (i_ic 6) (sq (i_clt 20) (i_fall 18)))))))))
theorem sb_49_0 : Sd 49 0 18 bk_49_0 := Sd.sq st_49_0 (Sd.sq st_49_1 (Sd.sq st_49_2 (Sd.sq st_49_5 (Sd.sq st_49_8 (Sd.sq st_49_9 (Sd.sq st_49_12 (Sd.sq st_49_13 (Sd.sq st_49_15 (sd_fall rfl)))))))))
theorem dd_49_18 : decode (mi 49).2.1 18 = .ok (.iconst 0, 1) := by decide +kernel
theorem st_49_18 : Sd 49 18 1 (i_ic 0) := sd_iconst dd_49_18
theorem dd_49_19 : decode (mi 49).2.1 19 = .ok (.ireturn, 1) := by decide +kernel
theorem st_49_19 : Sd 49 19 1 (i_rI 2) := sd_ireturn dd_49_19 (by decide) mr_49
def bk_49_18 : Tr := sq (i_ic 0) (i_rI 2)
theorem sb_49_18 : Sd 49 18 2 bk_49_18 := Sd.sq st_49_18 (st_49_19)
theorem dd_49_20 : decode (mi 49).2.1 20 = .ok (.aload_n 0, 1) := by decide +kernel
theorem st_49_20 : Sd 49 20 1 (i_ldR 0) := sd_aload_n (j := 0) dd_49_20 rfl
theorem dd_49_21 : decode (mi 49).2.1 21 = .ok (.getfield 28, 3) := by decide +kernel
theorem st_49_21 : Sd 49 21 3 (i_gR 2 [1]) := sd_gR (ref := "ContractDesk") (decl := "ContractDesk") (name := "interactions") (desc := "Ljava/util/ArrayList;") dd_49_21 (by rw [mc_49]; exact tw_477) (Or.inl rfl) (by decide +kernel)
theorem dd_49_24 : decode (mi 49).2.1 24 = .ok (.iload_n 1, 1) := by decide +kernel
theorem st_49_24 : Sd 49 24 1 (i_ldI 1) := sd_iload_n (j := 1) dd_49_24 rfl
theorem dd_49_25 : decode (mi 49).2.1 25 = .ok (.invokevirtual 77, 3) := by decide +kernel
theorem st_49_25 : Sd 49 25 3 (i_cV [(16, 24)] 2 5 []) := sd_virt ⟨"java/util/ArrayList", "get", "(I)Ljava/lang/Object;"⟩ dd_49_25 (by rw [mc_49]; exact tw_547) (fun t j h => by simp only [List.mem_cons, List.not_mem_nil, or_false, Prod.mk.injEq] at h; obtain ⟨rfl, rfl⟩ := h; exact mn_24) (fun t j h => by simp only [List.mem_cons, List.not_mem_nil, or_false, Prod.mk.injEq] at h; obtain ⟨rfl, rfl⟩ := h; exact ⟨by rw [mn_24]; exact tw_549, by rw [mn_24]; exact tw_548, mt_24, by decide, by decide⟩) (by unfold prm; decide +kernel) ml_49 (HsOk.nil (by decide +kernel))
theorem dd_49_28 : decode (mi 49).2.1 28 = .ok (.checkcast 61, 3) := by decide +kernel
theorem st_49_28 : Sd 49 28 3 (i_cast [4]) := sd_checkcast (nm := "ContractDesk$Interaction") dd_49_28 (by rw [mc_49]; exact tw_559) okc_6
theorem dd_49_31 : decode (mi 49).2.1 31 = .ok (.astore_n 3, 1) := by decide +kernel
theorem st_49_31 : Sd 49 31 1 (i_stR 3) := sd_astore_n (j := 3) dd_49_31 rfl
theorem dd_49_32 : decode (mi 49).2.1 32 = .ok (.iconst 0, 1) := by decide +kernel
theorem st_49_32 : Sd 49 32 1 (i_ic 0) := sd_iconst dd_49_32
theorem dd_49_33 : decode (mi 49).2.1 33 = .ok (.istore 4, 2) := by decide +kernel
theorem st_49_33 : Sd 49 33 2 (i_stI 4) := sd_istore dd_49_33
def bk_49_20 : Tr := sq (i_ldR 0) (sq (i_gR 2 [1]) (sq (i_ldI 1) (sq (i_cV [(16, 24)] 2 5 []) (sq (i_cast [4]) (sq (i_stR 3) (sq (i_ic 0) (sq (i_stI 4) (i_fall 35))))))))
theorem sb_49_20 : Sd 49 20 15 bk_49_20 := Sd.sq st_49_20 (Sd.sq st_49_21 (Sd.sq st_49_24 (Sd.sq st_49_25 (Sd.sq st_49_28 (Sd.sq st_49_31 (Sd.sq st_49_32 (Sd.sq st_49_33 (sd_fall rfl))))))))
theorem dd_49_35 : decode (mi 49).2.1 35 = .ok (.iload 4, 2) := by decide +kernel
theorem st_49_35 : Sd 49 35 2 (i_ldI 4) := sd_iload dd_49_35
theorem dd_49_37 : decode (mi 49).2.1 37 = .ok (.aload_n 3, 1) := by decide +kernel
theorem st_49_37 : Sd 49 37 1 (i_ldR 3) := sd_aload_n (j := 3) dd_49_37 rfl
theorem dd_49_38 : decode (mi 49).2.1 38 = .ok (.getfield 112, 3) := by decide +kernel
theorem st_49_38 : Sd 49 38 3 (i_gI 4 [4]) := sd_gI (ref := "ContractDesk$Interaction") (decl := "ContractDesk$Interaction") (name := "needs") (desc := "I") dd_49_38 (by rw [mc_49]; exact tw_721) (Or.inl rfl) (by decide +kernel)
theorem dd_49_41 : decode (mi 49).2.1 41 = .ok (.if_icmp .ge 22, 3) := by decide +kernel
theorem st_49_41 : Sd 49 41 3 (i_cge 63) := sd_icmp_ge dd_49_41 (by decide)
theorem dd_49_44 : decode (mi 49).2.1 44 = .ok (.aload_n 3, 1) := by decide +kernel
theorem st_49_44 : Sd 49 44 1 (i_ldR 3) := sd_aload_n (j := 3) dd_49_44 rfl
theorem dd_49_45 : decode (mi 49).2.1 45 = .ok (.getfield 116, 3) := by decide +kernel
theorem st_49_45 : Sd 49 45 3 (i_gR 2 [4]) := sd_gR (ref := "ContractDesk$Interaction") (decl := "ContractDesk$Interaction") (name := "states") (desc := "[I") dd_49_45 (by rw [mc_49]; exact tw_719) (Or.inl rfl) (by decide +kernel)
theorem dd_49_48 : decode (mi 49).2.1 48 = .ok (.iload 4, 2) := by decide +kernel
theorem st_49_48 : Sd 49 48 2 (i_ldI 4) := sd_iload dd_49_48
theorem dd_49_50 : decode (mi 49).2.1 50 = .ok (.iaload, 1) := by decide +kernel
theorem st_49_50 : Sd 49 50 1 (i_aI [20]) := sd_iaload dd_49_50 (by decide)
theorem dd_49_51 : decode (mi 49).2.1 51 = .ok (.iload_n 2, 1) := by decide +kernel
theorem st_49_51 : Sd 49 51 1 (i_ldI 2) := sd_iload_n (j := 2) dd_49_51 rfl
theorem dd_49_52 : decode (mi 49).2.1 52 = .ok (.if_icmp .ne 5, 3) := by decide +kernel
theorem st_49_52 : Sd 49 52 3 (i_cne 57) := sd_icmp_ne dd_49_52 (by decide)
theorem dd_49_55 : decode (mi 49).2.1 55 = .ok (.iconst 0, 1) := by decide +kernel
theorem st_49_55 : Sd 49 55 1 (i_ic 0) := sd_iconst dd_49_55
theorem dd_49_56 : decode (mi 49).2.1 56 = .ok (.ireturn, 1) := by decide +kernel
theorem st_49_56 : Sd 49 56 1 (i_rI 2) := sd_ireturn dd_49_56 (by decide) mr_49
def bk_49_35 : Tr := sq (i_ldI 4) (sq (i_ldR 3) (sq (i_gI 4 [4]) (sq (i_cge 63) (sq (i_ldR 3) (sq (i_gR 2 [4]) (sq (i_ldI 4) (sq (i_aI [20]) (sq (i_ldI 2) (sq (i_cne 57) (sq (i_ic 0) (i_rI 2)))))))))))
theorem sb_49_35 : Sd 49 35 22 bk_49_35 := Sd.sq st_49_35 (Sd.sq st_49_37 (Sd.sq st_49_38 (Sd.sq st_49_41 (Sd.sq st_49_44 (Sd.sq st_49_45 (Sd.sq st_49_48 (Sd.sq st_49_50 (Sd.sq st_49_51 (Sd.sq st_49_52 (Sd.sq st_49_55 (st_49_56)))))))))))
theorem dd_49_57 : decode (mi 49).2.1 57 = .ok (.iinc 4 1, 3) := by decide +kernel
theorem st_49_57 : Sd 49 57 3 (i_inc 4 1) := sd_iinc dd_49_57
theorem dd_49_60 : decode (mi 49).2.1 60 = .ok (.goto (-25), 3) := by decide +kernel
theorem st_49_60 : Sd 49 60 3 (i_goto 35) := sd_goto dd_49_60 (by decide)
def bk_49_57 : Tr := sq (i_inc 4 1) (i_goto 35)
theorem sb_49_57 : Sd 49 57 6 bk_49_57 := Sd.sq st_49_57 (st_49_60)
theorem dd_49_63 : decode (mi 49).2.1 63 = .ok (.aload_n 3, 1) := by decide +kernel
theorem st_49_63 : Sd 49 63 1 (i_ldR 3) := sd_aload_n (j := 3) dd_49_63 rfl
theorem dd_49_64 : decode (mi 49).2.1 64 = .ok (.getfield 112, 3) := by decide +kernel
theorem st_49_64 : Sd 49 64 3 (i_gI 4 [4]) := sd_gI (ref := "ContractDesk$Interaction") (decl := "ContractDesk$Interaction") (name := "needs") (desc := "I") dd_49_64 (by rw [mc_49]; exact tw_721) (Or.inl rfl) (by decide +kernel)
theorem dd_49_67 : decode (mi 49).2.1 67 = .ok (.iconst 3, 1) := by decide +kernel
theorem st_49_67 : Sd 49 67 1 (i_ic 3) := sd_iconst dd_49_67
theorem dd_49_68 : decode (mi 49).2.1 68 = .ok (.if_icmp .ne 5, 3) := by decide +kernel
theorem st_49_68 : Sd 49 68 3 (i_cne 73) := sd_icmp_ne dd_49_68 (by decide)
theorem dd_49_71 : decode (mi 49).2.1 71 = .ok (.iconst 0, 1) := by decide +kernel
theorem st_49_71 : Sd 49 71 1 (i_ic 0) := sd_iconst dd_49_71
theorem dd_49_72 : decode (mi 49).2.1 72 = .ok (.ireturn, 1) := by decide +kernel
theorem st_49_72 : Sd 49 72 1 (i_rI 2) := sd_ireturn dd_49_72 (by decide) mr_49
def bk_49_63 : Tr := sq (i_ldR 3) (sq (i_gI 4 [4]) (sq (i_ic 3) (sq (i_cne 73) (sq (i_ic 0) (i_rI 2)))))
theorem sb_49_63 : Sd 49 63 10 bk_49_63 := Sd.sq st_49_63 (Sd.sq st_49_64 (Sd.sq st_49_67 (Sd.sq st_49_68 (Sd.sq st_49_71 (st_49_72)))))
theorem dd_49_73 : decode (mi 49).2.1 73 = .ok (.aload_n 3, 1) := by decide +kernel
theorem st_49_73 : Sd 49 73 1 (i_ldR 3) := sd_aload_n (j := 3) dd_49_73 rfl
theorem dd_49_74 : decode (mi 49).2.1 74 = .ok (.getfield 116, 3) := by decide +kernel
theorem st_49_74 : Sd 49 74 3 (i_gR 2 [4]) := sd_gR (ref := "ContractDesk$Interaction") (decl := "ContractDesk$Interaction") (name := "states") (desc := "[I") dd_49_74 (by rw [mc_49]; exact tw_719) (Or.inl rfl) (by decide +kernel)
theorem dd_49_77 : decode (mi 49).2.1 77 = .ok (.aload_n 3, 1) := by decide +kernel
theorem st_49_77 : Sd 49 77 1 (i_ldR 3) := sd_aload_n (j := 3) dd_49_77 rfl
theorem dd_49_78 : decode (mi 49).2.1 78 = .ok (.getfield 112, 3) := by decide +kernel
theorem st_49_78 : Sd 49 78 3 (i_gI 4 [4]) := sd_gI (ref := "ContractDesk$Interaction") (decl := "ContractDesk$Interaction") (name := "needs") (desc := "I") dd_49_78 (by rw [mc_49]; exact tw_721) (Or.inl rfl) (by decide +kernel)
theorem dd_49_81 : decode (mi 49).2.1 81 = .ok (.iload_n 2, 1) := by decide +kernel
theorem st_49_81 : Sd 49 81 1 (i_ldI 2) := sd_iload_n (j := 2) dd_49_81 rfl
theorem dd_49_82 : decode (mi 49).2.1 82 = .ok (.iastore, 1) := by decide +kernel
theorem st_49_82 : Sd 49 82 1 (i_sI [20] 0) := sd_iastore dd_49_82 (by decide)
theorem dd_49_83 : decode (mi 49).2.1 83 = .ok (.aload_n 3, 1) := by decide +kernel
theorem st_49_83 : Sd 49 83 1 (i_ldR 3) := sd_aload_n (j := 3) dd_49_83 rfl
theorem dd_49_84 : decode (mi 49).2.1 84 = .ok (.dup, 1) := by decide +kernel
theorem st_49_84 : Sd 49 84 1 (i_dup) := sd_dup dd_49_84
theorem dd_49_85 : decode (mi 49).2.1 85 = .ok (.getfield 112, 3) := by decide +kernel
theorem st_49_85 : Sd 49 85 3 (i_gI 4 [4]) := sd_gI (ref := "ContractDesk$Interaction") (decl := "ContractDesk$Interaction") (name := "needs") (desc := "I") dd_49_85 (by rw [mc_49]; exact tw_721) (Or.inl rfl) (by decide +kernel)
theorem dd_49_88 : decode (mi 49).2.1 88 = .ok (.iconst 1, 1) := by decide +kernel
theorem st_49_88 : Sd 49 88 1 (i_ic 1) := sd_iconst dd_49_88
theorem dd_49_89 : decode (mi 49).2.1 89 = .ok (.iadd, 1) := by decide +kernel
theorem st_49_89 : Sd 49 89 1 (i_iadd) := sd_iadd dd_49_89
theorem dd_49_90 : decode (mi 49).2.1 90 = .ok (.putfield 112, 3) := by decide +kernel
theorem st_49_90 : Sd 49 90 3 (i_pI 4 [4] 0) := sd_pI (ref := "ContractDesk$Interaction") (decl := "ContractDesk$Interaction") (name := "needs") (desc := "I") dd_49_90 (by rw [mc_49]; exact tw_721) (Or.inl rfl) (by decide +kernel) (by decide +kernel) (by decide)
theorem dd_49_93 : decode (mi 49).2.1 93 = .ok (.iconst 1, 1) := by decide +kernel
theorem st_49_93 : Sd 49 93 1 (i_ic 1) := sd_iconst dd_49_93
theorem dd_49_94 : decode (mi 49).2.1 94 = .ok (.ireturn, 1) := by decide +kernel
theorem st_49_94 : Sd 49 94 1 (i_rI 2) := sd_ireturn dd_49_94 (by decide) mr_49
def bk_49_73 : Tr := sq (i_ldR 3) (sq (i_gR 2 [4]) (sq (i_ldR 3) (sq (i_gI 4 [4]) (sq (i_ldI 2) (sq (i_sI [20] 0) (sq (i_ldR 3) (sq (i_dup) (sq (i_gI 4 [4]) (sq (i_ic 1) (sq (i_iadd) (sq (i_pI 4 [4] 0) (sq (i_ic 1) (i_rI 2)))))))))))))
theorem sb_49_73 : Sd 49 73 22 bk_49_73 := Sd.sq st_49_73 (Sd.sq st_49_74 (Sd.sq st_49_77 (Sd.sq st_49_78 (Sd.sq st_49_81 (Sd.sq st_49_82 (Sd.sq st_49_83 (Sd.sq st_49_84 (Sd.sq st_49_85 (Sd.sq st_49_88 (Sd.sq st_49_89 (Sd.sq st_49_90 (Sd.sq st_49_93 (st_49_94)))))))))))))
theorem dd_50_0 : decode (mi 50).2.1 0 = .ok (.aload_n 0, 1) := by decide +kernel
theorem st_50_0 : Sd 50 0 1 (i_ldR 0) := sd_aload_n (j := 0) dd_50_0 rfl
theorem dd_50_1 : decode (mi 50).2.1 1 = .ok (.getfield 126, 3) := by decide +kernel
theorem st_50_1 : Sd 50 1 3 (i_gI 9 [1]) := sd_gI (ref := "ContractDesk") (decl := "ContractDesk") (name := "eventCount") (desc := "I") dd_50_1 (by rw [mc_50]; exact tw_484) (Or.inl rfl) (by decide +kernel)
theorem dd_50_4 : decode (mi 50).2.1 4 = .ok (.aload_n 0, 1) := by decide +kernel
theorem st_50_4 : Sd 50 4 1 (i_ldR 0) := sd_aload_n (j := 0) dd_50_4 rfl
theorem dd_50_5 : decode (mi 50).2.1 5 = .ok (.getfield 42, 3) := by decide +kernel
theorem st_50_5 : Sd 50 5 3 (i_gR 8 [1]) := sd_gR (ref := "ContractDesk") (decl := "ContractDesk") (name := "events") (desc := "[I") dd_50_5 (by rw [mc_50]; exact tw_483) (Or.inl rfl) (by decide +kernel)
theorem dd_50_8 : decode (mi 50).2.1 8 = .ok (.arraylength, 1) := by decide +kernel
theorem st_50_8 : Sd 50 8 1 (i_len) := sd_len dd_50_8
theorem dd_50_9 : decode (mi 50).2.1 9 = .ok (.if_icmp .ne 31, 3) := by decide +kernel
theorem st_50_9 : Sd 50 9 3 (i_cne 40) := sd_icmp_ne dd_50_9 (by decide)
theorem dd_50_12 : decode (mi 50).2.1 12 = .ok (.iconst 2, 1) := by decide +kernel
theorem st_50_12 : Sd 50 12 1 (i_ic 2) := sd_iconst dd_50_12
theorem dd_50_13 : decode (mi 50).2.1 13 = .ok (.aload_n 0, 1) := by decide +kernel
theorem st_50_13 : Sd 50 13 1 (i_ldR 0) := sd_aload_n (j := 0) dd_50_13 rfl
theorem dd_50_14 : decode (mi 50).2.1 14 = .ok (.getfield 126, 3) := by decide +kernel
theorem st_50_14 : Sd 50 14 3 (i_gI 9 [1]) := sd_gI (ref := "ContractDesk") (decl := "ContractDesk") (name := "eventCount") (desc := "I") dd_50_14 (by rw [mc_50]; exact tw_484) (Or.inl rfl) (by decide +kernel)
theorem dd_50_17 : decode (mi 50).2.1 17 = .ok (.imul, 1) := by decide +kernel
theorem st_50_17 : Sd 50 17 1 (i_imul) := sd_imul dd_50_17
theorem dd_50_18 : decode (mi 50).2.1 18 = .ok (.newarray .int, 2) := by decide +kernel
theorem st_50_18 : Sd 50 18 2 (i_na 20) := sd_newarray dd_50_18 (by exact tw_506) rfl (by decide)
theorem dd_50_20 : decode (mi 50).2.1 20 = .ok (.astore_n 2, 1) := by decide +kernel
theorem st_50_20 : Sd 50 20 1 (i_stR 2) := sd_astore_n (j := 2) dd_50_20 rfl
theorem dd_50_21 : decode (mi 50).2.1 21 = .ok (.aload_n 0, 1) := by decide +kernel
theorem st_50_21 : Sd 50 21 1 (i_ldR 0) := sd_aload_n (j := 0) dd_50_21 rfl
theorem dd_50_22 : decode (mi 50).2.1 22 = .ok (.getfield 42, 3) := by decide +kernel
theorem st_50_22 : Sd 50 22 3 (i_gR 8 [1]) := sd_gR (ref := "ContractDesk") (decl := "ContractDesk") (name := "events") (desc := "[I") dd_50_22 (by rw [mc_50]; exact tw_483) (Or.inl rfl) (by decide +kernel)
theorem dd_50_25 : decode (mi 50).2.1 25 = .ok (.iconst 0, 1) := by decide +kernel
theorem st_50_25 : Sd 50 25 1 (i_ic 0) := sd_iconst dd_50_25
theorem dd_50_26 : decode (mi 50).2.1 26 = .ok (.aload_n 2, 1) := by decide +kernel
theorem st_50_26 : Sd 50 26 1 (i_ldR 2) := sd_aload_n (j := 2) dd_50_26 rfl
theorem dd_50_27 : decode (mi 50).2.1 27 = .ok (.iconst 0, 1) := by decide +kernel
theorem st_50_27 : Sd 50 27 1 (i_ic 0) := sd_iconst dd_50_27
theorem dd_50_28 : decode (mi 50).2.1 28 = .ok (.aload_n 0, 1) := by decide +kernel
theorem st_50_28 : Sd 50 28 1 (i_ldR 0) := sd_aload_n (j := 0) dd_50_28 rfl
theorem dd_50_29 : decode (mi 50).2.1 29 = .ok (.getfield 126, 3) := by decide +kernel
theorem st_50_29 : Sd 50 29 3 (i_gI 9 [1]) := sd_gI (ref := "ContractDesk") (decl := "ContractDesk") (name := "eventCount") (desc := "I") dd_50_29 (by rw [mc_50]; exact tw_484) (Or.inl rfl) (by decide +kernel)
theorem dd_50_32 : decode (mi 50).2.1 32 = .ok (.invokestatic 129, 3) := by decide +kernel
theorem st_50_32 : Sd 50 32 3 (i_acp [20] 0 3) := sd_acp dd_50_32 (by rw [mc_50]; exact tw_1143) (by decide) (by decide) ml_50
theorem dd_50_35 : decode (mi 50).2.1 35 = .ok (.aload_n 0, 1) := by decide +kernel
theorem st_50_35 : Sd 50 35 1 (i_ldR 0) := sd_aload_n (j := 0) dd_50_35 rfl
theorem dd_50_36 : decode (mi 50).2.1 36 = .ok (.aload_n 2, 1) := by decide +kernel
theorem st_50_36 : Sd 50 36 1 (i_ldR 2) := sd_aload_n (j := 2) dd_50_36 rfl
theorem dd_50_37 : decode (mi 50).2.1 37 = .ok (.putfield 42, 3) := by decide +kernel
theorem st_50_37 : Sd 50 37 3 (i_pR 8 [1]) := sd_pR (ref := "ContractDesk") (decl := "ContractDesk") (name := "events") (desc := "[I") dd_50_37 (by rw [mc_50]; exact tw_483) (Or.inl rfl) (by decide +kernel) (by decide +kernel)
def bk_50_0 : Tr := sq (i_ldR 0) (sq (i_gI 9 [1]) (sq (i_ldR 0) (sq (i_gR 8 [1]) (sq (i_len) (sq (i_cne 40) (sq (i_ic 2) (sq (i_ldR 0) (sq (i_gI 9 [1]) (sq (i_imul) (sq (i_na 20) (sq (i_stR 2) (sq (i_ldR 0) (sq (i_gR 8 [1]) (sq (i_ic 0) (sq (i_ldR 2) (sq (i_ic 0) (sq (i_ldR 0) (sq (i_gI 9 [1]) (sq (i_acp [20] 0 3) (sq (i_ldR 0) (sq (i_ldR 2) (sq (i_pR 8 [1]) (i_fall 40)))))))))))))))))))))))
theorem sb_50_0 : Sd 50 0 40 bk_50_0 := Sd.sq st_50_0 (Sd.sq st_50_1 (Sd.sq st_50_4 (Sd.sq st_50_5 (Sd.sq st_50_8 (Sd.sq st_50_9 (Sd.sq st_50_12 (Sd.sq st_50_13 (Sd.sq st_50_14 (Sd.sq st_50_17 (Sd.sq st_50_18 (Sd.sq st_50_20 (Sd.sq st_50_21 (Sd.sq st_50_22 (Sd.sq st_50_25 (Sd.sq st_50_26 (Sd.sq st_50_27 (Sd.sq st_50_28 (Sd.sq st_50_29 (Sd.sq st_50_32 (Sd.sq st_50_35 (Sd.sq st_50_36 (Sd.sq st_50_37 (sd_fall rfl)))))))))))))))))))))))
theorem dd_50_40 : decode (mi 50).2.1 40 = .ok (.aload_n 0, 1) := by decide +kernel
theorem st_50_40 : Sd 50 40 1 (i_ldR 0) := sd_aload_n (j := 0) dd_50_40 rfl
theorem dd_50_41 : decode (mi 50).2.1 41 = .ok (.getfield 42, 3) := by decide +kernel
theorem st_50_41 : Sd 50 41 3 (i_gR 8 [1]) := sd_gR (ref := "ContractDesk") (decl := "ContractDesk") (name := "events") (desc := "[I") dd_50_41 (by rw [mc_50]; exact tw_483) (Or.inl rfl) (by decide +kernel)
theorem dd_50_44 : decode (mi 50).2.1 44 = .ok (.aload_n 0, 1) := by decide +kernel
theorem st_50_44 : Sd 50 44 1 (i_ldR 0) := sd_aload_n (j := 0) dd_50_44 rfl
theorem dd_50_45 : decode (mi 50).2.1 45 = .ok (.getfield 126, 3) := by decide +kernel
theorem st_50_45 : Sd 50 45 3 (i_gI 9 [1]) := sd_gI (ref := "ContractDesk") (decl := "ContractDesk") (name := "eventCount") (desc := "I") dd_50_45 (by rw [mc_50]; exact tw_484) (Or.inl rfl) (by decide +kernel)
theorem dd_50_48 : decode (mi 50).2.1 48 = .ok (.iload_n 1, 1) := by decide +kernel
theorem st_50_48 : Sd 50 48 1 (i_ldI 1) := sd_iload_n (j := 1) dd_50_48 rfl
theorem dd_50_49 : decode (mi 50).2.1 49 = .ok (.iastore, 1) := by decide +kernel
theorem st_50_49 : Sd 50 49 1 (i_sI [20] 0) := sd_iastore dd_50_49 (by decide)
theorem dd_50_50 : decode (mi 50).2.1 50 = .ok (.aload_n 0, 1) := by decide +kernel
theorem st_50_50 : Sd 50 50 1 (i_ldR 0) := sd_aload_n (j := 0) dd_50_50 rfl
theorem dd_50_51 : decode (mi 50).2.1 51 = .ok (.dup, 1) := by decide +kernel
theorem st_50_51 : Sd 50 51 1 (i_dup) := sd_dup dd_50_51
theorem dd_50_52 : decode (mi 50).2.1 52 = .ok (.getfield 126, 3) := by decide +kernel
theorem st_50_52 : Sd 50 52 3 (i_gI 9 [1]) := sd_gI (ref := "ContractDesk") (decl := "ContractDesk") (name := "eventCount") (desc := "I") dd_50_52 (by rw [mc_50]; exact tw_484) (Or.inl rfl) (by decide +kernel)
theorem dd_50_55 : decode (mi 50).2.1 55 = .ok (.iconst 1, 1) := by decide +kernel
theorem st_50_55 : Sd 50 55 1 (i_ic 1) := sd_iconst dd_50_55
theorem dd_50_56 : decode (mi 50).2.1 56 = .ok (.iadd, 1) := by decide +kernel
theorem st_50_56 : Sd 50 56 1 (i_iadd) := sd_iadd dd_50_56
theorem dd_50_57 : decode (mi 50).2.1 57 = .ok (.putfield 126, 3) := by decide +kernel
theorem st_50_57 : Sd 50 57 3 (i_pI 9 [1] 0) := sd_pI (ref := "ContractDesk") (decl := "ContractDesk") (name := "eventCount") (desc := "I") dd_50_57 (by rw [mc_50]; exact tw_484) (Or.inl rfl) (by decide +kernel) (by decide +kernel) (by decide)
theorem dd_50_60 : decode (mi 50).2.1 60 = .ok (.return_, 1) := by decide +kernel
theorem st_50_60 : Sd 50 60 1 (i_ret) := sd_ret dd_50_60 mr_50
def bk_50_40 : Tr := sq (i_ldR 0) (sq (i_gR 8 [1]) (sq (i_ldR 0) (sq (i_gI 9 [1]) (sq (i_ldI 1) (sq (i_sI [20] 0) (sq (i_ldR 0) (sq (i_dup) (sq (i_gI 9 [1]) (sq (i_ic 1) (sq (i_iadd) (sq (i_pI 9 [1] 0) (i_ret))))))))))))
theorem sb_50_40 : Sd 50 40 21 bk_50_40 := Sd.sq st_50_40 (Sd.sq st_50_41 (Sd.sq st_50_44 (Sd.sq st_50_45 (Sd.sq st_50_48 (Sd.sq st_50_49 (Sd.sq st_50_50 (Sd.sq st_50_51 (Sd.sq st_50_52 (Sd.sq st_50_55 (Sd.sq st_50_56 (Sd.sq st_50_57 (st_50_60))))))))))))
theorem dd_51_0 : decode (mi 51).2.1 0 = .ok (.iconst 0, 1) := by decide +kernel
theorem st_51_0 : Sd 51 0 1 (i_ic 0) := sd_iconst dd_51_0
theorem dd_51_1 : decode (mi 51).2.1 1 = .ok (.istore_n 2, 1) := by decide +kernel
theorem st_51_1 : Sd 51 1 1 (i_stI 2) := sd_istore_n (j := 2) dd_51_1 rfl
def bk_51_0 : Tr := sq (i_ic 0) (sq (i_stI 2) (i_fall 2))
theorem sb_51_0 : Sd 51 0 2 bk_51_0 := Sd.sq st_51_0 (Sd.sq st_51_1 (sd_fall rfl))
theorem dd_51_2 : decode (mi 51).2.1 2 = .ok (.iload_n 2, 1) := by decide +kernel
theorem st_51_2 : Sd 51 2 1 (i_ldI 2) := sd_iload_n (j := 2) dd_51_2 rfl
theorem dd_51_3 : decode (mi 51).2.1 3 = .ok (.aload_n 1, 1) := by decide +kernel
theorem st_51_3 : Sd 51 3 1 (i_ldR 1) := sd_aload_n (j := 1) dd_51_3 rfl
theorem dd_51_4 : decode (mi 51).2.1 4 = .ok (.getfield 112, 3) := by decide +kernel
theorem st_51_4 : Sd 51 4 3 (i_gI 4 [4]) := sd_gI (ref := "ContractDesk$Interaction") (decl := "ContractDesk$Interaction") (name := "needs") (desc := "I") dd_51_4 (by rw [mc_51]; exact tw_721) (Or.inl rfl) (by decide +kernel)
theorem dd_51_7 : decode (mi 51).2.1 7 = .ok (.if_icmp .ge 19, 3) := by decide +kernel
theorem st_51_7 : Sd 51 7 3 (i_cge 26) := sd_icmp_ge dd_51_7 (by decide)
theorem dd_51_10 : decode (mi 51).2.1 10 = .ok (.aload_n 0, 1) := by decide +kernel
theorem st_51_10 : Sd 51 10 1 (i_ldR 0) := sd_aload_n (j := 0) dd_51_10 rfl
theorem dd_51_11 : decode (mi 51).2.1 11 = .ok (.aload_n 1, 1) := by decide +kernel
theorem st_51_11 : Sd 51 11 1 (i_ldR 1) := sd_aload_n (j := 1) dd_51_11 rfl
theorem dd_51_12 : decode (mi 51).2.1 12 = .ok (.getfield 116, 3) := by decide +kernel
theorem st_51_12 : Sd 51 12 3 (i_gR 2 [4]) := sd_gR (ref := "ContractDesk$Interaction") (decl := "ContractDesk$Interaction") (name := "states") (desc := "[I") dd_51_12 (by rw [mc_51]; exact tw_719) (Or.inl rfl) (by decide +kernel)
theorem dd_51_15 : decode (mi 51).2.1 15 = .ok (.iload_n 2, 1) := by decide +kernel
theorem st_51_15 : Sd 51 15 1 (i_ldI 2) := sd_iload_n (j := 2) dd_51_15 rfl
theorem dd_51_16 : decode (mi 51).2.1 16 = .ok (.iaload, 1) := by decide +kernel
theorem st_51_16 : Sd 51 16 1 (i_aI [20]) := sd_iaload dd_51_16 (by decide)
theorem dd_51_17 : decode (mi 51).2.1 17 = .ok (.invokevirtual 138, 3) := by decide +kernel
theorem st_51_17 : Sd 51 17 3 (i_cV [(1, 54)] 2 4 [(28, [18], [17]), (47, [17], [18])]) := sd_virt ⟨"ContractDesk", "setUp", "(I)V"⟩ dd_51_17 (by rw [mc_51]; exact tw_1135) (fun t j h => by simp only [List.mem_cons, List.not_mem_nil, or_false, Prod.mk.injEq] at h; obtain ⟨rfl, rfl⟩ := h; exact mn_54) (fun t j h => by simp only [List.mem_cons, List.not_mem_nil, or_false, Prod.mk.injEq] at h; obtain ⟨rfl, rfl⟩ := h; exact ⟨by rw [mn_54]; exact tw_18, by rw [mn_54]; exact tw_1137, mt_54, by decide, by decide⟩) (by unfold prm; decide +kernel) ml_51 (HsOk.cons (by rw [mh_51]; exact (HG.cov (nm := "java/lang/IllegalStateException") (by decide) rfl (by decide) (by rw [mc_51]; exact tw_692) okc_4 oknc_3 (HG.cov (nm := "java/lang/IllegalArgumentException") (by decide) rfl (by decide) (by rw [mc_51]; exact tw_568) okc_5 oknc_4 HG.nil))))
theorem dd_51_20 : decode (mi 51).2.1 20 = .ok (.iinc 2 1, 3) := by decide +kernel
theorem st_51_20 : Sd 51 20 3 (i_inc 2 1) := sd_iinc dd_51_20
theorem dd_51_23 : decode (mi 51).2.1 23 = .ok (.goto (-21), 3) := by decide +kernel
theorem st_51_23 : Sd 51 23 3 (i_goto 2) := sd_goto dd_51_23 (by decide)
def bk_51_2 : Tr := sq (i_ldI 2) (sq (i_ldR 1) (sq (i_gI 4 [4]) (sq (i_cge 26) (sq (i_ldR 0) (sq (i_ldR 1) (sq (i_gR 2 [4]) (sq (i_ldI 2) (sq (i_aI [20]) (sq (i_cV [(1, 54)] 2 4 [(28, [18], [17]), (47, [17], [18])]) (sq (i_inc 2 1) (i_goto 2)))))))))))
theorem sb_51_2 : Sd 51 2 24 bk_51_2 := Sd.sq st_51_2 (Sd.sq st_51_3 (Sd.sq st_51_4 (Sd.sq st_51_7 (Sd.sq st_51_10 (Sd.sq st_51_11 (Sd.sq st_51_12 (Sd.sq st_51_15 (Sd.sq st_51_16 (Sd.sq st_51_17 (Sd.sq st_51_20 (st_51_23)))))))))))
theorem dd_51_26 : decode (mi 51).2.1 26 = .ok (.iconst 1, 1) := by decide +kernel
theorem st_51_26 : Sd 51 26 1 (i_ic 1) := sd_iconst dd_51_26
theorem dd_51_27 : decode (mi 51).2.1 27 = .ok (.ireturn, 1) := by decide +kernel
theorem st_51_27 : Sd 51 27 1 (i_rI 2) := sd_ireturn dd_51_27 (by decide) mr_51
def bk_51_26 : Tr := sq (i_ic 1) (i_rI 2)
theorem sb_51_26 : Sd 51 26 2 bk_51_26 := Sd.sq st_51_26 (st_51_27)
theorem dd_51_28 : decode (mi 51).2.1 28 = .ok (.astore_n 3, 1) := by decide +kernel
theorem st_51_28 : Sd 51 28 1 (i_stR 3) := sd_astore_n (j := 3) dd_51_28 rfl
theorem dd_51_29 : decode (mi 51).2.1 29 = .ok (.aload_n 0, 1) := by decide +kernel
theorem st_51_29 : Sd 51 29 1 (i_ldR 0) := sd_aload_n (j := 0) dd_51_29 rfl
theorem dd_51_30 : decode (mi 51).2.1 30 = .ok (.bipush 10, 2) := by decide +kernel
theorem st_51_30 : Sd 51 30 2 (i_ic 10) := sd_bipush dd_51_30 (by decide)
theorem dd_51_32 : decode (mi 51).2.1 32 = .ok (.aload_n 1, 1) := by decide +kernel
theorem st_51_32 : Sd 51 32 1 (i_ldR 1) := sd_aload_n (j := 1) dd_51_32 rfl
theorem dd_51_33 : decode (mi 51).2.1 33 = .ok (.getfield 116, 3) := by decide +kernel
theorem st_51_33 : Sd 51 33 3 (i_gR 2 [4]) := sd_gR (ref := "ContractDesk$Interaction") (decl := "ContractDesk$Interaction") (name := "states") (desc := "[I") dd_51_33 (by rw [mc_51]; exact tw_719) (Or.inl rfl) (by decide +kernel)
theorem dd_51_36 : decode (mi 51).2.1 36 = .ok (.iload_n 2, 1) := by decide +kernel
theorem st_51_36 : Sd 51 36 1 (i_ldI 2) := sd_iload_n (j := 2) dd_51_36 rfl
theorem dd_51_37 : decode (mi 51).2.1 37 = .ok (.iaload, 1) := by decide +kernel
theorem st_51_37 : Sd 51 37 1 (i_aI [20]) := sd_iaload dd_51_37 (by decide)
theorem dd_51_38 : decode (mi 51).2.1 38 = .ok (.imul, 1) := by decide +kernel
theorem st_51_38 : Sd 51 38 1 (i_imul) := sd_imul dd_51_38
theorem dd_51_39 : decode (mi 51).2.1 39 = .ok (.iconst 2, 1) := by decide +kernel
theorem st_51_39 : Sd 51 39 1 (i_ic 2) := sd_iconst dd_51_39
theorem dd_51_40 : decode (mi 51).2.1 40 = .ok (.iadd, 1) := by decide +kernel
theorem st_51_40 : Sd 51 40 1 (i_iadd) := sd_iadd dd_51_40
theorem dd_51_41 : decode (mi 51).2.1 41 = .ok (.invokevirtual 135, 3) := by decide +kernel
theorem st_51_41 : Sd 51 41 3 (i_cV [(1, 50)] 2 4 []) := sd_virt ⟨"ContractDesk", "note", "(I)V"⟩ dd_51_41 (by rw [mc_51]; exact tw_1139) (fun t j h => by simp only [List.mem_cons, List.not_mem_nil, or_false, Prod.mk.injEq] at h; obtain ⟨rfl, rfl⟩ := h; exact mn_50) (fun t j h => by simp only [List.mem_cons, List.not_mem_nil, or_false, Prod.mk.injEq] at h; obtain ⟨rfl, rfl⟩ := h; exact ⟨by rw [mn_50]; exact tw_19, by rw [mn_50]; exact tw_1141, mt_50, by decide, by decide⟩) (by unfold prm; decide +kernel) ml_51 (HsOk.nil (by decide +kernel))
theorem dd_51_44 : decode (mi 51).2.1 44 = .ok (.goto 19, 3) := by decide +kernel
theorem st_51_44 : Sd 51 44 3 (i_goto 63) := sd_goto dd_51_44 (by decide)
def bk_51_28 : Tr := sq (i_stR 3) (sq (i_ldR 0) (sq (i_ic 10) (sq (i_ldR 1) (sq (i_gR 2 [4]) (sq (i_ldI 2) (sq (i_aI [20]) (sq (i_imul) (sq (i_ic 2) (sq (i_iadd) (sq (i_cV [(1, 50)] 2 4 []) (i_goto 63)))))))))))
theorem sb_51_28 : Sd 51 28 19 bk_51_28 := Sd.sq st_51_28 (Sd.sq st_51_29 (Sd.sq st_51_30 (Sd.sq st_51_32 (Sd.sq st_51_33 (Sd.sq st_51_36 (Sd.sq st_51_37 (Sd.sq st_51_38 (Sd.sq st_51_39 (Sd.sq st_51_40 (Sd.sq st_51_41 (st_51_44)))))))))))
theorem dd_51_47 : decode (mi 51).2.1 47 = .ok (.astore_n 3, 1) := by decide +kernel
theorem st_51_47 : Sd 51 47 1 (i_stR 3) := sd_astore_n (j := 3) dd_51_47 rfl
theorem dd_51_48 : decode (mi 51).2.1 48 = .ok (.aload_n 0, 1) := by decide +kernel
theorem st_51_48 : Sd 51 48 1 (i_ldR 0) := sd_aload_n (j := 0) dd_51_48 rfl
theorem dd_51_49 : decode (mi 51).2.1 49 = .ok (.bipush 10, 2) := by decide +kernel
theorem st_51_49 : Sd 51 49 2 (i_ic 10) := sd_bipush dd_51_49 (by decide)
theorem dd_51_51 : decode (mi 51).2.1 51 = .ok (.aload_n 1, 1) := by decide +kernel
theorem st_51_51 : Sd 51 51 1 (i_ldR 1) := sd_aload_n (j := 1) dd_51_51 rfl
theorem dd_51_52 : decode (mi 51).2.1 52 = .ok (.getfield 116, 3) := by decide +kernel
theorem st_51_52 : Sd 51 52 3 (i_gR 2 [4]) := sd_gR (ref := "ContractDesk$Interaction") (decl := "ContractDesk$Interaction") (name := "states") (desc := "[I") dd_51_52 (by rw [mc_51]; exact tw_719) (Or.inl rfl) (by decide +kernel)
theorem dd_51_55 : decode (mi 51).2.1 55 = .ok (.iload_n 2, 1) := by decide +kernel
theorem st_51_55 : Sd 51 55 1 (i_ldI 2) := sd_iload_n (j := 2) dd_51_55 rfl
theorem dd_51_56 : decode (mi 51).2.1 56 = .ok (.iaload, 1) := by decide +kernel
theorem st_51_56 : Sd 51 56 1 (i_aI [20]) := sd_iaload dd_51_56 (by decide)
theorem dd_51_57 : decode (mi 51).2.1 57 = .ok (.imul, 1) := by decide +kernel
theorem st_51_57 : Sd 51 57 1 (i_imul) := sd_imul dd_51_57
theorem dd_51_58 : decode (mi 51).2.1 58 = .ok (.iconst 2, 1) := by decide +kernel
theorem st_51_58 : Sd 51 58 1 (i_ic 2) := sd_iconst dd_51_58
theorem dd_51_59 : decode (mi 51).2.1 59 = .ok (.iadd, 1) := by decide +kernel
theorem st_51_59 : Sd 51 59 1 (i_iadd) := sd_iadd dd_51_59
theorem dd_51_60 : decode (mi 51).2.1 60 = .ok (.invokevirtual 135, 3) := by decide +kernel
theorem st_51_60 : Sd 51 60 3 (i_cV [(1, 50)] 2 4 []) := sd_virt ⟨"ContractDesk", "note", "(I)V"⟩ dd_51_60 (by rw [mc_51]; exact tw_1139) (fun t j h => by simp only [List.mem_cons, List.not_mem_nil, or_false, Prod.mk.injEq] at h; obtain ⟨rfl, rfl⟩ := h; exact mn_50) (fun t j h => by simp only [List.mem_cons, List.not_mem_nil, or_false, Prod.mk.injEq] at h; obtain ⟨rfl, rfl⟩ := h; exact ⟨by rw [mn_50]; exact tw_19, by rw [mn_50]; exact tw_1141, mt_50, by decide, by decide⟩) (by unfold prm; decide +kernel) ml_51 (HsOk.nil (by decide +kernel))
def bk_51_47 : Tr := sq (i_stR 3) (sq (i_ldR 0) (sq (i_ic 10) (sq (i_ldR 1) (sq (i_gR 2 [4]) (sq (i_ldI 2) (sq (i_aI [20]) (sq (i_imul) (sq (i_ic 2) (sq (i_iadd) (sq (i_cV [(1, 50)] 2 4 []) (i_fall 63)))))))))))
theorem sb_51_47 : Sd 51 47 16 bk_51_47 := Sd.sq st_51_47 (Sd.sq st_51_48 (Sd.sq st_51_49 (Sd.sq st_51_51 (Sd.sq st_51_52 (Sd.sq st_51_55 (Sd.sq st_51_56 (Sd.sq st_51_57 (Sd.sq st_51_58 (Sd.sq st_51_59 (Sd.sq st_51_60 (sd_fall rfl)))))))))))
theorem dd_51_63 : decode (mi 51).2.1 63 = .ok (.aload_n 0, 1) := by decide +kernel
theorem st_51_63 : Sd 51 63 1 (i_ldR 0) := sd_aload_n (j := 0) dd_51_63 rfl
theorem dd_51_64 : decode (mi 51).2.1 64 = .ok (.aload_n 1, 1) := by decide +kernel
theorem st_51_64 : Sd 51 64 1 (i_ldR 1) := sd_aload_n (j := 1) dd_51_64 rfl
theorem dd_51_65 : decode (mi 51).2.1 65 = .ok (.iload_n 2, 1) := by decide +kernel
theorem st_51_65 : Sd 51 65 1 (i_ldI 2) := sd_iload_n (j := 2) dd_51_65 rfl
theorem dd_51_66 : decode (mi 51).2.1 66 = .ok (.invokevirtual 141, 3) := by decide +kernel
theorem st_51_66 : Sd 51 66 3 (i_cV [(1, 36)] 3 4 []) := sd_virt ⟨"ContractDesk", "cleanUp", "(LContractDesk$Interaction;I)V"⟩ dd_51_66 (by rw [mc_51]; exact tw_1144) (fun t j h => by simp only [List.mem_cons, List.not_mem_nil, or_false, Prod.mk.injEq] at h; obtain ⟨rfl, rfl⟩ := h; exact mn_36) (fun t j h => by simp only [List.mem_cons, List.not_mem_nil, or_false, Prod.mk.injEq] at h; obtain ⟨rfl, rfl⟩ := h; exact ⟨by rw [mn_36]; exact tw_20, by rw [mn_36]; exact tw_1146, mt_36, by decide, by decide⟩) (by unfold prm; decide +kernel) ml_51 (HsOk.nil (by decide +kernel))
theorem dd_51_69 : decode (mi 51).2.1 69 = .ok (.iconst 0, 1) := by decide +kernel
theorem st_51_69 : Sd 51 69 1 (i_ic 0) := sd_iconst dd_51_69
theorem dd_51_70 : decode (mi 51).2.1 70 = .ok (.ireturn, 1) := by decide +kernel
theorem st_51_70 : Sd 51 70 1 (i_rI 2) := sd_ireturn dd_51_70 (by decide) mr_51
def bk_51_63 : Tr := sq (i_ldR 0) (sq (i_ldR 1) (sq (i_ldI 2) (sq (i_cV [(1, 36)] 3 4 []) (sq (i_ic 0) (i_rI 2)))))
theorem sb_51_63 : Sd 51 63 8 bk_51_63 := Sd.sq st_51_63 (Sd.sq st_51_64 (Sd.sq st_51_65 (Sd.sq st_51_66 (Sd.sq st_51_69 (st_51_70)))))
theorem dd_52_0 : decode (mi 52).2.1 0 = .ok (.aload_n 0, 1) := by decide +kernel
theorem st_52_0 : Sd 52 0 1 (i_ldR 0) := sd_aload_n (j := 0) dd_52_0 rfl
theorem dd_52_1 : decode (mi 52).2.1 1 = .ok (.getfield 21, 3) := by decide +kernel
theorem st_52_1 : Sd 52 1 3 (i_gR 1 [1]) := sd_gR (ref := "ContractDesk") (decl := "ContractDesk") (name := "reader") (desc := "LContractDesk$Reader;") dd_52_1 (by rw [mc_52]; exact tw_476) (Or.inl rfl) (by decide +kernel)
theorem dd_52_4 : decode (mi 52).2.1 4 = .ok (.aload_n 0, 1) := by decide +kernel
theorem st_52_4 : Sd 52 4 1 (i_ldR 0) := sd_aload_n (j := 0) dd_52_4 rfl
theorem dd_52_5 : decode (mi 52).2.1 5 = .ok (.getfield 14, 3) := by decide +kernel
theorem st_52_5 : Sd 52 5 3 (i_gR 0 [1]) := sd_gR (ref := "ContractDesk") (decl := "ContractDesk") (name := "text") (desc := "Ljava/lang/StringBuilder;") dd_52_5 (by rw [mc_52]; exact tw_475) (Or.inl rfl) (by decide +kernel)
theorem dd_52_8 : decode (mi 52).2.1 8 = .ok (.invokevirtual 81, 3) := by decide +kernel
theorem st_52_8 : Sd 52 8 3 (i_cV [(3, 97)] 2 4 []) := sd_virt ⟨"ContractDesk$Reader", "take", "(Ljava/lang/StringBuilder;)V"⟩ dd_52_8 (by rw [mc_52]; exact tw_569) (fun t j h => by simp only [List.mem_cons, List.not_mem_nil, or_false, Prod.mk.injEq] at h; obtain ⟨rfl, rfl⟩ := h; exact mn_97) (fun t j h => by simp only [List.mem_cons, List.not_mem_nil, or_false, Prod.mk.injEq] at h; obtain ⟨rfl, rfl⟩ := h; exact ⟨by rw [mn_97]; exact tw_571, by rw [mn_97]; exact tw_570, mt_97, by decide, by decide⟩) (by unfold prm; decide +kernel) ml_52 (HsOk.nil (by decide +kernel))
theorem dd_52_11 : decode (mi 52).2.1 11 = .ok (.aload_n 0, 1) := by decide +kernel
theorem st_52_11 : Sd 52 11 1 (i_ldR 0) := sd_aload_n (j := 0) dd_52_11 rfl
theorem dd_52_12 : decode (mi 52).2.1 12 = .ok (.iload_n 1, 1) := by decide +kernel
theorem st_52_12 : Sd 52 12 1 (i_ldI 1) := sd_iload_n (j := 1) dd_52_12 rfl
theorem dd_52_13 : decode (mi 52).2.1 13 = .ok (.invokevirtual 85, 3) := by decide +kernel
theorem st_52_13 : Sd 52 13 3 (i_cV [(1, 40)] 2 4 []) := sd_virt ⟨"ContractDesk", "get", "(I)LContractDesk$Interaction;"⟩ dd_52_13 (by rw [mc_52]; exact tw_793) (fun t j h => by simp only [List.mem_cons, List.not_mem_nil, or_false, Prod.mk.injEq] at h; obtain ⟨rfl, rfl⟩ := h; exact mn_40) (fun t j h => by simp only [List.mem_cons, List.not_mem_nil, or_false, Prod.mk.injEq] at h; obtain ⟨rfl, rfl⟩ := h; exact ⟨by rw [mn_40]; exact tw_6, by rw [mn_40]; exact tw_795, mt_40, by decide, by decide⟩) (by unfold prm; decide +kernel) ml_52 (HsOk.nil (by decide +kernel))
theorem dd_52_16 : decode (mi 52).2.1 16 = .ok (.astore_n 2, 1) := by decide +kernel
theorem st_52_16 : Sd 52 16 1 (i_stR 2) := sd_astore_n (j := 2) dd_52_16 rfl
theorem dd_52_17 : decode (mi 52).2.1 17 = .ok (.aload_n 0, 1) := by decide +kernel
theorem st_52_17 : Sd 52 17 1 (i_ldR 0) := sd_aload_n (j := 0) dd_52_17 rfl
theorem dd_52_18 : decode (mi 52).2.1 18 = .ok (.getfield 21, 3) := by decide +kernel
theorem st_52_18 : Sd 52 18 3 (i_gR 1 [1]) := sd_gR (ref := "ContractDesk") (decl := "ContractDesk") (name := "reader") (desc := "LContractDesk$Reader;") dd_52_18 (by rw [mc_52]; exact tw_476) (Or.inl rfl) (by decide +kernel)
theorem dd_52_21 : decode (mi 52).2.1 21 = .ok (.invokevirtual 105, 3) := by decide +kernel
theorem st_52_21 : Sd 52 21 3 (i_cV [(3, 95)] 1 4 []) := sd_virt ⟨"ContractDesk$Reader", "rule", "()LContractDesk$Rule;"⟩ dd_52_21 (by rw [mc_52]; exact tw_1009) (fun t j h => by simp only [List.mem_cons, List.not_mem_nil, or_false, Prod.mk.injEq] at h; obtain ⟨rfl, rfl⟩ := h; exact mn_95) (fun t j h => by simp only [List.mem_cons, List.not_mem_nil, or_false, Prod.mk.injEq] at h; obtain ⟨rfl, rfl⟩ := h; exact ⟨by rw [mn_95]; exact tw_1011, by rw [mn_95]; exact tw_1010, mt_95, by decide, by decide⟩) (by unfold prm; decide +kernel) ml_52 (HsOk.nil (by decide +kernel))
theorem dd_52_24 : decode (mi 52).2.1 24 = .ok (.astore_n 3, 1) := by decide +kernel
theorem st_52_24 : Sd 52 24 1 (i_stR 3) := sd_astore_n (j := 3) dd_52_24 rfl
theorem dd_52_25 : decode (mi 52).2.1 25 = .ok (.aload_n 2, 1) := by decide +kernel
theorem st_52_25 : Sd 52 25 1 (i_ldR 2) := sd_aload_n (j := 2) dd_52_25 rfl
theorem dd_52_26 : decode (mi 52).2.1 26 = .ok (.getfield 109, 3) := by decide +kernel
theorem st_52_26 : Sd 52 26 3 (i_gR 1 [4]) := sd_gR (ref := "ContractDesk$Interaction") (decl := "ContractDesk$Interaction") (name := "rules") (desc := "Ljava/util/ArrayList;") dd_52_26 (by rw [mc_52]; exact tw_717) (Or.inl rfl) (by decide +kernel)
theorem dd_52_29 : decode (mi 52).2.1 29 = .ok (.invokevirtual 55, 3) := by decide +kernel
theorem st_52_29 : Sd 52 29 3 (i_cV [(16, 23)] 1 4 []) := sd_virt ⟨"java/util/ArrayList", "size", "()I"⟩ dd_52_29 (by rw [mc_52]; exact tw_543) (fun t j h => by simp only [List.mem_cons, List.not_mem_nil, or_false, Prod.mk.injEq] at h; obtain ⟨rfl, rfl⟩ := h; exact mn_23) (fun t j h => by simp only [List.mem_cons, List.not_mem_nil, or_false, Prod.mk.injEq] at h; obtain ⟨rfl, rfl⟩ := h; exact ⟨by rw [mn_23]; exact tw_545, by rw [mn_23]; exact tw_544, mt_23, by decide, by decide⟩) (by unfold prm; decide +kernel) ml_52 (HsOk.nil (by decide +kernel))
theorem dd_52_32 : decode (mi 52).2.1 32 = .ok (.bipush 8, 2) := by decide +kernel
theorem st_52_32 : Sd 52 32 2 (i_ic 8) := sd_bipush dd_52_32 (by decide)
theorem dd_52_34 : decode (mi 52).2.1 34 = .ok (.if_icmp .lt 11, 3) := by decide +kernel
theorem st_52_34 : Sd 52 34 3 (i_clt 45) := sd_icmp_lt dd_52_34 (by decide)
theorem dd_52_37 : decode (mi 52).2.1 37 = .ok (.new 58, 3) := by decide +kernel
theorem st_52_37 : Sd 52 37 3 (i_new 18) := sd_new dd_52_37 (by rw [mc_52]; exact tw_692) (by exact tw_91) (by exact tw_693) (by decide) (by decide)
theorem dd_52_40 : decode (mi 52).2.1 40 = .ok (.dup, 1) := by decide +kernel
theorem st_52_40 : Sd 52 40 1 (i_dup) := sd_dup dd_52_40
theorem dd_52_41 : decode (mi 52).2.1 41 = .ok (.invokespecial 60, 3) := by decide +kernel
theorem st_52_41 : Sd 52 41 3 (i_exc 18 4) := sd_exc dd_52_41 (by decide) (by rw [mc_52]; exact tw_701) ml_52
theorem dd_52_44 : decode (mi 52).2.1 44 = .ok (.athrow, 1) := by decide +kernel
theorem st_52_44 : Sd 52 44 1 (i_throw) := sd_athrow dd_52_44 (by decide +kernel)
def bk_52_0 : Tr := sq (i_ldR 0) (sq (i_gR 1 [1]) (sq (i_ldR 0) (sq (i_gR 0 [1]) (sq (i_cV [(3, 97)] 2 4 []) (sq (i_ldR 0) (sq (i_ldI 1) (sq (i_cV [(1, 40)] 2 4 []) (sq (i_stR 2) (sq (i_ldR 0) (sq (i_gR 1 [1]) (sq (i_cV [(3, 95)] 1 4 []) (sq (i_stR 3) (sq (i_ldR 2) (sq (i_gR 1 [4]) (sq (i_cV [(16, 23)] 1 4 []) (sq (i_ic 8) (sq (i_clt 45) (sq (i_new 18) (sq (i_dup) (sq (i_exc 18 4) (i_throw)))))))))))))))))))))
theorem sb_52_0 : Sd 52 0 45 bk_52_0 := Sd.sq st_52_0 (Sd.sq st_52_1 (Sd.sq st_52_4 (Sd.sq st_52_5 (Sd.sq st_52_8 (Sd.sq st_52_11 (Sd.sq st_52_12 (Sd.sq st_52_13 (Sd.sq st_52_16 (Sd.sq st_52_17 (Sd.sq st_52_18 (Sd.sq st_52_21 (Sd.sq st_52_24 (Sd.sq st_52_25 (Sd.sq st_52_26 (Sd.sq st_52_29 (Sd.sq st_52_32 (Sd.sq st_52_34 (Sd.sq st_52_37 (Sd.sq st_52_40 (Sd.sq st_52_41 (st_52_44)))))))))))))))))))))
theorem dd_52_45 : decode (mi 52).2.1 45 = .ok (.aload_n 2, 1) := by decide +kernel
theorem st_52_45 : Sd 52 45 1 (i_ldR 2) := sd_aload_n (j := 2) dd_52_45 rfl
theorem dd_52_46 : decode (mi 52).2.1 46 = .ok (.getfield 109, 3) := by decide +kernel
theorem st_52_46 : Sd 52 46 3 (i_gR 1 [4]) := sd_gR (ref := "ContractDesk$Interaction") (decl := "ContractDesk$Interaction") (name := "rules") (desc := "Ljava/util/ArrayList;") dd_52_46 (by rw [mc_52]; exact tw_717) (Or.inl rfl) (by decide +kernel)
theorem dd_52_49 : decode (mi 52).2.1 49 = .ok (.aload_n 3, 1) := by decide +kernel
theorem st_52_49 : Sd 52 49 1 (i_ldR 3) := sd_aload_n (j := 3) dd_52_49 rfl
theorem dd_52_50 : decode (mi 52).2.1 50 = .ok (.invokevirtual 66, 3) := by decide +kernel
theorem st_52_50 : Sd 52 50 3 (i_cV [(16, 27)] 2 4 []) := sd_virt ⟨"java/util/ArrayList", "add", "(Ljava/lang/Object;)Z"⟩ dd_52_50 (by rw [mc_52]; exact tw_733) (fun t j h => by simp only [List.mem_cons, List.not_mem_nil, or_false, Prod.mk.injEq] at h; obtain ⟨rfl, rfl⟩ := h; exact mn_27) (fun t j h => by simp only [List.mem_cons, List.not_mem_nil, or_false, Prod.mk.injEq] at h; obtain ⟨rfl, rfl⟩ := h; exact ⟨by rw [mn_27]; exact tw_735, by rw [mn_27]; exact tw_734, mt_27, by decide, by decide⟩) (by unfold prm; decide +kernel) ml_52 (HsOk.nil (by decide +kernel))
theorem dd_52_53 : decode (mi 52).2.1 53 = .ok (.pop, 1) := by decide +kernel
theorem st_52_53 : Sd 52 53 1 (i_pop) := sd_pop dd_52_53
theorem dd_52_54 : decode (mi 52).2.1 54 = .ok (.aload_n 2, 1) := by decide +kernel
theorem st_52_54 : Sd 52 54 1 (i_ldR 2) := sd_aload_n (j := 2) dd_52_54 rfl
theorem dd_52_55 : decode (mi 52).2.1 55 = .ok (.getfield 109, 3) := by decide +kernel
theorem st_52_55 : Sd 52 55 3 (i_gR 1 [4]) := sd_gR (ref := "ContractDesk$Interaction") (decl := "ContractDesk$Interaction") (name := "rules") (desc := "Ljava/util/ArrayList;") dd_52_55 (by rw [mc_52]; exact tw_717) (Or.inl rfl) (by decide +kernel)
theorem dd_52_58 : decode (mi 52).2.1 58 = .ok (.invokevirtual 55, 3) := by decide +kernel
theorem st_52_58 : Sd 52 58 3 (i_cV [(16, 23)] 1 4 []) := sd_virt ⟨"java/util/ArrayList", "size", "()I"⟩ dd_52_58 (by rw [mc_52]; exact tw_543) (fun t j h => by simp only [List.mem_cons, List.not_mem_nil, or_false, Prod.mk.injEq] at h; obtain ⟨rfl, rfl⟩ := h; exact mn_23) (fun t j h => by simp only [List.mem_cons, List.not_mem_nil, or_false, Prod.mk.injEq] at h; obtain ⟨rfl, rfl⟩ := h; exact ⟨by rw [mn_23]; exact tw_545, by rw [mn_23]; exact tw_544, mt_23, by decide, by decide⟩) (by unfold prm; decide +kernel) ml_52 (HsOk.nil (by decide +kernel))
theorem dd_52_61 : decode (mi 52).2.1 61 = .ok (.iconst 1, 1) := by decide +kernel
theorem st_52_61 : Sd 52 61 1 (i_ic 1) := sd_iconst dd_52_61
theorem dd_52_62 : decode (mi 52).2.1 62 = .ok (.isub, 1) := by decide +kernel
theorem st_52_62 : Sd 52 62 1 (i_isub) := sd_isub dd_52_62
theorem dd_52_63 : decode (mi 52).2.1 63 = .ok (.ireturn, 1) := by decide +kernel
theorem st_52_63 : Sd 52 63 1 (i_rI 0) := sd_ireturn dd_52_63 (by decide) mr_52
def bk_52_45 : Tr := sq (i_ldR 2) (sq (i_gR 1 [4]) (sq (i_ldR 3) (sq (i_cV [(16, 27)] 2 4 []) (sq (i_pop) (sq (i_ldR 2) (sq (i_gR 1 [4]) (sq (i_cV [(16, 23)] 1 4 []) (sq (i_ic 1) (sq (i_isub) (i_rI 0))))))))))
theorem sb_52_45 : Sd 52 45 19 bk_52_45 := Sd.sq st_52_45 (Sd.sq st_52_46 (Sd.sq st_52_49 (Sd.sq st_52_50 (Sd.sq st_52_53 (Sd.sq st_52_54 (Sd.sq st_52_55 (Sd.sq st_52_58 (Sd.sq st_52_61 (Sd.sq st_52_62 (st_52_63))))))))))
theorem dd_53_0 : decode (mi 53).2.1 0 = .ok (.aload_n 0, 1) := by decide +kernel
theorem st_53_0 : Sd 53 0 1 (i_ldR 0) := sd_aload_n (j := 0) dd_53_0 rfl
theorem dd_53_1 : decode (mi 53).2.1 1 = .ok (.getfield 21, 3) := by decide +kernel
theorem st_53_1 : Sd 53 1 3 (i_gR 1 [1]) := sd_gR (ref := "ContractDesk") (decl := "ContractDesk") (name := "reader") (desc := "LContractDesk$Reader;") dd_53_1 (by rw [mc_53]; exact tw_476) (Or.inl rfl) (by decide +kernel)
theorem dd_53_4 : decode (mi 53).2.1 4 = .ok (.aload_n 0, 1) := by decide +kernel
theorem st_53_4 : Sd 53 4 1 (i_ldR 0) := sd_aload_n (j := 0) dd_53_4 rfl
theorem dd_53_5 : decode (mi 53).2.1 5 = .ok (.getfield 14, 3) := by decide +kernel
theorem st_53_5 : Sd 53 5 3 (i_gR 0 [1]) := sd_gR (ref := "ContractDesk") (decl := "ContractDesk") (name := "text") (desc := "Ljava/lang/StringBuilder;") dd_53_5 (by rw [mc_53]; exact tw_475) (Or.inl rfl) (by decide +kernel)
theorem dd_53_8 : decode (mi 53).2.1 8 = .ok (.invokevirtual 81, 3) := by decide +kernel
theorem st_53_8 : Sd 53 8 3 (i_cV [(3, 97)] 2 3 []) := sd_virt ⟨"ContractDesk$Reader", "take", "(Ljava/lang/StringBuilder;)V"⟩ dd_53_8 (by rw [mc_53]; exact tw_569) (fun t j h => by simp only [List.mem_cons, List.not_mem_nil, or_false, Prod.mk.injEq] at h; obtain ⟨rfl, rfl⟩ := h; exact mn_97) (fun t j h => by simp only [List.mem_cons, List.not_mem_nil, or_false, Prod.mk.injEq] at h; obtain ⟨rfl, rfl⟩ := h; exact ⟨by rw [mn_97]; exact tw_571, by rw [mn_97]; exact tw_570, mt_97, by decide, by decide⟩) (by unfold prm; decide +kernel) ml_53 (HsOk.nil (by decide +kernel))
theorem dd_53_11 : decode (mi 53).2.1 11 = .ok (.aload_n 0, 1) := by decide +kernel
theorem st_53_11 : Sd 53 11 1 (i_ldR 0) := sd_aload_n (j := 0) dd_53_11 rfl
theorem dd_53_12 : decode (mi 53).2.1 12 = .ok (.iload_n 1, 1) := by decide +kernel
theorem st_53_12 : Sd 53 12 1 (i_ldI 1) := sd_iload_n (j := 1) dd_53_12 rfl
theorem dd_53_13 : decode (mi 53).2.1 13 = .ok (.invokevirtual 70, 3) := by decide +kernel
theorem st_53_13 : Sd 53 13 3 (i_cV [(1, 42)] 2 3 []) := sd_virt ⟨"ContractDesk", "isThere", "(I)Z"⟩ dd_53_13 (by rw [mc_53]; exact tw_539) (fun t j h => by simp only [List.mem_cons, List.not_mem_nil, or_false, Prod.mk.injEq] at h; obtain ⟨rfl, rfl⟩ := h; exact mn_42) (fun t j h => by simp only [List.mem_cons, List.not_mem_nil, or_false, Prod.mk.injEq] at h; obtain ⟨rfl, rfl⟩ := h; exact ⟨by rw [mn_42]; exact tw_1, by rw [mn_42]; exact tw_541, mt_42, by decide, by decide⟩) (by unfold prm; decide +kernel) ml_53 (HsOk.nil (by decide +kernel))
theorem dd_53_16 : decode (mi 53).2.1 16 = .ok (.ifCond .ne 5, 3) := by decide +kernel
theorem st_53_16 : Sd 53 16 3 (i_zne 21) := sd_if_ne dd_53_16 (by decide)
theorem dd_53_19 : decode (mi 53).2.1 19 = .ok (.iconst (-1), 1) := by decide +kernel
theorem st_53_19 : Sd 53 19 1 (i_ic (-1)) := sd_iconst dd_53_19
theorem dd_53_20 : decode (mi 53).2.1 20 = .ok (.ireturn, 1) := by decide +kernel
theorem st_53_20 : Sd 53 20 1 (i_rI 0) := sd_ireturn dd_53_20 (by decide) mr_53
def bk_53_0 : Tr := sq (i_ldR 0) (sq (i_gR 1 [1]) (sq (i_ldR 0) (sq (i_gR 0 [1]) (sq (i_cV [(3, 97)] 2 3 []) (sq (i_ldR 0) (sq (i_ldI 1) (sq (i_cV [(1, 42)] 2 3 []) (sq (i_zne 21) (sq (i_ic (-1)) (i_rI 0))))))))))
theorem sb_53_0 : Sd 53 0 21 bk_53_0 := Sd.sq st_53_0 (Sd.sq st_53_1 (Sd.sq st_53_4 (Sd.sq st_53_5 (Sd.sq st_53_8 (Sd.sq st_53_11 (Sd.sq st_53_12 (Sd.sq st_53_13 (Sd.sq st_53_16 (Sd.sq st_53_19 (st_53_20))))))))))
theorem dd_53_21 : decode (mi 53).2.1 21 = .ok (.aload_n 0, 1) := by decide +kernel
theorem st_53_21 : Sd 53 21 1 (i_ldR 0) := sd_aload_n (j := 0) dd_53_21 rfl
theorem dd_53_22 : decode (mi 53).2.1 22 = .ok (.getfield 21, 3) := by decide +kernel
theorem st_53_22 : Sd 53 22 3 (i_gR 1 [1]) := sd_gR (ref := "ContractDesk") (decl := "ContractDesk") (name := "reader") (desc := "LContractDesk$Reader;") dd_53_22 (by rw [mc_53]; exact tw_476) (Or.inl rfl) (by decide +kernel)
theorem dd_53_25 : decode (mi 53).2.1 25 = .ok (.aload_n 0, 1) := by decide +kernel
theorem st_53_25 : Sd 53 25 1 (i_ldR 0) := sd_aload_n (j := 0) dd_53_25 rfl
theorem dd_53_26 : decode (mi 53).2.1 26 = .ok (.getfield 39, 3) := by decide +kernel
theorem st_53_26 : Sd 53 26 3 (i_gR 7 [1]) := sd_gR (ref := "ContractDesk") (decl := "ContractDesk") (name := "place") (desc := "[I") dd_53_26 (by rw [mc_53]; exact tw_482) (Or.inl rfl) (by decide +kernel)
theorem dd_53_29 : decode (mi 53).2.1 29 = .ok (.invokevirtual 119, 3) := by decide +kernel
theorem st_53_29 : Sd 53 29 3 (i_cV [(3, 94)] 2 3 [(53, [17], [18])]) := sd_virt ⟨"ContractDesk$Reader", "place", "([I)I"⟩ dd_53_29 (by rw [mc_53]; exact tw_608) (fun t j h => by simp only [List.mem_cons, List.not_mem_nil, or_false, Prod.mk.injEq] at h; obtain ⟨rfl, rfl⟩ := h; exact mn_94) (fun t j h => by simp only [List.mem_cons, List.not_mem_nil, or_false, Prod.mk.injEq] at h; obtain ⟨rfl, rfl⟩ := h; exact ⟨by rw [mn_94]; exact tw_610, by rw [mn_94]; exact tw_609, mt_94, by decide, by decide⟩) (by unfold prm; decide +kernel) ml_53 (HsOk.cons (by rw [mh_53]; exact (HG.cov (nm := "java/lang/IllegalArgumentException") (by decide) rfl (by decide) (by rw [mc_53]; exact tw_568) okc_5 oknc_4 HG.nil)))
theorem dd_53_32 : decode (mi 53).2.1 32 = .ok (.istore_n 2, 1) := by decide +kernel
theorem st_53_32 : Sd 53 32 1 (i_stI 2) := sd_istore_n (j := 2) dd_53_32 rfl
theorem dd_53_33 : decode (mi 53).2.1 33 = .ok (.aload_n 0, 1) := by decide +kernel
theorem st_53_33 : Sd 53 33 1 (i_ldR 0) := sd_aload_n (j := 0) dd_53_33 rfl
theorem dd_53_34 : decode (mi 53).2.1 34 = .ok (.getfield 28, 3) := by decide +kernel
theorem st_53_34 : Sd 53 34 3 (i_gR 2 [1]) := sd_gR (ref := "ContractDesk") (decl := "ContractDesk") (name := "interactions") (desc := "Ljava/util/ArrayList;") dd_53_34 (by rw [mc_53]; exact tw_477) (Or.inl rfl) (by decide +kernel)
theorem dd_53_37 : decode (mi 53).2.1 37 = .ok (.iload_n 1, 1) := by decide +kernel
theorem st_53_37 : Sd 53 37 1 (i_ldI 1) := sd_iload_n (j := 1) dd_53_37 rfl
theorem dd_53_38 : decode (mi 53).2.1 38 = .ok (.invokevirtual 77, 3) := by decide +kernel
theorem st_53_38 : Sd 53 38 3 (i_cV [(16, 24)] 2 3 [(53, [17], [18])]) := sd_virt ⟨"java/util/ArrayList", "get", "(I)Ljava/lang/Object;"⟩ dd_53_38 (by rw [mc_53]; exact tw_547) (fun t j h => by simp only [List.mem_cons, List.not_mem_nil, or_false, Prod.mk.injEq] at h; obtain ⟨rfl, rfl⟩ := h; exact mn_24) (fun t j h => by simp only [List.mem_cons, List.not_mem_nil, or_false, Prod.mk.injEq] at h; obtain ⟨rfl, rfl⟩ := h; exact ⟨by rw [mn_24]; exact tw_549, by rw [mn_24]; exact tw_548, mt_24, by decide, by decide⟩) (by unfold prm; decide +kernel) ml_53 (HsOk.cons (by rw [mh_53]; exact (HG.cov (nm := "java/lang/IllegalArgumentException") (by decide) rfl (by decide) (by rw [mc_53]; exact tw_568) okc_5 oknc_4 HG.nil)))
theorem dd_53_41 : decode (mi 53).2.1 41 = .ok (.checkcast 61, 3) := by decide +kernel
theorem st_53_41 : Sd 53 41 3 (i_cast [4]) := sd_checkcast (nm := "ContractDesk$Interaction") dd_53_41 (by rw [mc_53]; exact tw_559) okc_6
theorem dd_53_44 : decode (mi 53).2.1 44 = .ok (.aload_n 0, 1) := by decide +kernel
theorem st_53_44 : Sd 53 44 1 (i_ldR 0) := sd_aload_n (j := 0) dd_53_44 rfl
theorem dd_53_45 : decode (mi 53).2.1 45 = .ok (.getfield 39, 3) := by decide +kernel
theorem st_53_45 : Sd 53 45 3 (i_gR 7 [1]) := sd_gR (ref := "ContractDesk") (decl := "ContractDesk") (name := "place") (desc := "[I") dd_53_45 (by rw [mc_53]; exact tw_482) (Or.inl rfl) (by decide +kernel)
theorem dd_53_48 : decode (mi 53).2.1 48 = .ok (.iload_n 2, 1) := by decide +kernel
theorem st_53_48 : Sd 53 48 1 (i_ldI 2) := sd_iload_n (j := 2) dd_53_48 rfl
theorem dd_53_49 : decode (mi 53).2.1 49 = .ok (.invokevirtual 122, 3) := by decide +kernel
theorem st_53_49 : Sd 53 49 3 (i_cV [(4, 71)] 3 3 [(53, [17], [18])]) := sd_virt ⟨"ContractDesk$Interaction", "select", "([II)I"⟩ dd_53_49 (by rw [mc_53]; exact tw_651) (fun t j h => by simp only [List.mem_cons, List.not_mem_nil, or_false, Prod.mk.injEq] at h; obtain ⟨rfl, rfl⟩ := h; exact mn_71) (fun t j h => by simp only [List.mem_cons, List.not_mem_nil, or_false, Prod.mk.injEq] at h; obtain ⟨rfl, rfl⟩ := h; exact ⟨by rw [mn_71]; exact tw_653, by rw [mn_71]; exact tw_652, mt_71, by decide, by decide⟩) (by unfold prm; decide +kernel) ml_53 (HsOk.cons (by rw [mh_53]; exact (HG.cov (nm := "java/lang/IllegalArgumentException") (by decide) rfl (by decide) (by rw [mc_53]; exact tw_568) okc_5 oknc_4 HG.nil)))
theorem dd_53_52 : decode (mi 53).2.1 52 = .ok (.ireturn, 1) := by decide +kernel
theorem st_53_52 : Sd 53 52 1 (i_rI 0) := sd_ireturn dd_53_52 (by decide) mr_53
def bk_53_21 : Tr := sq (i_ldR 0) (sq (i_gR 1 [1]) (sq (i_ldR 0) (sq (i_gR 7 [1]) (sq (i_cV [(3, 94)] 2 3 [(53, [17], [18])]) (sq (i_stI 2) (sq (i_ldR 0) (sq (i_gR 2 [1]) (sq (i_ldI 1) (sq (i_cV [(16, 24)] 2 3 [(53, [17], [18])]) (sq (i_cast [4]) (sq (i_ldR 0) (sq (i_gR 7 [1]) (sq (i_ldI 2) (sq (i_cV [(4, 71)] 3 3 [(53, [17], [18])]) (i_rI 0)))))))))))))))
theorem sb_53_21 : Sd 53 21 32 bk_53_21 := Sd.sq st_53_21 (Sd.sq st_53_22 (Sd.sq st_53_25 (Sd.sq st_53_26 (Sd.sq st_53_29 (Sd.sq st_53_32 (Sd.sq st_53_33 (Sd.sq st_53_34 (Sd.sq st_53_37 (Sd.sq st_53_38 (Sd.sq st_53_41 (Sd.sq st_53_44 (Sd.sq st_53_45 (Sd.sq st_53_48 (Sd.sq st_53_49 (st_53_52)))))))))))))))
theorem dd_53_53 : decode (mi 53).2.1 53 = .ok (.astore_n 2, 1) := by decide +kernel
theorem st_53_53 : Sd 53 53 1 (i_stR 2) := sd_astore_n (j := 2) dd_53_53 rfl
theorem dd_53_54 : decode (mi 53).2.1 54 = .ok (.iconst (-1), 1) := by decide +kernel
theorem st_53_54 : Sd 53 54 1 (i_ic (-1)) := sd_iconst dd_53_54
theorem dd_53_55 : decode (mi 53).2.1 55 = .ok (.ireturn, 1) := by decide +kernel
theorem st_53_55 : Sd 53 55 1 (i_rI 0) := sd_ireturn dd_53_55 (by decide) mr_53
def bk_53_53 : Tr := sq (i_stR 2) (sq (i_ic (-1)) (i_rI 0))
theorem sb_53_53 : Sd 53 53 3 bk_53_53 := Sd.sq st_53_53 (Sd.sq st_53_54 (st_53_55))
theorem dd_54_0 : decode (mi 54).2.1 0 = .ok (.aload_n 0, 1) := by decide +kernel
theorem st_54_0 : Sd 54 0 1 (i_ldR 0) := sd_aload_n (j := 0) dd_54_0 rfl
theorem dd_54_1 : decode (mi 54).2.1 1 = .ok (.getfield 32, 3) := by decide +kernel
theorem st_54_1 : Sd 54 1 3 (i_gR 3 [1]) := sd_gR (ref := "ContractDesk") (decl := "ContractDesk") (name := "handlers") (desc := "[I") dd_54_1 (by rw [mc_54]; exact tw_478) (Or.inl rfl) (by decide +kernel)
theorem dd_54_4 : decode (mi 54).2.1 4 = .ok (.iload_n 1, 1) := by decide +kernel
theorem st_54_4 : Sd 54 4 1 (i_ldI 1) := sd_iload_n (j := 1) dd_54_4 rfl
theorem dd_54_5 : decode (mi 54).2.1 5 = .ok (.iaload, 1) := by decide +kernel
theorem st_54_5 : Sd 54 5 1 (i_aI [20]) := sd_iaload dd_54_5 (by decide)
theorem dd_54_6 : decode (mi 54).2.1 6 = .ok (.ifCond .ne 11, 3) := by decide +kernel
theorem st_54_6 : Sd 54 6 3 (i_zne 17) := sd_if_ne dd_54_6 (by decide)
theorem dd_54_9 : decode (mi 54).2.1 9 = .ok (.new 58, 3) := by decide +kernel
theorem st_54_9 : Sd 54 9 3 (i_new 18) := sd_new dd_54_9 (by rw [mc_54]; exact tw_692) (by exact tw_91) (by exact tw_693) (by decide) (by decide)
theorem dd_54_12 : decode (mi 54).2.1 12 = .ok (.dup, 1) := by decide +kernel
theorem st_54_12 : Sd 54 12 1 (i_dup) := sd_dup dd_54_12
theorem dd_54_13 : decode (mi 54).2.1 13 = .ok (.invokespecial 60, 3) := by decide +kernel
theorem st_54_13 : Sd 54 13 3 (i_exc 18 2) := sd_exc dd_54_13 (by decide) (by rw [mc_54]; exact tw_701) ml_54
theorem dd_54_16 : decode (mi 54).2.1 16 = .ok (.athrow, 1) := by decide +kernel
theorem st_54_16 : Sd 54 16 1 (i_throw) := sd_athrow dd_54_16 (by decide +kernel)
def bk_54_0 : Tr := sq (i_ldR 0) (sq (i_gR 3 [1]) (sq (i_ldI 1) (sq (i_aI [20]) (sq (i_zne 17) (sq (i_new 18) (sq (i_dup) (sq (i_exc 18 2) (i_throw))))))))
theorem sb_54_0 : Sd 54 0 17 bk_54_0 := Sd.sq st_54_0 (Sd.sq st_54_1 (Sd.sq st_54_4 (Sd.sq st_54_5 (Sd.sq st_54_6 (Sd.sq st_54_9 (Sd.sq st_54_12 (Sd.sq st_54_13 (st_54_16))))))))
theorem dd_54_17 : decode (mi 54).2.1 17 = .ok (.aload_n 0, 1) := by decide +kernel
theorem st_54_17 : Sd 54 17 1 (i_ldR 0) := sd_aload_n (j := 0) dd_54_17 rfl
theorem dd_54_18 : decode (mi 54).2.1 18 = .ok (.getfield 32, 3) := by decide +kernel
theorem st_54_18 : Sd 54 18 3 (i_gR 3 [1]) := sd_gR (ref := "ContractDesk") (decl := "ContractDesk") (name := "handlers") (desc := "[I") dd_54_18 (by rw [mc_54]; exact tw_478) (Or.inl rfl) (by decide +kernel)
theorem dd_54_21 : decode (mi 54).2.1 21 = .ok (.iload_n 1, 1) := by decide +kernel
theorem st_54_21 : Sd 54 21 1 (i_ldI 1) := sd_iload_n (j := 1) dd_54_21 rfl
theorem dd_54_22 : decode (mi 54).2.1 22 = .ok (.iaload, 1) := by decide +kernel
theorem st_54_22 : Sd 54 22 1 (i_aI [20]) := sd_iaload dd_54_22 (by decide)
theorem dd_54_23 : decode (mi 54).2.1 23 = .ok (.iconst 2, 1) := by decide +kernel
theorem st_54_23 : Sd 54 23 1 (i_ic 2) := sd_iconst dd_54_23
theorem dd_54_24 : decode (mi 54).2.1 24 = .ok (.if_icmp .ne 11, 3) := by decide +kernel
theorem st_54_24 : Sd 54 24 3 (i_cne 35) := sd_icmp_ne dd_54_24 (by decide)
theorem dd_54_27 : decode (mi 54).2.1 27 = .ok (.new 74, 3) := by decide +kernel
theorem st_54_27 : Sd 54 27 3 (i_new 17) := sd_new dd_54_27 (by rw [mc_54]; exact tw_568) (by exact tw_82) (by exact tw_181) (by decide) (by decide)
theorem dd_54_30 : decode (mi 54).2.1 30 = .ok (.dup, 1) := by decide +kernel
theorem st_54_30 : Sd 54 30 1 (i_dup) := sd_dup dd_54_30
theorem dd_54_31 : decode (mi 54).2.1 31 = .ok (.invokespecial 76, 3) := by decide +kernel
theorem st_54_31 : Sd 54 31 3 (i_exc 17 2) := sd_exc dd_54_31 (by decide) (by rw [mc_54]; exact tw_797) ml_54
theorem dd_54_34 : decode (mi 54).2.1 34 = .ok (.athrow, 1) := by decide +kernel
theorem st_54_34 : Sd 54 34 1 (i_throw) := sd_athrow dd_54_34 (by decide +kernel)
def bk_54_17 : Tr := sq (i_ldR 0) (sq (i_gR 3 [1]) (sq (i_ldI 1) (sq (i_aI [20]) (sq (i_ic 2) (sq (i_cne 35) (sq (i_new 17) (sq (i_dup) (sq (i_exc 17 2) (i_throw)))))))))
theorem sb_54_17 : Sd 54 17 18 bk_54_17 := Sd.sq st_54_17 (Sd.sq st_54_18 (Sd.sq st_54_21 (Sd.sq st_54_22 (Sd.sq st_54_23 (Sd.sq st_54_24 (Sd.sq st_54_27 (Sd.sq st_54_30 (Sd.sq st_54_31 (st_54_34)))))))))
theorem dd_54_35 : decode (mi 54).2.1 35 = .ok (.aload_n 0, 1) := by decide +kernel
theorem st_54_35 : Sd 54 35 1 (i_ldR 0) := sd_aload_n (j := 0) dd_54_35 rfl
theorem dd_54_36 : decode (mi 54).2.1 36 = .ok (.bipush 10, 2) := by decide +kernel
theorem st_54_36 : Sd 54 36 2 (i_ic 10) := sd_bipush dd_54_36 (by decide)
theorem dd_54_38 : decode (mi 54).2.1 38 = .ok (.iload_n 1, 1) := by decide +kernel
theorem st_54_38 : Sd 54 38 1 (i_ldI 1) := sd_iload_n (j := 1) dd_54_38 rfl
theorem dd_54_39 : decode (mi 54).2.1 39 = .ok (.imul, 1) := by decide +kernel
theorem st_54_39 : Sd 54 39 1 (i_imul) := sd_imul dd_54_39
theorem dd_54_40 : decode (mi 54).2.1 40 = .ok (.invokevirtual 135, 3) := by decide +kernel
theorem st_54_40 : Sd 54 40 3 (i_cV [(1, 50)] 2 2 []) := sd_virt ⟨"ContractDesk", "note", "(I)V"⟩ dd_54_40 (by rw [mc_54]; exact tw_1139) (fun t j h => by simp only [List.mem_cons, List.not_mem_nil, or_false, Prod.mk.injEq] at h; obtain ⟨rfl, rfl⟩ := h; exact mn_50) (fun t j h => by simp only [List.mem_cons, List.not_mem_nil, or_false, Prod.mk.injEq] at h; obtain ⟨rfl, rfl⟩ := h; exact ⟨by rw [mn_50]; exact tw_19, by rw [mn_50]; exact tw_1141, mt_50, by decide, by decide⟩) (by unfold prm; decide +kernel) ml_54 (HsOk.nil (by decide +kernel))
theorem dd_54_43 : decode (mi 54).2.1 43 = .ok (.return_, 1) := by decide +kernel
theorem st_54_43 : Sd 54 43 1 (i_ret) := sd_ret dd_54_43 mr_54
def bk_54_35 : Tr := sq (i_ldR 0) (sq (i_ic 10) (sq (i_ldI 1) (sq (i_imul) (sq (i_cV [(1, 50)] 2 2 []) (i_ret)))))
theorem sb_54_35 : Sd 54 35 9 bk_54_35 := Sd.sq st_54_35 (Sd.sq st_54_36 (Sd.sq st_54_38 (Sd.sq st_54_39 (Sd.sq st_54_40 (st_54_43)))))
theorem dd_55_0 : decode (mi 55).2.1 0 = .ok (.iload_n 0, 1) := by decide +kernel
theorem st_55_0 : Sd 55 0 1 (i_ldI 0) := sd_iload_n (j := 0) dd_55_0 rfl
theorem dd_55_1 : decode (mi 55).2.1 1 = .ok (.sipush 1000, 3) := by decide +kernel
theorem st_55_1 : Sd 55 1 3 (i_ic 1000) := sd_sipush dd_55_1 (by decide)
theorem dd_55_4 : decode (mi 55).2.1 4 = .ok (.if_icmp .ge 18, 3) := by decide +kernel
theorem st_55_4 : Sd 55 4 3 (i_cge 22) := sd_icmp_ge dd_55_4 (by decide)
theorem dd_55_7 : decode (mi 55).2.1 7 = .ok (.aload_n 1, 1) := by decide +kernel
theorem st_55_7 : Sd 55 7 1 (i_ldR 1) := sd_aload_n (j := 1) dd_55_7 rfl
theorem dd_55_8 : decode (mi 55).2.1 8 = .ok (.bipush 46, 2) := by decide +kernel
theorem st_55_8 : Sd 55 8 2 (i_ic 46) := sd_bipush dd_55_8 (by decide)
theorem dd_55_10 : decode (mi 55).2.1 10 = .ok (.invokevirtual 51, 3) := by decide +kernel
theorem st_55_10 : Sd 55 10 3 (i_cV [(15, 12)] 2 3 []) := sd_virt ⟨"java/lang/StringBuilder", "append", "(C)Ljava/lang/StringBuilder;"⟩ dd_55_10 (by rw [mc_55]; exact tw_513) (fun t j h => by simp only [List.mem_cons, List.not_mem_nil, or_false, Prod.mk.injEq] at h; obtain ⟨rfl, rfl⟩ := h; exact mn_12) (fun t j h => by simp only [List.mem_cons, List.not_mem_nil, or_false, Prod.mk.injEq] at h; obtain ⟨rfl, rfl⟩ := h; exact ⟨by rw [mn_12]; exact tw_515, by rw [mn_12]; exact tw_514, mt_12, by decide, by decide⟩) (by unfold prm; decide +kernel) ml_55 (HsOk.nil (by decide +kernel))
theorem dd_55_13 : decode (mi 55).2.1 13 = .ok (.pop, 1) := by decide +kernel
theorem st_55_13 : Sd 55 13 1 (i_pop) := sd_pop dd_55_13
theorem dd_55_14 : decode (mi 55).2.1 14 = .ok (.aload_n 1, 1) := by decide +kernel
theorem st_55_14 : Sd 55 14 1 (i_ldR 1) := sd_aload_n (j := 1) dd_55_14 rfl
theorem dd_55_15 : decode (mi 55).2.1 15 = .ok (.iload_n 0, 1) := by decide +kernel
theorem st_55_15 : Sd 55 15 1 (i_ldI 0) := sd_iload_n (j := 0) dd_55_15 rfl
theorem dd_55_16 : decode (mi 55).2.1 16 = .ok (.i2c, 1) := by decide +kernel
theorem st_55_16 : Sd 55 16 1 (i_i2c) := sd_i2c dd_55_16
theorem dd_55_17 : decode (mi 55).2.1 17 = .ok (.invokevirtual 51, 3) := by decide +kernel
theorem st_55_17 : Sd 55 17 3 (i_cV [(15, 12)] 2 3 []) := sd_virt ⟨"java/lang/StringBuilder", "append", "(C)Ljava/lang/StringBuilder;"⟩ dd_55_17 (by rw [mc_55]; exact tw_513) (fun t j h => by simp only [List.mem_cons, List.not_mem_nil, or_false, Prod.mk.injEq] at h; obtain ⟨rfl, rfl⟩ := h; exact mn_12) (fun t j h => by simp only [List.mem_cons, List.not_mem_nil, or_false, Prod.mk.injEq] at h; obtain ⟨rfl, rfl⟩ := h; exact ⟨by rw [mn_12]; exact tw_515, by rw [mn_12]; exact tw_514, mt_12, by decide, by decide⟩) (by unfold prm; decide +kernel) ml_55 (HsOk.nil (by decide +kernel))
theorem dd_55_20 : decode (mi 55).2.1 20 = .ok (.pop, 1) := by decide +kernel
theorem st_55_20 : Sd 55 20 1 (i_pop) := sd_pop dd_55_20
theorem dd_55_21 : decode (mi 55).2.1 21 = .ok (.return_, 1) := by decide +kernel
theorem st_55_21 : Sd 55 21 1 (i_ret) := sd_ret dd_55_21 mr_55
def bk_55_0 : Tr := sq (i_ldI 0) (sq (i_ic 1000) (sq (i_cge 22) (sq (i_ldR 1) (sq (i_ic 46) (sq (i_cV [(15, 12)] 2 3 []) (sq (i_pop) (sq (i_ldR 1) (sq (i_ldI 0) (sq (i_i2c) (sq (i_cV [(15, 12)] 2 3 []) (sq (i_pop) (i_ret))))))))))))
theorem sb_55_0 : Sd 55 0 22 bk_55_0 := Sd.sq st_55_0 (Sd.sq st_55_1 (Sd.sq st_55_4 (Sd.sq st_55_7 (Sd.sq st_55_8 (Sd.sq st_55_10 (Sd.sq st_55_13 (Sd.sq st_55_14 (Sd.sq st_55_15 (Sd.sq st_55_16 (Sd.sq st_55_17 (Sd.sq st_55_20 (st_55_21))))))))))))
theorem dd_55_22 : decode (mi 55).2.1 22 = .ok (.iload_n 0, 1) := by decide +kernel
theorem st_55_22 : Sd 55 22 1 (i_ldI 0) := sd_iload_n (j := 0) dd_55_22 rfl
theorem dd_55_23 : decode (mi 55).2.1 23 = .ok (.sipush 1000, 3) := by decide +kernel
theorem st_55_23 : Sd 55 23 3 (i_ic 1000) := sd_sipush dd_55_23 (by decide)
theorem dd_55_26 : decode (mi 55).2.1 26 = .ok (.isub, 1) := by decide +kernel
theorem st_55_26 : Sd 55 26 1 (i_isub) := sd_isub dd_55_26
theorem dd_55_27 : decode (mi 55).2.1 27 = .ok (.istore_n 2, 1) := by decide +kernel
theorem st_55_27 : Sd 55 27 1 (i_stI 2) := sd_istore_n (j := 2) dd_55_27 rfl
theorem dd_55_28 : decode (mi 55).2.1 28 = .ok (.aload_n 1, 1) := by decide +kernel
theorem st_55_28 : Sd 55 28 1 (i_ldR 1) := sd_aload_n (j := 1) dd_55_28 rfl
theorem dd_55_29 : decode (mi 55).2.1 29 = .ok (.bipush 91, 2) := by decide +kernel
theorem st_55_29 : Sd 55 29 2 (i_ic 91) := sd_bipush dd_55_29 (by decide)
theorem dd_55_31 : decode (mi 55).2.1 31 = .ok (.invokevirtual 51, 3) := by decide +kernel
theorem st_55_31 : Sd 55 31 3 (i_cV [(15, 12)] 2 3 []) := sd_virt ⟨"java/lang/StringBuilder", "append", "(C)Ljava/lang/StringBuilder;"⟩ dd_55_31 (by rw [mc_55]; exact tw_513) (fun t j h => by simp only [List.mem_cons, List.not_mem_nil, or_false, Prod.mk.injEq] at h; obtain ⟨rfl, rfl⟩ := h; exact mn_12) (fun t j h => by simp only [List.mem_cons, List.not_mem_nil, or_false, Prod.mk.injEq] at h; obtain ⟨rfl, rfl⟩ := h; exact ⟨by rw [mn_12]; exact tw_515, by rw [mn_12]; exact tw_514, mt_12, by decide, by decide⟩) (by unfold prm; decide +kernel) ml_55 (HsOk.nil (by decide +kernel))
theorem dd_55_34 : decode (mi 55).2.1 34 = .ok (.pop, 1) := by decide +kernel
theorem st_55_34 : Sd 55 34 1 (i_pop) := sd_pop dd_55_34
theorem dd_55_35 : decode (mi 55).2.1 35 = .ok (.iload_n 2, 1) := by decide +kernel
theorem st_55_35 : Sd 55 35 1 (i_ldI 2) := sd_iload_n (j := 2) dd_55_35 rfl
theorem dd_55_36 : decode (mi 55).2.1 36 = .ok (.bipush 10, 2) := by decide +kernel
theorem st_55_36 : Sd 55 36 2 (i_ic 10) := sd_bipush dd_55_36 (by decide)
theorem dd_55_38 : decode (mi 55).2.1 38 = .ok (.if_icmp .lt 16, 3) := by decide +kernel
theorem st_55_38 : Sd 55 38 3 (i_clt 54) := sd_icmp_lt dd_55_38 (by decide)
theorem dd_55_41 : decode (mi 55).2.1 41 = .ok (.aload_n 1, 1) := by decide +kernel
theorem st_55_41 : Sd 55 41 1 (i_ldR 1) := sd_aload_n (j := 1) dd_55_41 rfl
theorem dd_55_42 : decode (mi 55).2.1 42 = .ok (.bipush 48, 2) := by decide +kernel
theorem st_55_42 : Sd 55 42 2 (i_ic 48) := sd_bipush dd_55_42 (by decide)
theorem dd_55_44 : decode (mi 55).2.1 44 = .ok (.iload_n 2, 1) := by decide +kernel
theorem st_55_44 : Sd 55 44 1 (i_ldI 2) := sd_iload_n (j := 2) dd_55_44 rfl
theorem dd_55_45 : decode (mi 55).2.1 45 = .ok (.bipush 10, 2) := by decide +kernel
theorem st_55_45 : Sd 55 45 2 (i_ic 10) := sd_bipush dd_55_45 (by decide)
theorem dd_55_47 : decode (mi 55).2.1 47 = .ok (.idiv, 1) := by decide +kernel
theorem st_55_47 : Sd 55 47 1 (i_idiv) := sd_idiv dd_55_47
theorem dd_55_48 : decode (mi 55).2.1 48 = .ok (.iadd, 1) := by decide +kernel
theorem st_55_48 : Sd 55 48 1 (i_iadd) := sd_iadd dd_55_48
theorem dd_55_49 : decode (mi 55).2.1 49 = .ok (.i2c, 1) := by decide +kernel
theorem st_55_49 : Sd 55 49 1 (i_i2c) := sd_i2c dd_55_49
theorem dd_55_50 : decode (mi 55).2.1 50 = .ok (.invokevirtual 51, 3) := by decide +kernel
theorem st_55_50 : Sd 55 50 3 (i_cV [(15, 12)] 2 3 []) := sd_virt ⟨"java/lang/StringBuilder", "append", "(C)Ljava/lang/StringBuilder;"⟩ dd_55_50 (by rw [mc_55]; exact tw_513) (fun t j h => by simp only [List.mem_cons, List.not_mem_nil, or_false, Prod.mk.injEq] at h; obtain ⟨rfl, rfl⟩ := h; exact mn_12) (fun t j h => by simp only [List.mem_cons, List.not_mem_nil, or_false, Prod.mk.injEq] at h; obtain ⟨rfl, rfl⟩ := h; exact ⟨by rw [mn_12]; exact tw_515, by rw [mn_12]; exact tw_514, mt_12, by decide, by decide⟩) (by unfold prm; decide +kernel) ml_55 (HsOk.nil (by decide +kernel))
theorem dd_55_53 : decode (mi 55).2.1 53 = .ok (.pop, 1) := by decide +kernel
theorem st_55_53 : Sd 55 53 1 (i_pop) := sd_pop dd_55_53
def bk_55_22 : Tr := sq (i_ldI 0) (sq (i_ic 1000) (sq (i_isub) (sq (i_stI 2) (sq (i_ldR 1) (sq (i_ic 91) (sq (i_cV [(15, 12)] 2 3 []) (sq (i_pop) (sq (i_ldI 2) (sq (i_ic 10) (sq (i_clt 54) (sq (i_ldR 1) (sq (i_ic 48) (sq (i_ldI 2) (sq (i_ic 10) (sq (i_idiv) (sq (i_iadd) (sq (i_i2c) (sq (i_cV [(15, 12)] 2 3 []) (sq (i_pop) (i_fall 54))))))))))))))))))))
theorem sb_55_22 : Sd 55 22 32 bk_55_22 := Sd.sq st_55_22 (Sd.sq st_55_23 (Sd.sq st_55_26 (Sd.sq st_55_27 (Sd.sq st_55_28 (Sd.sq st_55_29 (Sd.sq st_55_31 (Sd.sq st_55_34 (Sd.sq st_55_35 (Sd.sq st_55_36 (Sd.sq st_55_38 (Sd.sq st_55_41 (Sd.sq st_55_42 (Sd.sq st_55_44 (Sd.sq st_55_45 (Sd.sq st_55_47 (Sd.sq st_55_48 (Sd.sq st_55_49 (Sd.sq st_55_50 (Sd.sq st_55_53 (sd_fall rfl))))))))))))))))))))
theorem dd_55_54 : decode (mi 55).2.1 54 = .ok (.aload_n 1, 1) := by decide +kernel
theorem st_55_54 : Sd 55 54 1 (i_ldR 1) := sd_aload_n (j := 1) dd_55_54 rfl
theorem dd_55_55 : decode (mi 55).2.1 55 = .ok (.bipush 48, 2) := by decide +kernel
theorem st_55_55 : Sd 55 55 2 (i_ic 48) := sd_bipush dd_55_55 (by decide)
theorem dd_55_57 : decode (mi 55).2.1 57 = .ok (.iload_n 2, 1) := by decide +kernel
theorem st_55_57 : Sd 55 57 1 (i_ldI 2) := sd_iload_n (j := 2) dd_55_57 rfl
theorem dd_55_58 : decode (mi 55).2.1 58 = .ok (.bipush 10, 2) := by decide +kernel
theorem st_55_58 : Sd 55 58 2 (i_ic 10) := sd_bipush dd_55_58 (by decide)
theorem dd_55_60 : decode (mi 55).2.1 60 = .ok (.irem, 1) := by decide +kernel
theorem st_55_60 : Sd 55 60 1 (i_irem) := sd_irem dd_55_60
theorem dd_55_61 : decode (mi 55).2.1 61 = .ok (.iadd, 1) := by decide +kernel
theorem st_55_61 : Sd 55 61 1 (i_iadd) := sd_iadd dd_55_61
theorem dd_55_62 : decode (mi 55).2.1 62 = .ok (.i2c, 1) := by decide +kernel
theorem st_55_62 : Sd 55 62 1 (i_i2c) := sd_i2c dd_55_62
theorem dd_55_63 : decode (mi 55).2.1 63 = .ok (.invokevirtual 51, 3) := by decide +kernel
theorem st_55_63 : Sd 55 63 3 (i_cV [(15, 12)] 2 3 []) := sd_virt ⟨"java/lang/StringBuilder", "append", "(C)Ljava/lang/StringBuilder;"⟩ dd_55_63 (by rw [mc_55]; exact tw_513) (fun t j h => by simp only [List.mem_cons, List.not_mem_nil, or_false, Prod.mk.injEq] at h; obtain ⟨rfl, rfl⟩ := h; exact mn_12) (fun t j h => by simp only [List.mem_cons, List.not_mem_nil, or_false, Prod.mk.injEq] at h; obtain ⟨rfl, rfl⟩ := h; exact ⟨by rw [mn_12]; exact tw_515, by rw [mn_12]; exact tw_514, mt_12, by decide, by decide⟩) (by unfold prm; decide +kernel) ml_55 (HsOk.nil (by decide +kernel))
theorem dd_55_66 : decode (mi 55).2.1 66 = .ok (.pop, 1) := by decide +kernel
theorem st_55_66 : Sd 55 66 1 (i_pop) := sd_pop dd_55_66
theorem dd_55_67 : decode (mi 55).2.1 67 = .ok (.aload_n 1, 1) := by decide +kernel
theorem st_55_67 : Sd 55 67 1 (i_ldR 1) := sd_aload_n (j := 1) dd_55_67 rfl
theorem dd_55_68 : decode (mi 55).2.1 68 = .ok (.bipush 93, 2) := by decide +kernel
theorem st_55_68 : Sd 55 68 2 (i_ic 93) := sd_bipush dd_55_68 (by decide)
theorem dd_55_70 : decode (mi 55).2.1 70 = .ok (.invokevirtual 51, 3) := by decide +kernel
theorem st_55_70 : Sd 55 70 3 (i_cV [(15, 12)] 2 3 []) := sd_virt ⟨"java/lang/StringBuilder", "append", "(C)Ljava/lang/StringBuilder;"⟩ dd_55_70 (by rw [mc_55]; exact tw_513) (fun t j h => by simp only [List.mem_cons, List.not_mem_nil, or_false, Prod.mk.injEq] at h; obtain ⟨rfl, rfl⟩ := h; exact mn_12) (fun t j h => by simp only [List.mem_cons, List.not_mem_nil, or_false, Prod.mk.injEq] at h; obtain ⟨rfl, rfl⟩ := h; exact ⟨by rw [mn_12]; exact tw_515, by rw [mn_12]; exact tw_514, mt_12, by decide, by decide⟩) (by unfold prm; decide +kernel) ml_55 (HsOk.nil (by decide +kernel))
theorem dd_55_73 : decode (mi 55).2.1 73 = .ok (.pop, 1) := by decide +kernel
theorem st_55_73 : Sd 55 73 1 (i_pop) := sd_pop dd_55_73
theorem dd_55_74 : decode (mi 55).2.1 74 = .ok (.return_, 1) := by decide +kernel
theorem st_55_74 : Sd 55 74 1 (i_ret) := sd_ret dd_55_74 mr_55
def bk_55_54 : Tr := sq (i_ldR 1) (sq (i_ic 48) (sq (i_ldI 2) (sq (i_ic 10) (sq (i_irem) (sq (i_iadd) (sq (i_i2c) (sq (i_cV [(15, 12)] 2 3 []) (sq (i_pop) (sq (i_ldR 1) (sq (i_ic 93) (sq (i_cV [(15, 12)] 2 3 []) (sq (i_pop) (i_ret)))))))))))))
theorem sb_55_54 : Sd 55 54 21 bk_55_54 := Sd.sq st_55_54 (Sd.sq st_55_55 (Sd.sq st_55_57 (Sd.sq st_55_58 (Sd.sq st_55_60 (Sd.sq st_55_61 (Sd.sq st_55_62 (Sd.sq st_55_63 (Sd.sq st_55_66 (Sd.sq st_55_67 (Sd.sq st_55_68 (Sd.sq st_55_70 (Sd.sq st_55_73 (st_55_74)))))))))))))
theorem dd_56_0 : decode (mi 56).2.1 0 = .ok (.aload_n 0, 1) := by decide +kernel
theorem st_56_0 : Sd 56 0 1 (i_ldR 0) := sd_aload_n (j := 0) dd_56_0 rfl
theorem dd_56_1 : decode (mi 56).2.1 1 = .ok (.getfield 32, 3) := by decide +kernel
theorem st_56_1 : Sd 56 1 3 (i_gR 3 [1]) := sd_gR (ref := "ContractDesk") (decl := "ContractDesk") (name := "handlers") (desc := "[I") dd_56_1 (by rw [mc_56]; exact tw_478) (Or.inl rfl) (by decide +kernel)
theorem dd_56_4 : decode (mi 56).2.1 4 = .ok (.iload_n 1, 1) := by decide +kernel
theorem st_56_4 : Sd 56 4 1 (i_ldI 1) := sd_iload_n (j := 1) dd_56_4 rfl
theorem dd_56_5 : decode (mi 56).2.1 5 = .ok (.iaload, 1) := by decide +kernel
theorem st_56_5 : Sd 56 5 1 (i_aI [20]) := sd_iaload dd_56_5 (by decide)
theorem dd_56_6 : decode (mi 56).2.1 6 = .ok (.iconst 3, 1) := by decide +kernel
theorem st_56_6 : Sd 56 6 1 (i_ic 3) := sd_iconst dd_56_6
theorem dd_56_7 : decode (mi 56).2.1 7 = .ok (.if_icmp .ne 11, 3) := by decide +kernel
theorem st_56_7 : Sd 56 7 3 (i_cne 18) := sd_icmp_ne dd_56_7 (by decide)
theorem dd_56_10 : decode (mi 56).2.1 10 = .ok (.new 58, 3) := by decide +kernel
theorem st_56_10 : Sd 56 10 3 (i_new 18) := sd_new dd_56_10 (by rw [mc_56]; exact tw_692) (by exact tw_91) (by exact tw_693) (by decide) (by decide)
theorem dd_56_13 : decode (mi 56).2.1 13 = .ok (.dup, 1) := by decide +kernel
theorem st_56_13 : Sd 56 13 1 (i_dup) := sd_dup dd_56_13
theorem dd_56_14 : decode (mi 56).2.1 14 = .ok (.invokespecial 60, 3) := by decide +kernel
theorem st_56_14 : Sd 56 14 3 (i_exc 18 2) := sd_exc dd_56_14 (by decide) (by rw [mc_56]; exact tw_701) ml_56
theorem dd_56_17 : decode (mi 56).2.1 17 = .ok (.athrow, 1) := by decide +kernel
theorem st_56_17 : Sd 56 17 1 (i_throw) := sd_athrow dd_56_17 (by decide +kernel)
def bk_56_0 : Tr := sq (i_ldR 0) (sq (i_gR 3 [1]) (sq (i_ldI 1) (sq (i_aI [20]) (sq (i_ic 3) (sq (i_cne 18) (sq (i_new 18) (sq (i_dup) (sq (i_exc 18 2) (i_throw)))))))))
theorem sb_56_0 : Sd 56 0 18 bk_56_0 := Sd.sq st_56_0 (Sd.sq st_56_1 (Sd.sq st_56_4 (Sd.sq st_56_5 (Sd.sq st_56_6 (Sd.sq st_56_7 (Sd.sq st_56_10 (Sd.sq st_56_13 (Sd.sq st_56_14 (st_56_17)))))))))
theorem dd_56_18 : decode (mi 56).2.1 18 = .ok (.aload_n 0, 1) := by decide +kernel
theorem st_56_18 : Sd 56 18 1 (i_ldR 0) := sd_aload_n (j := 0) dd_56_18 rfl
theorem dd_56_19 : decode (mi 56).2.1 19 = .ok (.bipush 10, 2) := by decide +kernel
theorem st_56_19 : Sd 56 19 2 (i_ic 10) := sd_bipush dd_56_19 (by decide)
theorem dd_56_21 : decode (mi 56).2.1 21 = .ok (.iload_n 1, 1) := by decide +kernel
theorem st_56_21 : Sd 56 21 1 (i_ldI 1) := sd_iload_n (j := 1) dd_56_21 rfl
theorem dd_56_22 : decode (mi 56).2.1 22 = .ok (.imul, 1) := by decide +kernel
theorem st_56_22 : Sd 56 22 1 (i_imul) := sd_imul dd_56_22
theorem dd_56_23 : decode (mi 56).2.1 23 = .ok (.iconst 1, 1) := by decide +kernel
theorem st_56_23 : Sd 56 23 1 (i_ic 1) := sd_iconst dd_56_23
theorem dd_56_24 : decode (mi 56).2.1 24 = .ok (.iadd, 1) := by decide +kernel
theorem st_56_24 : Sd 56 24 1 (i_iadd) := sd_iadd dd_56_24
theorem dd_56_25 : decode (mi 56).2.1 25 = .ok (.invokevirtual 135, 3) := by decide +kernel
theorem st_56_25 : Sd 56 25 3 (i_cV [(1, 50)] 2 2 []) := sd_virt ⟨"ContractDesk", "note", "(I)V"⟩ dd_56_25 (by rw [mc_56]; exact tw_1139) (fun t j h => by simp only [List.mem_cons, List.not_mem_nil, or_false, Prod.mk.injEq] at h; obtain ⟨rfl, rfl⟩ := h; exact mn_50) (fun t j h => by simp only [List.mem_cons, List.not_mem_nil, or_false, Prod.mk.injEq] at h; obtain ⟨rfl, rfl⟩ := h; exact ⟨by rw [mn_50]; exact tw_19, by rw [mn_50]; exact tw_1141, mt_50, by decide, by decide⟩) (by unfold prm; decide +kernel) ml_56 (HsOk.nil (by decide +kernel))
theorem dd_56_28 : decode (mi 56).2.1 28 = .ok (.return_, 1) := by decide +kernel
theorem st_56_28 : Sd 56 28 1 (i_ret) := sd_ret dd_56_28 mr_56
def bk_56_18 : Tr := sq (i_ldR 0) (sq (i_ic 10) (sq (i_ldI 1) (sq (i_imul) (sq (i_ic 1) (sq (i_iadd) (sq (i_cV [(1, 50)] 2 2 []) (i_ret)))))))
theorem sb_56_18 : Sd 56 18 11 bk_56_18 := Sd.sq st_56_18 (Sd.sq st_56_19 (Sd.sq st_56_21 (Sd.sq st_56_22 (Sd.sq st_56_23 (Sd.sq st_56_24 (Sd.sq st_56_25 (st_56_28)))))))
theorem dd_57_0 : decode (mi 57).2.1 0 = .ok (.aload_n 0, 1) := by decide +kernel
theorem st_57_0 : Sd 57 0 1 (i_ldR 0) := sd_aload_n (j := 0) dd_57_0 rfl
theorem dd_57_1 : decode (mi 57).2.1 1 = .ok (.getfield 21, 3) := by decide +kernel
theorem st_57_1 : Sd 57 1 3 (i_gR 1 [1]) := sd_gR (ref := "ContractDesk") (decl := "ContractDesk") (name := "reader") (desc := "LContractDesk$Reader;") dd_57_1 (by rw [mc_57]; exact tw_476) (Or.inl rfl) (by decide +kernel)
theorem dd_57_4 : decode (mi 57).2.1 4 = .ok (.aload_n 0, 1) := by decide +kernel
theorem st_57_4 : Sd 57 4 1 (i_ldR 0) := sd_aload_n (j := 0) dd_57_4 rfl
theorem dd_57_5 : decode (mi 57).2.1 5 = .ok (.getfield 14, 3) := by decide +kernel
theorem st_57_5 : Sd 57 5 3 (i_gR 0 [1]) := sd_gR (ref := "ContractDesk") (decl := "ContractDesk") (name := "text") (desc := "Ljava/lang/StringBuilder;") dd_57_5 (by rw [mc_57]; exact tw_475) (Or.inl rfl) (by decide +kernel)
theorem dd_57_8 : decode (mi 57).2.1 8 = .ok (.invokevirtual 81, 3) := by decide +kernel
theorem st_57_8 : Sd 57 8 3 (i_cV [(3, 97)] 2 4 []) := sd_virt ⟨"ContractDesk$Reader", "take", "(Ljava/lang/StringBuilder;)V"⟩ dd_57_8 (by rw [mc_57]; exact tw_569) (fun t j h => by simp only [List.mem_cons, List.not_mem_nil, or_false, Prod.mk.injEq] at h; obtain ⟨rfl, rfl⟩ := h; exact mn_97) (fun t j h => by simp only [List.mem_cons, List.not_mem_nil, or_false, Prod.mk.injEq] at h; obtain ⟨rfl, rfl⟩ := h; exact ⟨by rw [mn_97]; exact tw_571, by rw [mn_97]; exact tw_570, mt_97, by decide, by decide⟩) (by unfold prm; decide +kernel) ml_57 (HsOk.nil (by decide +kernel))
theorem dd_57_11 : decode (mi 57).2.1 11 = .ok (.aload_n 0, 1) := by decide +kernel
theorem st_57_11 : Sd 57 11 1 (i_ldR 0) := sd_aload_n (j := 0) dd_57_11 rfl
theorem dd_57_12 : decode (mi 57).2.1 12 = .ok (.iload_n 1, 1) := by decide +kernel
theorem st_57_12 : Sd 57 12 1 (i_ldI 1) := sd_iload_n (j := 1) dd_57_12 rfl
theorem dd_57_13 : decode (mi 57).2.1 13 = .ok (.invokevirtual 85, 3) := by decide +kernel
theorem st_57_13 : Sd 57 13 3 (i_cV [(1, 40)] 2 4 []) := sd_virt ⟨"ContractDesk", "get", "(I)LContractDesk$Interaction;"⟩ dd_57_13 (by rw [mc_57]; exact tw_793) (fun t j h => by simp only [List.mem_cons, List.not_mem_nil, or_false, Prod.mk.injEq] at h; obtain ⟨rfl, rfl⟩ := h; exact mn_40) (fun t j h => by simp only [List.mem_cons, List.not_mem_nil, or_false, Prod.mk.injEq] at h; obtain ⟨rfl, rfl⟩ := h; exact ⟨by rw [mn_40]; exact tw_6, by rw [mn_40]; exact tw_795, mt_40, by decide, by decide⟩) (by unfold prm; decide +kernel) ml_57 (HsOk.nil (by decide +kernel))
theorem dd_57_16 : decode (mi 57).2.1 16 = .ok (.astore_n 2, 1) := by decide +kernel
theorem st_57_16 : Sd 57 16 1 (i_stR 2) := sd_astore_n (j := 2) dd_57_16 rfl
theorem dd_57_17 : decode (mi 57).2.1 17 = .ok (.aload_n 0, 1) := by decide +kernel
theorem st_57_17 : Sd 57 17 1 (i_ldR 0) := sd_aload_n (j := 0) dd_57_17 rfl
theorem dd_57_18 : decode (mi 57).2.1 18 = .ok (.getfield 21, 3) := by decide +kernel
theorem st_57_18 : Sd 57 18 3 (i_gR 1 [1]) := sd_gR (ref := "ContractDesk") (decl := "ContractDesk") (name := "reader") (desc := "LContractDesk$Reader;") dd_57_18 (by rw [mc_57]; exact tw_476) (Or.inl rfl) (by decide +kernel)
theorem dd_57_21 : decode (mi 57).2.1 21 = .ok (.invokevirtual 88, 3) := by decide +kernel
theorem st_57_21 : Sd 57 21 3 (i_cV [(3, 101)] 1 4 []) := sd_virt ⟨"ContractDesk$Reader", "whole", "()LContractDesk$Value;"⟩ dd_57_21 (by rw [mc_57]; exact tw_798) (fun t j h => by simp only [List.mem_cons, List.not_mem_nil, or_false, Prod.mk.injEq] at h; obtain ⟨rfl, rfl⟩ := h; exact mn_101) (fun t j h => by simp only [List.mem_cons, List.not_mem_nil, or_false, Prod.mk.injEq] at h; obtain ⟨rfl, rfl⟩ := h; exact ⟨by rw [mn_101]; exact tw_800, by rw [mn_101]; exact tw_799, mt_101, by decide, by decide⟩) (by unfold prm; decide +kernel) ml_57 (HsOk.nil (by decide +kernel))
theorem dd_57_24 : decode (mi 57).2.1 24 = .ok (.astore_n 3, 1) := by decide +kernel
theorem st_57_24 : Sd 57 24 1 (i_stR 3) := sd_astore_n (j := 3) dd_57_24 rfl
theorem dd_57_25 : decode (mi 57).2.1 25 = .ok (.aload_n 2, 1) := by decide +kernel
theorem st_57_25 : Sd 57 25 1 (i_ldR 2) := sd_aload_n (j := 2) dd_57_25 rfl
theorem dd_57_26 : decode (mi 57).2.1 26 = .ok (.getfield 92, 3) := by decide +kernel
theorem st_57_26 : Sd 57 26 3 (i_gR 3 [4]) := sd_gR (ref := "ContractDesk$Interaction") (decl := "ContractDesk$Interaction") (name := "body") (desc := "LContractDesk$Value;") dd_57_26 (by rw [mc_57]; exact tw_720) (Or.inl rfl) (by decide +kernel)
theorem dd_57_29 : decode (mi 57).2.1 29 = .ok (.ifnonnull 11, 3) := by decide +kernel
theorem st_57_29 : Sd 57 29 3 (i_nol 40) := sd_ifnonnull dd_57_29 (by decide)
theorem dd_57_32 : decode (mi 57).2.1 32 = .ok (.new 58, 3) := by decide +kernel
theorem st_57_32 : Sd 57 32 3 (i_new 18) := sd_new dd_57_32 (by rw [mc_57]; exact tw_692) (by exact tw_91) (by exact tw_693) (by decide) (by decide)
theorem dd_57_35 : decode (mi 57).2.1 35 = .ok (.dup, 1) := by decide +kernel
theorem st_57_35 : Sd 57 35 1 (i_dup) := sd_dup dd_57_35
theorem dd_57_36 : decode (mi 57).2.1 36 = .ok (.invokespecial 60, 3) := by decide +kernel
theorem st_57_36 : Sd 57 36 3 (i_exc 18 4) := sd_exc dd_57_36 (by decide) (by rw [mc_57]; exact tw_701) ml_57
theorem dd_57_39 : decode (mi 57).2.1 39 = .ok (.athrow, 1) := by decide +kernel
theorem st_57_39 : Sd 57 39 1 (i_throw) := sd_athrow dd_57_39 (by decide +kernel)
def bk_57_0 : Tr := sq (i_ldR 0) (sq (i_gR 1 [1]) (sq (i_ldR 0) (sq (i_gR 0 [1]) (sq (i_cV [(3, 97)] 2 4 []) (sq (i_ldR 0) (sq (i_ldI 1) (sq (i_cV [(1, 40)] 2 4 []) (sq (i_stR 2) (sq (i_ldR 0) (sq (i_gR 1 [1]) (sq (i_cV [(3, 101)] 1 4 []) (sq (i_stR 3) (sq (i_ldR 2) (sq (i_gR 3 [4]) (sq (i_nol 40) (sq (i_new 18) (sq (i_dup) (sq (i_exc 18 4) (i_throw)))))))))))))))))))
theorem sb_57_0 : Sd 57 0 40 bk_57_0 := Sd.sq st_57_0 (Sd.sq st_57_1 (Sd.sq st_57_4 (Sd.sq st_57_5 (Sd.sq st_57_8 (Sd.sq st_57_11 (Sd.sq st_57_12 (Sd.sq st_57_13 (Sd.sq st_57_16 (Sd.sq st_57_17 (Sd.sq st_57_18 (Sd.sq st_57_21 (Sd.sq st_57_24 (Sd.sq st_57_25 (Sd.sq st_57_26 (Sd.sq st_57_29 (Sd.sq st_57_32 (Sd.sq st_57_35 (Sd.sq st_57_36 (st_57_39)))))))))))))))))))
theorem dd_57_40 : decode (mi 57).2.1 40 = .ok (.aload_n 0, 1) := by decide +kernel
theorem st_57_40 : Sd 57 40 1 (i_ldR 0) := sd_aload_n (j := 0) dd_57_40 rfl
theorem dd_57_41 : decode (mi 57).2.1 41 = .ok (.aload_n 2, 1) := by decide +kernel
theorem st_57_41 : Sd 57 41 1 (i_ldR 2) := sd_aload_n (j := 2) dd_57_41 rfl
theorem dd_57_42 : decode (mi 57).2.1 42 = .ok (.invokevirtual 148, 3) := by decide +kernel
theorem st_57_42 : Sd 57 42 3 (i_cV [(1, 51)] 2 4 []) := sd_virt ⟨"ContractDesk", "prepare", "(LContractDesk$Interaction;)Z"⟩ dd_57_42 (by rw [mc_57]; exact tw_1131) (fun t j h => by simp only [List.mem_cons, List.not_mem_nil, or_false, Prod.mk.injEq] at h; obtain ⟨rfl, rfl⟩ := h; exact mn_51) (fun t j h => by simp only [List.mem_cons, List.not_mem_nil, or_false, Prod.mk.injEq] at h; obtain ⟨rfl, rfl⟩ := h; exact ⟨by rw [mn_51]; exact tw_17, by rw [mn_51]; exact tw_1133, mt_51, by decide, by decide⟩) (by unfold prm; decide +kernel) ml_57 (HsOk.nil (by decide +kernel))
theorem dd_57_45 : decode (mi 57).2.1 45 = .ok (.ifCond .ne 6, 3) := by decide +kernel
theorem st_57_45 : Sd 57 45 3 (i_zne 51) := sd_if_ne dd_57_45 (by decide)
theorem dd_57_48 : decode (mi 57).2.1 48 = .ok (.bipush (-3), 2) := by decide +kernel
theorem st_57_48 : Sd 57 48 2 (i_ic (-3)) := sd_bipush dd_57_48 (by decide)
theorem dd_57_50 : decode (mi 57).2.1 50 = .ok (.ireturn, 1) := by decide +kernel
theorem st_57_50 : Sd 57 50 1 (i_rI 0) := sd_ireturn dd_57_50 (by decide) mr_57
def bk_57_40 : Tr := sq (i_ldR 0) (sq (i_ldR 2) (sq (i_cV [(1, 51)] 2 4 []) (sq (i_zne 51) (sq (i_ic (-3)) (i_rI 0)))))
theorem sb_57_40 : Sd 57 40 11 bk_57_40 := Sd.sq st_57_40 (Sd.sq st_57_41 (Sd.sq st_57_42 (Sd.sq st_57_45 (Sd.sq st_57_48 (st_57_50)))))
theorem dd_57_51 : decode (mi 57).2.1 51 = .ok (.aload_n 0, 1) := by decide +kernel
theorem st_57_51 : Sd 57 51 1 (i_ldR 0) := sd_aload_n (j := 0) dd_57_51 rfl
theorem dd_57_52 : decode (mi 57).2.1 52 = .ok (.iconst 0, 1) := by decide +kernel
theorem st_57_52 : Sd 57 52 1 (i_ic 0) := sd_iconst dd_57_52
theorem dd_57_53 : decode (mi 57).2.1 53 = .ok (.putfield 152, 3) := by decide +kernel
theorem st_57_53 : Sd 57 53 3 (i_pI 5 [1] 0) := sd_pI (ref := "ContractDesk") (decl := "ContractDesk") (name := "listed") (desc := "I") dd_57_53 (by rw [mc_57]; exact tw_480) (Or.inl rfl) (by decide +kernel) (by decide +kernel) (by decide)
theorem dd_57_56 : decode (mi 57).2.1 56 = .ok (.aload_n 0, 1) := by decide +kernel
theorem st_57_56 : Sd 57 56 1 (i_ldR 0) := sd_aload_n (j := 0) dd_57_56 rfl
theorem dd_57_57 : decode (mi 57).2.1 57 = .ok (.iconst 0, 1) := by decide +kernel
theorem st_57_57 : Sd 57 57 1 (i_ic 0) := sd_iconst dd_57_57
theorem dd_57_58 : decode (mi 57).2.1 58 = .ok (.putfield 155, 3) := by decide +kernel
theorem st_57_58 : Sd 57 58 3 (i_pI 6 [1] 0) := sd_pI (ref := "ContractDesk") (decl := "ContractDesk") (name := "found") (desc := "I") dd_57_58 (by rw [mc_57]; exact tw_481) (Or.inl rfl) (by decide +kernel) (by decide +kernel) (by decide)
theorem dd_57_61 : decode (mi 57).2.1 61 = .ok (.aload_n 0, 1) := by decide +kernel
theorem st_57_61 : Sd 57 61 1 (i_ldR 0) := sd_aload_n (j := 0) dd_57_61 rfl
theorem dd_57_62 : decode (mi 57).2.1 62 = .ok (.aload_n 2, 1) := by decide +kernel
theorem st_57_62 : Sd 57 62 1 (i_ldR 2) := sd_aload_n (j := 2) dd_57_62 rfl
theorem dd_57_63 : decode (mi 57).2.1 63 = .ok (.aload_n 2, 1) := by decide +kernel
theorem st_57_63 : Sd 57 63 1 (i_ldR 2) := sd_aload_n (j := 2) dd_57_63 rfl
theorem dd_57_64 : decode (mi 57).2.1 64 = .ok (.getfield 92, 3) := by decide +kernel
theorem st_57_64 : Sd 57 64 3 (i_gR 3 [4]) := sd_gR (ref := "ContractDesk$Interaction") (decl := "ContractDesk$Interaction") (name := "body") (desc := "LContractDesk$Value;") dd_57_64 (by rw [mc_57]; exact tw_720) (Or.inl rfl) (by decide +kernel)
theorem dd_57_67 : decode (mi 57).2.1 67 = .ok (.aload_n 3, 1) := by decide +kernel
theorem st_57_67 : Sd 57 67 1 (i_ldR 3) := sd_aload_n (j := 3) dd_57_67 rfl
theorem dd_57_68 : decode (mi 57).2.1 68 = .ok (.iconst 0, 1) := by decide +kernel
theorem st_57_68 : Sd 57 68 1 (i_ic 0) := sd_iconst dd_57_68
theorem dd_57_69 : decode (mi 57).2.1 69 = .ok (.invokevirtual 158, 3) := by decide +kernel
theorem st_57_69 : Sd 57 69 3 (i_cV [(1, 37)] 5 4 []) := sd_virt ⟨"ContractDesk", "compare", "(LContractDesk$Interaction;LContractDesk$Value;LContractDesk$Value;I)V"⟩ dd_57_69 (by rw [mc_57]; exact tw_1152) (fun t j h => by simp only [List.mem_cons, List.not_mem_nil, or_false, Prod.mk.injEq] at h; obtain ⟨rfl, rfl⟩ := h; exact mn_37) (fun t j h => by simp only [List.mem_cons, List.not_mem_nil, or_false, Prod.mk.injEq] at h; obtain ⟨rfl, rfl⟩ := h; exact ⟨by rw [mn_37]; exact tw_22, by rw [mn_37]; exact tw_1154, mt_37, by decide, by decide⟩) (by unfold prm; decide +kernel) ml_57 (HsOk.nil (by decide +kernel))
theorem dd_57_72 : decode (mi 57).2.1 72 = .ok (.aload_n 0, 1) := by decide +kernel
theorem st_57_72 : Sd 57 72 1 (i_ldR 0) := sd_aload_n (j := 0) dd_57_72 rfl
theorem dd_57_73 : decode (mi 57).2.1 73 = .ok (.aload_n 2, 1) := by decide +kernel
theorem st_57_73 : Sd 57 73 1 (i_ldR 2) := sd_aload_n (j := 2) dd_57_73 rfl
theorem dd_57_74 : decode (mi 57).2.1 74 = .ok (.aload_n 2, 1) := by decide +kernel
theorem st_57_74 : Sd 57 74 1 (i_ldR 2) := sd_aload_n (j := 2) dd_57_74 rfl
theorem dd_57_75 : decode (mi 57).2.1 75 = .ok (.getfield 112, 3) := by decide +kernel
theorem st_57_75 : Sd 57 75 3 (i_gI 4 [4]) := sd_gI (ref := "ContractDesk$Interaction") (decl := "ContractDesk$Interaction") (name := "needs") (desc := "I") dd_57_75 (by rw [mc_57]; exact tw_721) (Or.inl rfl) (by decide +kernel)
theorem dd_57_78 : decode (mi 57).2.1 78 = .ok (.invokevirtual 141, 3) := by decide +kernel
theorem st_57_78 : Sd 57 78 3 (i_cV [(1, 36)] 3 4 []) := sd_virt ⟨"ContractDesk", "cleanUp", "(LContractDesk$Interaction;I)V"⟩ dd_57_78 (by rw [mc_57]; exact tw_1144) (fun t j h => by simp only [List.mem_cons, List.not_mem_nil, or_false, Prod.mk.injEq] at h; obtain ⟨rfl, rfl⟩ := h; exact mn_36) (fun t j h => by simp only [List.mem_cons, List.not_mem_nil, or_false, Prod.mk.injEq] at h; obtain ⟨rfl, rfl⟩ := h; exact ⟨by rw [mn_36]; exact tw_20, by rw [mn_36]; exact tw_1146, mt_36, by decide, by decide⟩) (by unfold prm; decide +kernel) ml_57 (HsOk.nil (by decide +kernel))
theorem dd_57_81 : decode (mi 57).2.1 81 = .ok (.aload_n 0, 1) := by decide +kernel
theorem st_57_81 : Sd 57 81 1 (i_ldR 0) := sd_aload_n (j := 0) dd_57_81 rfl
theorem dd_57_82 : decode (mi 57).2.1 82 = .ok (.getfield 155, 3) := by decide +kernel
theorem st_57_82 : Sd 57 82 3 (i_gI 6 [1]) := sd_gI (ref := "ContractDesk") (decl := "ContractDesk") (name := "found") (desc := "I") dd_57_82 (by rw [mc_57]; exact tw_481) (Or.inl rfl) (by decide +kernel)
theorem dd_57_85 : decode (mi 57).2.1 85 = .ok (.ireturn, 1) := by decide +kernel
theorem st_57_85 : Sd 57 85 1 (i_rI 0) := sd_ireturn dd_57_85 (by decide) mr_57
def bk_57_51 : Tr := sq (i_ldR 0) (sq (i_ic 0) (sq (i_pI 5 [1] 0) (sq (i_ldR 0) (sq (i_ic 0) (sq (i_pI 6 [1] 0) (sq (i_ldR 0) (sq (i_ldR 2) (sq (i_ldR 2) (sq (i_gR 3 [4]) (sq (i_ldR 3) (sq (i_ic 0) (sq (i_cV [(1, 37)] 5 4 []) (sq (i_ldR 0) (sq (i_ldR 2) (sq (i_ldR 2) (sq (i_gI 4 [4]) (sq (i_cV [(1, 36)] 3 4 []) (sq (i_ldR 0) (sq (i_gI 6 [1]) (i_rI 0))))))))))))))))))))
theorem sb_57_51 : Sd 57 51 35 bk_57_51 := Sd.sq st_57_51 (Sd.sq st_57_52 (Sd.sq st_57_53 (Sd.sq st_57_56 (Sd.sq st_57_57 (Sd.sq st_57_58 (Sd.sq st_57_61 (Sd.sq st_57_62 (Sd.sq st_57_63 (Sd.sq st_57_64 (Sd.sq st_57_67 (Sd.sq st_57_68 (Sd.sq st_57_69 (Sd.sq st_57_72 (Sd.sq st_57_73 (Sd.sq st_57_74 (Sd.sq st_57_75 (Sd.sq st_57_78 (Sd.sq st_57_81 (Sd.sq st_57_82 (st_57_85))))))))))))))))))))
theorem dd_58_0 : decode (mi 58).2.1 0 = .ok (.iconst 0, 1) := by decide +kernel
theorem st_58_0 : Sd 58 0 1 (i_ic 0) := sd_iconst dd_58_0
theorem dd_58_1 : decode (mi 58).2.1 1 = .ok (.istore_n 3, 1) := by decide +kernel
theorem st_58_1 : Sd 58 1 1 (i_stI 3) := sd_istore_n (j := 3) dd_58_1 rfl
theorem dd_58_2 : decode (mi 58).2.1 2 = .ok (.bipush 56, 2) := by decide +kernel
theorem st_58_2 : Sd 58 2 2 (i_ic 56) := sd_bipush dd_58_2 (by decide)
theorem dd_58_4 : decode (mi 58).2.1 4 = .ok (.istore 4, 2) := by decide +kernel
theorem st_58_4 : Sd 58 4 2 (i_stI 4) := sd_istore dd_58_4
def bk_58_0 : Tr := sq (i_ic 0) (sq (i_stI 3) (sq (i_ic 56) (sq (i_stI 4) (i_fall 6))))
theorem sb_58_0 : Sd 58 0 6 bk_58_0 := Sd.sq st_58_0 (Sd.sq st_58_1 (Sd.sq st_58_2 (Sd.sq st_58_4 (sd_fall rfl))))
theorem dd_58_6 : decode (mi 58).2.1 6 = .ok (.iload 4, 2) := by decide +kernel
theorem st_58_6 : Sd 58 6 2 (i_ldI 4) := sd_iload dd_58_6
theorem dd_58_8 : decode (mi 58).2.1 8 = .ok (.ifCond .lt 54, 3) := by decide +kernel
theorem st_58_8 : Sd 58 8 3 (i_zlt 62) := sd_if_lt dd_58_8 (by decide)
theorem dd_58_11 : decode (mi 58).2.1 11 = .ok (.lload_n 1, 1) := by decide +kernel
theorem st_58_11 : Sd 58 11 1 (i_ldL 1) := sd_lload_n (j := 1) dd_58_11 rfl
theorem dd_58_12 : decode (mi 58).2.1 12 = .ok (.iload 4, 2) := by decide +kernel
theorem st_58_12 : Sd 58 12 2 (i_ldI 4) := sd_iload dd_58_12
theorem dd_58_14 : decode (mi 58).2.1 14 = .ok (.lshr, 1) := by decide +kernel
theorem st_58_14 : Sd 58 14 1 (i_lshr) := sd_lshr dd_58_14
theorem dd_58_15 : decode (mi 58).2.1 15 = .ok (.ldc2_w 45, 3) := by decide +kernel
theorem st_58_15 : Sd 58 15 3 (i_lc 255) := sd_ldc2 dd_58_15 (by rw [mc_58]; exact tw_511)
theorem dd_58_18 : decode (mi 58).2.1 18 = .ok (.land, 1) := by decide +kernel
theorem st_58_18 : Sd 58 18 1 (i_land) := sd_land dd_58_18
theorem dd_58_19 : decode (mi 58).2.1 19 = .ok (.l2i, 1) := by decide +kernel
theorem st_58_19 : Sd 58 19 1 (i_l2i) := sd_l2i dd_58_19
theorem dd_58_20 : decode (mi 58).2.1 20 = .ok (.istore 5, 2) := by decide +kernel
theorem st_58_20 : Sd 58 20 2 (i_stI 5) := sd_istore dd_58_20
theorem dd_58_22 : decode (mi 58).2.1 22 = .ok (.iload 5, 2) := by decide +kernel
theorem st_58_22 : Sd 58 22 2 (i_ldI 5) := sd_iload dd_58_22
theorem dd_58_24 : decode (mi 58).2.1 24 = .ok (.ifCond .eq 19, 3) := by decide +kernel
theorem st_58_24 : Sd 58 24 3 (i_zeq 43) := sd_if_eq dd_58_24 (by decide)
theorem dd_58_27 : decode (mi 58).2.1 27 = .ok (.iload 5, 2) := by decide +kernel
theorem st_58_27 : Sd 58 27 2 (i_ldI 5) := sd_iload dd_58_27
theorem dd_58_29 : decode (mi 58).2.1 29 = .ok (.bipush 32, 2) := by decide +kernel
theorem st_58_29 : Sd 58 29 2 (i_ic 32) := sd_bipush dd_58_29 (by decide)
theorem dd_58_31 : decode (mi 58).2.1 31 = .ok (.if_icmp .lt 10, 3) := by decide +kernel
theorem st_58_31 : Sd 58 31 3 (i_clt 41) := sd_icmp_lt dd_58_31 (by decide)
theorem dd_58_34 : decode (mi 58).2.1 34 = .ok (.iload 5, 2) := by decide +kernel
theorem st_58_34 : Sd 58 34 2 (i_ldI 5) := sd_iload dd_58_34
theorem dd_58_36 : decode (mi 58).2.1 36 = .ok (.bipush 126, 2) := by decide +kernel
theorem st_58_36 : Sd 58 36 2 (i_ic 126) := sd_bipush dd_58_36 (by decide)
theorem dd_58_38 : decode (mi 58).2.1 38 = .ok (.if_icmp .le 5, 3) := by decide +kernel
theorem st_58_38 : Sd 58 38 3 (i_cle 43) := sd_icmp_le dd_58_38 (by decide)
def bk_58_6 : Tr := sq (i_ldI 4) (sq (i_zlt 62) (sq (i_ldL 1) (sq (i_ldI 4) (sq (i_lshr) (sq (i_lc 255) (sq (i_land) (sq (i_l2i) (sq (i_stI 5) (sq (i_ldI 5) (sq (i_zeq 43) (sq (i_ldI 5) (sq (i_ic 32) (sq (i_clt 41) (sq (i_ldI 5) (sq (i_ic 126) (sq (i_cle 43) (i_fall 41)))))))))))))))))
theorem sb_58_6 : Sd 58 6 35 bk_58_6 := Sd.sq st_58_6 (Sd.sq st_58_8 (Sd.sq st_58_11 (Sd.sq st_58_12 (Sd.sq st_58_14 (Sd.sq st_58_15 (Sd.sq st_58_18 (Sd.sq st_58_19 (Sd.sq st_58_20 (Sd.sq st_58_22 (Sd.sq st_58_24 (Sd.sq st_58_27 (Sd.sq st_58_29 (Sd.sq st_58_31 (Sd.sq st_58_34 (Sd.sq st_58_36 (Sd.sq st_58_38 (sd_fall rfl)))))))))))))))))
theorem dd_58_41 : decode (mi 58).2.1 41 = .ok (.iconst 0, 1) := by decide +kernel
theorem st_58_41 : Sd 58 41 1 (i_ic 0) := sd_iconst dd_58_41
theorem dd_58_42 : decode (mi 58).2.1 42 = .ok (.ireturn, 1) := by decide +kernel
theorem st_58_42 : Sd 58 42 1 (i_rI 2) := sd_ireturn dd_58_42 (by decide) mr_58
def bk_58_41 : Tr := sq (i_ic 0) (i_rI 2)
theorem sb_58_41 : Sd 58 41 2 bk_58_41 := Sd.sq st_58_41 (st_58_42)
theorem dd_58_43 : decode (mi 58).2.1 43 = .ok (.iload_n 3, 1) := by decide +kernel
theorem st_58_43 : Sd 58 43 1 (i_ldI 3) := sd_iload_n (j := 3) dd_58_43 rfl
theorem dd_58_44 : decode (mi 58).2.1 44 = .ok (.iload 5, 2) := by decide +kernel
theorem st_58_44 : Sd 58 44 2 (i_ldI 5) := sd_iload dd_58_44
theorem dd_58_46 : decode (mi 58).2.1 46 = .ok (.ifCond .ne 7, 3) := by decide +kernel
theorem st_58_46 : Sd 58 46 3 (i_zne 53) := sd_if_ne dd_58_46 (by decide)
theorem dd_58_49 : decode (mi 58).2.1 49 = .ok (.iconst 0, 1) := by decide +kernel
theorem st_58_49 : Sd 58 49 1 (i_ic 0) := sd_iconst dd_58_49
theorem dd_58_50 : decode (mi 58).2.1 50 = .ok (.goto 4, 3) := by decide +kernel
theorem st_58_50 : Sd 58 50 3 (i_goto 54) := sd_goto dd_58_50 (by decide)
def bk_58_43 : Tr := sq (i_ldI 3) (sq (i_ldI 5) (sq (i_zne 53) (sq (i_ic 0) (i_goto 54))))
theorem sb_58_43 : Sd 58 43 10 bk_58_43 := Sd.sq st_58_43 (Sd.sq st_58_44 (Sd.sq st_58_46 (Sd.sq st_58_49 (st_58_50))))
theorem dd_58_53 : decode (mi 58).2.1 53 = .ok (.iconst 1, 1) := by decide +kernel
theorem st_58_53 : Sd 58 53 1 (i_ic 1) := sd_iconst dd_58_53
def bk_58_53 : Tr := sq (i_ic 1) (i_fall 54)
theorem sb_58_53 : Sd 58 53 1 bk_58_53 := Sd.sq st_58_53 (sd_fall rfl)
theorem dd_58_54 : decode (mi 58).2.1 54 = .ok (.iadd, 1) := by decide +kernel
theorem st_58_54 : Sd 58 54 1 (i_iadd) := sd_iadd dd_58_54
theorem dd_58_55 : decode (mi 58).2.1 55 = .ok (.istore_n 3, 1) := by decide +kernel
theorem st_58_55 : Sd 58 55 1 (i_stI 3) := sd_istore_n (j := 3) dd_58_55 rfl
theorem dd_58_56 : decode (mi 58).2.1 56 = .ok (.iinc 4 (-8), 3) := by decide +kernel
theorem st_58_56 : Sd 58 56 3 (i_inc 4 (-8)) := sd_iinc dd_58_56
theorem dd_58_59 : decode (mi 58).2.1 59 = .ok (.goto (-53), 3) := by decide +kernel
theorem st_58_59 : Sd 58 59 3 (i_goto 6) := sd_goto dd_58_59 (by decide)
def bk_58_54 : Tr := sq (i_iadd) (sq (i_stI 3) (sq (i_inc 4 (-8)) (i_goto 6)))
theorem sb_58_54 : Sd 58 54 8 bk_58_54 := Sd.sq st_58_54 (Sd.sq st_58_55 (Sd.sq st_58_56 (st_58_59)))
theorem dd_58_62 : decode (mi 58).2.1 62 = .ok (.aload_n 0, 1) := by decide +kernel
theorem st_58_62 : Sd 58 62 1 (i_ldR 0) := sd_aload_n (j := 0) dd_58_62 rfl
theorem dd_58_63 : decode (mi 58).2.1 63 = .ok (.getfield 14, 3) := by decide +kernel
theorem st_58_63 : Sd 58 63 3 (i_gR 0 [1]) := sd_gR (ref := "ContractDesk") (decl := "ContractDesk") (name := "text") (desc := "Ljava/lang/StringBuilder;") dd_58_63 (by rw [mc_58]; exact tw_475) (Or.inl rfl) (by decide +kernel)
theorem dd_58_66 : decode (mi 58).2.1 66 = .ok (.invokevirtual 47, 3) := by decide +kernel
theorem st_58_66 : Sd 58 66 3 (i_cV [(15, 15)] 1 6 []) := sd_virt ⟨"java/lang/StringBuilder", "length", "()I"⟩ dd_58_66 (by rw [mc_58]; exact tw_512) (fun t j h => by simp only [List.mem_cons, List.not_mem_nil, or_false, Prod.mk.injEq] at h; obtain ⟨rfl, rfl⟩ := h; exact mn_15) (fun t j h => by simp only [List.mem_cons, List.not_mem_nil, or_false, Prod.mk.injEq] at h; obtain ⟨rfl, rfl⟩ := h; exact ⟨by rw [mn_15]; exact tw_1600, by rw [mn_15]; exact tw_392, mt_15, by decide, by decide⟩) (by unfold prm; decide +kernel) ml_58 (HsOk.nil (by decide +kernel))
theorem dd_58_69 : decode (mi 58).2.1 69 = .ok (.iload_n 3, 1) := by decide +kernel
theorem st_58_69 : Sd 58 69 1 (i_ldI 3) := sd_iload_n (j := 3) dd_58_69 rfl
theorem dd_58_70 : decode (mi 58).2.1 70 = .ok (.iadd, 1) := by decide +kernel
theorem st_58_70 : Sd 58 70 1 (i_iadd) := sd_iadd dd_58_70
theorem dd_58_71 : decode (mi 58).2.1 71 = .ok (.bipush 100, 2) := by decide +kernel
theorem st_58_71 : Sd 58 71 2 (i_ic 100) := sd_bipush dd_58_71 (by decide)
theorem dd_58_73 : decode (mi 58).2.1 73 = .ok (.if_icmp .le 5, 3) := by decide +kernel
theorem st_58_73 : Sd 58 73 3 (i_cle 78) := sd_icmp_le dd_58_73 (by decide)
theorem dd_58_76 : decode (mi 58).2.1 76 = .ok (.iconst 0, 1) := by decide +kernel
theorem st_58_76 : Sd 58 76 1 (i_ic 0) := sd_iconst dd_58_76
theorem dd_58_77 : decode (mi 58).2.1 77 = .ok (.ireturn, 1) := by decide +kernel
theorem st_58_77 : Sd 58 77 1 (i_rI 2) := sd_ireturn dd_58_77 (by decide) mr_58
def bk_58_62 : Tr := sq (i_ldR 0) (sq (i_gR 0 [1]) (sq (i_cV [(15, 15)] 1 6 []) (sq (i_ldI 3) (sq (i_iadd) (sq (i_ic 100) (sq (i_cle 78) (sq (i_ic 0) (i_rI 2))))))))
theorem sb_58_62 : Sd 58 62 16 bk_58_62 := Sd.sq st_58_62 (Sd.sq st_58_63 (Sd.sq st_58_66 (Sd.sq st_58_69 (Sd.sq st_58_70 (Sd.sq st_58_71 (Sd.sq st_58_73 (Sd.sq st_58_76 (st_58_77))))))))
theorem dd_58_78 : decode (mi 58).2.1 78 = .ok (.bipush 56, 2) := by decide +kernel
theorem st_58_78 : Sd 58 78 2 (i_ic 56) := sd_bipush dd_58_78 (by decide)
theorem dd_58_80 : decode (mi 58).2.1 80 = .ok (.istore 4, 2) := by decide +kernel
theorem st_58_80 : Sd 58 80 2 (i_stI 4) := sd_istore dd_58_80
def bk_58_78 : Tr := sq (i_ic 56) (sq (i_stI 4) (i_fall 82))
theorem sb_58_78 : Sd 58 78 4 bk_58_78 := Sd.sq st_58_78 (Sd.sq st_58_80 (sd_fall rfl))
theorem dd_58_82 : decode (mi 58).2.1 82 = .ok (.iload 4, 2) := by decide +kernel
theorem st_58_82 : Sd 58 82 2 (i_ldI 4) := sd_iload dd_58_82
theorem dd_58_84 : decode (mi 58).2.1 84 = .ok (.ifCond .lt 36, 3) := by decide +kernel
theorem st_58_84 : Sd 58 84 3 (i_zlt 120) := sd_if_lt dd_58_84 (by decide)
theorem dd_58_87 : decode (mi 58).2.1 87 = .ok (.lload_n 1, 1) := by decide +kernel
theorem st_58_87 : Sd 58 87 1 (i_ldL 1) := sd_lload_n (j := 1) dd_58_87 rfl
theorem dd_58_88 : decode (mi 58).2.1 88 = .ok (.iload 4, 2) := by decide +kernel
theorem st_58_88 : Sd 58 88 2 (i_ldI 4) := sd_iload dd_58_88
theorem dd_58_90 : decode (mi 58).2.1 90 = .ok (.lshr, 1) := by decide +kernel
theorem st_58_90 : Sd 58 90 1 (i_lshr) := sd_lshr dd_58_90
theorem dd_58_91 : decode (mi 58).2.1 91 = .ok (.ldc2_w 45, 3) := by decide +kernel
theorem st_58_91 : Sd 58 91 3 (i_lc 255) := sd_ldc2 dd_58_91 (by rw [mc_58]; exact tw_511)
theorem dd_58_94 : decode (mi 58).2.1 94 = .ok (.land, 1) := by decide +kernel
theorem st_58_94 : Sd 58 94 1 (i_land) := sd_land dd_58_94
theorem dd_58_95 : decode (mi 58).2.1 95 = .ok (.l2i, 1) := by decide +kernel
theorem st_58_95 : Sd 58 95 1 (i_l2i) := sd_l2i dd_58_95
theorem dd_58_96 : decode (mi 58).2.1 96 = .ok (.istore 5, 2) := by decide +kernel
theorem st_58_96 : Sd 58 96 2 (i_stI 5) := sd_istore dd_58_96
theorem dd_58_98 : decode (mi 58).2.1 98 = .ok (.iload 5, 2) := by decide +kernel
theorem st_58_98 : Sd 58 98 2 (i_ldI 5) := sd_iload dd_58_98
theorem dd_58_100 : decode (mi 58).2.1 100 = .ok (.ifCond .eq 14, 3) := by decide +kernel
theorem st_58_100 : Sd 58 100 3 (i_zeq 114) := sd_if_eq dd_58_100 (by decide)
theorem dd_58_103 : decode (mi 58).2.1 103 = .ok (.aload_n 0, 1) := by decide +kernel
theorem st_58_103 : Sd 58 103 1 (i_ldR 0) := sd_aload_n (j := 0) dd_58_103 rfl
theorem dd_58_104 : decode (mi 58).2.1 104 = .ok (.getfield 14, 3) := by decide +kernel
theorem st_58_104 : Sd 58 104 3 (i_gR 0 [1]) := sd_gR (ref := "ContractDesk") (decl := "ContractDesk") (name := "text") (desc := "Ljava/lang/StringBuilder;") dd_58_104 (by rw [mc_58]; exact tw_475) (Or.inl rfl) (by decide +kernel)
theorem dd_58_107 : decode (mi 58).2.1 107 = .ok (.iload 5, 2) := by decide +kernel
theorem st_58_107 : Sd 58 107 2 (i_ldI 5) := sd_iload dd_58_107
theorem dd_58_109 : decode (mi 58).2.1 109 = .ok (.i2c, 1) := by decide +kernel
theorem st_58_109 : Sd 58 109 1 (i_i2c) := sd_i2c dd_58_109
theorem dd_58_110 : decode (mi 58).2.1 110 = .ok (.invokevirtual 51, 3) := by decide +kernel
theorem st_58_110 : Sd 58 110 3 (i_cV [(15, 12)] 2 6 []) := sd_virt ⟨"java/lang/StringBuilder", "append", "(C)Ljava/lang/StringBuilder;"⟩ dd_58_110 (by rw [mc_58]; exact tw_513) (fun t j h => by simp only [List.mem_cons, List.not_mem_nil, or_false, Prod.mk.injEq] at h; obtain ⟨rfl, rfl⟩ := h; exact mn_12) (fun t j h => by simp only [List.mem_cons, List.not_mem_nil, or_false, Prod.mk.injEq] at h; obtain ⟨rfl, rfl⟩ := h; exact ⟨by rw [mn_12]; exact tw_515, by rw [mn_12]; exact tw_514, mt_12, by decide, by decide⟩) (by unfold prm; decide +kernel) ml_58 (HsOk.nil (by decide +kernel))
theorem dd_58_113 : decode (mi 58).2.1 113 = .ok (.pop, 1) := by decide +kernel
theorem st_58_113 : Sd 58 113 1 (i_pop) := sd_pop dd_58_113
def bk_58_82 : Tr := sq (i_ldI 4) (sq (i_zlt 120) (sq (i_ldL 1) (sq (i_ldI 4) (sq (i_lshr) (sq (i_lc 255) (sq (i_land) (sq (i_l2i) (sq (i_stI 5) (sq (i_ldI 5) (sq (i_zeq 114) (sq (i_ldR 0) (sq (i_gR 0 [1]) (sq (i_ldI 5) (sq (i_i2c) (sq (i_cV [(15, 12)] 2 6 []) (sq (i_pop) (i_fall 114)))))))))))))))))
theorem sb_58_82 : Sd 58 82 32 bk_58_82 := Sd.sq st_58_82 (Sd.sq st_58_84 (Sd.sq st_58_87 (Sd.sq st_58_88 (Sd.sq st_58_90 (Sd.sq st_58_91 (Sd.sq st_58_94 (Sd.sq st_58_95 (Sd.sq st_58_96 (Sd.sq st_58_98 (Sd.sq st_58_100 (Sd.sq st_58_103 (Sd.sq st_58_104 (Sd.sq st_58_107 (Sd.sq st_58_109 (Sd.sq st_58_110 (Sd.sq st_58_113 (sd_fall rfl)))))))))))))))))
theorem dd_58_114 : decode (mi 58).2.1 114 = .ok (.iinc 4 (-8), 3) := by decide +kernel
theorem st_58_114 : Sd 58 114 3 (i_inc 4 (-8)) := sd_iinc dd_58_114
theorem dd_58_117 : decode (mi 58).2.1 117 = .ok (.goto (-35), 3) := by decide +kernel
theorem st_58_117 : Sd 58 117 3 (i_goto 82) := sd_goto dd_58_117 (by decide)
def bk_58_114 : Tr := sq (i_inc 4 (-8)) (i_goto 82)
theorem sb_58_114 : Sd 58 114 6 bk_58_114 := Sd.sq st_58_114 (st_58_117)
theorem dd_58_120 : decode (mi 58).2.1 120 = .ok (.iconst 1, 1) := by decide +kernel
theorem st_58_120 : Sd 58 120 1 (i_ic 1) := sd_iconst dd_58_120
theorem dd_58_121 : decode (mi 58).2.1 121 = .ok (.ireturn, 1) := by decide +kernel
theorem st_58_121 : Sd 58 121 1 (i_rI 2) := sd_ireturn dd_58_121 (by decide) mr_58
def bk_58_120 : Tr := sq (i_ic 1) (i_rI 2)
theorem sb_58_120 : Sd 58 120 2 bk_58_120 := Sd.sq st_58_120 (st_58_121)
