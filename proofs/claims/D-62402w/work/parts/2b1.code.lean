theorem dd_108_0 : decode (mi 108).2.1 0 = .ok (.aload_n 0, 1) := by decide +kernel
theorem st_108_0 : Sd 108 0 1 (i_ldR 0) := sd_aload_n (j := 0) dd_108_0 rfl
theorem dd_108_1 : decode (mi 108).2.1 1 = .ok (.getfield 19, 3) := by decide +kernel
theorem st_108_1 : Sd 108 1 3 (i_gR 4 [5]) := sd_gR (ref := "ContractDesk$Rule") (decl := "ContractDesk$Rule") (name := "first") (desc := "LContractDesk$Matcher;") dd_108_1 (by rw [mc_108]; exact tw_1027) (Or.inl rfl) (by decide +kernel)
theorem dd_108_4 : decode (mi 108).2.1 4 = .ok (.astore_n 1, 1) := by decide +kernel
theorem st_108_4 : Sd 108 4 1 (i_stR 1) := sd_astore_n (j := 1) dd_108_4 rfl
def bk_108_0 : Tr := sq (i_ldR 0) (sq (i_gR 4 [5]) (sq (i_stR 1) (i_fall 5)))
theorem sb_108_0 : Sd 108 0 5 bk_108_0 := Sd.sq st_108_0 (Sd.sq st_108_1 (Sd.sq st_108_4 (sd_fall rfl)))
theorem dd_108_5 : decode (mi 108).2.1 5 = .ok (.aload_n 1, 1) := by decide +kernel
theorem st_108_5 : Sd 108 5 1 (i_ldR 1) := sd_aload_n (j := 1) dd_108_5 rfl
theorem dd_108_6 : decode (mi 108).2.1 6 = .ok (.ifnull 20, 3) := by decide +kernel
theorem st_108_6 : Sd 108 6 3 (i_nul 26) := sd_ifnull dd_108_6 (by decide)
theorem dd_108_9 : decode (mi 108).2.1 9 = .ok (.aload_n 1, 1) := by decide +kernel
theorem st_108_9 : Sd 108 9 1 (i_ldR 1) := sd_aload_n (j := 1) dd_108_9 rfl
theorem dd_108_10 : decode (mi 108).2.1 10 = .ok (.invokevirtual 27, 3) := by decide +kernel
theorem st_108_10 : Sd 108 10 3 (i_cV [(6, 116), (7, 61), (8, 73), (9, 73)] 1 2 []) := sd_virtU ⟨"ContractDesk$Matcher", "isLoose", "()Z"⟩ "ContractDesk$Matcher" dd_108_10 (by rw [mc_108]; exact tw_1233) (by exact tw_1235) (Or.inr ⟨73, mn_73, tw_1234, mt_73.1⟩) (by decide) (fun t j h => by simp only [List.mem_cons, List.not_mem_nil, or_false, Prod.mk.injEq] at h; rcases h with ⟨rfl, rfl⟩ | ⟨rfl, rfl⟩ | ⟨rfl, rfl⟩ | ⟨rfl, rfl⟩; exact ⟨by rw [mn_116]; exact tw_1241, by rw [mn_116]; exact tw_1242, mt_116, by decide, by decide⟩; exact ⟨by rw [mn_61]; exact tw_1236, by rw [mn_61]; exact tw_1237, mt_61, by decide, by decide⟩; exact ⟨by rw [mn_73]; exact tw_1239, by rw [mn_73]; exact tw_1234, mt_73, by decide, by decide⟩; exact ⟨by rw [mn_73]; exact tw_1240, by rw [mn_73]; exact tw_1234, mt_73, by decide, by decide⟩) (by unfold prm; decide +kernel) ml_108 (HsOk.nil (by decide +kernel))
theorem dd_108_13 : decode (mi 108).2.1 13 = .ok (.ifCond .eq 5, 3) := by decide +kernel
theorem st_108_13 : Sd 108 13 3 (i_zeq 18) := sd_if_eq dd_108_13 (by decide)
theorem dd_108_16 : decode (mi 108).2.1 16 = .ok (.iconst 1, 1) := by decide +kernel
theorem st_108_16 : Sd 108 16 1 (i_ic 1) := sd_iconst dd_108_16
theorem dd_108_17 : decode (mi 108).2.1 17 = .ok (.ireturn, 1) := by decide +kernel
theorem st_108_17 : Sd 108 17 1 (i_rI 2) := sd_ireturn dd_108_17 (by decide) mr_108
def bk_108_5 : Tr := sq (i_ldR 1) (sq (i_nul 26) (sq (i_ldR 1) (sq (i_cV [(6, 116), (7, 61), (8, 73), (9, 73)] 1 2 []) (sq (i_zeq 18) (sq (i_ic 1) (i_rI 2))))))
theorem sb_108_5 : Sd 108 5 13 bk_108_5 := Sd.sq st_108_5 (Sd.sq st_108_6 (Sd.sq st_108_9 (Sd.sq st_108_10 (Sd.sq st_108_13 (Sd.sq st_108_16 (st_108_17))))))
theorem dd_108_18 : decode (mi 108).2.1 18 = .ok (.aload_n 1, 1) := by decide +kernel
theorem st_108_18 : Sd 108 18 1 (i_ldR 1) := sd_aload_n (j := 1) dd_108_18 rfl
theorem dd_108_19 : decode (mi 108).2.1 19 = .ok (.getfield 22, 3) := by decide +kernel
theorem st_108_19 : Sd 108 19 3 (i_gR 0 [6, 7, 8, 9]) := sd_gR (ref := "ContractDesk$Matcher") (decl := "ContractDesk$Matcher") (name := "next") (desc := "LContractDesk$Matcher;") dd_108_19 (by rw [mc_108]; exact tw_1060) (Or.inl rfl) (by decide +kernel)
theorem dd_108_22 : decode (mi 108).2.1 22 = .ok (.astore_n 1, 1) := by decide +kernel
theorem st_108_22 : Sd 108 22 1 (i_stR 1) := sd_astore_n (j := 1) dd_108_22 rfl
theorem dd_108_23 : decode (mi 108).2.1 23 = .ok (.goto (-18), 3) := by decide +kernel
theorem st_108_23 : Sd 108 23 3 (i_goto 5) := sd_goto dd_108_23 (by decide)
def bk_108_18 : Tr := sq (i_ldR 1) (sq (i_gR 0 [6, 7, 8, 9]) (sq (i_stR 1) (i_goto 5)))
theorem sb_108_18 : Sd 108 18 8 bk_108_18 := Sd.sq st_108_18 (Sd.sq st_108_19 (Sd.sq st_108_22 (st_108_23)))
theorem dd_108_26 : decode (mi 108).2.1 26 = .ok (.iconst 0, 1) := by decide +kernel
theorem st_108_26 : Sd 108 26 1 (i_ic 0) := sd_iconst dd_108_26
theorem dd_108_27 : decode (mi 108).2.1 27 = .ok (.ireturn, 1) := by decide +kernel
theorem st_108_27 : Sd 108 27 1 (i_rI 2) := sd_ireturn dd_108_27 (by decide) mr_108
def bk_108_26 : Tr := sq (i_ic 0) (i_rI 2)
theorem sb_108_26 : Sd 108 26 2 bk_108_26 := Sd.sq st_108_26 (st_108_27)
theorem dd_109_0 : decode (mi 109).2.1 0 = .ok (.aload_n 0, 1) := by decide +kernel
theorem st_109_0 : Sd 109 0 1 (i_ldR 0) := sd_aload_n (j := 0) dd_109_0 rfl
theorem dd_109_1 : decode (mi 109).2.1 1 = .ok (.invokespecial 1, 3) := by decide +kernel
theorem st_109_1 : Sd 109 1 3 (i_cI 72 1 1 []) := sd_initN (host := "ContractDesk") dd_109_1 (by rw [mc_109, mn_72]; exact tw_1107) (by rw [mn_72]; exact tw_1056) mt_72 pm_72 (by rw [mn_72]) (by decide +kernel) ml_109 (HsOk.nil (by decide +kernel))
theorem dd_109_4 : decode (mi 109).2.1 4 = .ok (.aload_n 0, 1) := by decide +kernel
theorem st_109_4 : Sd 109 4 1 (i_ldR 0) := sd_aload_n (j := 0) dd_109_4 rfl
theorem dd_109_5 : decode (mi 109).2.1 5 = .ok (.new 7, 3) := by decide +kernel
theorem st_109_5 : Sd 109 5 3 (i_new 15) := sd_new dd_109_5 (by rw [mc_109]; exact tw_1108) (by exact tw_72) (by exact tw_117) (by decide) (by decide)
theorem dd_109_8 : decode (mi 109).2.1 8 = .ok (.dup, 1) := by decide +kernel
theorem st_109_8 : Sd 109 8 1 (i_dup) := sd_dup dd_109_8
theorem dd_109_9 : decode (mi 109).2.1 9 = .ok (.bipush 8, 2) := by decide +kernel
theorem st_109_9 : Sd 109 9 2 (i_ic 8) := sd_bipush dd_109_9 (by decide)
theorem dd_109_11 : decode (mi 109).2.1 11 = .ok (.invokespecial 9, 3) := by decide +kernel
theorem st_109_11 : Sd 109 11 3 (i_cI 0 2 1 []) := sd_init dd_109_11 (by rw [mc_109, mn_0]; exact tw_1109) (by rw [mn_0]; exact tw_119) mt_0 pm_0 (by rw [mn_0]) (by decide +kernel) ml_109 (HsOk.nil (by decide +kernel))
theorem dd_109_14 : decode (mi 109).2.1 14 = .ok (.putfield 12, 3) := by decide +kernel
theorem st_109_14 : Sd 109 14 3 (i_pR 1 [9]) := sd_pR (ref := "ContractDesk$Shape") (decl := "ContractDesk$Shape") (name := "signs") (desc := "Ljava/lang/StringBuilder;") dd_109_14 (by rw [mc_109]; exact tw_1110) (Or.inl rfl) (by decide +kernel) (by decide +kernel)
theorem dd_109_17 : decode (mi 109).2.1 17 = .ok (.aload_n 0, 1) := by decide +kernel
theorem st_109_17 : Sd 109 17 1 (i_ldR 0) := sd_aload_n (j := 0) dd_109_17 rfl
theorem dd_109_18 : decode (mi 109).2.1 18 = .ok (.new 7, 3) := by decide +kernel
theorem st_109_18 : Sd 109 18 3 (i_new 15) := sd_new dd_109_18 (by rw [mc_109]; exact tw_1108) (by exact tw_72) (by exact tw_117) (by decide) (by decide)
theorem dd_109_21 : decode (mi 109).2.1 21 = .ok (.dup, 1) := by decide +kernel
theorem st_109_21 : Sd 109 21 1 (i_dup) := sd_dup dd_109_21
theorem dd_109_22 : decode (mi 109).2.1 22 = .ok (.bipush 8, 2) := by decide +kernel
theorem st_109_22 : Sd 109 22 2 (i_ic 8) := sd_bipush dd_109_22 (by decide)
theorem dd_109_24 : decode (mi 109).2.1 24 = .ok (.invokespecial 9, 3) := by decide +kernel
theorem st_109_24 : Sd 109 24 3 (i_cI 0 2 1 []) := sd_init dd_109_24 (by rw [mc_109, mn_0]; exact tw_1109) (by rw [mn_0]; exact tw_119) mt_0 pm_0 (by rw [mn_0]) (by decide +kernel) ml_109 (HsOk.nil (by decide +kernel))
theorem dd_109_27 : decode (mi 109).2.1 27 = .ok (.putfield 18, 3) := by decide +kernel
theorem st_109_27 : Sd 109 27 3 (i_pR 2 [9]) := sd_pR (ref := "ContractDesk$Shape") (decl := "ContractDesk$Shape") (name := "often") (desc := "Ljava/lang/StringBuilder;") dd_109_27 (by rw [mc_109]; exact tw_1112) (Or.inl rfl) (by decide +kernel) (by decide +kernel)
theorem dd_109_30 : decode (mi 109).2.1 30 = .ok (.return_, 1) := by decide +kernel
theorem st_109_30 : Sd 109 30 1 (i_ret) := sd_ret dd_109_30 mr_109
def bk_109_0 : Tr := sq (i_ldR 0) (sq (i_cI 72 1 1 []) (sq (i_ldR 0) (sq (i_new 15) (sq (i_dup) (sq (i_ic 8) (sq (i_cI 0 2 1 []) (sq (i_pR 1 [9]) (sq (i_ldR 0) (sq (i_new 15) (sq (i_dup) (sq (i_ic 8) (sq (i_cI 0 2 1 []) (sq (i_pR 2 [9]) (i_ret))))))))))))))
theorem sb_109_0 : Sd 109 0 31 bk_109_0 := Sd.sq st_109_0 (Sd.sq st_109_1 (Sd.sq st_109_4 (Sd.sq st_109_5 (Sd.sq st_109_8 (Sd.sq st_109_9 (Sd.sq st_109_11 (Sd.sq st_109_14 (Sd.sq st_109_17 (Sd.sq st_109_18 (Sd.sq st_109_21 (Sd.sq st_109_22 (Sd.sq st_109_24 (Sd.sq st_109_27 (st_109_30))))))))))))))
theorem dd_110_0 : decode (mi 110).2.1 0 = .ok (.aload_n 0, 1) := by decide +kernel
theorem st_110_0 : Sd 110 0 1 (i_ldR 0) := sd_aload_n (j := 0) dd_110_0 rfl
theorem dd_110_1 : decode (mi 110).2.1 1 = .ok (.getfield 12, 3) := by decide +kernel
theorem st_110_1 : Sd 110 1 3 (i_gR 1 [9]) := sd_gR (ref := "ContractDesk$Shape") (decl := "ContractDesk$Shape") (name := "signs") (desc := "Ljava/lang/StringBuilder;") dd_110_1 (by rw [mc_110]; exact tw_1110) (Or.inl rfl) (by decide +kernel)
theorem dd_110_4 : decode (mi 110).2.1 4 = .ok (.iload_n 1, 1) := by decide +kernel
theorem st_110_4 : Sd 110 4 1 (i_ldI 1) := sd_iload_n (j := 1) dd_110_4 rfl
theorem dd_110_5 : decode (mi 110).2.1 5 = .ok (.invokevirtual 38, 3) := by decide +kernel
theorem st_110_5 : Sd 110 5 3 (i_cV [(15, 19)] 2 3 []) := sd_virt ⟨"java/lang/StringBuilder", "charAt", "(I)C"⟩ dd_110_5 (by rw [mc_110]; exact tw_1191) (fun t j h => by simp only [List.mem_cons, List.not_mem_nil, or_false, Prod.mk.injEq] at h; obtain ⟨rfl, rfl⟩ := h; exact mn_19) (fun t j h => by simp only [List.mem_cons, List.not_mem_nil, or_false, Prod.mk.injEq] at h; obtain ⟨rfl, rfl⟩ := h; exact ⟨by rw [mn_19]; exact tw_599, by rw [mn_19]; exact tw_598, mt_19, by decide, by decide⟩) (by unfold prm; decide +kernel) ml_110 (HsOk.nil (by decide +kernel))
theorem dd_110_8 : decode (mi 110).2.1 8 = .ok (.bipush 46, 2) := by decide +kernel
theorem st_110_8 : Sd 110 8 2 (i_ic 46) := sd_bipush dd_110_8 (by decide)
theorem dd_110_10 : decode (mi 110).2.1 10 = .ok (.if_icmp .eq 17, 3) := by decide +kernel
theorem st_110_10 : Sd 110 10 3 (i_ceq 27) := sd_icmp_eq dd_110_10 (by decide)
theorem dd_110_13 : decode (mi 110).2.1 13 = .ok (.aload_n 0, 1) := by decide +kernel
theorem st_110_13 : Sd 110 13 1 (i_ldR 0) := sd_aload_n (j := 0) dd_110_13 rfl
theorem dd_110_14 : decode (mi 110).2.1 14 = .ok (.getfield 12, 3) := by decide +kernel
theorem st_110_14 : Sd 110 14 3 (i_gR 1 [9]) := sd_gR (ref := "ContractDesk$Shape") (decl := "ContractDesk$Shape") (name := "signs") (desc := "Ljava/lang/StringBuilder;") dd_110_14 (by rw [mc_110]; exact tw_1110) (Or.inl rfl) (by decide +kernel)
theorem dd_110_17 : decode (mi 110).2.1 17 = .ok (.iload_n 1, 1) := by decide +kernel
theorem st_110_17 : Sd 110 17 1 (i_ldI 1) := sd_iload_n (j := 1) dd_110_17 rfl
theorem dd_110_18 : decode (mi 110).2.1 18 = .ok (.invokevirtual 38, 3) := by decide +kernel
theorem st_110_18 : Sd 110 18 3 (i_cV [(15, 19)] 2 3 []) := sd_virt ⟨"java/lang/StringBuilder", "charAt", "(I)C"⟩ dd_110_18 (by rw [mc_110]; exact tw_1191) (fun t j h => by simp only [List.mem_cons, List.not_mem_nil, or_false, Prod.mk.injEq] at h; obtain ⟨rfl, rfl⟩ := h; exact mn_19) (fun t j h => by simp only [List.mem_cons, List.not_mem_nil, or_false, Prod.mk.injEq] at h; obtain ⟨rfl, rfl⟩ := h; exact ⟨by rw [mn_19]; exact tw_599, by rw [mn_19]; exact tw_598, mt_19, by decide, by decide⟩) (by unfold prm; decide +kernel) ml_110 (HsOk.nil (by decide +kernel))
theorem dd_110_21 : decode (mi 110).2.1 21 = .ok (.iload_n 2, 1) := by decide +kernel
theorem st_110_21 : Sd 110 21 1 (i_ldI 2) := sd_iload_n (j := 2) dd_110_21 rfl
theorem dd_110_22 : decode (mi 110).2.1 22 = .ok (.if_icmp .eq 5, 3) := by decide +kernel
theorem st_110_22 : Sd 110 22 3 (i_ceq 27) := sd_icmp_eq dd_110_22 (by decide)
theorem dd_110_25 : decode (mi 110).2.1 25 = .ok (.iconst 0, 1) := by decide +kernel
theorem st_110_25 : Sd 110 25 1 (i_ic 0) := sd_iconst dd_110_25
theorem dd_110_26 : decode (mi 110).2.1 26 = .ok (.ireturn, 1) := by decide +kernel
theorem st_110_26 : Sd 110 26 1 (i_rI 0) := sd_ireturn dd_110_26 (by decide) mr_110
def bk_110_0 : Tr := sq (i_ldR 0) (sq (i_gR 1 [9]) (sq (i_ldI 1) (sq (i_cV [(15, 19)] 2 3 []) (sq (i_ic 46) (sq (i_ceq 27) (sq (i_ldR 0) (sq (i_gR 1 [9]) (sq (i_ldI 1) (sq (i_cV [(15, 19)] 2 3 []) (sq (i_ldI 2) (sq (i_ceq 27) (sq (i_ic 0) (i_rI 0)))))))))))))
theorem sb_110_0 : Sd 110 0 27 bk_110_0 := Sd.sq st_110_0 (Sd.sq st_110_1 (Sd.sq st_110_4 (Sd.sq st_110_5 (Sd.sq st_110_8 (Sd.sq st_110_10 (Sd.sq st_110_13 (Sd.sq st_110_14 (Sd.sq st_110_17 (Sd.sq st_110_18 (Sd.sq st_110_21 (Sd.sq st_110_22 (Sd.sq st_110_25 (st_110_26)))))))))))))
theorem dd_110_27 : decode (mi 110).2.1 27 = .ok (.aload_n 0, 1) := by decide +kernel
theorem st_110_27 : Sd 110 27 1 (i_ldR 0) := sd_aload_n (j := 0) dd_110_27 rfl
theorem dd_110_28 : decode (mi 110).2.1 28 = .ok (.getfield 18, 3) := by decide +kernel
theorem st_110_28 : Sd 110 28 3 (i_gR 2 [9]) := sd_gR (ref := "ContractDesk$Shape") (decl := "ContractDesk$Shape") (name := "often") (desc := "Ljava/lang/StringBuilder;") dd_110_28 (by rw [mc_110]; exact tw_1112) (Or.inl rfl) (by decide +kernel)
theorem dd_110_31 : decode (mi 110).2.1 31 = .ok (.iload_n 1, 1) := by decide +kernel
theorem st_110_31 : Sd 110 31 1 (i_ldI 1) := sd_iload_n (j := 1) dd_110_31 rfl
theorem dd_110_32 : decode (mi 110).2.1 32 = .ok (.invokevirtual 38, 3) := by decide +kernel
theorem st_110_32 : Sd 110 32 3 (i_cV [(15, 19)] 2 3 []) := sd_virt ⟨"java/lang/StringBuilder", "charAt", "(I)C"⟩ dd_110_32 (by rw [mc_110]; exact tw_1191) (fun t j h => by simp only [List.mem_cons, List.not_mem_nil, or_false, Prod.mk.injEq] at h; obtain ⟨rfl, rfl⟩ := h; exact mn_19) (fun t j h => by simp only [List.mem_cons, List.not_mem_nil, or_false, Prod.mk.injEq] at h; obtain ⟨rfl, rfl⟩ := h; exact ⟨by rw [mn_19]; exact tw_599, by rw [mn_19]; exact tw_598, mt_19, by decide, by decide⟩) (by unfold prm; decide +kernel) ml_110 (HsOk.nil (by decide +kernel))
theorem dd_110_35 : decode (mi 110).2.1 35 = .ok (.lookupswitch 33 #[(42, 29), (49, 25)], 25) := by decide +kernel
theorem st_110_35 : Sd 110 35 25 (i_lsw 68 [(42, 64), (49, 60)]) := sd_lsw dd_110_35 (by decide) (by decide) (by decide)
def bk_110_27 : Tr := sq (i_ldR 0) (sq (i_gR 2 [9]) (sq (i_ldI 1) (sq (i_cV [(15, 19)] 2 3 []) (i_lsw 68 [(42, 64), (49, 60)]))))
theorem sb_110_27 : Sd 110 27 33 bk_110_27 := Sd.sq st_110_27 (Sd.sq st_110_28 (Sd.sq st_110_31 (Sd.sq st_110_32 (st_110_35))))
theorem dd_110_60 : decode (mi 110).2.1 60 = .ok (.iconst 2, 1) := by decide +kernel
theorem st_110_60 : Sd 110 60 1 (i_ic 2) := sd_iconst dd_110_60
theorem dd_110_61 : decode (mi 110).2.1 61 = .ok (.iload_n 1, 1) := by decide +kernel
theorem st_110_61 : Sd 110 61 1 (i_ldI 1) := sd_iload_n (j := 1) dd_110_61 rfl
theorem dd_110_62 : decode (mi 110).2.1 62 = .ok (.ishl, 1) := by decide +kernel
theorem st_110_62 : Sd 110 62 1 (i_ishl) := sd_ishl dd_110_62
theorem dd_110_63 : decode (mi 110).2.1 63 = .ok (.ireturn, 1) := by decide +kernel
theorem st_110_63 : Sd 110 63 1 (i_rI 0) := sd_ireturn dd_110_63 (by decide) mr_110
def bk_110_60 : Tr := sq (i_ic 2) (sq (i_ldI 1) (sq (i_ishl) (i_rI 0)))
theorem sb_110_60 : Sd 110 60 4 bk_110_60 := Sd.sq st_110_60 (Sd.sq st_110_61 (Sd.sq st_110_62 (st_110_63)))
theorem dd_110_64 : decode (mi 110).2.1 64 = .ok (.iconst 1, 1) := by decide +kernel
theorem st_110_64 : Sd 110 64 1 (i_ic 1) := sd_iconst dd_110_64
theorem dd_110_65 : decode (mi 110).2.1 65 = .ok (.iload_n 1, 1) := by decide +kernel
theorem st_110_65 : Sd 110 65 1 (i_ldI 1) := sd_iload_n (j := 1) dd_110_65 rfl
theorem dd_110_66 : decode (mi 110).2.1 66 = .ok (.ishl, 1) := by decide +kernel
theorem st_110_66 : Sd 110 66 1 (i_ishl) := sd_ishl dd_110_66
theorem dd_110_67 : decode (mi 110).2.1 67 = .ok (.ireturn, 1) := by decide +kernel
theorem st_110_67 : Sd 110 67 1 (i_rI 0) := sd_ireturn dd_110_67 (by decide) mr_110
def bk_110_64 : Tr := sq (i_ic 1) (sq (i_ldI 1) (sq (i_ishl) (i_rI 0)))
theorem sb_110_64 : Sd 110 64 4 bk_110_64 := Sd.sq st_110_64 (Sd.sq st_110_65 (Sd.sq st_110_66 (st_110_67)))
theorem dd_110_68 : decode (mi 110).2.1 68 = .ok (.iconst 3, 1) := by decide +kernel
theorem st_110_68 : Sd 110 68 1 (i_ic 3) := sd_iconst dd_110_68
theorem dd_110_69 : decode (mi 110).2.1 69 = .ok (.iload_n 1, 1) := by decide +kernel
theorem st_110_69 : Sd 110 69 1 (i_ldI 1) := sd_iload_n (j := 1) dd_110_69 rfl
theorem dd_110_70 : decode (mi 110).2.1 70 = .ok (.ishl, 1) := by decide +kernel
theorem st_110_70 : Sd 110 70 1 (i_ishl) := sd_ishl dd_110_70
theorem dd_110_71 : decode (mi 110).2.1 71 = .ok (.ireturn, 1) := by decide +kernel
theorem st_110_71 : Sd 110 71 1 (i_rI 0) := sd_ireturn dd_110_71 (by decide) mr_110
def bk_110_68 : Tr := sq (i_ic 3) (sq (i_ldI 1) (sq (i_ishl) (i_rI 0)))
theorem sb_110_68 : Sd 110 68 4 bk_110_68 := Sd.sq st_110_68 (Sd.sq st_110_69 (Sd.sq st_110_70 (st_110_71)))
theorem dd_111_0 : decode (mi 111).2.1 0 = .ok (.aload_n 0, 1) := by decide +kernel
theorem st_111_0 : Sd 111 0 1 (i_ldR 0) := sd_aload_n (j := 0) dd_111_0 rfl
theorem dd_111_1 : decode (mi 111).2.1 1 = .ok (.iconst 1, 1) := by decide +kernel
theorem st_111_1 : Sd 111 1 1 (i_ic 1) := sd_iconst dd_111_1
theorem dd_111_2 : decode (mi 111).2.1 2 = .ok (.invokevirtual 30, 3) := by decide +kernel
theorem st_111_2 : Sd 111 2 3 (i_cV [(9, 113)] 2 6 []) := sd_virt ⟨"ContractDesk$Shape", "skip", "(I)I"⟩ dd_111_2 (by rw [mc_111]; exact tw_1186) (fun t j h => by simp only [List.mem_cons, List.not_mem_nil, or_false, Prod.mk.injEq] at h; obtain ⟨rfl, rfl⟩ := h; exact mn_113) (fun t j h => by simp only [List.mem_cons, List.not_mem_nil, or_false, Prod.mk.injEq] at h; obtain ⟨rfl, rfl⟩ := h; exact ⟨by rw [mn_113]; exact tw_24, by rw [mn_113]; exact tw_1188, mt_113, by decide, by decide⟩) (by unfold prm; decide +kernel) ml_111 (HsOk.nil (by decide +kernel))
theorem dd_111_5 : decode (mi 111).2.1 5 = .ok (.istore_n 2, 1) := by decide +kernel
theorem st_111_5 : Sd 111 5 1 (i_stI 2) := sd_istore_n (j := 2) dd_111_5 rfl
theorem dd_111_6 : decode (mi 111).2.1 6 = .ok (.iconst 0, 1) := by decide +kernel
theorem st_111_6 : Sd 111 6 1 (i_ic 0) := sd_iconst dd_111_6
theorem dd_111_7 : decode (mi 111).2.1 7 = .ok (.istore_n 3, 1) := by decide +kernel
theorem st_111_7 : Sd 111 7 1 (i_stI 3) := sd_istore_n (j := 3) dd_111_7 rfl
def bk_111_0 : Tr := sq (i_ldR 0) (sq (i_ic 1) (sq (i_cV [(9, 113)] 2 6 []) (sq (i_stI 2) (sq (i_ic 0) (sq (i_stI 3) (i_fall 8))))))
theorem sb_111_0 : Sd 111 0 8 bk_111_0 := Sd.sq st_111_0 (Sd.sq st_111_1 (Sd.sq st_111_2 (Sd.sq st_111_5 (Sd.sq st_111_6 (Sd.sq st_111_7 (sd_fall rfl))))))
theorem dd_111_8 : decode (mi 111).2.1 8 = .ok (.iload_n 3, 1) := by decide +kernel
theorem st_111_8 : Sd 111 8 1 (i_ldI 3) := sd_iload_n (j := 3) dd_111_8 rfl
theorem dd_111_9 : decode (mi 111).2.1 9 = .ok (.aload_n 1, 1) := by decide +kernel
theorem st_111_9 : Sd 111 9 1 (i_ldR 1) := sd_aload_n (j := 1) dd_111_9 rfl
theorem dd_111_10 : decode (mi 111).2.1 10 = .ok (.invokevirtual 34, 3) := by decide +kernel
theorem st_111_10 : Sd 111 10 3 (i_cV [(15, 15)] 1 6 []) := sd_virt ⟨"java/lang/StringBuilder", "length", "()I"⟩ dd_111_10 (by rw [mc_111]; exact tw_1190) (fun t j h => by simp only [List.mem_cons, List.not_mem_nil, or_false, Prod.mk.injEq] at h; obtain ⟨rfl, rfl⟩ := h; exact mn_15) (fun t j h => by simp only [List.mem_cons, List.not_mem_nil, or_false, Prod.mk.injEq] at h; obtain ⟨rfl, rfl⟩ := h; exact ⟨by rw [mn_15]; exact tw_1600, by rw [mn_15]; exact tw_392, mt_15, by decide, by decide⟩) (by unfold prm; decide +kernel) ml_111 (HsOk.nil (by decide +kernel))
theorem dd_111_13 : decode (mi 111).2.1 13 = .ok (.if_icmp .ge 66, 3) := by decide +kernel
theorem st_111_13 : Sd 111 13 3 (i_cge 79) := sd_icmp_ge dd_111_13 (by decide)
theorem dd_111_16 : decode (mi 111).2.1 16 = .ok (.iconst 0, 1) := by decide +kernel
theorem st_111_16 : Sd 111 16 1 (i_ic 0) := sd_iconst dd_111_16
theorem dd_111_17 : decode (mi 111).2.1 17 = .ok (.istore 4, 2) := by decide +kernel
theorem st_111_17 : Sd 111 17 2 (i_stI 4) := sd_istore dd_111_17
theorem dd_111_19 : decode (mi 111).2.1 19 = .ok (.iconst 0, 1) := by decide +kernel
theorem st_111_19 : Sd 111 19 1 (i_ic 0) := sd_iconst dd_111_19
theorem dd_111_20 : decode (mi 111).2.1 20 = .ok (.istore 5, 2) := by decide +kernel
theorem st_111_20 : Sd 111 20 2 (i_stI 5) := sd_istore dd_111_20
def bk_111_8 : Tr := sq (i_ldI 3) (sq (i_ldR 1) (sq (i_cV [(15, 15)] 1 6 []) (sq (i_cge 79) (sq (i_ic 0) (sq (i_stI 4) (sq (i_ic 0) (sq (i_stI 5) (i_fall 22))))))))
theorem sb_111_8 : Sd 111 8 14 bk_111_8 := Sd.sq st_111_8 (Sd.sq st_111_9 (Sd.sq st_111_10 (Sd.sq st_111_13 (Sd.sq st_111_16 (Sd.sq st_111_17 (Sd.sq st_111_19 (Sd.sq st_111_20 (sd_fall rfl))))))))
theorem dd_111_22 : decode (mi 111).2.1 22 = .ok (.iload 5, 2) := by decide +kernel
theorem st_111_22 : Sd 111 22 2 (i_ldI 5) := sd_iload dd_111_22
theorem dd_111_24 : decode (mi 111).2.1 24 = .ok (.aload_n 0, 1) := by decide +kernel
theorem st_111_24 : Sd 111 24 1 (i_ldR 0) := sd_aload_n (j := 0) dd_111_24 rfl
theorem dd_111_25 : decode (mi 111).2.1 25 = .ok (.getfield 12, 3) := by decide +kernel
theorem st_111_25 : Sd 111 25 3 (i_gR 1 [9]) := sd_gR (ref := "ContractDesk$Shape") (decl := "ContractDesk$Shape") (name := "signs") (desc := "Ljava/lang/StringBuilder;") dd_111_25 (by rw [mc_111]; exact tw_1110) (Or.inl rfl) (by decide +kernel)
theorem dd_111_28 : decode (mi 111).2.1 28 = .ok (.invokevirtual 34, 3) := by decide +kernel
theorem st_111_28 : Sd 111 28 3 (i_cV [(15, 15)] 1 6 []) := sd_virt ⟨"java/lang/StringBuilder", "length", "()I"⟩ dd_111_28 (by rw [mc_111]; exact tw_1190) (fun t j h => by simp only [List.mem_cons, List.not_mem_nil, or_false, Prod.mk.injEq] at h; obtain ⟨rfl, rfl⟩ := h; exact mn_15) (fun t j h => by simp only [List.mem_cons, List.not_mem_nil, or_false, Prod.mk.injEq] at h; obtain ⟨rfl, rfl⟩ := h; exact ⟨by rw [mn_15]; exact tw_1600, by rw [mn_15]; exact tw_392, mt_15, by decide, by decide⟩) (by unfold prm; decide +kernel) ml_111 (HsOk.nil (by decide +kernel))
theorem dd_111_31 : decode (mi 111).2.1 31 = .ok (.if_icmp .ge 35, 3) := by decide +kernel
theorem st_111_31 : Sd 111 31 3 (i_cge 66) := sd_icmp_ge dd_111_31 (by decide)
theorem dd_111_34 : decode (mi 111).2.1 34 = .ok (.iload_n 2, 1) := by decide +kernel
theorem st_111_34 : Sd 111 34 1 (i_ldI 2) := sd_iload_n (j := 2) dd_111_34 rfl
theorem dd_111_35 : decode (mi 111).2.1 35 = .ok (.iload 5, 2) := by decide +kernel
theorem st_111_35 : Sd 111 35 2 (i_ldI 5) := sd_iload dd_111_35
theorem dd_111_37 : decode (mi 111).2.1 37 = .ok (.ishr, 1) := by decide +kernel
theorem st_111_37 : Sd 111 37 1 (i_ishr) := sd_ishr dd_111_37
theorem dd_111_38 : decode (mi 111).2.1 38 = .ok (.iconst 1, 1) := by decide +kernel
theorem st_111_38 : Sd 111 38 1 (i_ic 1) := sd_iconst dd_111_38
theorem dd_111_39 : decode (mi 111).2.1 39 = .ok (.iand, 1) := by decide +kernel
theorem st_111_39 : Sd 111 39 1 (i_iand) := sd_iand dd_111_39
theorem dd_111_40 : decode (mi 111).2.1 40 = .ok (.iconst 1, 1) := by decide +kernel
theorem st_111_40 : Sd 111 40 1 (i_ic 1) := sd_iconst dd_111_40
theorem dd_111_41 : decode (mi 111).2.1 41 = .ok (.if_icmp .ne 19, 3) := by decide +kernel
theorem st_111_41 : Sd 111 41 3 (i_cne 60) := sd_icmp_ne dd_111_41 (by decide)
theorem dd_111_44 : decode (mi 111).2.1 44 = .ok (.iload 4, 2) := by decide +kernel
theorem st_111_44 : Sd 111 44 2 (i_ldI 4) := sd_iload dd_111_44
theorem dd_111_46 : decode (mi 111).2.1 46 = .ok (.aload_n 0, 1) := by decide +kernel
theorem st_111_46 : Sd 111 46 1 (i_ldR 0) := sd_aload_n (j := 0) dd_111_46 rfl
theorem dd_111_47 : decode (mi 111).2.1 47 = .ok (.iload 5, 2) := by decide +kernel
theorem st_111_47 : Sd 111 47 2 (i_ldI 5) := sd_iload dd_111_47
theorem dd_111_49 : decode (mi 111).2.1 49 = .ok (.aload_n 1, 1) := by decide +kernel
theorem st_111_49 : Sd 111 49 1 (i_ldR 1) := sd_aload_n (j := 1) dd_111_49 rfl
theorem dd_111_50 : decode (mi 111).2.1 50 = .ok (.iload_n 3, 1) := by decide +kernel
theorem st_111_50 : Sd 111 50 1 (i_ldI 3) := sd_iload_n (j := 3) dd_111_50 rfl
theorem dd_111_51 : decode (mi 111).2.1 51 = .ok (.invokevirtual 38, 3) := by decide +kernel
theorem st_111_51 : Sd 111 51 3 (i_cV [(15, 19)] 2 6 []) := sd_virt ⟨"java/lang/StringBuilder", "charAt", "(I)C"⟩ dd_111_51 (by rw [mc_111]; exact tw_1191) (fun t j h => by simp only [List.mem_cons, List.not_mem_nil, or_false, Prod.mk.injEq] at h; obtain ⟨rfl, rfl⟩ := h; exact mn_19) (fun t j h => by simp only [List.mem_cons, List.not_mem_nil, or_false, Prod.mk.injEq] at h; obtain ⟨rfl, rfl⟩ := h; exact ⟨by rw [mn_19]; exact tw_599, by rw [mn_19]; exact tw_598, mt_19, by decide, by decide⟩) (by unfold prm; decide +kernel) ml_111 (HsOk.nil (by decide +kernel))
theorem dd_111_54 : decode (mi 111).2.1 54 = .ok (.invokevirtual 42, 3) := by decide +kernel
theorem st_111_54 : Sd 111 54 3 (i_cV [(9, 110)] 3 6 []) := sd_virt ⟨"ContractDesk$Shape", "after", "(IC)I"⟩ dd_111_54 (by rw [mc_111]; exact tw_1192) (fun t j h => by simp only [List.mem_cons, List.not_mem_nil, or_false, Prod.mk.injEq] at h; obtain ⟨rfl, rfl⟩ := h; exact mn_110) (fun t j h => by simp only [List.mem_cons, List.not_mem_nil, or_false, Prod.mk.injEq] at h; obtain ⟨rfl, rfl⟩ := h; exact ⟨by rw [mn_110]; exact tw_25, by rw [mn_110]; exact tw_1194, mt_110, by decide, by decide⟩) (by unfold prm; decide +kernel) ml_111 (HsOk.nil (by decide +kernel))
theorem dd_111_57 : decode (mi 111).2.1 57 = .ok (.ior, 1) := by decide +kernel
theorem st_111_57 : Sd 111 57 1 (i_ior) := sd_ior dd_111_57
theorem dd_111_58 : decode (mi 111).2.1 58 = .ok (.istore 4, 2) := by decide +kernel
theorem st_111_58 : Sd 111 58 2 (i_stI 4) := sd_istore dd_111_58
def bk_111_22 : Tr := sq (i_ldI 5) (sq (i_ldR 0) (sq (i_gR 1 [9]) (sq (i_cV [(15, 15)] 1 6 []) (sq (i_cge 66) (sq (i_ldI 2) (sq (i_ldI 5) (sq (i_ishr) (sq (i_ic 1) (sq (i_iand) (sq (i_ic 1) (sq (i_cne 60) (sq (i_ldI 4) (sq (i_ldR 0) (sq (i_ldI 5) (sq (i_ldR 1) (sq (i_ldI 3) (sq (i_cV [(15, 19)] 2 6 []) (sq (i_cV [(9, 110)] 3 6 []) (sq (i_ior) (sq (i_stI 4) (i_fall 60)))))))))))))))))))))
theorem sb_111_22 : Sd 111 22 38 bk_111_22 := Sd.sq st_111_22 (Sd.sq st_111_24 (Sd.sq st_111_25 (Sd.sq st_111_28 (Sd.sq st_111_31 (Sd.sq st_111_34 (Sd.sq st_111_35 (Sd.sq st_111_37 (Sd.sq st_111_38 (Sd.sq st_111_39 (Sd.sq st_111_40 (Sd.sq st_111_41 (Sd.sq st_111_44 (Sd.sq st_111_46 (Sd.sq st_111_47 (Sd.sq st_111_49 (Sd.sq st_111_50 (Sd.sq st_111_51 (Sd.sq st_111_54 (Sd.sq st_111_57 (Sd.sq st_111_58 (sd_fall rfl)))))))))))))))))))))
theorem dd_111_60 : decode (mi 111).2.1 60 = .ok (.iinc 5 1, 3) := by decide +kernel
theorem st_111_60 : Sd 111 60 3 (i_inc 5 1) := sd_iinc dd_111_60
theorem dd_111_63 : decode (mi 111).2.1 63 = .ok (.goto (-41), 3) := by decide +kernel
theorem st_111_63 : Sd 111 63 3 (i_goto 22) := sd_goto dd_111_63 (by decide)
def bk_111_60 : Tr := sq (i_inc 5 1) (i_goto 22)
theorem sb_111_60 : Sd 111 60 6 bk_111_60 := Sd.sq st_111_60 (st_111_63)
theorem dd_111_66 : decode (mi 111).2.1 66 = .ok (.aload_n 0, 1) := by decide +kernel
theorem st_111_66 : Sd 111 66 1 (i_ldR 0) := sd_aload_n (j := 0) dd_111_66 rfl
theorem dd_111_67 : decode (mi 111).2.1 67 = .ok (.iload 4, 2) := by decide +kernel
theorem st_111_67 : Sd 111 67 2 (i_ldI 4) := sd_iload dd_111_67
theorem dd_111_69 : decode (mi 111).2.1 69 = .ok (.invokevirtual 30, 3) := by decide +kernel
theorem st_111_69 : Sd 111 69 3 (i_cV [(9, 113)] 2 6 []) := sd_virt ⟨"ContractDesk$Shape", "skip", "(I)I"⟩ dd_111_69 (by rw [mc_111]; exact tw_1186) (fun t j h => by simp only [List.mem_cons, List.not_mem_nil, or_false, Prod.mk.injEq] at h; obtain ⟨rfl, rfl⟩ := h; exact mn_113) (fun t j h => by simp only [List.mem_cons, List.not_mem_nil, or_false, Prod.mk.injEq] at h; obtain ⟨rfl, rfl⟩ := h; exact ⟨by rw [mn_113]; exact tw_24, by rw [mn_113]; exact tw_1188, mt_113, by decide, by decide⟩) (by unfold prm; decide +kernel) ml_111 (HsOk.nil (by decide +kernel))
theorem dd_111_72 : decode (mi 111).2.1 72 = .ok (.istore_n 2, 1) := by decide +kernel
theorem st_111_72 : Sd 111 72 1 (i_stI 2) := sd_istore_n (j := 2) dd_111_72 rfl
theorem dd_111_73 : decode (mi 111).2.1 73 = .ok (.iinc 3 1, 3) := by decide +kernel
theorem st_111_73 : Sd 111 73 3 (i_inc 3 1) := sd_iinc dd_111_73
theorem dd_111_76 : decode (mi 111).2.1 76 = .ok (.goto (-68), 3) := by decide +kernel
theorem st_111_76 : Sd 111 76 3 (i_goto 8) := sd_goto dd_111_76 (by decide)
def bk_111_66 : Tr := sq (i_ldR 0) (sq (i_ldI 4) (sq (i_cV [(9, 113)] 2 6 []) (sq (i_stI 2) (sq (i_inc 3 1) (i_goto 8)))))
theorem sb_111_66 : Sd 111 66 13 bk_111_66 := Sd.sq st_111_66 (Sd.sq st_111_67 (Sd.sq st_111_69 (Sd.sq st_111_72 (Sd.sq st_111_73 (st_111_76)))))
theorem dd_111_79 : decode (mi 111).2.1 79 = .ok (.iload_n 2, 1) := by decide +kernel
theorem st_111_79 : Sd 111 79 1 (i_ldI 2) := sd_iload_n (j := 2) dd_111_79 rfl
theorem dd_111_80 : decode (mi 111).2.1 80 = .ok (.aload_n 0, 1) := by decide +kernel
theorem st_111_80 : Sd 111 80 1 (i_ldR 0) := sd_aload_n (j := 0) dd_111_80 rfl
theorem dd_111_81 : decode (mi 111).2.1 81 = .ok (.getfield 12, 3) := by decide +kernel
theorem st_111_81 : Sd 111 81 3 (i_gR 1 [9]) := sd_gR (ref := "ContractDesk$Shape") (decl := "ContractDesk$Shape") (name := "signs") (desc := "Ljava/lang/StringBuilder;") dd_111_81 (by rw [mc_111]; exact tw_1110) (Or.inl rfl) (by decide +kernel)
theorem dd_111_84 : decode (mi 111).2.1 84 = .ok (.invokevirtual 34, 3) := by decide +kernel
theorem st_111_84 : Sd 111 84 3 (i_cV [(15, 15)] 1 6 []) := sd_virt ⟨"java/lang/StringBuilder", "length", "()I"⟩ dd_111_84 (by rw [mc_111]; exact tw_1190) (fun t j h => by simp only [List.mem_cons, List.not_mem_nil, or_false, Prod.mk.injEq] at h; obtain ⟨rfl, rfl⟩ := h; exact mn_15) (fun t j h => by simp only [List.mem_cons, List.not_mem_nil, or_false, Prod.mk.injEq] at h; obtain ⟨rfl, rfl⟩ := h; exact ⟨by rw [mn_15]; exact tw_1600, by rw [mn_15]; exact tw_392, mt_15, by decide, by decide⟩) (by unfold prm; decide +kernel) ml_111 (HsOk.nil (by decide +kernel))
theorem dd_111_87 : decode (mi 111).2.1 87 = .ok (.ishr, 1) := by decide +kernel
theorem st_111_87 : Sd 111 87 1 (i_ishr) := sd_ishr dd_111_87
theorem dd_111_88 : decode (mi 111).2.1 88 = .ok (.iconst 1, 1) := by decide +kernel
theorem st_111_88 : Sd 111 88 1 (i_ic 1) := sd_iconst dd_111_88
theorem dd_111_89 : decode (mi 111).2.1 89 = .ok (.iand, 1) := by decide +kernel
theorem st_111_89 : Sd 111 89 1 (i_iand) := sd_iand dd_111_89
theorem dd_111_90 : decode (mi 111).2.1 90 = .ok (.iconst 1, 1) := by decide +kernel
theorem st_111_90 : Sd 111 90 1 (i_ic 1) := sd_iconst dd_111_90
theorem dd_111_91 : decode (mi 111).2.1 91 = .ok (.if_icmp .ne 7, 3) := by decide +kernel
theorem st_111_91 : Sd 111 91 3 (i_cne 98) := sd_icmp_ne dd_111_91 (by decide)
theorem dd_111_94 : decode (mi 111).2.1 94 = .ok (.iconst 1, 1) := by decide +kernel
theorem st_111_94 : Sd 111 94 1 (i_ic 1) := sd_iconst dd_111_94
theorem dd_111_95 : decode (mi 111).2.1 95 = .ok (.goto 4, 3) := by decide +kernel
theorem st_111_95 : Sd 111 95 3 (i_goto 99) := sd_goto dd_111_95 (by decide)
def bk_111_79 : Tr := sq (i_ldI 2) (sq (i_ldR 0) (sq (i_gR 1 [9]) (sq (i_cV [(15, 15)] 1 6 []) (sq (i_ishr) (sq (i_ic 1) (sq (i_iand) (sq (i_ic 1) (sq (i_cne 98) (sq (i_ic 1) (i_goto 99))))))))))
theorem sb_111_79 : Sd 111 79 19 bk_111_79 := Sd.sq st_111_79 (Sd.sq st_111_80 (Sd.sq st_111_81 (Sd.sq st_111_84 (Sd.sq st_111_87 (Sd.sq st_111_88 (Sd.sq st_111_89 (Sd.sq st_111_90 (Sd.sq st_111_91 (Sd.sq st_111_94 (st_111_95))))))))))
theorem dd_111_98 : decode (mi 111).2.1 98 = .ok (.iconst 0, 1) := by decide +kernel
theorem st_111_98 : Sd 111 98 1 (i_ic 0) := sd_iconst dd_111_98
def bk_111_98 : Tr := sq (i_ic 0) (i_fall 99)
theorem sb_111_98 : Sd 111 98 1 bk_111_98 := Sd.sq st_111_98 (sd_fall rfl)
theorem dd_111_99 : decode (mi 111).2.1 99 = .ok (.ireturn, 1) := by decide +kernel
theorem st_111_99 : Sd 111 99 1 (i_rI 2) := sd_ireturn dd_111_99 (by decide) mr_111
def bk_111_99 : Tr := i_rI 2
theorem sb_111_99 : Sd 111 99 1 bk_111_99 := st_111_99
theorem dd_112_0 : decode (mi 112).2.1 0 = .ok (.aload_n 2, 1) := by decide +kernel
theorem st_112_0 : Sd 112 0 1 (i_ldR 2) := sd_aload_n (j := 2) dd_112_0 rfl
theorem dd_112_1 : decode (mi 112).2.1 1 = .ok (.instanceof 21, 3) := by decide +kernel
theorem st_112_1 : Sd 112 1 3 (i_inst [10] [11, 12]) := sd_instanceof (nm := "ContractDesk$Text") dd_112_1 (by rw [mc_112]; exact tw_1181) okc_1 oknc_1
theorem dd_112_4 : decode (mi 112).2.1 4 = .ok (.ifCond .eq 21, 3) := by decide +kernel
theorem st_112_4 : Sd 112 4 3 (i_zeq 25) := sd_if_eq dd_112_4 (by decide)
theorem dd_112_7 : decode (mi 112).2.1 7 = .ok (.aload_n 0, 1) := by decide +kernel
theorem st_112_7 : Sd 112 7 1 (i_ldR 0) := sd_aload_n (j := 0) dd_112_7 rfl
theorem dd_112_8 : decode (mi 112).2.1 8 = .ok (.aload_n 2, 1) := by decide +kernel
theorem st_112_8 : Sd 112 8 1 (i_ldR 2) := sd_aload_n (j := 2) dd_112_8 rfl
theorem dd_112_9 : decode (mi 112).2.1 9 = .ok (.checkcast 21, 3) := by decide +kernel
theorem st_112_9 : Sd 112 9 3 (i_cast [10]) := sd_checkcast (nm := "ContractDesk$Text") dd_112_9 (by rw [mc_112]; exact tw_1181) okc_1
theorem dd_112_12 : decode (mi 112).2.1 12 = .ok (.getfield 23, 3) := by decide +kernel
theorem st_112_12 : Sd 112 12 3 (i_gR 0 [10]) := sd_gR (ref := "ContractDesk$Text") (decl := "ContractDesk$Text") (name := "letters") (desc := "Ljava/lang/StringBuilder;") dd_112_12 (by rw [mc_112]; exact tw_822) (Or.inl rfl) (by decide +kernel)
theorem dd_112_15 : decode (mi 112).2.1 15 = .ok (.invokevirtual 26, 3) := by decide +kernel
theorem st_112_15 : Sd 112 15 3 (i_cV [(9, 111)] 2 3 []) := sd_virt ⟨"ContractDesk$Shape", "fits", "(Ljava/lang/StringBuilder;)Z"⟩ dd_112_15 (by rw [mc_112]; exact tw_1182) (fun t j h => by simp only [List.mem_cons, List.not_mem_nil, or_false, Prod.mk.injEq] at h; obtain ⟨rfl, rfl⟩ := h; exact mn_111) (fun t j h => by simp only [List.mem_cons, List.not_mem_nil, or_false, Prod.mk.injEq] at h; obtain ⟨rfl, rfl⟩ := h; exact ⟨by rw [mn_111]; exact tw_23, by rw [mn_111]; exact tw_1184, mt_111, by decide, by decide⟩) (by unfold prm; decide +kernel) ml_112 (HsOk.nil (by decide +kernel))
theorem dd_112_18 : decode (mi 112).2.1 18 = .ok (.ifCond .eq 7, 3) := by decide +kernel
theorem st_112_18 : Sd 112 18 3 (i_zeq 25) := sd_if_eq dd_112_18 (by decide)
theorem dd_112_21 : decode (mi 112).2.1 21 = .ok (.iconst 1, 1) := by decide +kernel
theorem st_112_21 : Sd 112 21 1 (i_ic 1) := sd_iconst dd_112_21
theorem dd_112_22 : decode (mi 112).2.1 22 = .ok (.goto 4, 3) := by decide +kernel
theorem st_112_22 : Sd 112 22 3 (i_goto 26) := sd_goto dd_112_22 (by decide)
def bk_112_0 : Tr := sq (i_ldR 2) (sq (i_inst [10] [11, 12]) (sq (i_zeq 25) (sq (i_ldR 0) (sq (i_ldR 2) (sq (i_cast [10]) (sq (i_gR 0 [10]) (sq (i_cV [(9, 111)] 2 3 []) (sq (i_zeq 25) (sq (i_ic 1) (i_goto 26))))))))))
theorem sb_112_0 : Sd 112 0 25 bk_112_0 := Sd.sq st_112_0 (Sd.sq st_112_1 (Sd.sq st_112_4 (Sd.sq st_112_7 (Sd.sq st_112_8 (Sd.sq st_112_9 (Sd.sq st_112_12 (Sd.sq st_112_15 (Sd.sq st_112_18 (Sd.sq st_112_21 (st_112_22))))))))))
theorem dd_112_25 : decode (mi 112).2.1 25 = .ok (.iconst 0, 1) := by decide +kernel
theorem st_112_25 : Sd 112 25 1 (i_ic 0) := sd_iconst dd_112_25
def bk_112_25 : Tr := sq (i_ic 0) (i_fall 26)
theorem sb_112_25 : Sd 112 25 1 bk_112_25 := Sd.sq st_112_25 (sd_fall rfl)
theorem dd_112_26 : decode (mi 112).2.1 26 = .ok (.ireturn, 1) := by decide +kernel
theorem st_112_26 : Sd 112 26 1 (i_rI 2) := sd_ireturn dd_112_26 (by decide) mr_112
def bk_112_26 : Tr := i_rI 2
theorem sb_112_26 : Sd 112 26 1 bk_112_26 := st_112_26
theorem dd_113_0 : decode (mi 113).2.1 0 = .ok (.iload_n 1, 1) := by decide +kernel
theorem st_113_0 : Sd 113 0 1 (i_ldI 1) := sd_iload_n (j := 1) dd_113_0 rfl
theorem dd_113_1 : decode (mi 113).2.1 1 = .ok (.istore_n 2, 1) := by decide +kernel
theorem st_113_1 : Sd 113 1 1 (i_stI 2) := sd_istore_n (j := 2) dd_113_1 rfl
theorem dd_113_2 : decode (mi 113).2.1 2 = .ok (.iconst 0, 1) := by decide +kernel
theorem st_113_2 : Sd 113 2 1 (i_ic 0) := sd_iconst dd_113_2
theorem dd_113_3 : decode (mi 113).2.1 3 = .ok (.istore_n 3, 1) := by decide +kernel
theorem st_113_3 : Sd 113 3 1 (i_stI 3) := sd_istore_n (j := 3) dd_113_3 rfl
def bk_113_0 : Tr := sq (i_ldI 1) (sq (i_stI 2) (sq (i_ic 0) (sq (i_stI 3) (i_fall 4))))
theorem sb_113_0 : Sd 113 0 4 bk_113_0 := Sd.sq st_113_0 (Sd.sq st_113_1 (Sd.sq st_113_2 (Sd.sq st_113_3 (sd_fall rfl))))
theorem dd_113_4 : decode (mi 113).2.1 4 = .ok (.iload_n 3, 1) := by decide +kernel
theorem st_113_4 : Sd 113 4 1 (i_ldI 3) := sd_iload_n (j := 3) dd_113_4 rfl
theorem dd_113_5 : decode (mi 113).2.1 5 = .ok (.aload_n 0, 1) := by decide +kernel
theorem st_113_5 : Sd 113 5 1 (i_ldR 0) := sd_aload_n (j := 0) dd_113_5 rfl
theorem dd_113_6 : decode (mi 113).2.1 6 = .ok (.getfield 12, 3) := by decide +kernel
theorem st_113_6 : Sd 113 6 3 (i_gR 1 [9]) := sd_gR (ref := "ContractDesk$Shape") (decl := "ContractDesk$Shape") (name := "signs") (desc := "Ljava/lang/StringBuilder;") dd_113_6 (by rw [mc_113]; exact tw_1110) (Or.inl rfl) (by decide +kernel)
theorem dd_113_9 : decode (mi 113).2.1 9 = .ok (.invokevirtual 34, 3) := by decide +kernel
theorem st_113_9 : Sd 113 9 3 (i_cV [(15, 15)] 1 4 []) := sd_virt ⟨"java/lang/StringBuilder", "length", "()I"⟩ dd_113_9 (by rw [mc_113]; exact tw_1190) (fun t j h => by simp only [List.mem_cons, List.not_mem_nil, or_false, Prod.mk.injEq] at h; obtain ⟨rfl, rfl⟩ := h; exact mn_15) (fun t j h => by simp only [List.mem_cons, List.not_mem_nil, or_false, Prod.mk.injEq] at h; obtain ⟨rfl, rfl⟩ := h; exact ⟨by rw [mn_15]; exact tw_1600, by rw [mn_15]; exact tw_392, mt_15, by decide, by decide⟩) (by unfold prm; decide +kernel) ml_113 (HsOk.nil (by decide +kernel))
theorem dd_113_12 : decode (mi 113).2.1 12 = .ok (.if_icmp .ge 37, 3) := by decide +kernel
theorem st_113_12 : Sd 113 12 3 (i_cge 49) := sd_icmp_ge dd_113_12 (by decide)
theorem dd_113_15 : decode (mi 113).2.1 15 = .ok (.iload_n 2, 1) := by decide +kernel
theorem st_113_15 : Sd 113 15 1 (i_ldI 2) := sd_iload_n (j := 2) dd_113_15 rfl
theorem dd_113_16 : decode (mi 113).2.1 16 = .ok (.iload_n 3, 1) := by decide +kernel
theorem st_113_16 : Sd 113 16 1 (i_ldI 3) := sd_iload_n (j := 3) dd_113_16 rfl
theorem dd_113_17 : decode (mi 113).2.1 17 = .ok (.ishr, 1) := by decide +kernel
theorem st_113_17 : Sd 113 17 1 (i_ishr) := sd_ishr dd_113_17
theorem dd_113_18 : decode (mi 113).2.1 18 = .ok (.iconst 1, 1) := by decide +kernel
theorem st_113_18 : Sd 113 18 1 (i_ic 1) := sd_iconst dd_113_18
theorem dd_113_19 : decode (mi 113).2.1 19 = .ok (.iand, 1) := by decide +kernel
theorem st_113_19 : Sd 113 19 1 (i_iand) := sd_iand dd_113_19
theorem dd_113_20 : decode (mi 113).2.1 20 = .ok (.iconst 1, 1) := by decide +kernel
theorem st_113_20 : Sd 113 20 1 (i_ic 1) := sd_iconst dd_113_20
theorem dd_113_21 : decode (mi 113).2.1 21 = .ok (.if_icmp .ne 22, 3) := by decide +kernel
theorem st_113_21 : Sd 113 21 3 (i_cne 43) := sd_icmp_ne dd_113_21 (by decide)
theorem dd_113_24 : decode (mi 113).2.1 24 = .ok (.aload_n 0, 1) := by decide +kernel
theorem st_113_24 : Sd 113 24 1 (i_ldR 0) := sd_aload_n (j := 0) dd_113_24 rfl
theorem dd_113_25 : decode (mi 113).2.1 25 = .ok (.getfield 18, 3) := by decide +kernel
theorem st_113_25 : Sd 113 25 3 (i_gR 2 [9]) := sd_gR (ref := "ContractDesk$Shape") (decl := "ContractDesk$Shape") (name := "often") (desc := "Ljava/lang/StringBuilder;") dd_113_25 (by rw [mc_113]; exact tw_1112) (Or.inl rfl) (by decide +kernel)
theorem dd_113_28 : decode (mi 113).2.1 28 = .ok (.iload_n 3, 1) := by decide +kernel
theorem st_113_28 : Sd 113 28 1 (i_ldI 3) := sd_iload_n (j := 3) dd_113_28 rfl
theorem dd_113_29 : decode (mi 113).2.1 29 = .ok (.invokevirtual 38, 3) := by decide +kernel
theorem st_113_29 : Sd 113 29 3 (i_cV [(15, 19)] 2 4 []) := sd_virt ⟨"java/lang/StringBuilder", "charAt", "(I)C"⟩ dd_113_29 (by rw [mc_113]; exact tw_1191) (fun t j h => by simp only [List.mem_cons, List.not_mem_nil, or_false, Prod.mk.injEq] at h; obtain ⟨rfl, rfl⟩ := h; exact mn_19) (fun t j h => by simp only [List.mem_cons, List.not_mem_nil, or_false, Prod.mk.injEq] at h; obtain ⟨rfl, rfl⟩ := h; exact ⟨by rw [mn_19]; exact tw_599, by rw [mn_19]; exact tw_598, mt_19, by decide, by decide⟩) (by unfold prm; decide +kernel) ml_113 (HsOk.nil (by decide +kernel))
theorem dd_113_32 : decode (mi 113).2.1 32 = .ok (.bipush 42, 2) := by decide +kernel
theorem st_113_32 : Sd 113 32 2 (i_ic 42) := sd_bipush dd_113_32 (by decide)
theorem dd_113_34 : decode (mi 113).2.1 34 = .ok (.if_icmp .ne 9, 3) := by decide +kernel
theorem st_113_34 : Sd 113 34 3 (i_cne 43) := sd_icmp_ne dd_113_34 (by decide)
theorem dd_113_37 : decode (mi 113).2.1 37 = .ok (.iload_n 2, 1) := by decide +kernel
theorem st_113_37 : Sd 113 37 1 (i_ldI 2) := sd_iload_n (j := 2) dd_113_37 rfl
theorem dd_113_38 : decode (mi 113).2.1 38 = .ok (.iconst 2, 1) := by decide +kernel
theorem st_113_38 : Sd 113 38 1 (i_ic 2) := sd_iconst dd_113_38
theorem dd_113_39 : decode (mi 113).2.1 39 = .ok (.iload_n 3, 1) := by decide +kernel
theorem st_113_39 : Sd 113 39 1 (i_ldI 3) := sd_iload_n (j := 3) dd_113_39 rfl
theorem dd_113_40 : decode (mi 113).2.1 40 = .ok (.ishl, 1) := by decide +kernel
theorem st_113_40 : Sd 113 40 1 (i_ishl) := sd_ishl dd_113_40
theorem dd_113_41 : decode (mi 113).2.1 41 = .ok (.ior, 1) := by decide +kernel
theorem st_113_41 : Sd 113 41 1 (i_ior) := sd_ior dd_113_41
theorem dd_113_42 : decode (mi 113).2.1 42 = .ok (.istore_n 2, 1) := by decide +kernel
theorem st_113_42 : Sd 113 42 1 (i_stI 2) := sd_istore_n (j := 2) dd_113_42 rfl
def bk_113_4 : Tr := sq (i_ldI 3) (sq (i_ldR 0) (sq (i_gR 1 [9]) (sq (i_cV [(15, 15)] 1 4 []) (sq (i_cge 49) (sq (i_ldI 2) (sq (i_ldI 3) (sq (i_ishr) (sq (i_ic 1) (sq (i_iand) (sq (i_ic 1) (sq (i_cne 43) (sq (i_ldR 0) (sq (i_gR 2 [9]) (sq (i_ldI 3) (sq (i_cV [(15, 19)] 2 4 []) (sq (i_ic 42) (sq (i_cne 43) (sq (i_ldI 2) (sq (i_ic 2) (sq (i_ldI 3) (sq (i_ishl) (sq (i_ior) (sq (i_stI 2) (i_fall 43))))))))))))))))))))))))
theorem sb_113_4 : Sd 113 4 39 bk_113_4 := Sd.sq st_113_4 (Sd.sq st_113_5 (Sd.sq st_113_6 (Sd.sq st_113_9 (Sd.sq st_113_12 (Sd.sq st_113_15 (Sd.sq st_113_16 (Sd.sq st_113_17 (Sd.sq st_113_18 (Sd.sq st_113_19 (Sd.sq st_113_20 (Sd.sq st_113_21 (Sd.sq st_113_24 (Sd.sq st_113_25 (Sd.sq st_113_28 (Sd.sq st_113_29 (Sd.sq st_113_32 (Sd.sq st_113_34 (Sd.sq st_113_37 (Sd.sq st_113_38 (Sd.sq st_113_39 (Sd.sq st_113_40 (Sd.sq st_113_41 (Sd.sq st_113_42 (sd_fall rfl))))))))))))))))))))))))
theorem dd_113_43 : decode (mi 113).2.1 43 = .ok (.iinc 3 1, 3) := by decide +kernel
theorem st_113_43 : Sd 113 43 3 (i_inc 3 1) := sd_iinc dd_113_43
theorem dd_113_46 : decode (mi 113).2.1 46 = .ok (.goto (-42), 3) := by decide +kernel
theorem st_113_46 : Sd 113 46 3 (i_goto 4) := sd_goto dd_113_46 (by decide)
def bk_113_43 : Tr := sq (i_inc 3 1) (i_goto 4)
theorem sb_113_43 : Sd 113 43 6 bk_113_43 := Sd.sq st_113_43 (st_113_46)
theorem dd_113_49 : decode (mi 113).2.1 49 = .ok (.iload_n 2, 1) := by decide +kernel
theorem st_113_49 : Sd 113 49 1 (i_ldI 2) := sd_iload_n (j := 2) dd_113_49 rfl
theorem dd_113_50 : decode (mi 113).2.1 50 = .ok (.ireturn, 1) := by decide +kernel
theorem st_113_50 : Sd 113 50 1 (i_rI 0) := sd_ireturn dd_113_50 (by decide) mr_113
def bk_113_49 : Tr := sq (i_ldI 2) (i_rI 0)
theorem sb_113_49 : Sd 113 49 2 bk_113_49 := Sd.sq st_113_49 (st_113_50)
theorem dd_114_0 : decode (mi 114).2.1 0 = .ok (.aload_n 0, 1) := by decide +kernel
theorem st_114_0 : Sd 114 0 1 (i_ldR 0) := sd_aload_n (j := 0) dd_114_0 rfl
theorem dd_114_1 : decode (mi 114).2.1 1 = .ok (.invokespecial 1, 3) := by decide +kernel
theorem st_114_1 : Sd 114 1 3 (i_cI 72 1 2 []) := sd_initN (host := "ContractDesk") dd_114_1 (by rw [mc_114, mn_72]; exact tw_1055) (by rw [mn_72]; exact tw_1056) mt_72 pm_72 (by rw [mn_72]) (by decide +kernel) ml_114 (HsOk.nil (by decide +kernel))
theorem dd_114_4 : decode (mi 114).2.1 4 = .ok (.aload_n 0, 1) := by decide +kernel
theorem st_114_4 : Sd 114 4 1 (i_ldR 0) := sd_aload_n (j := 0) dd_114_4 rfl
theorem dd_114_5 : decode (mi 114).2.1 5 = .ok (.iload_n 1, 1) := by decide +kernel
theorem st_114_5 : Sd 114 5 1 (i_ldI 1) := sd_iload_n (j := 1) dd_114_5 rfl
theorem dd_114_6 : decode (mi 114).2.1 6 = .ok (.putfield 7, 3) := by decide +kernel
theorem st_114_6 : Sd 114 6 3 (i_pI 1 [6] 1) := sd_pI (ref := "ContractDesk$Simple") (decl := "ContractDesk$Simple") (name := "sign") (desc := "C") dd_114_6 (by rw [mc_114]; exact tw_1059) (Or.inl rfl) (by decide +kernel) (by decide +kernel) (by decide)
theorem dd_114_9 : decode (mi 114).2.1 9 = .ok (.return_, 1) := by decide +kernel
theorem st_114_9 : Sd 114 9 1 (i_ret) := sd_ret dd_114_9 mr_114
def bk_114_0 : Tr := sq (i_ldR 0) (sq (i_cI 72 1 2 []) (sq (i_ldR 0) (sq (i_ldI 1) (sq (i_pI 1 [6] 1) (i_ret)))))
theorem sb_114_0 : Sd 114 0 10 bk_114_0 := Sd.sq st_114_0 (Sd.sq st_114_1 (Sd.sq st_114_4 (Sd.sq st_114_5 (Sd.sq st_114_6 (st_114_9)))))
theorem dd_115_0 : decode (mi 115).2.1 0 = .ok (.aload_n 0, 1) := by decide +kernel
theorem st_115_0 : Sd 115 0 1 (i_ldR 0) := sd_aload_n (j := 0) dd_115_0 rfl
theorem dd_115_1 : decode (mi 115).2.1 1 = .ok (.getfield 7, 3) := by decide +kernel
theorem st_115_1 : Sd 115 1 3 (i_gI 1 [6]) := sd_gI (ref := "ContractDesk$Simple") (decl := "ContractDesk$Simple") (name := "sign") (desc := "C") dd_115_1 (by rw [mc_115]; exact tw_1059) (Or.inl rfl) (by decide +kernel)
theorem dd_115_4 : decode (mi 115).2.1 4 = .ok (.lookupswitch 64 #[(48, 48), (61, 42), (116, 36)], 36) := by decide +kernel
theorem st_115_4 : Sd 115 4 36 (i_lsw 68 [(48, 52), (61, 46), (116, 40)]) := sd_lsw dd_115_4 (by decide) (by decide) (by decide)
def bk_115_0 : Tr := sq (i_ldR 0) (sq (i_gI 1 [6]) (i_lsw 68 [(48, 52), (61, 46), (116, 40)]))
theorem sb_115_0 : Sd 115 0 40 bk_115_0 := Sd.sq st_115_0 (Sd.sq st_115_1 (st_115_4))
theorem dd_115_40 : decode (mi 115).2.1 40 = .ok (.aload_n 2, 1) := by decide +kernel
theorem st_115_40 : Sd 115 40 1 (i_ldR 2) := sd_aload_n (j := 2) dd_115_40 rfl
theorem dd_115_41 : decode (mi 115).2.1 41 = .ok (.aload_n 1, 1) := by decide +kernel
theorem st_115_41 : Sd 115 41 1 (i_ldR 1) := sd_aload_n (j := 1) dd_115_41 rfl
theorem dd_115_42 : decode (mi 115).2.1 42 = .ok (.invokevirtual 13, 3) := by decide +kernel
theorem st_115_42 : Sd 115 42 3 (i_cV [(10, 123), (11, 123), (12, 123)] 2 3 []) := sd_virt ⟨"ContractDesk$Value", "isLike", "(LContractDesk$Value;)Z"⟩ dd_115_42 (by rw [mc_115]; exact tw_1199) (fun t j h => by simp only [List.mem_cons, List.not_mem_nil, or_false, Prod.mk.injEq] at h; rcases h with ⟨rfl, rfl⟩ | ⟨rfl, rfl⟩ | ⟨rfl, rfl⟩; exact mn_123; exact mn_123; exact mn_123) (fun t j h => by simp only [List.mem_cons, List.not_mem_nil, or_false, Prod.mk.injEq] at h; rcases h with ⟨rfl, rfl⟩ | ⟨rfl, rfl⟩ | ⟨rfl, rfl⟩; exact ⟨by rw [mn_123]; exact tw_1607, by rw [mn_123]; exact tw_956, mt_123, by decide, by decide⟩; exact ⟨by rw [mn_123]; exact tw_1606, by rw [mn_123]; exact tw_956, mt_123, by decide, by decide⟩; exact ⟨by rw [mn_123]; exact tw_1605, by rw [mn_123]; exact tw_956, mt_123, by decide, by decide⟩) (by unfold prm; decide +kernel) ml_115 (HsOk.nil (by decide +kernel))
theorem dd_115_45 : decode (mi 115).2.1 45 = .ok (.ireturn, 1) := by decide +kernel
theorem st_115_45 : Sd 115 45 1 (i_rI 2) := sd_ireturn dd_115_45 (by decide) mr_115
def bk_115_40 : Tr := sq (i_ldR 2) (sq (i_ldR 1) (sq (i_cV [(10, 123), (11, 123), (12, 123)] 2 3 []) (i_rI 2)))
theorem sb_115_40 : Sd 115 40 6 bk_115_40 := Sd.sq st_115_40 (Sd.sq st_115_41 (Sd.sq st_115_42 (st_115_45)))
theorem dd_115_46 : decode (mi 115).2.1 46 = .ok (.aload_n 1, 1) := by decide +kernel
theorem st_115_46 : Sd 115 46 1 (i_ldR 1) := sd_aload_n (j := 1) dd_115_46 rfl
theorem dd_115_47 : decode (mi 115).2.1 47 = .ok (.aload_n 2, 1) := by decide +kernel
theorem st_115_47 : Sd 115 47 1 (i_ldR 2) := sd_aload_n (j := 2) dd_115_47 rfl
theorem dd_115_48 : decode (mi 115).2.1 48 = .ok (.invokevirtual 19, 3) := by decide +kernel
theorem st_115_48 : Sd 115 48 3 (i_cV [(10, 120), (11, 78), (12, 67)] 2 3 []) := sd_virtU ⟨"ContractDesk$Value", "same", "(LContractDesk$Value;)Z"⟩ "ContractDesk$Value" dd_115_48 (by rw [mc_115]; exact tw_1200) (by exact tw_947) (Or.inl tw_946) (by decide) (fun t j h => by simp only [List.mem_cons, List.not_mem_nil, or_false, Prod.mk.injEq] at h; rcases h with ⟨rfl, rfl⟩ | ⟨rfl, rfl⟩ | ⟨rfl, rfl⟩; exact ⟨by rw [mn_120]; exact tw_991, by rw [mn_120]; exact tw_981, mt_120, by decide, by decide⟩; exact ⟨by rw [mn_78]; exact tw_990, by rw [mn_78]; exact tw_975, mt_78, by decide, by decide⟩; exact ⟨by rw [mn_67]; exact tw_948, by rw [mn_67]; exact tw_949, mt_67, by decide, by decide⟩) (by unfold prm; decide +kernel) ml_115 (HsOk.nil (by decide +kernel))
theorem dd_115_51 : decode (mi 115).2.1 51 = .ok (.ireturn, 1) := by decide +kernel
theorem st_115_51 : Sd 115 51 1 (i_rI 2) := sd_ireturn dd_115_51 (by decide) mr_115
def bk_115_46 : Tr := sq (i_ldR 1) (sq (i_ldR 2) (sq (i_cV [(10, 120), (11, 78), (12, 67)] 2 3 []) (i_rI 2)))
theorem sb_115_46 : Sd 115 46 6 bk_115_46 := Sd.sq st_115_46 (Sd.sq st_115_47 (Sd.sq st_115_48 (st_115_51)))
theorem dd_115_52 : decode (mi 115).2.1 52 = .ok (.aload_n 2, 1) := by decide +kernel
theorem st_115_52 : Sd 115 52 1 (i_ldR 2) := sd_aload_n (j := 2) dd_115_52 rfl
theorem dd_115_53 : decode (mi 115).2.1 53 = .ok (.invokevirtual 22, 3) := by decide +kernel
theorem st_115_53 : Sd 115 53 3 (i_cV [(10, 119), (11, 77), (12, 66)] 1 3 []) := sd_virtU ⟨"ContractDesk$Value", "kind", "()LContractDesk$Kind;"⟩ "ContractDesk$Value" dd_115_53 (by rw [mc_115]; exact tw_1201) (by exact tw_960) (Or.inl tw_959) (by decide) (fun t j h => by simp only [List.mem_cons, List.not_mem_nil, or_false, Prod.mk.injEq] at h; rcases h with ⟨rfl, rfl⟩ | ⟨rfl, rfl⟩ | ⟨rfl, rfl⟩; exact ⟨by rw [mn_119]; exact tw_967, by rw [mn_119]; exact tw_968, mt_119, by decide, by decide⟩; exact ⟨by rw [mn_77]; exact tw_964, by rw [mn_77]; exact tw_965, mt_77, by decide, by decide⟩; exact ⟨by rw [mn_66]; exact tw_961, by rw [mn_66]; exact tw_962, mt_66, by decide, by decide⟩) (by unfold prm; decide +kernel) ml_115 (HsOk.nil (by decide +kernel))
theorem dd_115_56 : decode (mi 115).2.1 56 = .ok (.getstatic 26, 3) := by decide +kernel
theorem st_115_56 : Sd 115 56 3 (i_gs 0) := sd_gs (n := 0) dd_115_56 (by rw [mc_115]; exact tw_1202) (by decide)
theorem dd_115_59 : decode (mi 115).2.1 59 = .ok (.if_acmp .ne 7, 3) := by decide +kernel
theorem st_115_59 : Sd 115 59 3 (i_ane 66) := sd_acmp_ne dd_115_59 (by decide)
theorem dd_115_62 : decode (mi 115).2.1 62 = .ok (.iconst 1, 1) := by decide +kernel
theorem st_115_62 : Sd 115 62 1 (i_ic 1) := sd_iconst dd_115_62
theorem dd_115_63 : decode (mi 115).2.1 63 = .ok (.goto 4, 3) := by decide +kernel
theorem st_115_63 : Sd 115 63 3 (i_goto 67) := sd_goto dd_115_63 (by decide)
def bk_115_52 : Tr := sq (i_ldR 2) (sq (i_cV [(10, 119), (11, 77), (12, 66)] 1 3 []) (sq (i_gs 0) (sq (i_ane 66) (sq (i_ic 1) (i_goto 67)))))
theorem sb_115_52 : Sd 115 52 14 bk_115_52 := Sd.sq st_115_52 (Sd.sq st_115_53 (Sd.sq st_115_56 (Sd.sq st_115_59 (Sd.sq st_115_62 (st_115_63)))))
theorem dd_115_66 : decode (mi 115).2.1 66 = .ok (.iconst 0, 1) := by decide +kernel
theorem st_115_66 : Sd 115 66 1 (i_ic 0) := sd_iconst dd_115_66
def bk_115_66 : Tr := sq (i_ic 0) (i_fall 67)
theorem sb_115_66 : Sd 115 66 1 bk_115_66 := Sd.sq st_115_66 (sd_fall rfl)
theorem dd_115_67 : decode (mi 115).2.1 67 = .ok (.ireturn, 1) := by decide +kernel
theorem st_115_67 : Sd 115 67 1 (i_rI 2) := sd_ireturn dd_115_67 (by decide) mr_115
def bk_115_67 : Tr := i_rI 2
theorem sb_115_67 : Sd 115 67 1 bk_115_67 := st_115_67
theorem dd_115_68 : decode (mi 115).2.1 68 = .ok (.aload_n 2, 1) := by decide +kernel
theorem st_115_68 : Sd 115 68 1 (i_ldR 2) := sd_aload_n (j := 2) dd_115_68 rfl
theorem dd_115_69 : decode (mi 115).2.1 69 = .ok (.invokevirtual 22, 3) := by decide +kernel
theorem st_115_69 : Sd 115 69 3 (i_cV [(10, 119), (11, 77), (12, 66)] 1 3 []) := sd_virtU ⟨"ContractDesk$Value", "kind", "()LContractDesk$Kind;"⟩ "ContractDesk$Value" dd_115_69 (by rw [mc_115]; exact tw_1201) (by exact tw_960) (Or.inl tw_959) (by decide) (fun t j h => by simp only [List.mem_cons, List.not_mem_nil, or_false, Prod.mk.injEq] at h; rcases h with ⟨rfl, rfl⟩ | ⟨rfl, rfl⟩ | ⟨rfl, rfl⟩; exact ⟨by rw [mn_119]; exact tw_967, by rw [mn_119]; exact tw_968, mt_119, by decide, by decide⟩; exact ⟨by rw [mn_77]; exact tw_964, by rw [mn_77]; exact tw_965, mt_77, by decide, by decide⟩; exact ⟨by rw [mn_66]; exact tw_961, by rw [mn_66]; exact tw_962, mt_66, by decide, by decide⟩) (by unfold prm; decide +kernel) ml_115 (HsOk.nil (by decide +kernel))
theorem dd_115_72 : decode (mi 115).2.1 72 = .ok (.getstatic 32, 3) := by decide +kernel
theorem st_115_72 : Sd 115 72 3 (i_gs 2) := sd_gs (n := 2) dd_115_72 (by rw [mc_115]; exact tw_1203) (by decide)
theorem dd_115_75 : decode (mi 115).2.1 75 = .ok (.if_acmp .ne 7, 3) := by decide +kernel
theorem st_115_75 : Sd 115 75 3 (i_ane 82) := sd_acmp_ne dd_115_75 (by decide)
theorem dd_115_78 : decode (mi 115).2.1 78 = .ok (.iconst 1, 1) := by decide +kernel
theorem st_115_78 : Sd 115 78 1 (i_ic 1) := sd_iconst dd_115_78
theorem dd_115_79 : decode (mi 115).2.1 79 = .ok (.goto 4, 3) := by decide +kernel
theorem st_115_79 : Sd 115 79 3 (i_goto 83) := sd_goto dd_115_79 (by decide)
def bk_115_68 : Tr := sq (i_ldR 2) (sq (i_cV [(10, 119), (11, 77), (12, 66)] 1 3 []) (sq (i_gs 2) (sq (i_ane 82) (sq (i_ic 1) (i_goto 83)))))
theorem sb_115_68 : Sd 115 68 14 bk_115_68 := Sd.sq st_115_68 (Sd.sq st_115_69 (Sd.sq st_115_72 (Sd.sq st_115_75 (Sd.sq st_115_78 (st_115_79)))))
theorem dd_115_82 : decode (mi 115).2.1 82 = .ok (.iconst 0, 1) := by decide +kernel
theorem st_115_82 : Sd 115 82 1 (i_ic 0) := sd_iconst dd_115_82
def bk_115_82 : Tr := sq (i_ic 0) (i_fall 83)
theorem sb_115_82 : Sd 115 82 1 bk_115_82 := Sd.sq st_115_82 (sd_fall rfl)
theorem dd_115_83 : decode (mi 115).2.1 83 = .ok (.ireturn, 1) := by decide +kernel
theorem st_115_83 : Sd 115 83 1 (i_rI 2) := sd_ireturn dd_115_83 (by decide) mr_115
def bk_115_83 : Tr := i_rI 2
theorem sb_115_83 : Sd 115 83 1 bk_115_83 := st_115_83
theorem dd_116_0 : decode (mi 116).2.1 0 = .ok (.aload_n 0, 1) := by decide +kernel
theorem st_116_0 : Sd 116 0 1 (i_ldR 0) := sd_aload_n (j := 0) dd_116_0 rfl
theorem dd_116_1 : decode (mi 116).2.1 1 = .ok (.getfield 7, 3) := by decide +kernel
theorem st_116_1 : Sd 116 1 3 (i_gI 1 [6]) := sd_gI (ref := "ContractDesk$Simple") (decl := "ContractDesk$Simple") (name := "sign") (desc := "C") dd_116_1 (by rw [mc_116]; exact tw_1059) (Or.inl rfl) (by decide +kernel)
theorem dd_116_4 : decode (mi 116).2.1 4 = .ok (.bipush 116, 2) := by decide +kernel
theorem st_116_4 : Sd 116 4 2 (i_ic 116) := sd_bipush dd_116_4 (by decide)
theorem dd_116_6 : decode (mi 116).2.1 6 = .ok (.if_icmp .ne 7, 3) := by decide +kernel
theorem st_116_6 : Sd 116 6 3 (i_cne 13) := sd_icmp_ne dd_116_6 (by decide)
theorem dd_116_9 : decode (mi 116).2.1 9 = .ok (.iconst 1, 1) := by decide +kernel
theorem st_116_9 : Sd 116 9 1 (i_ic 1) := sd_iconst dd_116_9
theorem dd_116_10 : decode (mi 116).2.1 10 = .ok (.goto 4, 3) := by decide +kernel
theorem st_116_10 : Sd 116 10 3 (i_goto 14) := sd_goto dd_116_10 (by decide)
def bk_116_0 : Tr := sq (i_ldR 0) (sq (i_gI 1 [6]) (sq (i_ic 116) (sq (i_cne 13) (sq (i_ic 1) (i_goto 14)))))
theorem sb_116_0 : Sd 116 0 13 bk_116_0 := Sd.sq st_116_0 (Sd.sq st_116_1 (Sd.sq st_116_4 (Sd.sq st_116_6 (Sd.sq st_116_9 (st_116_10)))))
theorem dd_116_13 : decode (mi 116).2.1 13 = .ok (.iconst 0, 1) := by decide +kernel
theorem st_116_13 : Sd 116 13 1 (i_ic 0) := sd_iconst dd_116_13
def bk_116_13 : Tr := sq (i_ic 0) (i_fall 14)
theorem sb_116_13 : Sd 116 13 1 bk_116_13 := Sd.sq st_116_13 (sd_fall rfl)
theorem dd_116_14 : decode (mi 116).2.1 14 = .ok (.ireturn, 1) := by decide +kernel
theorem st_116_14 : Sd 116 14 1 (i_rI 2) := sd_ireturn dd_116_14 (by decide) mr_116
def bk_116_14 : Tr := i_rI 2
theorem sb_116_14 : Sd 116 14 1 bk_116_14 := st_116_14
theorem dd_117_0 : decode (mi 117).2.1 0 = .ok (.aload_n 0, 1) := by decide +kernel
theorem st_117_0 : Sd 117 0 1 (i_ldR 0) := sd_aload_n (j := 0) dd_117_0 rfl
theorem dd_117_1 : decode (mi 117).2.1 1 = .ok (.invokespecial 1, 3) := by decide +kernel
theorem st_117_1 : Sd 117 1 3 (i_cI 121 1 1 []) := sd_initN (host := "ContractDesk") dd_117_1 (by rw [mc_117, mn_121]; exact tw_815) (by rw [mn_121]; exact tw_816) mt_121 pm_121 (by rw [mn_121]) (by decide +kernel) ml_117 (HsOk.nil (by decide +kernel))
theorem dd_117_4 : decode (mi 117).2.1 4 = .ok (.aload_n 0, 1) := by decide +kernel
theorem st_117_4 : Sd 117 4 1 (i_ldR 0) := sd_aload_n (j := 0) dd_117_4 rfl
theorem dd_117_5 : decode (mi 117).2.1 5 = .ok (.new 7, 3) := by decide +kernel
theorem st_117_5 : Sd 117 5 3 (i_new 15) := sd_new dd_117_5 (by rw [mc_117]; exact tw_819) (by exact tw_72) (by exact tw_117) (by decide) (by decide)
theorem dd_117_8 : decode (mi 117).2.1 8 = .ok (.dup, 1) := by decide +kernel
theorem st_117_8 : Sd 117 8 1 (i_dup) := sd_dup dd_117_8
theorem dd_117_9 : decode (mi 117).2.1 9 = .ok (.bipush 12, 2) := by decide +kernel
theorem st_117_9 : Sd 117 9 2 (i_ic 12) := sd_bipush dd_117_9 (by decide)
theorem dd_117_11 : decode (mi 117).2.1 11 = .ok (.invokespecial 9, 3) := by decide +kernel
theorem st_117_11 : Sd 117 11 3 (i_cI 0 2 1 []) := sd_init dd_117_11 (by rw [mc_117, mn_0]; exact tw_820) (by rw [mn_0]; exact tw_119) mt_0 pm_0 (by rw [mn_0]) (by decide +kernel) ml_117 (HsOk.nil (by decide +kernel))
theorem dd_117_14 : decode (mi 117).2.1 14 = .ok (.putfield 12, 3) := by decide +kernel
theorem st_117_14 : Sd 117 14 3 (i_pR 0 [10]) := sd_pR (ref := "ContractDesk$Text") (decl := "ContractDesk$Text") (name := "letters") (desc := "Ljava/lang/StringBuilder;") dd_117_14 (by rw [mc_117]; exact tw_821) (Or.inl rfl) (by decide +kernel) (by decide +kernel)
theorem dd_117_17 : decode (mi 117).2.1 17 = .ok (.return_, 1) := by decide +kernel
theorem st_117_17 : Sd 117 17 1 (i_ret) := sd_ret dd_117_17 mr_117
def bk_117_0 : Tr := sq (i_ldR 0) (sq (i_cI 121 1 1 []) (sq (i_ldR 0) (sq (i_new 15) (sq (i_dup) (sq (i_ic 12) (sq (i_cI 0 2 1 []) (sq (i_pR 0 [10]) (i_ret))))))))
theorem sb_117_0 : Sd 117 0 18 bk_117_0 := Sd.sq st_117_0 (Sd.sq st_117_1 (Sd.sq st_117_4 (Sd.sq st_117_5 (Sd.sq st_117_8 (Sd.sq st_117_9 (Sd.sq st_117_11 (Sd.sq st_117_14 (st_117_17))))))))
theorem dd_118_0 : decode (mi 118).2.1 0 = .ok (.iload_n 2, 1) := by decide +kernel
theorem st_118_0 : Sd 118 0 1 (i_ldI 2) := sd_iload_n (j := 2) dd_118_0 rfl
theorem dd_118_1 : decode (mi 118).2.1 1 = .ok (.aload_n 1, 1) := by decide +kernel
theorem st_118_1 : Sd 118 1 1 (i_ldR 1) := sd_aload_n (j := 1) dd_118_1 rfl
theorem dd_118_2 : decode (mi 118).2.1 2 = .ok (.invokevirtual 24, 3) := by decide +kernel
theorem st_118_2 : Sd 118 2 3 (i_cV [(15, 15)] 1 4 []) := sd_virt ⟨"java/lang/StringBuilder", "length", "()I"⟩ dd_118_2 (by rw [mc_118]; exact tw_984) (fun t j h => by simp only [List.mem_cons, List.not_mem_nil, or_false, Prod.mk.injEq] at h; obtain ⟨rfl, rfl⟩ := h; exact mn_15) (fun t j h => by simp only [List.mem_cons, List.not_mem_nil, or_false, Prod.mk.injEq] at h; obtain ⟨rfl, rfl⟩ := h; exact ⟨by rw [mn_15]; exact tw_1600, by rw [mn_15]; exact tw_392, mt_15, by decide, by decide⟩) (by unfold prm; decide +kernel) ml_118 (HsOk.nil (by decide +kernel))
theorem dd_118_5 : decode (mi 118).2.1 5 = .ok (.iadd, 1) := by decide +kernel
theorem st_118_5 : Sd 118 5 1 (i_iadd) := sd_iadd dd_118_5
theorem dd_118_6 : decode (mi 118).2.1 6 = .ok (.aload_n 0, 1) := by decide +kernel
theorem st_118_6 : Sd 118 6 1 (i_ldR 0) := sd_aload_n (j := 0) dd_118_6 rfl
theorem dd_118_7 : decode (mi 118).2.1 7 = .ok (.getfield 12, 3) := by decide +kernel
theorem st_118_7 : Sd 118 7 3 (i_gR 0 [10]) := sd_gR (ref := "ContractDesk$Text") (decl := "ContractDesk$Text") (name := "letters") (desc := "Ljava/lang/StringBuilder;") dd_118_7 (by rw [mc_118]; exact tw_821) (Or.inl rfl) (by decide +kernel)
theorem dd_118_10 : decode (mi 118).2.1 10 = .ok (.invokevirtual 24, 3) := by decide +kernel
theorem st_118_10 : Sd 118 10 3 (i_cV [(15, 15)] 1 4 []) := sd_virt ⟨"java/lang/StringBuilder", "length", "()I"⟩ dd_118_10 (by rw [mc_118]; exact tw_984) (fun t j h => by simp only [List.mem_cons, List.not_mem_nil, or_false, Prod.mk.injEq] at h; obtain ⟨rfl, rfl⟩ := h; exact mn_15) (fun t j h => by simp only [List.mem_cons, List.not_mem_nil, or_false, Prod.mk.injEq] at h; obtain ⟨rfl, rfl⟩ := h; exact ⟨by rw [mn_15]; exact tw_1600, by rw [mn_15]; exact tw_392, mt_15, by decide, by decide⟩) (by unfold prm; decide +kernel) ml_118 (HsOk.nil (by decide +kernel))
theorem dd_118_13 : decode (mi 118).2.1 13 = .ok (.if_icmp .le 5, 3) := by decide +kernel
theorem st_118_13 : Sd 118 13 3 (i_cle 18) := sd_icmp_le dd_118_13 (by decide)
theorem dd_118_16 : decode (mi 118).2.1 16 = .ok (.iconst 0, 1) := by decide +kernel
theorem st_118_16 : Sd 118 16 1 (i_ic 0) := sd_iconst dd_118_16
theorem dd_118_17 : decode (mi 118).2.1 17 = .ok (.ireturn, 1) := by decide +kernel
theorem st_118_17 : Sd 118 17 1 (i_rI 2) := sd_ireturn dd_118_17 (by decide) mr_118
def bk_118_0 : Tr := sq (i_ldI 2) (sq (i_ldR 1) (sq (i_cV [(15, 15)] 1 4 []) (sq (i_iadd) (sq (i_ldR 0) (sq (i_gR 0 [10]) (sq (i_cV [(15, 15)] 1 4 []) (sq (i_cle 18) (sq (i_ic 0) (i_rI 2)))))))))
theorem sb_118_0 : Sd 118 0 18 bk_118_0 := Sd.sq st_118_0 (Sd.sq st_118_1 (Sd.sq st_118_2 (Sd.sq st_118_5 (Sd.sq st_118_6 (Sd.sq st_118_7 (Sd.sq st_118_10 (Sd.sq st_118_13 (Sd.sq st_118_16 (st_118_17)))))))))
theorem dd_118_18 : decode (mi 118).2.1 18 = .ok (.iconst 0, 1) := by decide +kernel
theorem st_118_18 : Sd 118 18 1 (i_ic 0) := sd_iconst dd_118_18
theorem dd_118_19 : decode (mi 118).2.1 19 = .ok (.istore_n 3, 1) := by decide +kernel
theorem st_118_19 : Sd 118 19 1 (i_stI 3) := sd_istore_n (j := 3) dd_118_19 rfl
def bk_118_18 : Tr := sq (i_ic 0) (sq (i_stI 3) (i_fall 20))
theorem sb_118_18 : Sd 118 18 2 bk_118_18 := Sd.sq st_118_18 (Sd.sq st_118_19 (sd_fall rfl))
theorem dd_118_20 : decode (mi 118).2.1 20 = .ok (.iload_n 3, 1) := by decide +kernel
theorem st_118_20 : Sd 118 20 1 (i_ldI 3) := sd_iload_n (j := 3) dd_118_20 rfl
theorem dd_118_21 : decode (mi 118).2.1 21 = .ok (.aload_n 1, 1) := by decide +kernel
theorem st_118_21 : Sd 118 21 1 (i_ldR 1) := sd_aload_n (j := 1) dd_118_21 rfl
theorem dd_118_22 : decode (mi 118).2.1 22 = .ok (.invokevirtual 24, 3) := by decide +kernel
theorem st_118_22 : Sd 118 22 3 (i_cV [(15, 15)] 1 4 []) := sd_virt ⟨"java/lang/StringBuilder", "length", "()I"⟩ dd_118_22 (by rw [mc_118]; exact tw_984) (fun t j h => by simp only [List.mem_cons, List.not_mem_nil, or_false, Prod.mk.injEq] at h; obtain ⟨rfl, rfl⟩ := h; exact mn_15) (fun t j h => by simp only [List.mem_cons, List.not_mem_nil, or_false, Prod.mk.injEq] at h; obtain ⟨rfl, rfl⟩ := h; exact ⟨by rw [mn_15]; exact tw_1600, by rw [mn_15]; exact tw_392, mt_15, by decide, by decide⟩) (by unfold prm; decide +kernel) ml_118 (HsOk.nil (by decide +kernel))
theorem dd_118_25 : decode (mi 118).2.1 25 = .ok (.if_icmp .ge 29, 3) := by decide +kernel
theorem st_118_25 : Sd 118 25 3 (i_cge 54) := sd_icmp_ge dd_118_25 (by decide)
theorem dd_118_28 : decode (mi 118).2.1 28 = .ok (.aload_n 0, 1) := by decide +kernel
theorem st_118_28 : Sd 118 28 1 (i_ldR 0) := sd_aload_n (j := 0) dd_118_28 rfl
theorem dd_118_29 : decode (mi 118).2.1 29 = .ok (.getfield 12, 3) := by decide +kernel
theorem st_118_29 : Sd 118 29 3 (i_gR 0 [10]) := sd_gR (ref := "ContractDesk$Text") (decl := "ContractDesk$Text") (name := "letters") (desc := "Ljava/lang/StringBuilder;") dd_118_29 (by rw [mc_118]; exact tw_821) (Or.inl rfl) (by decide +kernel)
theorem dd_118_32 : decode (mi 118).2.1 32 = .ok (.iload_n 2, 1) := by decide +kernel
theorem st_118_32 : Sd 118 32 1 (i_ldI 2) := sd_iload_n (j := 2) dd_118_32 rfl
theorem dd_118_33 : decode (mi 118).2.1 33 = .ok (.iload_n 3, 1) := by decide +kernel
theorem st_118_33 : Sd 118 33 1 (i_ldI 3) := sd_iload_n (j := 3) dd_118_33 rfl
theorem dd_118_34 : decode (mi 118).2.1 34 = .ok (.iadd, 1) := by decide +kernel
theorem st_118_34 : Sd 118 34 1 (i_iadd) := sd_iadd dd_118_34
theorem dd_118_35 : decode (mi 118).2.1 35 = .ok (.invokevirtual 32, 3) := by decide +kernel
theorem st_118_35 : Sd 118 35 3 (i_cV [(15, 19)] 2 4 []) := sd_virt ⟨"java/lang/StringBuilder", "charAt", "(I)C"⟩ dd_118_35 (by rw [mc_118]; exact tw_989) (fun t j h => by simp only [List.mem_cons, List.not_mem_nil, or_false, Prod.mk.injEq] at h; obtain ⟨rfl, rfl⟩ := h; exact mn_19) (fun t j h => by simp only [List.mem_cons, List.not_mem_nil, or_false, Prod.mk.injEq] at h; obtain ⟨rfl, rfl⟩ := h; exact ⟨by rw [mn_19]; exact tw_599, by rw [mn_19]; exact tw_598, mt_19, by decide, by decide⟩) (by unfold prm; decide +kernel) ml_118 (HsOk.nil (by decide +kernel))
theorem dd_118_38 : decode (mi 118).2.1 38 = .ok (.aload_n 1, 1) := by decide +kernel
theorem st_118_38 : Sd 118 38 1 (i_ldR 1) := sd_aload_n (j := 1) dd_118_38 rfl
theorem dd_118_39 : decode (mi 118).2.1 39 = .ok (.iload_n 3, 1) := by decide +kernel
theorem st_118_39 : Sd 118 39 1 (i_ldI 3) := sd_iload_n (j := 3) dd_118_39 rfl
theorem dd_118_40 : decode (mi 118).2.1 40 = .ok (.invokevirtual 32, 3) := by decide +kernel
theorem st_118_40 : Sd 118 40 3 (i_cV [(15, 19)] 2 4 []) := sd_virt ⟨"java/lang/StringBuilder", "charAt", "(I)C"⟩ dd_118_40 (by rw [mc_118]; exact tw_989) (fun t j h => by simp only [List.mem_cons, List.not_mem_nil, or_false, Prod.mk.injEq] at h; obtain ⟨rfl, rfl⟩ := h; exact mn_19) (fun t j h => by simp only [List.mem_cons, List.not_mem_nil, or_false, Prod.mk.injEq] at h; obtain ⟨rfl, rfl⟩ := h; exact ⟨by rw [mn_19]; exact tw_599, by rw [mn_19]; exact tw_598, mt_19, by decide, by decide⟩) (by unfold prm; decide +kernel) ml_118 (HsOk.nil (by decide +kernel))
theorem dd_118_43 : decode (mi 118).2.1 43 = .ok (.if_icmp .eq 5, 3) := by decide +kernel
theorem st_118_43 : Sd 118 43 3 (i_ceq 48) := sd_icmp_eq dd_118_43 (by decide)
theorem dd_118_46 : decode (mi 118).2.1 46 = .ok (.iconst 0, 1) := by decide +kernel
theorem st_118_46 : Sd 118 46 1 (i_ic 0) := sd_iconst dd_118_46
theorem dd_118_47 : decode (mi 118).2.1 47 = .ok (.ireturn, 1) := by decide +kernel
theorem st_118_47 : Sd 118 47 1 (i_rI 2) := sd_ireturn dd_118_47 (by decide) mr_118
def bk_118_20 : Tr := sq (i_ldI 3) (sq (i_ldR 1) (sq (i_cV [(15, 15)] 1 4 []) (sq (i_cge 54) (sq (i_ldR 0) (sq (i_gR 0 [10]) (sq (i_ldI 2) (sq (i_ldI 3) (sq (i_iadd) (sq (i_cV [(15, 19)] 2 4 []) (sq (i_ldR 1) (sq (i_ldI 3) (sq (i_cV [(15, 19)] 2 4 []) (sq (i_ceq 48) (sq (i_ic 0) (i_rI 2)))))))))))))))
theorem sb_118_20 : Sd 118 20 28 bk_118_20 := Sd.sq st_118_20 (Sd.sq st_118_21 (Sd.sq st_118_22 (Sd.sq st_118_25 (Sd.sq st_118_28 (Sd.sq st_118_29 (Sd.sq st_118_32 (Sd.sq st_118_33 (Sd.sq st_118_34 (Sd.sq st_118_35 (Sd.sq st_118_38 (Sd.sq st_118_39 (Sd.sq st_118_40 (Sd.sq st_118_43 (Sd.sq st_118_46 (st_118_47)))))))))))))))
theorem dd_118_48 : decode (mi 118).2.1 48 = .ok (.iinc 3 1, 3) := by decide +kernel
theorem st_118_48 : Sd 118 48 3 (i_inc 3 1) := sd_iinc dd_118_48
theorem dd_118_51 : decode (mi 118).2.1 51 = .ok (.goto (-31), 3) := by decide +kernel
theorem st_118_51 : Sd 118 51 3 (i_goto 20) := sd_goto dd_118_51 (by decide)
def bk_118_48 : Tr := sq (i_inc 3 1) (i_goto 20)
theorem sb_118_48 : Sd 118 48 6 bk_118_48 := Sd.sq st_118_48 (st_118_51)
theorem dd_118_54 : decode (mi 118).2.1 54 = .ok (.iconst 1, 1) := by decide +kernel
theorem st_118_54 : Sd 118 54 1 (i_ic 1) := sd_iconst dd_118_54
theorem dd_118_55 : decode (mi 118).2.1 55 = .ok (.ireturn, 1) := by decide +kernel
theorem st_118_55 : Sd 118 55 1 (i_rI 2) := sd_ireturn dd_118_55 (by decide) mr_118
def bk_118_54 : Tr := sq (i_ic 1) (i_rI 2)
theorem sb_118_54 : Sd 118 54 2 bk_118_54 := Sd.sq st_118_54 (st_118_55)
theorem dd_119_0 : decode (mi 119).2.1 0 = .ok (.getstatic 18, 3) := by decide +kernel
theorem st_119_0 : Sd 119 0 3 (i_gs 3) := sd_gs (n := 3) dd_119_0 (by rw [mc_119]; exact tw_970) (by decide)
theorem dd_119_3 : decode (mi 119).2.1 3 = .ok (.areturn, 1) := by decide +kernel
theorem st_119_3 : Sd 119 3 1 (i_rR) := sd_areturn dd_119_3 mr_119 (Or.inl ⟨_, rfl⟩)
def bk_119_0 : Tr := sq (i_gs 3) (i_rR)
theorem sb_119_0 : Sd 119 0 4 bk_119_0 := Sd.sq st_119_0 (st_119_3)
theorem dd_120_0 : decode (mi 120).2.1 0 = .ok (.aload_n 1, 1) := by decide +kernel
theorem st_120_0 : Sd 120 0 1 (i_ldR 1) := sd_aload_n (j := 1) dd_120_0 rfl
theorem dd_120_1 : decode (mi 120).2.1 1 = .ok (.instanceof 13, 3) := by decide +kernel
theorem st_120_1 : Sd 120 1 3 (i_inst [10] [11, 12]) := sd_instanceof (nm := "ContractDesk$Text") dd_120_1 (by rw [mc_120]; exact tw_983) okc_1 oknc_1
theorem dd_120_4 : decode (mi 120).2.1 4 = .ok (.ifCond .ne 5, 3) := by decide +kernel
theorem st_120_4 : Sd 120 4 3 (i_zne 9) := sd_if_ne dd_120_4 (by decide)
theorem dd_120_7 : decode (mi 120).2.1 7 = .ok (.iconst 0, 1) := by decide +kernel
theorem st_120_7 : Sd 120 7 1 (i_ic 0) := sd_iconst dd_120_7
theorem dd_120_8 : decode (mi 120).2.1 8 = .ok (.ireturn, 1) := by decide +kernel
theorem st_120_8 : Sd 120 8 1 (i_rI 2) := sd_ireturn dd_120_8 (by decide) mr_120
def bk_120_0 : Tr := sq (i_ldR 1) (sq (i_inst [10] [11, 12]) (sq (i_zne 9) (sq (i_ic 0) (i_rI 2))))
theorem sb_120_0 : Sd 120 0 9 bk_120_0 := Sd.sq st_120_0 (Sd.sq st_120_1 (Sd.sq st_120_4 (Sd.sq st_120_7 (st_120_8))))
theorem dd_120_9 : decode (mi 120).2.1 9 = .ok (.aload_n 1, 1) := by decide +kernel
theorem st_120_9 : Sd 120 9 1 (i_ldR 1) := sd_aload_n (j := 1) dd_120_9 rfl
theorem dd_120_10 : decode (mi 120).2.1 10 = .ok (.checkcast 13, 3) := by decide +kernel
theorem st_120_10 : Sd 120 10 3 (i_cast [10]) := sd_checkcast (nm := "ContractDesk$Text") dd_120_10 (by rw [mc_120]; exact tw_983) okc_1
theorem dd_120_13 : decode (mi 120).2.1 13 = .ok (.astore_n 2, 1) := by decide +kernel
theorem st_120_13 : Sd 120 13 1 (i_stR 2) := sd_astore_n (j := 2) dd_120_13 rfl
theorem dd_120_14 : decode (mi 120).2.1 14 = .ok (.aload_n 2, 1) := by decide +kernel
theorem st_120_14 : Sd 120 14 1 (i_ldR 2) := sd_aload_n (j := 2) dd_120_14 rfl
theorem dd_120_15 : decode (mi 120).2.1 15 = .ok (.getfield 12, 3) := by decide +kernel
theorem st_120_15 : Sd 120 15 3 (i_gR 0 [10]) := sd_gR (ref := "ContractDesk$Text") (decl := "ContractDesk$Text") (name := "letters") (desc := "Ljava/lang/StringBuilder;") dd_120_15 (by rw [mc_120]; exact tw_821) (Or.inl rfl) (by decide +kernel)
theorem dd_120_18 : decode (mi 120).2.1 18 = .ok (.invokevirtual 24, 3) := by decide +kernel
theorem st_120_18 : Sd 120 18 3 (i_cV [(15, 15)] 1 3 []) := sd_virt ⟨"java/lang/StringBuilder", "length", "()I"⟩ dd_120_18 (by rw [mc_120]; exact tw_984) (fun t j h => by simp only [List.mem_cons, List.not_mem_nil, or_false, Prod.mk.injEq] at h; obtain ⟨rfl, rfl⟩ := h; exact mn_15) (fun t j h => by simp only [List.mem_cons, List.not_mem_nil, or_false, Prod.mk.injEq] at h; obtain ⟨rfl, rfl⟩ := h; exact ⟨by rw [mn_15]; exact tw_1600, by rw [mn_15]; exact tw_392, mt_15, by decide, by decide⟩) (by unfold prm; decide +kernel) ml_120 (HsOk.nil (by decide +kernel))
theorem dd_120_21 : decode (mi 120).2.1 21 = .ok (.aload_n 0, 1) := by decide +kernel
theorem st_120_21 : Sd 120 21 1 (i_ldR 0) := sd_aload_n (j := 0) dd_120_21 rfl
theorem dd_120_22 : decode (mi 120).2.1 22 = .ok (.getfield 12, 3) := by decide +kernel
theorem st_120_22 : Sd 120 22 3 (i_gR 0 [10]) := sd_gR (ref := "ContractDesk$Text") (decl := "ContractDesk$Text") (name := "letters") (desc := "Ljava/lang/StringBuilder;") dd_120_22 (by rw [mc_120]; exact tw_821) (Or.inl rfl) (by decide +kernel)
theorem dd_120_25 : decode (mi 120).2.1 25 = .ok (.invokevirtual 24, 3) := by decide +kernel
theorem st_120_25 : Sd 120 25 3 (i_cV [(15, 15)] 1 3 []) := sd_virt ⟨"java/lang/StringBuilder", "length", "()I"⟩ dd_120_25 (by rw [mc_120]; exact tw_984) (fun t j h => by simp only [List.mem_cons, List.not_mem_nil, or_false, Prod.mk.injEq] at h; obtain ⟨rfl, rfl⟩ := h; exact mn_15) (fun t j h => by simp only [List.mem_cons, List.not_mem_nil, or_false, Prod.mk.injEq] at h; obtain ⟨rfl, rfl⟩ := h; exact ⟨by rw [mn_15]; exact tw_1600, by rw [mn_15]; exact tw_392, mt_15, by decide, by decide⟩) (by unfold prm; decide +kernel) ml_120 (HsOk.nil (by decide +kernel))
theorem dd_120_28 : decode (mi 120).2.1 28 = .ok (.if_icmp .ne 19, 3) := by decide +kernel
theorem st_120_28 : Sd 120 28 3 (i_cne 47) := sd_icmp_ne dd_120_28 (by decide)
theorem dd_120_31 : decode (mi 120).2.1 31 = .ok (.aload_n 2, 1) := by decide +kernel
theorem st_120_31 : Sd 120 31 1 (i_ldR 2) := sd_aload_n (j := 2) dd_120_31 rfl
theorem dd_120_32 : decode (mi 120).2.1 32 = .ok (.aload_n 0, 1) := by decide +kernel
theorem st_120_32 : Sd 120 32 1 (i_ldR 0) := sd_aload_n (j := 0) dd_120_32 rfl
theorem dd_120_33 : decode (mi 120).2.1 33 = .ok (.getfield 12, 3) := by decide +kernel
theorem st_120_33 : Sd 120 33 3 (i_gR 0 [10]) := sd_gR (ref := "ContractDesk$Text") (decl := "ContractDesk$Text") (name := "letters") (desc := "Ljava/lang/StringBuilder;") dd_120_33 (by rw [mc_120]; exact tw_821) (Or.inl rfl) (by decide +kernel)
theorem dd_120_36 : decode (mi 120).2.1 36 = .ok (.iconst 0, 1) := by decide +kernel
theorem st_120_36 : Sd 120 36 1 (i_ic 0) := sd_iconst dd_120_36
theorem dd_120_37 : decode (mi 120).2.1 37 = .ok (.invokevirtual 28, 3) := by decide +kernel
theorem st_120_37 : Sd 120 37 3 (i_cV [(10, 118)] 3 3 []) := sd_virt ⟨"ContractDesk$Text", "has", "(Ljava/lang/StringBuilder;I)Z"⟩ dd_120_37 (by rw [mc_120]; exact tw_985) (fun t j h => by simp only [List.mem_cons, List.not_mem_nil, or_false, Prod.mk.injEq] at h; obtain ⟨rfl, rfl⟩ := h; exact mn_118) (fun t j h => by simp only [List.mem_cons, List.not_mem_nil, or_false, Prod.mk.injEq] at h; obtain ⟨rfl, rfl⟩ := h; exact ⟨by rw [mn_118]; exact tw_987, by rw [mn_118]; exact tw_986, mt_118, by decide, by decide⟩) (by unfold prm; decide +kernel) ml_120 (HsOk.nil (by decide +kernel))
theorem dd_120_40 : decode (mi 120).2.1 40 = .ok (.ifCond .eq 7, 3) := by decide +kernel
theorem st_120_40 : Sd 120 40 3 (i_zeq 47) := sd_if_eq dd_120_40 (by decide)
theorem dd_120_43 : decode (mi 120).2.1 43 = .ok (.iconst 1, 1) := by decide +kernel
theorem st_120_43 : Sd 120 43 1 (i_ic 1) := sd_iconst dd_120_43
theorem dd_120_44 : decode (mi 120).2.1 44 = .ok (.goto 4, 3) := by decide +kernel
theorem st_120_44 : Sd 120 44 3 (i_goto 48) := sd_goto dd_120_44 (by decide)
def bk_120_9 : Tr := sq (i_ldR 1) (sq (i_cast [10]) (sq (i_stR 2) (sq (i_ldR 2) (sq (i_gR 0 [10]) (sq (i_cV [(15, 15)] 1 3 []) (sq (i_ldR 0) (sq (i_gR 0 [10]) (sq (i_cV [(15, 15)] 1 3 []) (sq (i_cne 47) (sq (i_ldR 2) (sq (i_ldR 0) (sq (i_gR 0 [10]) (sq (i_ic 0) (sq (i_cV [(10, 118)] 3 3 []) (sq (i_zeq 47) (sq (i_ic 1) (i_goto 48)))))))))))))))))
theorem sb_120_9 : Sd 120 9 38 bk_120_9 := Sd.sq st_120_9 (Sd.sq st_120_10 (Sd.sq st_120_13 (Sd.sq st_120_14 (Sd.sq st_120_15 (Sd.sq st_120_18 (Sd.sq st_120_21 (Sd.sq st_120_22 (Sd.sq st_120_25 (Sd.sq st_120_28 (Sd.sq st_120_31 (Sd.sq st_120_32 (Sd.sq st_120_33 (Sd.sq st_120_36 (Sd.sq st_120_37 (Sd.sq st_120_40 (Sd.sq st_120_43 (st_120_44)))))))))))))))))
theorem dd_120_47 : decode (mi 120).2.1 47 = .ok (.iconst 0, 1) := by decide +kernel
theorem st_120_47 : Sd 120 47 1 (i_ic 0) := sd_iconst dd_120_47
def bk_120_47 : Tr := sq (i_ic 0) (i_fall 48)
theorem sb_120_47 : Sd 120 47 1 bk_120_47 := Sd.sq st_120_47 (sd_fall rfl)
theorem dd_120_48 : decode (mi 120).2.1 48 = .ok (.ireturn, 1) := by decide +kernel
theorem st_120_48 : Sd 120 48 1 (i_rI 2) := sd_ireturn dd_120_48 (by decide) mr_120
def bk_120_48 : Tr := i_rI 2
theorem sb_120_48 : Sd 120 48 1 bk_120_48 := st_120_48
theorem dd_121_0 : decode (mi 121).2.1 0 = .ok (.aload_n 0, 1) := by decide +kernel
theorem st_121_0 : Sd 121 0 1 (i_ldR 0) := sd_aload_n (j := 0) dd_121_0 rfl
theorem dd_121_1 : decode (mi 121).2.1 1 = .ok (.invokespecial 1, 3) := by decide +kernel
theorem st_121_1 : Sd 121 1 3 (i_obj 1) := sd_obj dd_121_1 (by rw [mc_121]; exact tw_818) ob_1 ob_2 ml_121
theorem dd_121_4 : decode (mi 121).2.1 4 = .ok (.return_, 1) := by decide +kernel
theorem st_121_4 : Sd 121 4 1 (i_ret) := sd_ret dd_121_4 mr_121
def bk_121_0 : Tr := sq (i_ldR 0) (sq (i_obj 1) (i_ret))
theorem sb_121_0 : Sd 121 0 5 bk_121_0 := Sd.sq st_121_0 (Sd.sq st_121_1 (st_121_4))
theorem dd_122_0 : decode (mi 122).2.1 0 = .ok (.iconst 1, 1) := by decide +kernel
theorem st_122_0 : Sd 122 0 1 (i_ic 1) := sd_iconst dd_122_0
theorem dd_122_1 : decode (mi 122).2.1 1 = .ok (.ireturn, 1) := by decide +kernel
theorem st_122_1 : Sd 122 1 1 (i_rI 0) := sd_ireturn dd_122_1 (by decide) mr_122
def bk_122_0 : Tr := sq (i_ic 1) (i_rI 0)
theorem sb_122_0 : Sd 122 0 2 bk_122_0 := Sd.sq st_122_0 (st_122_1)
theorem dd_123_0 : decode (mi 123).2.1 0 = .ok (.aload_n 0, 1) := by decide +kernel
theorem st_123_0 : Sd 123 0 1 (i_ldR 0) := sd_aload_n (j := 0) dd_123_0 rfl
theorem dd_123_1 : decode (mi 123).2.1 1 = .ok (.invokevirtual 7, 3) := by decide +kernel
theorem st_123_1 : Sd 123 1 3 (i_cV [(10, 119), (11, 77), (12, 66)] 1 2 []) := sd_virtU ⟨"ContractDesk$Value", "kind", "()LContractDesk$Kind;"⟩ "ContractDesk$Value" dd_123_1 (by rw [mc_123]; exact tw_958) (by exact tw_960) (Or.inl tw_959) (by decide) (fun t j h => by simp only [List.mem_cons, List.not_mem_nil, or_false, Prod.mk.injEq] at h; rcases h with ⟨rfl, rfl⟩ | ⟨rfl, rfl⟩ | ⟨rfl, rfl⟩; exact ⟨by rw [mn_119]; exact tw_967, by rw [mn_119]; exact tw_968, mt_119, by decide, by decide⟩; exact ⟨by rw [mn_77]; exact tw_964, by rw [mn_77]; exact tw_965, mt_77, by decide, by decide⟩; exact ⟨by rw [mn_66]; exact tw_961, by rw [mn_66]; exact tw_962, mt_66, by decide, by decide⟩) (by unfold prm; decide +kernel) ml_123 (HsOk.nil (by decide +kernel))
theorem dd_123_4 : decode (mi 123).2.1 4 = .ok (.aload_n 1, 1) := by decide +kernel
theorem st_123_4 : Sd 123 4 1 (i_ldR 1) := sd_aload_n (j := 1) dd_123_4 rfl
theorem dd_123_5 : decode (mi 123).2.1 5 = .ok (.invokevirtual 7, 3) := by decide +kernel
theorem st_123_5 : Sd 123 5 3 (i_cV [(10, 119), (11, 77), (12, 66)] 1 2 []) := sd_virtU ⟨"ContractDesk$Value", "kind", "()LContractDesk$Kind;"⟩ "ContractDesk$Value" dd_123_5 (by rw [mc_123]; exact tw_958) (by exact tw_960) (Or.inl tw_959) (by decide) (fun t j h => by simp only [List.mem_cons, List.not_mem_nil, or_false, Prod.mk.injEq] at h; rcases h with ⟨rfl, rfl⟩ | ⟨rfl, rfl⟩ | ⟨rfl, rfl⟩; exact ⟨by rw [mn_119]; exact tw_967, by rw [mn_119]; exact tw_968, mt_119, by decide, by decide⟩; exact ⟨by rw [mn_77]; exact tw_964, by rw [mn_77]; exact tw_965, mt_77, by decide, by decide⟩; exact ⟨by rw [mn_66]; exact tw_961, by rw [mn_66]; exact tw_962, mt_66, by decide, by decide⟩) (by unfold prm; decide +kernel) ml_123 (HsOk.nil (by decide +kernel))
theorem dd_123_8 : decode (mi 123).2.1 8 = .ok (.if_acmp .ne 7, 3) := by decide +kernel
theorem st_123_8 : Sd 123 8 3 (i_ane 15) := sd_acmp_ne dd_123_8 (by decide)
theorem dd_123_11 : decode (mi 123).2.1 11 = .ok (.iconst 1, 1) := by decide +kernel
theorem st_123_11 : Sd 123 11 1 (i_ic 1) := sd_iconst dd_123_11
theorem dd_123_12 : decode (mi 123).2.1 12 = .ok (.goto 4, 3) := by decide +kernel
theorem st_123_12 : Sd 123 12 3 (i_goto 16) := sd_goto dd_123_12 (by decide)
def bk_123_0 : Tr := sq (i_ldR 0) (sq (i_cV [(10, 119), (11, 77), (12, 66)] 1 2 []) (sq (i_ldR 1) (sq (i_cV [(10, 119), (11, 77), (12, 66)] 1 2 []) (sq (i_ane 15) (sq (i_ic 1) (i_goto 16))))))
theorem sb_123_0 : Sd 123 0 15 bk_123_0 := Sd.sq st_123_0 (Sd.sq st_123_1 (Sd.sq st_123_4 (Sd.sq st_123_5 (Sd.sq st_123_8 (Sd.sq st_123_11 (st_123_12))))))
theorem dd_123_15 : decode (mi 123).2.1 15 = .ok (.iconst 0, 1) := by decide +kernel
theorem st_123_15 : Sd 123 15 1 (i_ic 0) := sd_iconst dd_123_15
def bk_123_15 : Tr := sq (i_ic 0) (i_fall 16)
theorem sb_123_15 : Sd 123 15 1 bk_123_15 := Sd.sq st_123_15 (sd_fall rfl)
theorem dd_123_16 : decode (mi 123).2.1 16 = .ok (.ireturn, 1) := by decide +kernel
theorem st_123_16 : Sd 123 16 1 (i_rI 2) := sd_ireturn dd_123_16 (by decide) mr_123
def bk_123_16 : Tr := i_rI 2
theorem sb_123_16 : Sd 123 16 1 bk_123_16 := st_123_16
