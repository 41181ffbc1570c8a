theorem dd_124_0 : decode (mi 124).2.1 0 = .ok (.aload_n 2, 1) := by decide +kernel
theorem st_124_0 : Sd 124 0 1 (i_ldR 2) := sd_aload_n (j := 2) dd_124_0 rfl
theorem dd_124_1 : decode (mi 124).2.1 1 = .ok (.iconst 0, 1) := by decide +kernel
theorem st_124_1 : Sd 124 1 1 (i_ic 0) := sd_iconst dd_124_1
theorem dd_124_2 : decode (mi 124).2.1 2 = .ok (.aload_n 0, 1) := by decide +kernel
theorem st_124_2 : Sd 124 2 1 (i_ldR 0) := sd_aload_n (j := 0) dd_124_2 rfl
theorem dd_124_3 : decode (mi 124).2.1 3 = .ok (.iload_n 1, 1) := by decide +kernel
theorem st_124_3 : Sd 124 3 1 (i_ldI 1) := sd_iload_n (j := 1) dd_124_3 rfl
theorem dd_124_4 : decode (mi 124).2.1 4 = .ok (.invokevirtual 15, 3) := by decide +kernel
theorem st_124_4 : Sd 124 4 3 (i_cV [(1, 35)] 2 4 [(12, [17], [18]), (15, [18], [17])]) := sd_virt ⟨"ContractDesk", "body", "(I)I"⟩ dd_124_4 (by rw [mc_124]; exact tw_789) (fun t j h => by simp only [List.mem_cons, List.not_mem_nil, or_false, Prod.mk.injEq] at h; obtain ⟨rfl, rfl⟩ := h; exact mn_35) (fun t j h => by simp only [List.mem_cons, List.not_mem_nil, or_false, Prod.mk.injEq] at h; obtain ⟨rfl, rfl⟩ := h; exact ⟨by rw [mn_35]; exact tw_791, by rw [mn_35]; exact tw_790, mt_35, by decide, by decide⟩) (by unfold prm; decide +kernel) ml_124 (HsOk.cons (by rw [mh_124]; exact (HG.cov (nm := "java/lang/IllegalArgumentException") (by decide) rfl (by decide) (by rw [mc_124]; exact tw_788) okc_5 oknc_4 (HG.cov (nm := "java/lang/IllegalStateException") (by decide) rfl (by decide) (by rw [mc_124]; exact tw_687) okc_4 oknc_3 HG.nil))))
theorem dd_124_7 : decode (mi 124).2.1 7 = .ok (.i2l, 1) := by decide +kernel
theorem st_124_7 : Sd 124 7 1 (i_i2l) := sd_i2l dd_124_7
theorem dd_124_8 : decode (mi 124).2.1 8 = .ok (.lastore, 1) := by decide +kernel
theorem st_124_8 : Sd 124 8 1 (i_sL [24]) := sd_lastore dd_124_8 (by decide)
theorem dd_124_9 : decode (mi 124).2.1 9 = .ok (.goto 9, 3) := by decide +kernel
theorem st_124_9 : Sd 124 9 3 (i_goto 18) := sd_goto dd_124_9 (by decide)
def bk_124_0 : Tr := sq (i_ldR 2) (sq (i_ic 0) (sq (i_ldR 0) (sq (i_ldI 1) (sq (i_cV [(1, 35)] 2 4 [(12, [17], [18]), (15, [18], [17])]) (sq (i_i2l) (sq (i_sL [24]) (i_goto 18)))))))
theorem sb_124_0 : Sd 124 0 12 bk_124_0 := Sd.sq st_124_0 (Sd.sq st_124_1 (Sd.sq st_124_2 (Sd.sq st_124_3 (Sd.sq st_124_4 (Sd.sq st_124_7 (Sd.sq st_124_8 (st_124_9)))))))
theorem dd_124_12 : decode (mi 124).2.1 12 = .ok (.astore_n 3, 1) := by decide +kernel
theorem st_124_12 : Sd 124 12 1 (i_stR 3) := sd_astore_n (j := 3) dd_124_12 rfl
theorem dd_124_13 : decode (mi 124).2.1 13 = .ok (.iconst 1, 1) := by decide +kernel
theorem st_124_13 : Sd 124 13 1 (i_ic 1) := sd_iconst dd_124_13
theorem dd_124_14 : decode (mi 124).2.1 14 = .ok (.ireturn, 1) := by decide +kernel
theorem st_124_14 : Sd 124 14 1 (i_rI 0) := sd_ireturn dd_124_14 (by decide) mr_124
def bk_124_12 : Tr := sq (i_stR 3) (sq (i_ic 1) (i_rI 0))
theorem sb_124_12 : Sd 124 12 3 bk_124_12 := Sd.sq st_124_12 (Sd.sq st_124_13 (st_124_14))
theorem dd_124_15 : decode (mi 124).2.1 15 = .ok (.astore_n 3, 1) := by decide +kernel
theorem st_124_15 : Sd 124 15 1 (i_stR 3) := sd_astore_n (j := 3) dd_124_15 rfl
theorem dd_124_16 : decode (mi 124).2.1 16 = .ok (.iconst 2, 1) := by decide +kernel
theorem st_124_16 : Sd 124 16 1 (i_ic 2) := sd_iconst dd_124_16
theorem dd_124_17 : decode (mi 124).2.1 17 = .ok (.ireturn, 1) := by decide +kernel
theorem st_124_17 : Sd 124 17 1 (i_rI 0) := sd_ireturn dd_124_17 (by decide) mr_124
def bk_124_15 : Tr := sq (i_stR 3) (sq (i_ic 2) (i_rI 0))
theorem sb_124_15 : Sd 124 15 3 bk_124_15 := Sd.sq st_124_15 (Sd.sq st_124_16 (st_124_17))
theorem dd_124_18 : decode (mi 124).2.1 18 = .ok (.iconst 0, 1) := by decide +kernel
theorem st_124_18 : Sd 124 18 1 (i_ic 0) := sd_iconst dd_124_18
theorem dd_124_19 : decode (mi 124).2.1 19 = .ok (.ireturn, 1) := by decide +kernel
theorem st_124_19 : Sd 124 19 1 (i_rI 0) := sd_ireturn dd_124_19 (by decide) mr_124
def bk_124_18 : Tr := sq (i_ic 0) (i_rI 0)
theorem sb_124_18 : Sd 124 18 2 bk_124_18 := Sd.sq st_124_18 (st_124_19)
theorem dd_125_0 : decode (mi 125).2.1 0 = .ok (.aload_n 2, 1) := by decide +kernel
theorem st_125_0 : Sd 125 0 1 (i_ldR 2) := sd_aload_n (j := 2) dd_125_0 rfl
theorem dd_125_1 : decode (mi 125).2.1 1 = .ok (.iconst 0, 1) := by decide +kernel
theorem st_125_1 : Sd 125 1 1 (i_ic 0) := sd_iconst dd_125_1
theorem dd_125_2 : decode (mi 125).2.1 2 = .ok (.aload_n 0, 1) := by decide +kernel
theorem st_125_2 : Sd 125 2 1 (i_ldR 0) := sd_aload_n (j := 0) dd_125_2 rfl
theorem dd_125_3 : decode (mi 125).2.1 3 = .ok (.iload_n 1, 1) := by decide +kernel
theorem st_125_3 : Sd 125 3 1 (i_ldI 1) := sd_iload_n (j := 1) dd_125_3 rfl
theorem dd_125_4 : decode (mi 125).2.1 4 = .ok (.invokevirtual 7, 3) := by decide +kernel
theorem st_125_4 : Sd 125 4 3 (i_cV [(1, 46)] 2 4 [(12, [18], [17])]) := sd_virt ⟨"ContractDesk", "make", "(Z)I"⟩ dd_125_4 (by rw [mc_125]; exact tw_688) (fun t j h => by simp only [List.mem_cons, List.not_mem_nil, or_false, Prod.mk.injEq] at h; obtain ⟨rfl, rfl⟩ := h; exact mn_46) (fun t j h => by simp only [List.mem_cons, List.not_mem_nil, or_false, Prod.mk.injEq] at h; obtain ⟨rfl, rfl⟩ := h; exact ⟨by rw [mn_46]; exact tw_690, by rw [mn_46]; exact tw_689, mt_46, by decide, by decide⟩) (by unfold prm; decide +kernel) ml_125 (HsOk.cons (by rw [mh_125]; exact (HG.cov (nm := "java/lang/IllegalStateException") (by decide) rfl (by decide) (by rw [mc_125]; exact tw_687) okc_4 oknc_3 HG.nil)))
theorem dd_125_7 : decode (mi 125).2.1 7 = .ok (.i2l, 1) := by decide +kernel
theorem st_125_7 : Sd 125 7 1 (i_i2l) := sd_i2l dd_125_7
theorem dd_125_8 : decode (mi 125).2.1 8 = .ok (.lastore, 1) := by decide +kernel
theorem st_125_8 : Sd 125 8 1 (i_sL [24]) := sd_lastore dd_125_8 (by decide)
theorem dd_125_9 : decode (mi 125).2.1 9 = .ok (.goto 6, 3) := by decide +kernel
theorem st_125_9 : Sd 125 9 3 (i_goto 15) := sd_goto dd_125_9 (by decide)
def bk_125_0 : Tr := sq (i_ldR 2) (sq (i_ic 0) (sq (i_ldR 0) (sq (i_ldI 1) (sq (i_cV [(1, 46)] 2 4 [(12, [18], [17])]) (sq (i_i2l) (sq (i_sL [24]) (i_goto 15)))))))
theorem sb_125_0 : Sd 125 0 12 bk_125_0 := Sd.sq st_125_0 (Sd.sq st_125_1 (Sd.sq st_125_2 (Sd.sq st_125_3 (Sd.sq st_125_4 (Sd.sq st_125_7 (Sd.sq st_125_8 (st_125_9)))))))
theorem dd_125_12 : decode (mi 125).2.1 12 = .ok (.astore_n 3, 1) := by decide +kernel
theorem st_125_12 : Sd 125 12 1 (i_stR 3) := sd_astore_n (j := 3) dd_125_12 rfl
theorem dd_125_13 : decode (mi 125).2.1 13 = .ok (.iconst 1, 1) := by decide +kernel
theorem st_125_13 : Sd 125 13 1 (i_ic 1) := sd_iconst dd_125_13
theorem dd_125_14 : decode (mi 125).2.1 14 = .ok (.ireturn, 1) := by decide +kernel
theorem st_125_14 : Sd 125 14 1 (i_rI 0) := sd_ireturn dd_125_14 (by decide) mr_125
def bk_125_12 : Tr := sq (i_stR 3) (sq (i_ic 1) (i_rI 0))
theorem sb_125_12 : Sd 125 12 3 bk_125_12 := Sd.sq st_125_12 (Sd.sq st_125_13 (st_125_14))
theorem dd_125_15 : decode (mi 125).2.1 15 = .ok (.iconst 0, 1) := by decide +kernel
theorem st_125_15 : Sd 125 15 1 (i_ic 0) := sd_iconst dd_125_15
theorem dd_125_16 : decode (mi 125).2.1 16 = .ok (.ireturn, 1) := by decide +kernel
theorem st_125_16 : Sd 125 16 1 (i_rI 0) := sd_ireturn dd_125_16 (by decide) mr_125
def bk_125_15 : Tr := sq (i_ic 0) (i_rI 0)
theorem sb_125_15 : Sd 125 15 2 bk_125_15 := Sd.sq st_125_15 (st_125_16)
theorem dd_126_0 : decode (mi 126).2.1 0 = .ok (.aload_n 2, 1) := by decide +kernel
theorem st_126_0 : Sd 126 0 1 (i_ldR 2) := sd_aload_n (j := 2) dd_126_0 rfl
theorem dd_126_1 : decode (mi 126).2.1 1 = .ok (.iconst 0, 1) := by decide +kernel
theorem st_126_1 : Sd 126 1 1 (i_ic 0) := sd_iconst dd_126_1
theorem dd_126_2 : decode (mi 126).2.1 2 = .ok (.aload_n 0, 1) := by decide +kernel
theorem st_126_2 : Sd 126 2 1 (i_ldR 0) := sd_aload_n (j := 0) dd_126_2 rfl
theorem dd_126_3 : decode (mi 126).2.1 3 = .ok (.iload_n 1, 1) := by decide +kernel
theorem st_126_3 : Sd 126 3 1 (i_ldI 1) := sd_iload_n (j := 1) dd_126_3 rfl
theorem dd_126_4 : decode (mi 126).2.1 4 = .ok (.invokevirtual 21, 3) := by decide +kernel
theorem st_126_4 : Sd 126 4 3 (i_cV [(1, 52)] 2 4 [(12, [17], [18]), (15, [18], [17])]) := sd_virt ⟨"ContractDesk", "rule", "(I)I"⟩ dd_126_4 (by rw [mc_126]; exact tw_1005) (fun t j h => by simp only [List.mem_cons, List.not_mem_nil, or_false, Prod.mk.injEq] at h; obtain ⟨rfl, rfl⟩ := h; exact mn_52) (fun t j h => by simp only [List.mem_cons, List.not_mem_nil, or_false, Prod.mk.injEq] at h; obtain ⟨rfl, rfl⟩ := h; exact ⟨by rw [mn_52]; exact tw_1007, by rw [mn_52]; exact tw_1006, mt_52, by decide, by decide⟩) (by unfold prm; decide +kernel) ml_126 (HsOk.cons (by rw [mh_126]; exact (HG.cov (nm := "java/lang/IllegalArgumentException") (by decide) rfl (by decide) (by rw [mc_126]; exact tw_788) okc_5 oknc_4 (HG.cov (nm := "java/lang/IllegalStateException") (by decide) rfl (by decide) (by rw [mc_126]; exact tw_687) okc_4 oknc_3 HG.nil))))
theorem dd_126_7 : decode (mi 126).2.1 7 = .ok (.i2l, 1) := by decide +kernel
theorem st_126_7 : Sd 126 7 1 (i_i2l) := sd_i2l dd_126_7
theorem dd_126_8 : decode (mi 126).2.1 8 = .ok (.lastore, 1) := by decide +kernel
theorem st_126_8 : Sd 126 8 1 (i_sL [24]) := sd_lastore dd_126_8 (by decide)
theorem dd_126_9 : decode (mi 126).2.1 9 = .ok (.goto 9, 3) := by decide +kernel
theorem st_126_9 : Sd 126 9 3 (i_goto 18) := sd_goto dd_126_9 (by decide)
def bk_126_0 : Tr := sq (i_ldR 2) (sq (i_ic 0) (sq (i_ldR 0) (sq (i_ldI 1) (sq (i_cV [(1, 52)] 2 4 [(12, [17], [18]), (15, [18], [17])]) (sq (i_i2l) (sq (i_sL [24]) (i_goto 18)))))))
theorem sb_126_0 : Sd 126 0 12 bk_126_0 := Sd.sq st_126_0 (Sd.sq st_126_1 (Sd.sq st_126_2 (Sd.sq st_126_3 (Sd.sq st_126_4 (Sd.sq st_126_7 (Sd.sq st_126_8 (st_126_9)))))))
theorem dd_126_12 : decode (mi 126).2.1 12 = .ok (.astore_n 3, 1) := by decide +kernel
theorem st_126_12 : Sd 126 12 1 (i_stR 3) := sd_astore_n (j := 3) dd_126_12 rfl
theorem dd_126_13 : decode (mi 126).2.1 13 = .ok (.iconst 1, 1) := by decide +kernel
theorem st_126_13 : Sd 126 13 1 (i_ic 1) := sd_iconst dd_126_13
theorem dd_126_14 : decode (mi 126).2.1 14 = .ok (.ireturn, 1) := by decide +kernel
theorem st_126_14 : Sd 126 14 1 (i_rI 0) := sd_ireturn dd_126_14 (by decide) mr_126
def bk_126_12 : Tr := sq (i_stR 3) (sq (i_ic 1) (i_rI 0))
theorem sb_126_12 : Sd 126 12 3 bk_126_12 := Sd.sq st_126_12 (Sd.sq st_126_13 (st_126_14))
theorem dd_126_15 : decode (mi 126).2.1 15 = .ok (.astore_n 3, 1) := by decide +kernel
theorem st_126_15 : Sd 126 15 1 (i_stR 3) := sd_astore_n (j := 3) dd_126_15 rfl
theorem dd_126_16 : decode (mi 126).2.1 16 = .ok (.iconst 2, 1) := by decide +kernel
theorem st_126_16 : Sd 126 16 1 (i_ic 2) := sd_iconst dd_126_16
theorem dd_126_17 : decode (mi 126).2.1 17 = .ok (.ireturn, 1) := by decide +kernel
theorem st_126_17 : Sd 126 17 1 (i_rI 0) := sd_ireturn dd_126_17 (by decide) mr_126
def bk_126_15 : Tr := sq (i_stR 3) (sq (i_ic 2) (i_rI 0))
theorem sb_126_15 : Sd 126 15 3 bk_126_15 := Sd.sq st_126_15 (Sd.sq st_126_16 (st_126_17))
theorem dd_126_18 : decode (mi 126).2.1 18 = .ok (.iconst 0, 1) := by decide +kernel
theorem st_126_18 : Sd 126 18 1 (i_ic 0) := sd_iconst dd_126_18
theorem dd_126_19 : decode (mi 126).2.1 19 = .ok (.ireturn, 1) := by decide +kernel
theorem st_126_19 : Sd 126 19 1 (i_rI 0) := sd_ireturn dd_126_19 (by decide) mr_126
def bk_126_18 : Tr := sq (i_ic 0) (i_rI 0)
theorem sb_126_18 : Sd 126 18 2 bk_126_18 := Sd.sq st_126_18 (st_126_19)
theorem dd_127_0 : decode (mi 127).2.1 0 = .ok (.aload_n 2, 1) := by decide +kernel
theorem st_127_0 : Sd 127 0 1 (i_ldR 2) := sd_aload_n (j := 2) dd_127_0 rfl
theorem dd_127_1 : decode (mi 127).2.1 1 = .ok (.iconst 0, 1) := by decide +kernel
theorem st_127_1 : Sd 127 1 1 (i_ic 0) := sd_iconst dd_127_1
theorem dd_127_2 : decode (mi 127).2.1 2 = .ok (.aload_n 0, 1) := by decide +kernel
theorem st_127_2 : Sd 127 2 1 (i_ldR 0) := sd_aload_n (j := 0) dd_127_2 rfl
theorem dd_127_3 : decode (mi 127).2.1 3 = .ok (.iload_n 1, 1) := by decide +kernel
theorem st_127_3 : Sd 127 3 1 (i_ldI 1) := sd_iload_n (j := 1) dd_127_3 rfl
theorem dd_127_4 : decode (mi 127).2.1 4 = .ok (.invokevirtual 24, 3) := by decide +kernel
theorem st_127_4 : Sd 127 4 3 (i_cV [(1, 57)] 2 4 [(12, [17], [18]), (15, [18], [17])]) := sd_virt ⟨"ContractDesk", "verify", "(I)I"⟩ dd_127_4 (by rw [mc_127]; exact tw_1127) (fun t j h => by simp only [List.mem_cons, List.not_mem_nil, or_false, Prod.mk.injEq] at h; obtain ⟨rfl, rfl⟩ := h; exact mn_57) (fun t j h => by simp only [List.mem_cons, List.not_mem_nil, or_false, Prod.mk.injEq] at h; obtain ⟨rfl, rfl⟩ := h; exact ⟨by rw [mn_57]; exact tw_1129, by rw [mn_57]; exact tw_1128, mt_57, by decide, by decide⟩) (by unfold prm; decide +kernel) ml_127 (HsOk.cons (by rw [mh_127]; exact (HG.cov (nm := "java/lang/IllegalArgumentException") (by decide) rfl (by decide) (by rw [mc_127]; exact tw_788) okc_5 oknc_4 (HG.cov (nm := "java/lang/IllegalStateException") (by decide) rfl (by decide) (by rw [mc_127]; exact tw_687) okc_4 oknc_3 HG.nil))))
theorem dd_127_7 : decode (mi 127).2.1 7 = .ok (.i2l, 1) := by decide +kernel
theorem st_127_7 : Sd 127 7 1 (i_i2l) := sd_i2l dd_127_7
theorem dd_127_8 : decode (mi 127).2.1 8 = .ok (.lastore, 1) := by decide +kernel
theorem st_127_8 : Sd 127 8 1 (i_sL [24]) := sd_lastore dd_127_8 (by decide)
theorem dd_127_9 : decode (mi 127).2.1 9 = .ok (.goto 9, 3) := by decide +kernel
theorem st_127_9 : Sd 127 9 3 (i_goto 18) := sd_goto dd_127_9 (by decide)
def bk_127_0 : Tr := sq (i_ldR 2) (sq (i_ic 0) (sq (i_ldR 0) (sq (i_ldI 1) (sq (i_cV [(1, 57)] 2 4 [(12, [17], [18]), (15, [18], [17])]) (sq (i_i2l) (sq (i_sL [24]) (i_goto 18)))))))
theorem sb_127_0 : Sd 127 0 12 bk_127_0 := Sd.sq st_127_0 (Sd.sq st_127_1 (Sd.sq st_127_2 (Sd.sq st_127_3 (Sd.sq st_127_4 (Sd.sq st_127_7 (Sd.sq st_127_8 (st_127_9)))))))
theorem dd_127_12 : decode (mi 127).2.1 12 = .ok (.astore_n 3, 1) := by decide +kernel
theorem st_127_12 : Sd 127 12 1 (i_stR 3) := sd_astore_n (j := 3) dd_127_12 rfl
theorem dd_127_13 : decode (mi 127).2.1 13 = .ok (.iconst 1, 1) := by decide +kernel
theorem st_127_13 : Sd 127 13 1 (i_ic 1) := sd_iconst dd_127_13
theorem dd_127_14 : decode (mi 127).2.1 14 = .ok (.ireturn, 1) := by decide +kernel
theorem st_127_14 : Sd 127 14 1 (i_rI 0) := sd_ireturn dd_127_14 (by decide) mr_127
def bk_127_12 : Tr := sq (i_stR 3) (sq (i_ic 1) (i_rI 0))
theorem sb_127_12 : Sd 127 12 3 bk_127_12 := Sd.sq st_127_12 (Sd.sq st_127_13 (st_127_14))
theorem dd_127_15 : decode (mi 127).2.1 15 = .ok (.astore_n 3, 1) := by decide +kernel
theorem st_127_15 : Sd 127 15 1 (i_stR 3) := sd_astore_n (j := 3) dd_127_15 rfl
theorem dd_127_16 : decode (mi 127).2.1 16 = .ok (.iconst 2, 1) := by decide +kernel
theorem st_127_16 : Sd 127 16 1 (i_ic 2) := sd_iconst dd_127_16
theorem dd_127_17 : decode (mi 127).2.1 17 = .ok (.ireturn, 1) := by decide +kernel
theorem st_127_17 : Sd 127 17 1 (i_rI 0) := sd_ireturn dd_127_17 (by decide) mr_127
def bk_127_15 : Tr := sq (i_stR 3) (sq (i_ic 2) (i_rI 0))
theorem sb_127_15 : Sd 127 15 3 bk_127_15 := Sd.sq st_127_15 (Sd.sq st_127_16 (st_127_17))
theorem dd_127_18 : decode (mi 127).2.1 18 = .ok (.iconst 0, 1) := by decide +kernel
theorem st_127_18 : Sd 127 18 1 (i_ic 0) := sd_iconst dd_127_18
theorem dd_127_19 : decode (mi 127).2.1 19 = .ok (.ireturn, 1) := by decide +kernel
theorem st_127_19 : Sd 127 19 1 (i_rI 0) := sd_ireturn dd_127_19 (by decide) mr_127
def bk_127_18 : Tr := sq (i_ic 0) (i_rI 0)
theorem sb_127_18 : Sd 127 18 2 bk_127_18 := Sd.sq st_127_18 (st_127_19)
theorem dd_185_0 : decode (mi 185).2.1 0 = .ok (.new 8, 3) := by decide +kernel
theorem st_185_0 : Sd 185 0 3 (i_new 1) := sd_new dd_185_0 (by rw [mc_185]; exact tw_108) (by exact tw_70) (by exact tw_109) (by decide) (by decide)
theorem dd_185_3 : decode (mi 185).2.1 3 = .ok (.dup, 1) := by decide +kernel
theorem st_185_3 : Sd 185 3 1 (i_dup) := sd_dup dd_185_3
theorem dd_185_4 : decode (mi 185).2.1 4 = .ok (.invokespecial 27, 3) := by decide +kernel
theorem st_185_4 : Sd 185 4 3 (i_cI 34 1 7 []) := sd_init dd_185_4 (by rw [mc_185, mn_34]; exact tw_110) (by rw [mn_34]; exact tw_111) mt_34 pm_34 (by rw [mn_34]) (by decide +kernel) ml_185 (HsOk.nil (by decide +kernel))
theorem dd_185_7 : decode (mi 185).2.1 7 = .ok (.astore_n 1, 1) := by decide +kernel
theorem st_185_7 : Sd 185 7 1 (i_stR 1) := sd_astore_n (j := 1) dd_185_7 rfl
theorem dd_185_8 : decode (mi 185).2.1 8 = .ok (.new 28, 3) := by decide +kernel
theorem st_185_8 : Sd 185 8 3 (i_new 2) := sd_new dd_185_8 (by rw [mc_185]; exact tw_1254) (by exact tw_90) (by exact tw_1255) (by decide) (by decide)
theorem dd_185_11 : decode (mi 185).2.1 11 = .ok (.dup, 1) := by decide +kernel
theorem st_185_11 : Sd 185 11 1 (i_dup) := sd_dup dd_185_11
theorem dd_185_12 : decode (mi 185).2.1 12 = .ok (.invokespecial 30, 3) := by decide +kernel
theorem st_185_12 : Sd 185 12 3 (i_cI 128 1 7 []) := sd_init dd_185_12 (by rw [mc_185, mn_128]; exact tw_1256) (by rw [mn_128]; exact tw_1257) mt_128 pm_128 (by rw [mn_128]) (by decide +kernel) ml_185 (HsOk.nil (by decide +kernel))
theorem dd_185_15 : decode (mi 185).2.1 15 = .ok (.astore_n 2, 1) := by decide +kernel
theorem st_185_15 : Sd 185 15 1 (i_stR 2) := sd_astore_n (j := 2) dd_185_15 rfl
theorem dd_185_16 : decode (mi 185).2.1 16 = .ok (.iconst 1, 1) := by decide +kernel
theorem st_185_16 : Sd 185 16 1 (i_ic 1) := sd_iconst dd_185_16
theorem dd_185_17 : decode (mi 185).2.1 17 = .ok (.newarray .long, 2) := by decide +kernel
theorem st_185_17 : Sd 185 17 2 (i_na 24) := sd_newarray dd_185_17 (by exact tw_1590) rfl (by decide)
theorem dd_185_19 : decode (mi 185).2.1 19 = .ok (.astore_n 3, 1) := by decide +kernel
theorem st_185_19 : Sd 185 19 1 (i_stR 3) := sd_astore_n (j := 3) dd_185_19 rfl
theorem dd_185_20 : decode (mi 185).2.1 20 = .ok (.iconst 0, 1) := by decide +kernel
theorem st_185_20 : Sd 185 20 1 (i_ic 0) := sd_iconst dd_185_20
theorem dd_185_21 : decode (mi 185).2.1 21 = .ok (.istore 4, 2) := by decide +kernel
theorem st_185_21 : Sd 185 21 2 (i_stI 4) := sd_istore dd_185_21
def bk_185_0 : Tr := sq (i_new 1) (sq (i_dup) (sq (i_cI 34 1 7 []) (sq (i_stR 1) (sq (i_new 2) (sq (i_dup) (sq (i_cI 128 1 7 []) (sq (i_stR 2) (sq (i_ic 1) (sq (i_na 24) (sq (i_stR 3) (sq (i_ic 0) (sq (i_stI 4) (i_fall 23)))))))))))))
theorem sb_185_0 : Sd 185 0 23 bk_185_0 := Sd.sq st_185_0 (Sd.sq st_185_3 (Sd.sq st_185_4 (Sd.sq st_185_7 (Sd.sq st_185_8 (Sd.sq st_185_11 (Sd.sq st_185_12 (Sd.sq st_185_15 (Sd.sq st_185_16 (Sd.sq st_185_17 (Sd.sq st_185_19 (Sd.sq st_185_20 (Sd.sq st_185_21 (sd_fall rfl)))))))))))))
theorem dd_185_23 : decode (mi 185).2.1 23 = .ok (.iload 4, 2) := by decide +kernel
theorem st_185_23 : Sd 185 23 2 (i_ldI 4) := sd_iload dd_185_23
theorem dd_185_25 : decode (mi 185).2.1 25 = .ok (.aload_n 0, 1) := by decide +kernel
theorem st_185_25 : Sd 185 25 1 (i_ldR 0) := sd_aload_n (j := 0) dd_185_25 rfl
theorem dd_185_26 : decode (mi 185).2.1 26 = .ok (.arraylength, 1) := by decide +kernel
theorem st_185_26 : Sd 185 26 1 (i_len) := sd_len dd_185_26
theorem dd_185_27 : decode (mi 185).2.1 27 = .ok (.iconst 3, 1) := by decide +kernel
theorem st_185_27 : Sd 185 27 1 (i_ic 3) := sd_iconst dd_185_27
theorem dd_185_28 : decode (mi 185).2.1 28 = .ok (.isub, 1) := by decide +kernel
theorem st_185_28 : Sd 185 28 1 (i_isub) := sd_isub dd_185_28
theorem dd_185_29 : decode (mi 185).2.1 29 = .ok (.if_icmp .gt 573, 3) := by decide +kernel
theorem st_185_29 : Sd 185 29 3 (i_cgt 602) := sd_icmp_gt dd_185_29 (by decide)
theorem dd_185_32 : decode (mi 185).2.1 32 = .ok (.aload_n 0, 1) := by decide +kernel
theorem st_185_32 : Sd 185 32 1 (i_ldR 0) := sd_aload_n (j := 0) dd_185_32 rfl
theorem dd_185_33 : decode (mi 185).2.1 33 = .ok (.iload 4, 2) := by decide +kernel
theorem st_185_33 : Sd 185 33 2 (i_ldI 4) := sd_iload dd_185_33
theorem dd_185_35 : decode (mi 185).2.1 35 = .ok (.iaload, 1) := by decide +kernel
theorem st_185_35 : Sd 185 35 1 (i_aI [20, 40]) := sd_iaload dd_185_35 (by decide)
theorem dd_185_36 : decode (mi 185).2.1 36 = .ok (.bipush 15, 2) := by decide +kernel
theorem st_185_36 : Sd 185 36 2 (i_ic 15) := sd_bipush dd_185_36 (by decide)
theorem dd_185_38 : decode (mi 185).2.1 38 = .ok (.iand, 1) := by decide +kernel
theorem st_185_38 : Sd 185 38 1 (i_iand) := sd_iand dd_185_38
theorem dd_185_39 : decode (mi 185).2.1 39 = .ok (.tableswitch 557 0 11 #[61, 118, 190, 246, 302, 339, 376, 401, 457, 470, 495, 532], 61) := by decide +kernel
theorem st_185_39 : Sd 185 39 61 (i_tsw 596 0 11 [100, 157, 229, 285, 341, 378, 415, 440, 496, 509, 534, 571]) := sd_tsw dd_185_39 (by decide) (by decide) (by decide)
def bk_185_23 : Tr := sq (i_ldI 4) (sq (i_ldR 0) (sq (i_len) (sq (i_ic 3) (sq (i_isub) (sq (i_cgt 602) (sq (i_ldR 0) (sq (i_ldI 4) (sq (i_aI [20, 40]) (sq (i_ic 15) (sq (i_iand) (i_tsw 596 0 11 [100, 157, 229, 285, 341, 378, 415, 440, 496, 509, 534, 571])))))))))))
theorem sb_185_23 : Sd 185 23 77 bk_185_23 := Sd.sq st_185_23 (Sd.sq st_185_25 (Sd.sq st_185_26 (Sd.sq st_185_27 (Sd.sq st_185_28 (Sd.sq st_185_29 (Sd.sq st_185_32 (Sd.sq st_185_33 (Sd.sq st_185_35 (Sd.sq st_185_36 (Sd.sq st_185_38 (st_185_39)))))))))))
theorem dd_185_100 : decode (mi 185).2.1 100 = .ok (.aload_n 1, 1) := by decide +kernel
theorem st_185_100 : Sd 185 100 1 (i_ldR 1) := sd_aload_n (j := 1) dd_185_100 rfl
theorem dd_185_101 : decode (mi 185).2.1 101 = .ok (.aload_n 0, 1) := by decide +kernel
theorem st_185_101 : Sd 185 101 1 (i_ldR 0) := sd_aload_n (j := 0) dd_185_101 rfl
theorem dd_185_102 : decode (mi 185).2.1 102 = .ok (.iload 4, 2) := by decide +kernel
theorem st_185_102 : Sd 185 102 2 (i_ldI 4) := sd_iload dd_185_102
theorem dd_185_104 : decode (mi 185).2.1 104 = .ok (.iconst 1, 1) := by decide +kernel
theorem st_185_104 : Sd 185 104 1 (i_ic 1) := sd_iconst dd_185_104
theorem dd_185_105 : decode (mi 185).2.1 105 = .ok (.iadd, 1) := by decide +kernel
theorem st_185_105 : Sd 185 105 1 (i_iadd) := sd_iadd dd_185_105
theorem dd_185_106 : decode (mi 185).2.1 106 = .ok (.iaload, 1) := by decide +kernel
theorem st_185_106 : Sd 185 106 1 (i_aI [20, 40]) := sd_iaload dd_185_106 (by decide)
theorem dd_185_107 : decode (mi 185).2.1 107 = .ok (.i2l, 1) := by decide +kernel
theorem st_185_107 : Sd 185 107 1 (i_i2l) := sd_i2l dd_185_107
theorem dd_185_108 : decode (mi 185).2.1 108 = .ok (.bipush 32, 2) := by decide +kernel
theorem st_185_108 : Sd 185 108 2 (i_ic 32) := sd_bipush dd_185_108 (by decide)
theorem dd_185_110 : decode (mi 185).2.1 110 = .ok (.lshl, 1) := by decide +kernel
theorem st_185_110 : Sd 185 110 1 (i_lshl) := sd_lshl dd_185_110
theorem dd_185_111 : decode (mi 185).2.1 111 = .ok (.aload_n 0, 1) := by decide +kernel
theorem st_185_111 : Sd 185 111 1 (i_ldR 0) := sd_aload_n (j := 0) dd_185_111 rfl
theorem dd_185_112 : decode (mi 185).2.1 112 = .ok (.iload 4, 2) := by decide +kernel
theorem st_185_112 : Sd 185 112 2 (i_ldI 4) := sd_iload dd_185_112
theorem dd_185_114 : decode (mi 185).2.1 114 = .ok (.iconst 2, 1) := by decide +kernel
theorem st_185_114 : Sd 185 114 1 (i_ic 2) := sd_iconst dd_185_114
theorem dd_185_115 : decode (mi 185).2.1 115 = .ok (.iadd, 1) := by decide +kernel
theorem st_185_115 : Sd 185 115 1 (i_iadd) := sd_iadd dd_185_115
theorem dd_185_116 : decode (mi 185).2.1 116 = .ok (.iaload, 1) := by decide +kernel
theorem st_185_116 : Sd 185 116 1 (i_aI [20, 40]) := sd_iaload dd_185_116 (by decide)
theorem dd_185_117 : decode (mi 185).2.1 117 = .ok (.i2l, 1) := by decide +kernel
theorem st_185_117 : Sd 185 117 1 (i_i2l) := sd_i2l dd_185_117
theorem dd_185_118 : decode (mi 185).2.1 118 = .ok (.ldc2_w 31, 3) := by decide +kernel
theorem st_185_118 : Sd 185 118 3 (i_lc 4294967295) := sd_ldc2 dd_185_118 (by rw [mc_185]; exact tw_1589)
theorem dd_185_121 : decode (mi 185).2.1 121 = .ok (.land, 1) := by decide +kernel
theorem st_185_121 : Sd 185 121 1 (i_land) := sd_land dd_185_121
theorem dd_185_122 : decode (mi 185).2.1 122 = .ok (.lor, 1) := by decide +kernel
theorem st_185_122 : Sd 185 122 1 (i_lor) := sd_lor dd_185_122
theorem dd_185_123 : decode (mi 185).2.1 123 = .ok (.invokevirtual 33, 3) := by decide +kernel
theorem st_185_123 : Sd 185 123 3 (i_cV [(1, 58)] 2 7 []) := sd_virt ⟨"ContractDesk", "write", "(J)Z"⟩ dd_185_123 (by rw [mc_185]; exact tw_507) (fun t j h => by simp only [List.mem_cons, List.not_mem_nil, or_false, Prod.mk.injEq] at h; obtain ⟨rfl, rfl⟩ := h; exact mn_58) (fun t j h => by simp only [List.mem_cons, List.not_mem_nil, or_false, Prod.mk.injEq] at h; obtain ⟨rfl, rfl⟩ := h; exact ⟨by rw [mn_58]; exact tw_509, by rw [mn_58]; exact tw_508, mt_58, by decide, by decide⟩) (by unfold prm; decide +kernel) ml_185 (HsOk.nil (by decide +kernel))
theorem dd_185_126 : decode (mi 185).2.1 126 = .ok (.aload_n 2, 1) := by decide +kernel
theorem st_185_126 : Sd 185 126 1 (i_ldR 2) := sd_aload_n (j := 2) dd_185_126 rfl
theorem dd_185_127 : decode (mi 185).2.1 127 = .ok (.aload_n 0, 1) := by decide +kernel
theorem st_185_127 : Sd 185 127 1 (i_ldR 0) := sd_aload_n (j := 0) dd_185_127 rfl
theorem dd_185_128 : decode (mi 185).2.1 128 = .ok (.iload 4, 2) := by decide +kernel
theorem st_185_128 : Sd 185 128 2 (i_ldI 4) := sd_iload dd_185_128
theorem dd_185_130 : decode (mi 185).2.1 130 = .ok (.iconst 1, 1) := by decide +kernel
theorem st_185_130 : Sd 185 130 1 (i_ic 1) := sd_iconst dd_185_130
theorem dd_185_131 : decode (mi 185).2.1 131 = .ok (.iadd, 1) := by decide +kernel
theorem st_185_131 : Sd 185 131 1 (i_iadd) := sd_iadd dd_185_131
theorem dd_185_132 : decode (mi 185).2.1 132 = .ok (.iaload, 1) := by decide +kernel
theorem st_185_132 : Sd 185 132 1 (i_aI [20, 40]) := sd_iaload dd_185_132 (by decide)
theorem dd_185_133 : decode (mi 185).2.1 133 = .ok (.i2l, 1) := by decide +kernel
theorem st_185_133 : Sd 185 133 1 (i_i2l) := sd_i2l dd_185_133
theorem dd_185_134 : decode (mi 185).2.1 134 = .ok (.bipush 32, 2) := by decide +kernel
theorem st_185_134 : Sd 185 134 2 (i_ic 32) := sd_bipush dd_185_134 (by decide)
theorem dd_185_136 : decode (mi 185).2.1 136 = .ok (.lshl, 1) := by decide +kernel
theorem st_185_136 : Sd 185 136 1 (i_lshl) := sd_lshl dd_185_136
theorem dd_185_137 : decode (mi 185).2.1 137 = .ok (.aload_n 0, 1) := by decide +kernel
theorem st_185_137 : Sd 185 137 1 (i_ldR 0) := sd_aload_n (j := 0) dd_185_137 rfl
theorem dd_185_138 : decode (mi 185).2.1 138 = .ok (.iload 4, 2) := by decide +kernel
theorem st_185_138 : Sd 185 138 2 (i_ldI 4) := sd_iload dd_185_138
theorem dd_185_140 : decode (mi 185).2.1 140 = .ok (.iconst 2, 1) := by decide +kernel
theorem st_185_140 : Sd 185 140 1 (i_ic 2) := sd_iconst dd_185_140
theorem dd_185_141 : decode (mi 185).2.1 141 = .ok (.iadd, 1) := by decide +kernel
theorem st_185_141 : Sd 185 141 1 (i_iadd) := sd_iadd dd_185_141
theorem dd_185_142 : decode (mi 185).2.1 142 = .ok (.iaload, 1) := by decide +kernel
theorem st_185_142 : Sd 185 142 1 (i_aI [20, 40]) := sd_iaload dd_185_142 (by decide)
theorem dd_185_143 : decode (mi 185).2.1 143 = .ok (.i2l, 1) := by decide +kernel
theorem st_185_143 : Sd 185 143 1 (i_i2l) := sd_i2l dd_185_143
theorem dd_185_144 : decode (mi 185).2.1 144 = .ok (.ldc2_w 31, 3) := by decide +kernel
theorem st_185_144 : Sd 185 144 3 (i_lc 4294967295) := sd_ldc2 dd_185_144 (by rw [mc_185]; exact tw_1589)
theorem dd_185_147 : decode (mi 185).2.1 147 = .ok (.land, 1) := by decide +kernel
theorem st_185_147 : Sd 185 147 1 (i_land) := sd_land dd_185_147
theorem dd_185_148 : decode (mi 185).2.1 148 = .ok (.lor, 1) := by decide +kernel
theorem st_185_148 : Sd 185 148 1 (i_lor) := sd_lor dd_185_148
theorem dd_185_149 : decode (mi 185).2.1 149 = .ok (.invokevirtual 37, 3) := by decide +kernel
theorem st_185_149 : Sd 185 149 3 (i_cV [(2, 184)] 2 7 []) := sd_virt ⟨"ContractDeskModel", "write", "(J)Z"⟩ dd_185_149 (by rw [mc_185]; exact tw_1372) (fun t j h => by simp only [List.mem_cons, List.not_mem_nil, or_false, Prod.mk.injEq] at h; obtain ⟨rfl, rfl⟩ := h; exact mn_184) (fun t j h => by simp only [List.mem_cons, List.not_mem_nil, or_false, Prod.mk.injEq] at h; obtain ⟨rfl, rfl⟩ := h; exact ⟨by rw [mn_184]; exact tw_1374, by rw [mn_184]; exact tw_1373, mt_184, by decide, by decide⟩) (by unfold prm; decide +kernel) ml_185 (HsOk.nil (by decide +kernel))
theorem dd_185_152 : decode (mi 185).2.1 152 = .ok (.if_icmp .eq 444, 3) := by decide +kernel
theorem st_185_152 : Sd 185 152 3 (i_ceq 596) := sd_icmp_eq dd_185_152 (by decide)
theorem dd_185_155 : decode (mi 185).2.1 155 = .ok (.iconst 0, 1) := by decide +kernel
theorem st_185_155 : Sd 185 155 1 (i_ic 0) := sd_iconst dd_185_155
theorem dd_185_156 : decode (mi 185).2.1 156 = .ok (.ireturn, 1) := by decide +kernel
theorem st_185_156 : Sd 185 156 1 (i_rI 2) := sd_ireturn dd_185_156 (by decide) mr_185
def bk_185_100 : Tr := sq (i_ldR 1) (sq (i_ldR 0) (sq (i_ldI 4) (sq (i_ic 1) (sq (i_iadd) (sq (i_aI [20, 40]) (sq (i_i2l) (sq (i_ic 32) (sq (i_lshl) (sq (i_ldR 0) (sq (i_ldI 4) (sq (i_ic 2) (sq (i_iadd) (sq (i_aI [20, 40]) (sq (i_i2l) (sq (i_lc 4294967295) (sq (i_land) (sq (i_lor) (sq (i_cV [(1, 58)] 2 7 []) (sq (i_ldR 2) (sq (i_ldR 0) (sq (i_ldI 4) (sq (i_ic 1) (sq (i_iadd) (sq (i_aI [20, 40]) (sq (i_i2l) (sq (i_ic 32) (sq (i_lshl) (sq (i_ldR 0) (sq (i_ldI 4) (sq (i_ic 2) (sq (i_iadd) (sq (i_aI [20, 40]) (sq (i_i2l) (sq (i_lc 4294967295) (sq (i_land) (sq (i_lor) (sq (i_cV [(2, 184)] 2 7 []) (sq (i_ceq 596) (sq (i_ic 0) (i_rI 2))))))))))))))))))))))))))))))))))))))))
theorem sb_185_100 : Sd 185 100 57 bk_185_100 := Sd.sq st_185_100 (Sd.sq st_185_101 (Sd.sq st_185_102 (Sd.sq st_185_104 (Sd.sq st_185_105 (Sd.sq st_185_106 (Sd.sq st_185_107 (Sd.sq st_185_108 (Sd.sq st_185_110 (Sd.sq st_185_111 (Sd.sq st_185_112 (Sd.sq st_185_114 (Sd.sq st_185_115 (Sd.sq st_185_116 (Sd.sq st_185_117 (Sd.sq st_185_118 (Sd.sq st_185_121 (Sd.sq st_185_122 (Sd.sq st_185_123 (Sd.sq st_185_126 (Sd.sq st_185_127 (Sd.sq st_185_128 (Sd.sq st_185_130 (Sd.sq st_185_131 (Sd.sq st_185_132 (Sd.sq st_185_133 (Sd.sq st_185_134 (Sd.sq st_185_136 (Sd.sq st_185_137 (Sd.sq st_185_138 (Sd.sq st_185_140 (Sd.sq st_185_141 (Sd.sq st_185_142 (Sd.sq st_185_143 (Sd.sq st_185_144 (Sd.sq st_185_147 (Sd.sq st_185_148 (Sd.sq st_185_149 (Sd.sq st_185_152 (Sd.sq st_185_155 (st_185_156))))))))))))))))))))))))))))))))))))))))
theorem dd_185_157 : decode (mi 185).2.1 157 = .ok (.aload_n 1, 1) := by decide +kernel
theorem st_185_157 : Sd 185 157 1 (i_ldR 1) := sd_aload_n (j := 1) dd_185_157 rfl
theorem dd_185_158 : decode (mi 185).2.1 158 = .ok (.aload_n 0, 1) := by decide +kernel
theorem st_185_158 : Sd 185 158 1 (i_ldR 0) := sd_aload_n (j := 0) dd_185_158 rfl
theorem dd_185_159 : decode (mi 185).2.1 159 = .ok (.iload 4, 2) := by decide +kernel
theorem st_185_159 : Sd 185 159 2 (i_ldI 4) := sd_iload dd_185_159
theorem dd_185_161 : decode (mi 185).2.1 161 = .ok (.iconst 1, 1) := by decide +kernel
theorem st_185_161 : Sd 185 161 1 (i_ic 1) := sd_iconst dd_185_161
theorem dd_185_162 : decode (mi 185).2.1 162 = .ok (.iadd, 1) := by decide +kernel
theorem st_185_162 : Sd 185 162 1 (i_iadd) := sd_iadd dd_185_162
theorem dd_185_163 : decode (mi 185).2.1 163 = .ok (.iaload, 1) := by decide +kernel
theorem st_185_163 : Sd 185 163 1 (i_aI [20, 40]) := sd_iaload dd_185_163 (by decide)
theorem dd_185_164 : decode (mi 185).2.1 164 = .ok (.ifCond .eq 7, 3) := by decide +kernel
theorem st_185_164 : Sd 185 164 3 (i_zeq 171) := sd_if_eq dd_185_164 (by decide)
theorem dd_185_167 : decode (mi 185).2.1 167 = .ok (.iconst 1, 1) := by decide +kernel
theorem st_185_167 : Sd 185 167 1 (i_ic 1) := sd_iconst dd_185_167
theorem dd_185_168 : decode (mi 185).2.1 168 = .ok (.goto 4, 3) := by decide +kernel
theorem st_185_168 : Sd 185 168 3 (i_goto 172) := sd_goto dd_185_168 (by decide)
def bk_185_157 : Tr := sq (i_ldR 1) (sq (i_ldR 0) (sq (i_ldI 4) (sq (i_ic 1) (sq (i_iadd) (sq (i_aI [20, 40]) (sq (i_zeq 171) (sq (i_ic 1) (i_goto 172))))))))
theorem sb_185_157 : Sd 185 157 14 bk_185_157 := Sd.sq st_185_157 (Sd.sq st_185_158 (Sd.sq st_185_159 (Sd.sq st_185_161 (Sd.sq st_185_162 (Sd.sq st_185_163 (Sd.sq st_185_164 (Sd.sq st_185_167 (st_185_168))))))))
theorem dd_185_171 : decode (mi 185).2.1 171 = .ok (.iconst 0, 1) := by decide +kernel
theorem st_185_171 : Sd 185 171 1 (i_ic 0) := sd_iconst dd_185_171
def bk_185_171 : Tr := sq (i_ic 0) (i_fall 172)
theorem sb_185_171 : Sd 185 171 1 bk_185_171 := Sd.sq st_185_171 (sd_fall rfl)
theorem dd_185_172 : decode (mi 185).2.1 172 = .ok (.aload_n 3, 1) := by decide +kernel
theorem st_185_172 : Sd 185 172 1 (i_ldR 3) := sd_aload_n (j := 3) dd_185_172 rfl
theorem dd_185_173 : decode (mi 185).2.1 173 = .ok (.invokestatic 38, 3) := by decide +kernel
theorem st_185_173 : Sd 185 173 3 (i_cS 125 3 7 []) := sd_static dd_185_173 (by rw [mc_185, mn_125]; exact tw_684) (by rw [mn_125]; exact tw_685) mt_125 pm_125 ml_185 (HsOk.nil (by decide +kernel))
theorem dd_185_176 : decode (mi 185).2.1 176 = .ok (.istore 5, 2) := by decide +kernel
theorem st_185_176 : Sd 185 176 2 (i_stI 5) := sd_istore dd_185_176
theorem dd_185_178 : decode (mi 185).2.1 178 = .ok (.aload_n 2, 1) := by decide +kernel
theorem st_185_178 : Sd 185 178 1 (i_ldR 2) := sd_aload_n (j := 2) dd_185_178 rfl
theorem dd_185_179 : decode (mi 185).2.1 179 = .ok (.aload_n 0, 1) := by decide +kernel
theorem st_185_179 : Sd 185 179 1 (i_ldR 0) := sd_aload_n (j := 0) dd_185_179 rfl
theorem dd_185_180 : decode (mi 185).2.1 180 = .ok (.iload 4, 2) := by decide +kernel
theorem st_185_180 : Sd 185 180 2 (i_ldI 4) := sd_iload dd_185_180
theorem dd_185_182 : decode (mi 185).2.1 182 = .ok (.iconst 1, 1) := by decide +kernel
theorem st_185_182 : Sd 185 182 1 (i_ic 1) := sd_iconst dd_185_182
theorem dd_185_183 : decode (mi 185).2.1 183 = .ok (.iadd, 1) := by decide +kernel
theorem st_185_183 : Sd 185 183 1 (i_iadd) := sd_iadd dd_185_183
theorem dd_185_184 : decode (mi 185).2.1 184 = .ok (.iaload, 1) := by decide +kernel
theorem st_185_184 : Sd 185 184 1 (i_aI [20, 40]) := sd_iaload dd_185_184 (by decide)
theorem dd_185_185 : decode (mi 185).2.1 185 = .ok (.ifCond .eq 7, 3) := by decide +kernel
theorem st_185_185 : Sd 185 185 3 (i_zeq 192) := sd_if_eq dd_185_185 (by decide)
theorem dd_185_188 : decode (mi 185).2.1 188 = .ok (.iconst 1, 1) := by decide +kernel
theorem st_185_188 : Sd 185 188 1 (i_ic 1) := sd_iconst dd_185_188
theorem dd_185_189 : decode (mi 185).2.1 189 = .ok (.goto 4, 3) := by decide +kernel
theorem st_185_189 : Sd 185 189 3 (i_goto 193) := sd_goto dd_185_189 (by decide)
def bk_185_172 : Tr := sq (i_ldR 3) (sq (i_cS 125 3 7 []) (sq (i_stI 5) (sq (i_ldR 2) (sq (i_ldR 0) (sq (i_ldI 4) (sq (i_ic 1) (sq (i_iadd) (sq (i_aI [20, 40]) (sq (i_zeq 192) (sq (i_ic 1) (i_goto 193)))))))))))
theorem sb_185_172 : Sd 185 172 20 bk_185_172 := Sd.sq st_185_172 (Sd.sq st_185_173 (Sd.sq st_185_176 (Sd.sq st_185_178 (Sd.sq st_185_179 (Sd.sq st_185_180 (Sd.sq st_185_182 (Sd.sq st_185_183 (Sd.sq st_185_184 (Sd.sq st_185_185 (Sd.sq st_185_188 (st_185_189)))))))))))
theorem dd_185_192 : decode (mi 185).2.1 192 = .ok (.iconst 0, 1) := by decide +kernel
theorem st_185_192 : Sd 185 192 1 (i_ic 0) := sd_iconst dd_185_192
def bk_185_192 : Tr := sq (i_ic 0) (i_fall 193)
theorem sb_185_192 : Sd 185 192 1 bk_185_192 := Sd.sq st_185_192 (sd_fall rfl)
theorem dd_185_193 : decode (mi 185).2.1 193 = .ok (.invokevirtual 43, 3) := by decide +kernel
theorem st_185_193 : Sd 185 193 3 (i_cV [(2, 157)] 2 7 []) := sd_virt ⟨"ContractDeskModel", "make", "(Z)I"⟩ dd_185_193 (by rw [mc_185]; exact tw_1376) (fun t j h => by simp only [List.mem_cons, List.not_mem_nil, or_false, Prod.mk.injEq] at h; obtain ⟨rfl, rfl⟩ := h; exact mn_157) (fun t j h => by simp only [List.mem_cons, List.not_mem_nil, or_false, Prod.mk.injEq] at h; obtain ⟨rfl, rfl⟩ := h; exact ⟨by rw [mn_157]; exact tw_1378, by rw [mn_157]; exact tw_1377, mt_157, by decide, by decide⟩) (by unfold prm; decide +kernel) ml_185 (HsOk.nil (by decide +kernel))
theorem dd_185_196 : decode (mi 185).2.1 196 = .ok (.istore 6, 2) := by decide +kernel
theorem st_185_196 : Sd 185 196 2 (i_stI 6) := sd_istore dd_185_196
theorem dd_185_198 : decode (mi 185).2.1 198 = .ok (.aload_n 2, 1) := by decide +kernel
theorem st_185_198 : Sd 185 198 1 (i_ldR 2) := sd_aload_n (j := 2) dd_185_198 rfl
theorem dd_185_199 : decode (mi 185).2.1 199 = .ok (.invokevirtual 44, 3) := by decide +kernel
theorem st_185_199 : Sd 185 199 3 (i_cV [(2, 179)] 1 7 []) := sd_virt ⟨"ContractDeskModel", "thrown", "()I"⟩ dd_185_199 (by rw [mc_185]; exact tw_1368) (fun t j h => by simp only [List.mem_cons, List.not_mem_nil, or_false, Prod.mk.injEq] at h; obtain ⟨rfl, rfl⟩ := h; exact mn_179) (fun t j h => by simp only [List.mem_cons, List.not_mem_nil, or_false, Prod.mk.injEq] at h; obtain ⟨rfl, rfl⟩ := h; exact ⟨by rw [mn_179]; exact tw_1370, by rw [mn_179]; exact tw_1369, mt_179, by decide, by decide⟩) (by unfold prm; decide +kernel) ml_185 (HsOk.nil (by decide +kernel))
theorem dd_185_202 : decode (mi 185).2.1 202 = .ok (.iload 5, 2) := by decide +kernel
theorem st_185_202 : Sd 185 202 2 (i_ldI 5) := sd_iload dd_185_202
theorem dd_185_204 : decode (mi 185).2.1 204 = .ok (.if_icmp .eq 5, 3) := by decide +kernel
theorem st_185_204 : Sd 185 204 3 (i_ceq 209) := sd_icmp_eq dd_185_204 (by decide)
theorem dd_185_207 : decode (mi 185).2.1 207 = .ok (.iconst 0, 1) := by decide +kernel
theorem st_185_207 : Sd 185 207 1 (i_ic 0) := sd_iconst dd_185_207
theorem dd_185_208 : decode (mi 185).2.1 208 = .ok (.ireturn, 1) := by decide +kernel
theorem st_185_208 : Sd 185 208 1 (i_rI 2) := sd_ireturn dd_185_208 (by decide) mr_185
def bk_185_193 : Tr := sq (i_cV [(2, 157)] 2 7 []) (sq (i_stI 6) (sq (i_ldR 2) (sq (i_cV [(2, 179)] 1 7 []) (sq (i_ldI 5) (sq (i_ceq 209) (sq (i_ic 0) (i_rI 2)))))))
theorem sb_185_193 : Sd 185 193 16 bk_185_193 := Sd.sq st_185_193 (Sd.sq st_185_196 (Sd.sq st_185_198 (Sd.sq st_185_199 (Sd.sq st_185_202 (Sd.sq st_185_204 (Sd.sq st_185_207 (st_185_208)))))))
theorem dd_185_209 : decode (mi 185).2.1 209 = .ok (.iload 5, 2) := by decide +kernel
theorem st_185_209 : Sd 185 209 2 (i_ldI 5) := sd_iload dd_185_209
theorem dd_185_211 : decode (mi 185).2.1 211 = .ok (.ifCond .ne 15, 3) := by decide +kernel
theorem st_185_211 : Sd 185 211 3 (i_zne 226) := sd_if_ne dd_185_211 (by decide)
theorem dd_185_214 : decode (mi 185).2.1 214 = .ok (.aload_n 3, 1) := by decide +kernel
theorem st_185_214 : Sd 185 214 1 (i_ldR 3) := sd_aload_n (j := 3) dd_185_214 rfl
theorem dd_185_215 : decode (mi 185).2.1 215 = .ok (.iconst 0, 1) := by decide +kernel
theorem st_185_215 : Sd 185 215 1 (i_ic 0) := sd_iconst dd_185_215
theorem dd_185_216 : decode (mi 185).2.1 216 = .ok (.laload, 1) := by decide +kernel
theorem st_185_216 : Sd 185 216 1 (i_aL [24]) := sd_laload dd_185_216 (by decide)
theorem dd_185_217 : decode (mi 185).2.1 217 = .ok (.iload 6, 2) := by decide +kernel
theorem st_185_217 : Sd 185 217 2 (i_ldI 6) := sd_iload dd_185_217
theorem dd_185_219 : decode (mi 185).2.1 219 = .ok (.i2l, 1) := by decide +kernel
theorem st_185_219 : Sd 185 219 1 (i_i2l) := sd_i2l dd_185_219
theorem dd_185_220 : decode (mi 185).2.1 220 = .ok (.lcmp, 1) := by decide +kernel
theorem st_185_220 : Sd 185 220 1 (i_lcmp) := sd_lcmp dd_185_220
theorem dd_185_221 : decode (mi 185).2.1 221 = .ok (.ifCond .eq 5, 3) := by decide +kernel
theorem st_185_221 : Sd 185 221 3 (i_zeq 226) := sd_if_eq dd_185_221 (by decide)
theorem dd_185_224 : decode (mi 185).2.1 224 = .ok (.iconst 0, 1) := by decide +kernel
theorem st_185_224 : Sd 185 224 1 (i_ic 0) := sd_iconst dd_185_224
theorem dd_185_225 : decode (mi 185).2.1 225 = .ok (.ireturn, 1) := by decide +kernel
theorem st_185_225 : Sd 185 225 1 (i_rI 2) := sd_ireturn dd_185_225 (by decide) mr_185
def bk_185_209 : Tr := sq (i_ldI 5) (sq (i_zne 226) (sq (i_ldR 3) (sq (i_ic 0) (sq (i_aL [24]) (sq (i_ldI 6) (sq (i_i2l) (sq (i_lcmp) (sq (i_zeq 226) (sq (i_ic 0) (i_rI 2))))))))))
theorem sb_185_209 : Sd 185 209 17 bk_185_209 := Sd.sq st_185_209 (Sd.sq st_185_211 (Sd.sq st_185_214 (Sd.sq st_185_215 (Sd.sq st_185_216 (Sd.sq st_185_217 (Sd.sq st_185_219 (Sd.sq st_185_220 (Sd.sq st_185_221 (Sd.sq st_185_224 (st_185_225))))))))))
theorem dd_185_226 : decode (mi 185).2.1 226 = .ok (.goto 370, 3) := by decide +kernel
theorem st_185_226 : Sd 185 226 3 (i_goto 596) := sd_goto dd_185_226 (by decide)
def bk_185_226 : Tr := i_goto 596
theorem sb_185_226 : Sd 185 226 3 bk_185_226 := st_185_226
theorem dd_185_229 : decode (mi 185).2.1 229 = .ok (.aload_n 1, 1) := by decide +kernel
theorem st_185_229 : Sd 185 229 1 (i_ldR 1) := sd_aload_n (j := 1) dd_185_229 rfl
theorem dd_185_230 : decode (mi 185).2.1 230 = .ok (.aload_n 0, 1) := by decide +kernel
theorem st_185_230 : Sd 185 230 1 (i_ldR 0) := sd_aload_n (j := 0) dd_185_230 rfl
theorem dd_185_231 : decode (mi 185).2.1 231 = .ok (.iload 4, 2) := by decide +kernel
theorem st_185_231 : Sd 185 231 2 (i_ldI 4) := sd_iload dd_185_231
theorem dd_185_233 : decode (mi 185).2.1 233 = .ok (.iconst 1, 1) := by decide +kernel
theorem st_185_233 : Sd 185 233 1 (i_ic 1) := sd_iconst dd_185_233
theorem dd_185_234 : decode (mi 185).2.1 234 = .ok (.iadd, 1) := by decide +kernel
theorem st_185_234 : Sd 185 234 1 (i_iadd) := sd_iadd dd_185_234
theorem dd_185_235 : decode (mi 185).2.1 235 = .ok (.iaload, 1) := by decide +kernel
theorem st_185_235 : Sd 185 235 1 (i_aI [20, 40]) := sd_iaload dd_185_235 (by decide)
theorem dd_185_236 : decode (mi 185).2.1 236 = .ok (.aload_n 3, 1) := by decide +kernel
theorem st_185_236 : Sd 185 236 1 (i_ldR 3) := sd_aload_n (j := 3) dd_185_236 rfl
theorem dd_185_237 : decode (mi 185).2.1 237 = .ok (.invokestatic 48, 3) := by decide +kernel
theorem st_185_237 : Sd 185 237 3 (i_cS 124 3 7 []) := sd_static dd_185_237 (by rw [mc_185, mn_124]; exact tw_785) (by rw [mn_124]; exact tw_786) mt_124 pm_124 ml_185 (HsOk.nil (by decide +kernel))
theorem dd_185_240 : decode (mi 185).2.1 240 = .ok (.istore 5, 2) := by decide +kernel
theorem st_185_240 : Sd 185 240 2 (i_stI 5) := sd_istore dd_185_240
theorem dd_185_242 : decode (mi 185).2.1 242 = .ok (.aload_n 2, 1) := by decide +kernel
theorem st_185_242 : Sd 185 242 1 (i_ldR 2) := sd_aload_n (j := 2) dd_185_242 rfl
theorem dd_185_243 : decode (mi 185).2.1 243 = .ok (.aload_n 0, 1) := by decide +kernel
theorem st_185_243 : Sd 185 243 1 (i_ldR 0) := sd_aload_n (j := 0) dd_185_243 rfl
theorem dd_185_244 : decode (mi 185).2.1 244 = .ok (.iload 4, 2) := by decide +kernel
theorem st_185_244 : Sd 185 244 2 (i_ldI 4) := sd_iload dd_185_244
theorem dd_185_246 : decode (mi 185).2.1 246 = .ok (.iconst 1, 1) := by decide +kernel
theorem st_185_246 : Sd 185 246 1 (i_ic 1) := sd_iconst dd_185_246
theorem dd_185_247 : decode (mi 185).2.1 247 = .ok (.iadd, 1) := by decide +kernel
theorem st_185_247 : Sd 185 247 1 (i_iadd) := sd_iadd dd_185_247
theorem dd_185_248 : decode (mi 185).2.1 248 = .ok (.iaload, 1) := by decide +kernel
theorem st_185_248 : Sd 185 248 1 (i_aI [20, 40]) := sd_iaload dd_185_248 (by decide)
theorem dd_185_249 : decode (mi 185).2.1 249 = .ok (.invokevirtual 51, 3) := by decide +kernel
theorem st_185_249 : Sd 185 249 3 (i_cV [(2, 131)] 2 7 []) := sd_virt ⟨"ContractDeskModel", "body", "(I)I"⟩ dd_185_249 (by rw [mc_185]; exact tw_1380) (fun t j h => by simp only [List.mem_cons, List.not_mem_nil, or_false, Prod.mk.injEq] at h; obtain ⟨rfl, rfl⟩ := h; exact mn_131) (fun t j h => by simp only [List.mem_cons, List.not_mem_nil, or_false, Prod.mk.injEq] at h; obtain ⟨rfl, rfl⟩ := h; exact ⟨by rw [mn_131]; exact tw_1382, by rw [mn_131]; exact tw_1381, mt_131, by decide, by decide⟩) (by unfold prm; decide +kernel) ml_185 (HsOk.nil (by decide +kernel))
theorem dd_185_252 : decode (mi 185).2.1 252 = .ok (.istore 6, 2) := by decide +kernel
theorem st_185_252 : Sd 185 252 2 (i_stI 6) := sd_istore dd_185_252
theorem dd_185_254 : decode (mi 185).2.1 254 = .ok (.aload_n 2, 1) := by decide +kernel
theorem st_185_254 : Sd 185 254 1 (i_ldR 2) := sd_aload_n (j := 2) dd_185_254 rfl
theorem dd_185_255 : decode (mi 185).2.1 255 = .ok (.invokevirtual 44, 3) := by decide +kernel
theorem st_185_255 : Sd 185 255 3 (i_cV [(2, 179)] 1 7 []) := sd_virt ⟨"ContractDeskModel", "thrown", "()I"⟩ dd_185_255 (by rw [mc_185]; exact tw_1368) (fun t j h => by simp only [List.mem_cons, List.not_mem_nil, or_false, Prod.mk.injEq] at h; obtain ⟨rfl, rfl⟩ := h; exact mn_179) (fun t j h => by simp only [List.mem_cons, List.not_mem_nil, or_false, Prod.mk.injEq] at h; obtain ⟨rfl, rfl⟩ := h; exact ⟨by rw [mn_179]; exact tw_1370, by rw [mn_179]; exact tw_1369, mt_179, by decide, by decide⟩) (by unfold prm; decide +kernel) ml_185 (HsOk.nil (by decide +kernel))
theorem dd_185_258 : decode (mi 185).2.1 258 = .ok (.iload 5, 2) := by decide +kernel
theorem st_185_258 : Sd 185 258 2 (i_ldI 5) := sd_iload dd_185_258
theorem dd_185_260 : decode (mi 185).2.1 260 = .ok (.if_icmp .eq 5, 3) := by decide +kernel
theorem st_185_260 : Sd 185 260 3 (i_ceq 265) := sd_icmp_eq dd_185_260 (by decide)
theorem dd_185_263 : decode (mi 185).2.1 263 = .ok (.iconst 0, 1) := by decide +kernel
theorem st_185_263 : Sd 185 263 1 (i_ic 0) := sd_iconst dd_185_263
theorem dd_185_264 : decode (mi 185).2.1 264 = .ok (.ireturn, 1) := by decide +kernel
theorem st_185_264 : Sd 185 264 1 (i_rI 2) := sd_ireturn dd_185_264 (by decide) mr_185
def bk_185_229 : Tr := sq (i_ldR 1) (sq (i_ldR 0) (sq (i_ldI 4) (sq (i_ic 1) (sq (i_iadd) (sq (i_aI [20, 40]) (sq (i_ldR 3) (sq (i_cS 124 3 7 []) (sq (i_stI 5) (sq (i_ldR 2) (sq (i_ldR 0) (sq (i_ldI 4) (sq (i_ic 1) (sq (i_iadd) (sq (i_aI [20, 40]) (sq (i_cV [(2, 131)] 2 7 []) (sq (i_stI 6) (sq (i_ldR 2) (sq (i_cV [(2, 179)] 1 7 []) (sq (i_ldI 5) (sq (i_ceq 265) (sq (i_ic 0) (i_rI 2))))))))))))))))))))))
theorem sb_185_229 : Sd 185 229 36 bk_185_229 := Sd.sq st_185_229 (Sd.sq st_185_230 (Sd.sq st_185_231 (Sd.sq st_185_233 (Sd.sq st_185_234 (Sd.sq st_185_235 (Sd.sq st_185_236 (Sd.sq st_185_237 (Sd.sq st_185_240 (Sd.sq st_185_242 (Sd.sq st_185_243 (Sd.sq st_185_244 (Sd.sq st_185_246 (Sd.sq st_185_247 (Sd.sq st_185_248 (Sd.sq st_185_249 (Sd.sq st_185_252 (Sd.sq st_185_254 (Sd.sq st_185_255 (Sd.sq st_185_258 (Sd.sq st_185_260 (Sd.sq st_185_263 (st_185_264))))))))))))))))))))))
theorem dd_185_265 : decode (mi 185).2.1 265 = .ok (.iload 5, 2) := by decide +kernel
theorem st_185_265 : Sd 185 265 2 (i_ldI 5) := sd_iload dd_185_265
theorem dd_185_267 : decode (mi 185).2.1 267 = .ok (.ifCond .ne 15, 3) := by decide +kernel
theorem st_185_267 : Sd 185 267 3 (i_zne 282) := sd_if_ne dd_185_267 (by decide)
theorem dd_185_270 : decode (mi 185).2.1 270 = .ok (.aload_n 3, 1) := by decide +kernel
theorem st_185_270 : Sd 185 270 1 (i_ldR 3) := sd_aload_n (j := 3) dd_185_270 rfl
theorem dd_185_271 : decode (mi 185).2.1 271 = .ok (.iconst 0, 1) := by decide +kernel
theorem st_185_271 : Sd 185 271 1 (i_ic 0) := sd_iconst dd_185_271
theorem dd_185_272 : decode (mi 185).2.1 272 = .ok (.laload, 1) := by decide +kernel
theorem st_185_272 : Sd 185 272 1 (i_aL [24]) := sd_laload dd_185_272 (by decide)
theorem dd_185_273 : decode (mi 185).2.1 273 = .ok (.iload 6, 2) := by decide +kernel
theorem st_185_273 : Sd 185 273 2 (i_ldI 6) := sd_iload dd_185_273
theorem dd_185_275 : decode (mi 185).2.1 275 = .ok (.i2l, 1) := by decide +kernel
theorem st_185_275 : Sd 185 275 1 (i_i2l) := sd_i2l dd_185_275
theorem dd_185_276 : decode (mi 185).2.1 276 = .ok (.lcmp, 1) := by decide +kernel
theorem st_185_276 : Sd 185 276 1 (i_lcmp) := sd_lcmp dd_185_276
theorem dd_185_277 : decode (mi 185).2.1 277 = .ok (.ifCond .eq 5, 3) := by decide +kernel
theorem st_185_277 : Sd 185 277 3 (i_zeq 282) := sd_if_eq dd_185_277 (by decide)
theorem dd_185_280 : decode (mi 185).2.1 280 = .ok (.iconst 0, 1) := by decide +kernel
theorem st_185_280 : Sd 185 280 1 (i_ic 0) := sd_iconst dd_185_280
theorem dd_185_281 : decode (mi 185).2.1 281 = .ok (.ireturn, 1) := by decide +kernel
theorem st_185_281 : Sd 185 281 1 (i_rI 2) := sd_ireturn dd_185_281 (by decide) mr_185
def bk_185_265 : Tr := sq (i_ldI 5) (sq (i_zne 282) (sq (i_ldR 3) (sq (i_ic 0) (sq (i_aL [24]) (sq (i_ldI 6) (sq (i_i2l) (sq (i_lcmp) (sq (i_zeq 282) (sq (i_ic 0) (i_rI 2))))))))))
theorem sb_185_265 : Sd 185 265 17 bk_185_265 := Sd.sq st_185_265 (Sd.sq st_185_267 (Sd.sq st_185_270 (Sd.sq st_185_271 (Sd.sq st_185_272 (Sd.sq st_185_273 (Sd.sq st_185_275 (Sd.sq st_185_276 (Sd.sq st_185_277 (Sd.sq st_185_280 (st_185_281))))))))))
theorem dd_185_282 : decode (mi 185).2.1 282 = .ok (.goto 314, 3) := by decide +kernel
theorem st_185_282 : Sd 185 282 3 (i_goto 596) := sd_goto dd_185_282 (by decide)
def bk_185_282 : Tr := i_goto 596
theorem sb_185_282 : Sd 185 282 3 bk_185_282 := st_185_282
theorem dd_185_285 : decode (mi 185).2.1 285 = .ok (.aload_n 1, 1) := by decide +kernel
theorem st_185_285 : Sd 185 285 1 (i_ldR 1) := sd_aload_n (j := 1) dd_185_285 rfl
theorem dd_185_286 : decode (mi 185).2.1 286 = .ok (.aload_n 0, 1) := by decide +kernel
theorem st_185_286 : Sd 185 286 1 (i_ldR 0) := sd_aload_n (j := 0) dd_185_286 rfl
theorem dd_185_287 : decode (mi 185).2.1 287 = .ok (.iload 4, 2) := by decide +kernel
theorem st_185_287 : Sd 185 287 2 (i_ldI 4) := sd_iload dd_185_287
theorem dd_185_289 : decode (mi 185).2.1 289 = .ok (.iconst 1, 1) := by decide +kernel
theorem st_185_289 : Sd 185 289 1 (i_ic 1) := sd_iconst dd_185_289
theorem dd_185_290 : decode (mi 185).2.1 290 = .ok (.iadd, 1) := by decide +kernel
theorem st_185_290 : Sd 185 290 1 (i_iadd) := sd_iadd dd_185_290
theorem dd_185_291 : decode (mi 185).2.1 291 = .ok (.iaload, 1) := by decide +kernel
theorem st_185_291 : Sd 185 291 1 (i_aI [20, 40]) := sd_iaload dd_185_291 (by decide)
theorem dd_185_292 : decode (mi 185).2.1 292 = .ok (.aload_n 3, 1) := by decide +kernel
theorem st_185_292 : Sd 185 292 1 (i_ldR 3) := sd_aload_n (j := 3) dd_185_292 rfl
theorem dd_185_293 : decode (mi 185).2.1 293 = .ok (.invokestatic 52, 3) := by decide +kernel
theorem st_185_293 : Sd 185 293 3 (i_cS 126 3 7 []) := sd_static dd_185_293 (by rw [mc_185, mn_126]; exact tw_1002) (by rw [mn_126]; exact tw_1003) mt_126 pm_126 ml_185 (HsOk.nil (by decide +kernel))
theorem dd_185_296 : decode (mi 185).2.1 296 = .ok (.istore 5, 2) := by decide +kernel
theorem st_185_296 : Sd 185 296 2 (i_stI 5) := sd_istore dd_185_296
theorem dd_185_298 : decode (mi 185).2.1 298 = .ok (.aload_n 2, 1) := by decide +kernel
theorem st_185_298 : Sd 185 298 1 (i_ldR 2) := sd_aload_n (j := 2) dd_185_298 rfl
theorem dd_185_299 : decode (mi 185).2.1 299 = .ok (.aload_n 0, 1) := by decide +kernel
theorem st_185_299 : Sd 185 299 1 (i_ldR 0) := sd_aload_n (j := 0) dd_185_299 rfl
theorem dd_185_300 : decode (mi 185).2.1 300 = .ok (.iload 4, 2) := by decide +kernel
theorem st_185_300 : Sd 185 300 2 (i_ldI 4) := sd_iload dd_185_300
theorem dd_185_302 : decode (mi 185).2.1 302 = .ok (.iconst 1, 1) := by decide +kernel
theorem st_185_302 : Sd 185 302 1 (i_ic 1) := sd_iconst dd_185_302
theorem dd_185_303 : decode (mi 185).2.1 303 = .ok (.iadd, 1) := by decide +kernel
theorem st_185_303 : Sd 185 303 1 (i_iadd) := sd_iadd dd_185_303
theorem dd_185_304 : decode (mi 185).2.1 304 = .ok (.iaload, 1) := by decide +kernel
theorem st_185_304 : Sd 185 304 1 (i_aI [20, 40]) := sd_iaload dd_185_304 (by decide)
theorem dd_185_305 : decode (mi 185).2.1 305 = .ok (.invokevirtual 54, 3) := by decide +kernel
theorem st_185_305 : Sd 185 305 3 (i_cV [(2, 171)] 2 7 []) := sd_virt ⟨"ContractDeskModel", "rule", "(I)I"⟩ dd_185_305 (by rw [mc_185]; exact tw_1457) (fun t j h => by simp only [List.mem_cons, List.not_mem_nil, or_false, Prod.mk.injEq] at h; obtain ⟨rfl, rfl⟩ := h; exact mn_171) (fun t j h => by simp only [List.mem_cons, List.not_mem_nil, or_false, Prod.mk.injEq] at h; obtain ⟨rfl, rfl⟩ := h; exact ⟨by rw [mn_171]; exact tw_1459, by rw [mn_171]; exact tw_1458, mt_171, by decide, by decide⟩) (by unfold prm; decide +kernel) ml_185 (HsOk.nil (by decide +kernel))
theorem dd_185_308 : decode (mi 185).2.1 308 = .ok (.istore 6, 2) := by decide +kernel
theorem st_185_308 : Sd 185 308 2 (i_stI 6) := sd_istore dd_185_308
theorem dd_185_310 : decode (mi 185).2.1 310 = .ok (.aload_n 2, 1) := by decide +kernel
theorem st_185_310 : Sd 185 310 1 (i_ldR 2) := sd_aload_n (j := 2) dd_185_310 rfl
theorem dd_185_311 : decode (mi 185).2.1 311 = .ok (.invokevirtual 44, 3) := by decide +kernel
theorem st_185_311 : Sd 185 311 3 (i_cV [(2, 179)] 1 7 []) := sd_virt ⟨"ContractDeskModel", "thrown", "()I"⟩ dd_185_311 (by rw [mc_185]; exact tw_1368) (fun t j h => by simp only [List.mem_cons, List.not_mem_nil, or_false, Prod.mk.injEq] at h; obtain ⟨rfl, rfl⟩ := h; exact mn_179) (fun t j h => by simp only [List.mem_cons, List.not_mem_nil, or_false, Prod.mk.injEq] at h; obtain ⟨rfl, rfl⟩ := h; exact ⟨by rw [mn_179]; exact tw_1370, by rw [mn_179]; exact tw_1369, mt_179, by decide, by decide⟩) (by unfold prm; decide +kernel) ml_185 (HsOk.nil (by decide +kernel))
theorem dd_185_314 : decode (mi 185).2.1 314 = .ok (.iload 5, 2) := by decide +kernel
theorem st_185_314 : Sd 185 314 2 (i_ldI 5) := sd_iload dd_185_314
theorem dd_185_316 : decode (mi 185).2.1 316 = .ok (.if_icmp .eq 5, 3) := by decide +kernel
theorem st_185_316 : Sd 185 316 3 (i_ceq 321) := sd_icmp_eq dd_185_316 (by decide)
theorem dd_185_319 : decode (mi 185).2.1 319 = .ok (.iconst 0, 1) := by decide +kernel
theorem st_185_319 : Sd 185 319 1 (i_ic 0) := sd_iconst dd_185_319
theorem dd_185_320 : decode (mi 185).2.1 320 = .ok (.ireturn, 1) := by decide +kernel
theorem st_185_320 : Sd 185 320 1 (i_rI 2) := sd_ireturn dd_185_320 (by decide) mr_185
def bk_185_285 : Tr := sq (i_ldR 1) (sq (i_ldR 0) (sq (i_ldI 4) (sq (i_ic 1) (sq (i_iadd) (sq (i_aI [20, 40]) (sq (i_ldR 3) (sq (i_cS 126 3 7 []) (sq (i_stI 5) (sq (i_ldR 2) (sq (i_ldR 0) (sq (i_ldI 4) (sq (i_ic 1) (sq (i_iadd) (sq (i_aI [20, 40]) (sq (i_cV [(2, 171)] 2 7 []) (sq (i_stI 6) (sq (i_ldR 2) (sq (i_cV [(2, 179)] 1 7 []) (sq (i_ldI 5) (sq (i_ceq 321) (sq (i_ic 0) (i_rI 2))))))))))))))))))))))
theorem sb_185_285 : Sd 185 285 36 bk_185_285 := Sd.sq st_185_285 (Sd.sq st_185_286 (Sd.sq st_185_287 (Sd.sq st_185_289 (Sd.sq st_185_290 (Sd.sq st_185_291 (Sd.sq st_185_292 (Sd.sq st_185_293 (Sd.sq st_185_296 (Sd.sq st_185_298 (Sd.sq st_185_299 (Sd.sq st_185_300 (Sd.sq st_185_302 (Sd.sq st_185_303 (Sd.sq st_185_304 (Sd.sq st_185_305 (Sd.sq st_185_308 (Sd.sq st_185_310 (Sd.sq st_185_311 (Sd.sq st_185_314 (Sd.sq st_185_316 (Sd.sq st_185_319 (st_185_320))))))))))))))))))))))
theorem dd_185_321 : decode (mi 185).2.1 321 = .ok (.iload 5, 2) := by decide +kernel
theorem st_185_321 : Sd 185 321 2 (i_ldI 5) := sd_iload dd_185_321
theorem dd_185_323 : decode (mi 185).2.1 323 = .ok (.ifCond .ne 15, 3) := by decide +kernel
theorem st_185_323 : Sd 185 323 3 (i_zne 338) := sd_if_ne dd_185_323 (by decide)
theorem dd_185_326 : decode (mi 185).2.1 326 = .ok (.aload_n 3, 1) := by decide +kernel
theorem st_185_326 : Sd 185 326 1 (i_ldR 3) := sd_aload_n (j := 3) dd_185_326 rfl
theorem dd_185_327 : decode (mi 185).2.1 327 = .ok (.iconst 0, 1) := by decide +kernel
theorem st_185_327 : Sd 185 327 1 (i_ic 0) := sd_iconst dd_185_327
theorem dd_185_328 : decode (mi 185).2.1 328 = .ok (.laload, 1) := by decide +kernel
theorem st_185_328 : Sd 185 328 1 (i_aL [24]) := sd_laload dd_185_328 (by decide)
theorem dd_185_329 : decode (mi 185).2.1 329 = .ok (.iload 6, 2) := by decide +kernel
theorem st_185_329 : Sd 185 329 2 (i_ldI 6) := sd_iload dd_185_329
theorem dd_185_331 : decode (mi 185).2.1 331 = .ok (.i2l, 1) := by decide +kernel
theorem st_185_331 : Sd 185 331 1 (i_i2l) := sd_i2l dd_185_331
theorem dd_185_332 : decode (mi 185).2.1 332 = .ok (.lcmp, 1) := by decide +kernel
theorem st_185_332 : Sd 185 332 1 (i_lcmp) := sd_lcmp dd_185_332
theorem dd_185_333 : decode (mi 185).2.1 333 = .ok (.ifCond .eq 5, 3) := by decide +kernel
theorem st_185_333 : Sd 185 333 3 (i_zeq 338) := sd_if_eq dd_185_333 (by decide)
theorem dd_185_336 : decode (mi 185).2.1 336 = .ok (.iconst 0, 1) := by decide +kernel
theorem st_185_336 : Sd 185 336 1 (i_ic 0) := sd_iconst dd_185_336
theorem dd_185_337 : decode (mi 185).2.1 337 = .ok (.ireturn, 1) := by decide +kernel
theorem st_185_337 : Sd 185 337 1 (i_rI 2) := sd_ireturn dd_185_337 (by decide) mr_185
def bk_185_321 : Tr := sq (i_ldI 5) (sq (i_zne 338) (sq (i_ldR 3) (sq (i_ic 0) (sq (i_aL [24]) (sq (i_ldI 6) (sq (i_i2l) (sq (i_lcmp) (sq (i_zeq 338) (sq (i_ic 0) (i_rI 2))))))))))
theorem sb_185_321 : Sd 185 321 17 bk_185_321 := Sd.sq st_185_321 (Sd.sq st_185_323 (Sd.sq st_185_326 (Sd.sq st_185_327 (Sd.sq st_185_328 (Sd.sq st_185_329 (Sd.sq st_185_331 (Sd.sq st_185_332 (Sd.sq st_185_333 (Sd.sq st_185_336 (st_185_337))))))))))
theorem dd_185_338 : decode (mi 185).2.1 338 = .ok (.goto 258, 3) := by decide +kernel
theorem st_185_338 : Sd 185 338 3 (i_goto 596) := sd_goto dd_185_338 (by decide)
def bk_185_338 : Tr := i_goto 596
theorem sb_185_338 : Sd 185 338 3 bk_185_338 := st_185_338
theorem dd_185_341 : decode (mi 185).2.1 341 = .ok (.aload_n 1, 1) := by decide +kernel
theorem st_185_341 : Sd 185 341 1 (i_ldR 1) := sd_aload_n (j := 1) dd_185_341 rfl
theorem dd_185_342 : decode (mi 185).2.1 342 = .ok (.aload_n 0, 1) := by decide +kernel
theorem st_185_342 : Sd 185 342 1 (i_ldR 0) := sd_aload_n (j := 0) dd_185_342 rfl
theorem dd_185_343 : decode (mi 185).2.1 343 = .ok (.iload 4, 2) := by decide +kernel
theorem st_185_343 : Sd 185 343 2 (i_ldI 4) := sd_iload dd_185_343
theorem dd_185_345 : decode (mi 185).2.1 345 = .ok (.iconst 1, 1) := by decide +kernel
theorem st_185_345 : Sd 185 345 1 (i_ic 1) := sd_iconst dd_185_345
theorem dd_185_346 : decode (mi 185).2.1 346 = .ok (.iadd, 1) := by decide +kernel
theorem st_185_346 : Sd 185 346 1 (i_iadd) := sd_iadd dd_185_346
theorem dd_185_347 : decode (mi 185).2.1 347 = .ok (.iaload, 1) := by decide +kernel
theorem st_185_347 : Sd 185 347 1 (i_aI [20, 40]) := sd_iaload dd_185_347 (by decide)
theorem dd_185_348 : decode (mi 185).2.1 348 = .ok (.aload_n 0, 1) := by decide +kernel
theorem st_185_348 : Sd 185 348 1 (i_ldR 0) := sd_aload_n (j := 0) dd_185_348 rfl
theorem dd_185_349 : decode (mi 185).2.1 349 = .ok (.iload 4, 2) := by decide +kernel
theorem st_185_349 : Sd 185 349 2 (i_ldI 4) := sd_iload dd_185_349
theorem dd_185_351 : decode (mi 185).2.1 351 = .ok (.iconst 2, 1) := by decide +kernel
theorem st_185_351 : Sd 185 351 1 (i_ic 2) := sd_iconst dd_185_351
theorem dd_185_352 : decode (mi 185).2.1 352 = .ok (.iadd, 1) := by decide +kernel
theorem st_185_352 : Sd 185 352 1 (i_iadd) := sd_iadd dd_185_352
theorem dd_185_353 : decode (mi 185).2.1 353 = .ok (.iaload, 1) := by decide +kernel
theorem st_185_353 : Sd 185 353 1 (i_aI [20, 40]) := sd_iaload dd_185_353 (by decide)
theorem dd_185_354 : decode (mi 185).2.1 354 = .ok (.invokevirtual 55, 3) := by decide +kernel
theorem st_185_354 : Sd 185 354 3 (i_cV [(1, 49)] 3 7 []) := sd_virt ⟨"ContractDesk", "needs", "(II)Z"⟩ dd_185_354 (by rw [mc_185]; exact tw_535) (fun t j h => by simp only [List.mem_cons, List.not_mem_nil, or_false, Prod.mk.injEq] at h; obtain ⟨rfl, rfl⟩ := h; exact mn_49) (fun t j h => by simp only [List.mem_cons, List.not_mem_nil, or_false, Prod.mk.injEq] at h; obtain ⟨rfl, rfl⟩ := h; exact ⟨by rw [mn_49]; exact tw_537, by rw [mn_49]; exact tw_536, mt_49, by decide, by decide⟩) (by unfold prm; decide +kernel) ml_185 (HsOk.nil (by decide +kernel))
theorem dd_185_357 : decode (mi 185).2.1 357 = .ok (.aload_n 2, 1) := by decide +kernel
theorem st_185_357 : Sd 185 357 1 (i_ldR 2) := sd_aload_n (j := 2) dd_185_357 rfl
theorem dd_185_358 : decode (mi 185).2.1 358 = .ok (.aload_n 0, 1) := by decide +kernel
theorem st_185_358 : Sd 185 358 1 (i_ldR 0) := sd_aload_n (j := 0) dd_185_358 rfl
theorem dd_185_359 : decode (mi 185).2.1 359 = .ok (.iload 4, 2) := by decide +kernel
theorem st_185_359 : Sd 185 359 2 (i_ldI 4) := sd_iload dd_185_359
theorem dd_185_361 : decode (mi 185).2.1 361 = .ok (.iconst 1, 1) := by decide +kernel
theorem st_185_361 : Sd 185 361 1 (i_ic 1) := sd_iconst dd_185_361
theorem dd_185_362 : decode (mi 185).2.1 362 = .ok (.iadd, 1) := by decide +kernel
theorem st_185_362 : Sd 185 362 1 (i_iadd) := sd_iadd dd_185_362
theorem dd_185_363 : decode (mi 185).2.1 363 = .ok (.iaload, 1) := by decide +kernel
theorem st_185_363 : Sd 185 363 1 (i_aI [20, 40]) := sd_iaload dd_185_363 (by decide)
theorem dd_185_364 : decode (mi 185).2.1 364 = .ok (.aload_n 0, 1) := by decide +kernel
theorem st_185_364 : Sd 185 364 1 (i_ldR 0) := sd_aload_n (j := 0) dd_185_364 rfl
theorem dd_185_365 : decode (mi 185).2.1 365 = .ok (.iload 4, 2) := by decide +kernel
theorem st_185_365 : Sd 185 365 2 (i_ldI 4) := sd_iload dd_185_365
theorem dd_185_367 : decode (mi 185).2.1 367 = .ok (.iconst 2, 1) := by decide +kernel
theorem st_185_367 : Sd 185 367 1 (i_ic 2) := sd_iconst dd_185_367
theorem dd_185_368 : decode (mi 185).2.1 368 = .ok (.iadd, 1) := by decide +kernel
theorem st_185_368 : Sd 185 368 1 (i_iadd) := sd_iadd dd_185_368
theorem dd_185_369 : decode (mi 185).2.1 369 = .ok (.iaload, 1) := by decide +kernel
theorem st_185_369 : Sd 185 369 1 (i_aI [20, 40]) := sd_iaload dd_185_369 (by decide)
theorem dd_185_370 : decode (mi 185).2.1 370 = .ok (.invokevirtual 59, 3) := by decide +kernel
theorem st_185_370 : Sd 185 370 3 (i_cV [(2, 162)] 3 7 []) := sd_virt ⟨"ContractDeskModel", "needs", "(II)Z"⟩ dd_185_370 (by rw [mc_185]; exact tw_1449) (fun t j h => by simp only [List.mem_cons, List.not_mem_nil, or_false, Prod.mk.injEq] at h; obtain ⟨rfl, rfl⟩ := h; exact mn_162) (fun t j h => by simp only [List.mem_cons, List.not_mem_nil, or_false, Prod.mk.injEq] at h; obtain ⟨rfl, rfl⟩ := h; exact ⟨by rw [mn_162]; exact tw_1451, by rw [mn_162]; exact tw_1450, mt_162, by decide, by decide⟩) (by unfold prm; decide +kernel) ml_185 (HsOk.nil (by decide +kernel))
theorem dd_185_373 : decode (mi 185).2.1 373 = .ok (.if_icmp .eq 223, 3) := by decide +kernel
theorem st_185_373 : Sd 185 373 3 (i_ceq 596) := sd_icmp_eq dd_185_373 (by decide)
theorem dd_185_376 : decode (mi 185).2.1 376 = .ok (.iconst 0, 1) := by decide +kernel
theorem st_185_376 : Sd 185 376 1 (i_ic 0) := sd_iconst dd_185_376
theorem dd_185_377 : decode (mi 185).2.1 377 = .ok (.ireturn, 1) := by decide +kernel
theorem st_185_377 : Sd 185 377 1 (i_rI 2) := sd_ireturn dd_185_377 (by decide) mr_185
def bk_185_341 : Tr := sq (i_ldR 1) (sq (i_ldR 0) (sq (i_ldI 4) (sq (i_ic 1) (sq (i_iadd) (sq (i_aI [20, 40]) (sq (i_ldR 0) (sq (i_ldI 4) (sq (i_ic 2) (sq (i_iadd) (sq (i_aI [20, 40]) (sq (i_cV [(1, 49)] 3 7 []) (sq (i_ldR 2) (sq (i_ldR 0) (sq (i_ldI 4) (sq (i_ic 1) (sq (i_iadd) (sq (i_aI [20, 40]) (sq (i_ldR 0) (sq (i_ldI 4) (sq (i_ic 2) (sq (i_iadd) (sq (i_aI [20, 40]) (sq (i_cV [(2, 162)] 3 7 []) (sq (i_ceq 596) (sq (i_ic 0) (i_rI 2))))))))))))))))))))))))))
theorem sb_185_341 : Sd 185 341 37 bk_185_341 := Sd.sq st_185_341 (Sd.sq st_185_342 (Sd.sq st_185_343 (Sd.sq st_185_345 (Sd.sq st_185_346 (Sd.sq st_185_347 (Sd.sq st_185_348 (Sd.sq st_185_349 (Sd.sq st_185_351 (Sd.sq st_185_352 (Sd.sq st_185_353 (Sd.sq st_185_354 (Sd.sq st_185_357 (Sd.sq st_185_358 (Sd.sq st_185_359 (Sd.sq st_185_361 (Sd.sq st_185_362 (Sd.sq st_185_363 (Sd.sq st_185_364 (Sd.sq st_185_365 (Sd.sq st_185_367 (Sd.sq st_185_368 (Sd.sq st_185_369 (Sd.sq st_185_370 (Sd.sq st_185_373 (Sd.sq st_185_376 (st_185_377))))))))))))))))))))))))))
theorem dd_185_378 : decode (mi 185).2.1 378 = .ok (.aload_n 1, 1) := by decide +kernel
theorem st_185_378 : Sd 185 378 1 (i_ldR 1) := sd_aload_n (j := 1) dd_185_378 rfl
theorem dd_185_379 : decode (mi 185).2.1 379 = .ok (.aload_n 0, 1) := by decide +kernel
theorem st_185_379 : Sd 185 379 1 (i_ldR 0) := sd_aload_n (j := 0) dd_185_379 rfl
theorem dd_185_380 : decode (mi 185).2.1 380 = .ok (.iload 4, 2) := by decide +kernel
theorem st_185_380 : Sd 185 380 2 (i_ldI 4) := sd_iload dd_185_380
theorem dd_185_382 : decode (mi 185).2.1 382 = .ok (.iconst 1, 1) := by decide +kernel
theorem st_185_382 : Sd 185 382 1 (i_ic 1) := sd_iconst dd_185_382
theorem dd_185_383 : decode (mi 185).2.1 383 = .ok (.iadd, 1) := by decide +kernel
theorem st_185_383 : Sd 185 383 1 (i_iadd) := sd_iadd dd_185_383
theorem dd_185_384 : decode (mi 185).2.1 384 = .ok (.iaload, 1) := by decide +kernel
theorem st_185_384 : Sd 185 384 1 (i_aI [20, 40]) := sd_iaload dd_185_384 (by decide)
theorem dd_185_385 : decode (mi 185).2.1 385 = .ok (.aload_n 0, 1) := by decide +kernel
theorem st_185_385 : Sd 185 385 1 (i_ldR 0) := sd_aload_n (j := 0) dd_185_385 rfl
theorem dd_185_386 : decode (mi 185).2.1 386 = .ok (.iload 4, 2) := by decide +kernel
theorem st_185_386 : Sd 185 386 2 (i_ldI 4) := sd_iload dd_185_386
theorem dd_185_388 : decode (mi 185).2.1 388 = .ok (.iconst 2, 1) := by decide +kernel
theorem st_185_388 : Sd 185 388 1 (i_ic 2) := sd_iconst dd_185_388
theorem dd_185_389 : decode (mi 185).2.1 389 = .ok (.iadd, 1) := by decide +kernel
theorem st_185_389 : Sd 185 389 1 (i_iadd) := sd_iadd dd_185_389
theorem dd_185_390 : decode (mi 185).2.1 390 = .ok (.iaload, 1) := by decide +kernel
theorem st_185_390 : Sd 185 390 1 (i_aI [20, 40]) := sd_iaload dd_185_390 (by decide)
theorem dd_185_391 : decode (mi 185).2.1 391 = .ok (.invokevirtual 60, 3) := by decide +kernel
theorem st_185_391 : Sd 185 391 3 (i_cV [(1, 41)] 3 7 []) := sd_virt ⟨"ContractDesk", "handler", "(II)Z"⟩ dd_185_391 (by rw [mc_185]; exact tw_560) (fun t j h => by simp only [List.mem_cons, List.not_mem_nil, or_false, Prod.mk.injEq] at h; obtain ⟨rfl, rfl⟩ := h; exact mn_41) (fun t j h => by simp only [List.mem_cons, List.not_mem_nil, or_false, Prod.mk.injEq] at h; obtain ⟨rfl, rfl⟩ := h; exact ⟨by rw [mn_41]; exact tw_562, by rw [mn_41]; exact tw_561, mt_41, by decide, by decide⟩) (by unfold prm; decide +kernel) ml_185 (HsOk.nil (by decide +kernel))
theorem dd_185_394 : decode (mi 185).2.1 394 = .ok (.aload_n 2, 1) := by decide +kernel
theorem st_185_394 : Sd 185 394 1 (i_ldR 2) := sd_aload_n (j := 2) dd_185_394 rfl
theorem dd_185_395 : decode (mi 185).2.1 395 = .ok (.aload_n 0, 1) := by decide +kernel
theorem st_185_395 : Sd 185 395 1 (i_ldR 0) := sd_aload_n (j := 0) dd_185_395 rfl
theorem dd_185_396 : decode (mi 185).2.1 396 = .ok (.iload 4, 2) := by decide +kernel
theorem st_185_396 : Sd 185 396 2 (i_ldI 4) := sd_iload dd_185_396
theorem dd_185_398 : decode (mi 185).2.1 398 = .ok (.iconst 1, 1) := by decide +kernel
theorem st_185_398 : Sd 185 398 1 (i_ic 1) := sd_iconst dd_185_398
theorem dd_185_399 : decode (mi 185).2.1 399 = .ok (.iadd, 1) := by decide +kernel
theorem st_185_399 : Sd 185 399 1 (i_iadd) := sd_iadd dd_185_399
theorem dd_185_400 : decode (mi 185).2.1 400 = .ok (.iaload, 1) := by decide +kernel
theorem st_185_400 : Sd 185 400 1 (i_aI [20, 40]) := sd_iaload dd_185_400 (by decide)
theorem dd_185_401 : decode (mi 185).2.1 401 = .ok (.aload_n 0, 1) := by decide +kernel
theorem st_185_401 : Sd 185 401 1 (i_ldR 0) := sd_aload_n (j := 0) dd_185_401 rfl
theorem dd_185_402 : decode (mi 185).2.1 402 = .ok (.iload 4, 2) := by decide +kernel
theorem st_185_402 : Sd 185 402 2 (i_ldI 4) := sd_iload dd_185_402
theorem dd_185_404 : decode (mi 185).2.1 404 = .ok (.iconst 2, 1) := by decide +kernel
theorem st_185_404 : Sd 185 404 1 (i_ic 2) := sd_iconst dd_185_404
theorem dd_185_405 : decode (mi 185).2.1 405 = .ok (.iadd, 1) := by decide +kernel
theorem st_185_405 : Sd 185 405 1 (i_iadd) := sd_iadd dd_185_405
theorem dd_185_406 : decode (mi 185).2.1 406 = .ok (.iaload, 1) := by decide +kernel
theorem st_185_406 : Sd 185 406 1 (i_aI [20, 40]) := sd_iaload dd_185_406 (by decide)
theorem dd_185_407 : decode (mi 185).2.1 407 = .ok (.invokevirtual 63, 3) := by decide +kernel
theorem st_185_407 : Sd 185 407 3 (i_cV [(2, 143)] 3 7 []) := sd_virt ⟨"ContractDeskModel", "handler", "(II)Z"⟩ dd_185_407 (by rw [mc_185]; exact tw_1453) (fun t j h => by simp only [List.mem_cons, List.not_mem_nil, or_false, Prod.mk.injEq] at h; obtain ⟨rfl, rfl⟩ := h; exact mn_143) (fun t j h => by simp only [List.mem_cons, List.not_mem_nil, or_false, Prod.mk.injEq] at h; obtain ⟨rfl, rfl⟩ := h; exact ⟨by rw [mn_143]; exact tw_1455, by rw [mn_143]; exact tw_1454, mt_143, by decide, by decide⟩) (by unfold prm; decide +kernel) ml_185 (HsOk.nil (by decide +kernel))
theorem dd_185_410 : decode (mi 185).2.1 410 = .ok (.if_icmp .eq 186, 3) := by decide +kernel
theorem st_185_410 : Sd 185 410 3 (i_ceq 596) := sd_icmp_eq dd_185_410 (by decide)
theorem dd_185_413 : decode (mi 185).2.1 413 = .ok (.iconst 0, 1) := by decide +kernel
theorem st_185_413 : Sd 185 413 1 (i_ic 0) := sd_iconst dd_185_413
theorem dd_185_414 : decode (mi 185).2.1 414 = .ok (.ireturn, 1) := by decide +kernel
theorem st_185_414 : Sd 185 414 1 (i_rI 2) := sd_ireturn dd_185_414 (by decide) mr_185
def bk_185_378 : Tr := sq (i_ldR 1) (sq (i_ldR 0) (sq (i_ldI 4) (sq (i_ic 1) (sq (i_iadd) (sq (i_aI [20, 40]) (sq (i_ldR 0) (sq (i_ldI 4) (sq (i_ic 2) (sq (i_iadd) (sq (i_aI [20, 40]) (sq (i_cV [(1, 41)] 3 7 []) (sq (i_ldR 2) (sq (i_ldR 0) (sq (i_ldI 4) (sq (i_ic 1) (sq (i_iadd) (sq (i_aI [20, 40]) (sq (i_ldR 0) (sq (i_ldI 4) (sq (i_ic 2) (sq (i_iadd) (sq (i_aI [20, 40]) (sq (i_cV [(2, 143)] 3 7 []) (sq (i_ceq 596) (sq (i_ic 0) (i_rI 2))))))))))))))))))))))))))
theorem sb_185_378 : Sd 185 378 37 bk_185_378 := Sd.sq st_185_378 (Sd.sq st_185_379 (Sd.sq st_185_380 (Sd.sq st_185_382 (Sd.sq st_185_383 (Sd.sq st_185_384 (Sd.sq st_185_385 (Sd.sq st_185_386 (Sd.sq st_185_388 (Sd.sq st_185_389 (Sd.sq st_185_390 (Sd.sq st_185_391 (Sd.sq st_185_394 (Sd.sq st_185_395 (Sd.sq st_185_396 (Sd.sq st_185_398 (Sd.sq st_185_399 (Sd.sq st_185_400 (Sd.sq st_185_401 (Sd.sq st_185_402 (Sd.sq st_185_404 (Sd.sq st_185_405 (Sd.sq st_185_406 (Sd.sq st_185_407 (Sd.sq st_185_410 (Sd.sq st_185_413 (st_185_414))))))))))))))))))))))))))
theorem dd_185_415 : decode (mi 185).2.1 415 = .ok (.aload_n 1, 1) := by decide +kernel
theorem st_185_415 : Sd 185 415 1 (i_ldR 1) := sd_aload_n (j := 1) dd_185_415 rfl
theorem dd_185_416 : decode (mi 185).2.1 416 = .ok (.aload_n 0, 1) := by decide +kernel
theorem st_185_416 : Sd 185 416 1 (i_ldR 0) := sd_aload_n (j := 0) dd_185_416 rfl
theorem dd_185_417 : decode (mi 185).2.1 417 = .ok (.iload 4, 2) := by decide +kernel
theorem st_185_417 : Sd 185 417 2 (i_ldI 4) := sd_iload dd_185_417
theorem dd_185_419 : decode (mi 185).2.1 419 = .ok (.iconst 1, 1) := by decide +kernel
theorem st_185_419 : Sd 185 419 1 (i_ic 1) := sd_iconst dd_185_419
theorem dd_185_420 : decode (mi 185).2.1 420 = .ok (.iadd, 1) := by decide +kernel
theorem st_185_420 : Sd 185 420 1 (i_iadd) := sd_iadd dd_185_420
theorem dd_185_421 : decode (mi 185).2.1 421 = .ok (.iaload, 1) := by decide +kernel
theorem st_185_421 : Sd 185 421 1 (i_aI [20, 40]) := sd_iaload dd_185_421 (by decide)
theorem dd_185_422 : decode (mi 185).2.1 422 = .ok (.invokevirtual 64, 3) := by decide +kernel
theorem st_185_422 : Sd 185 422 3 (i_cV [(1, 53)] 2 7 []) := sd_virt ⟨"ContractDesk", "select", "(I)I"⟩ dd_185_422 (by rw [mc_185]; exact tw_564) (fun t j h => by simp only [List.mem_cons, List.not_mem_nil, or_false, Prod.mk.injEq] at h; obtain ⟨rfl, rfl⟩ := h; exact mn_53) (fun t j h => by simp only [List.mem_cons, List.not_mem_nil, or_false, Prod.mk.injEq] at h; obtain ⟨rfl, rfl⟩ := h; exact ⟨by rw [mn_53]; exact tw_566, by rw [mn_53]; exact tw_565, mt_53, by decide, by decide⟩) (by unfold prm; decide +kernel) ml_185 (HsOk.nil (by decide +kernel))
theorem dd_185_425 : decode (mi 185).2.1 425 = .ok (.aload_n 2, 1) := by decide +kernel
theorem st_185_425 : Sd 185 425 1 (i_ldR 2) := sd_aload_n (j := 2) dd_185_425 rfl
theorem dd_185_426 : decode (mi 185).2.1 426 = .ok (.aload_n 0, 1) := by decide +kernel
theorem st_185_426 : Sd 185 426 1 (i_ldR 0) := sd_aload_n (j := 0) dd_185_426 rfl
theorem dd_185_427 : decode (mi 185).2.1 427 = .ok (.iload 4, 2) := by decide +kernel
theorem st_185_427 : Sd 185 427 2 (i_ldI 4) := sd_iload dd_185_427
theorem dd_185_429 : decode (mi 185).2.1 429 = .ok (.iconst 1, 1) := by decide +kernel
theorem st_185_429 : Sd 185 429 1 (i_ic 1) := sd_iconst dd_185_429
theorem dd_185_430 : decode (mi 185).2.1 430 = .ok (.iadd, 1) := by decide +kernel
theorem st_185_430 : Sd 185 430 1 (i_iadd) := sd_iadd dd_185_430
theorem dd_185_431 : decode (mi 185).2.1 431 = .ok (.iaload, 1) := by decide +kernel
theorem st_185_431 : Sd 185 431 1 (i_aI [20, 40]) := sd_iaload dd_185_431 (by decide)
theorem dd_185_432 : decode (mi 185).2.1 432 = .ok (.invokevirtual 67, 3) := by decide +kernel
theorem st_185_432 : Sd 185 432 3 (i_cV [(2, 173)] 2 7 []) := sd_virt ⟨"ContractDeskModel", "select", "(I)I"⟩ dd_185_432 (by rw [mc_185]; exact tw_1477) (fun t j h => by simp only [List.mem_cons, List.not_mem_nil, or_false, Prod.mk.injEq] at h; obtain ⟨rfl, rfl⟩ := h; exact mn_173) (fun t j h => by simp only [List.mem_cons, List.not_mem_nil, or_false, Prod.mk.injEq] at h; obtain ⟨rfl, rfl⟩ := h; exact ⟨by rw [mn_173]; exact tw_1479, by rw [mn_173]; exact tw_1478, mt_173, by decide, by decide⟩) (by unfold prm; decide +kernel) ml_185 (HsOk.nil (by decide +kernel))
theorem dd_185_435 : decode (mi 185).2.1 435 = .ok (.if_icmp .eq 161, 3) := by decide +kernel
theorem st_185_435 : Sd 185 435 3 (i_ceq 596) := sd_icmp_eq dd_185_435 (by decide)
theorem dd_185_438 : decode (mi 185).2.1 438 = .ok (.iconst 0, 1) := by decide +kernel
theorem st_185_438 : Sd 185 438 1 (i_ic 0) := sd_iconst dd_185_438
theorem dd_185_439 : decode (mi 185).2.1 439 = .ok (.ireturn, 1) := by decide +kernel
theorem st_185_439 : Sd 185 439 1 (i_rI 2) := sd_ireturn dd_185_439 (by decide) mr_185
def bk_185_415 : Tr := sq (i_ldR 1) (sq (i_ldR 0) (sq (i_ldI 4) (sq (i_ic 1) (sq (i_iadd) (sq (i_aI [20, 40]) (sq (i_cV [(1, 53)] 2 7 []) (sq (i_ldR 2) (sq (i_ldR 0) (sq (i_ldI 4) (sq (i_ic 1) (sq (i_iadd) (sq (i_aI [20, 40]) (sq (i_cV [(2, 173)] 2 7 []) (sq (i_ceq 596) (sq (i_ic 0) (i_rI 2))))))))))))))))
theorem sb_185_415 : Sd 185 415 25 bk_185_415 := Sd.sq st_185_415 (Sd.sq st_185_416 (Sd.sq st_185_417 (Sd.sq st_185_419 (Sd.sq st_185_420 (Sd.sq st_185_421 (Sd.sq st_185_422 (Sd.sq st_185_425 (Sd.sq st_185_426 (Sd.sq st_185_427 (Sd.sq st_185_429 (Sd.sq st_185_430 (Sd.sq st_185_431 (Sd.sq st_185_432 (Sd.sq st_185_435 (Sd.sq st_185_438 (st_185_439))))))))))))))))
theorem dd_185_440 : decode (mi 185).2.1 440 = .ok (.aload_n 1, 1) := by decide +kernel
theorem st_185_440 : Sd 185 440 1 (i_ldR 1) := sd_aload_n (j := 1) dd_185_440 rfl
theorem dd_185_441 : decode (mi 185).2.1 441 = .ok (.aload_n 0, 1) := by decide +kernel
theorem st_185_441 : Sd 185 441 1 (i_ldR 0) := sd_aload_n (j := 0) dd_185_441 rfl
theorem dd_185_442 : decode (mi 185).2.1 442 = .ok (.iload 4, 2) := by decide +kernel
theorem st_185_442 : Sd 185 442 2 (i_ldI 4) := sd_iload dd_185_442
theorem dd_185_444 : decode (mi 185).2.1 444 = .ok (.iconst 1, 1) := by decide +kernel
theorem st_185_444 : Sd 185 444 1 (i_ic 1) := sd_iconst dd_185_444
theorem dd_185_445 : decode (mi 185).2.1 445 = .ok (.iadd, 1) := by decide +kernel
theorem st_185_445 : Sd 185 445 1 (i_iadd) := sd_iadd dd_185_445
theorem dd_185_446 : decode (mi 185).2.1 446 = .ok (.iaload, 1) := by decide +kernel
theorem st_185_446 : Sd 185 446 1 (i_aI [20, 40]) := sd_iaload dd_185_446 (by decide)
theorem dd_185_447 : decode (mi 185).2.1 447 = .ok (.aload_n 3, 1) := by decide +kernel
theorem st_185_447 : Sd 185 447 1 (i_ldR 3) := sd_aload_n (j := 3) dd_185_447 rfl
theorem dd_185_448 : decode (mi 185).2.1 448 = .ok (.invokestatic 68, 3) := by decide +kernel
theorem st_185_448 : Sd 185 448 3 (i_cS 127 3 7 []) := sd_static dd_185_448 (by rw [mc_185, mn_127]; exact tw_1124) (by rw [mn_127]; exact tw_1125) mt_127 pm_127 ml_185 (HsOk.nil (by decide +kernel))
theorem dd_185_451 : decode (mi 185).2.1 451 = .ok (.istore 5, 2) := by decide +kernel
theorem st_185_451 : Sd 185 451 2 (i_stI 5) := sd_istore dd_185_451
theorem dd_185_453 : decode (mi 185).2.1 453 = .ok (.aload_n 2, 1) := by decide +kernel
theorem st_185_453 : Sd 185 453 1 (i_ldR 2) := sd_aload_n (j := 2) dd_185_453 rfl
theorem dd_185_454 : decode (mi 185).2.1 454 = .ok (.aload_n 0, 1) := by decide +kernel
theorem st_185_454 : Sd 185 454 1 (i_ldR 0) := sd_aload_n (j := 0) dd_185_454 rfl
theorem dd_185_455 : decode (mi 185).2.1 455 = .ok (.iload 4, 2) := by decide +kernel
theorem st_185_455 : Sd 185 455 2 (i_ldI 4) := sd_iload dd_185_455
theorem dd_185_457 : decode (mi 185).2.1 457 = .ok (.iconst 1, 1) := by decide +kernel
theorem st_185_457 : Sd 185 457 1 (i_ic 1) := sd_iconst dd_185_457
theorem dd_185_458 : decode (mi 185).2.1 458 = .ok (.iadd, 1) := by decide +kernel
theorem st_185_458 : Sd 185 458 1 (i_iadd) := sd_iadd dd_185_458
theorem dd_185_459 : decode (mi 185).2.1 459 = .ok (.iaload, 1) := by decide +kernel
theorem st_185_459 : Sd 185 459 1 (i_aI [20, 40]) := sd_iaload dd_185_459 (by decide)
theorem dd_185_460 : decode (mi 185).2.1 460 = .ok (.invokevirtual 70, 3) := by decide +kernel
theorem st_185_460 : Sd 185 460 3 (i_cV [(2, 182)] 2 7 []) := sd_virt ⟨"ContractDeskModel", "verify", "(I)I"⟩ dd_185_460 (by rw [mc_185]; exact tw_1497) (fun t j h => by simp only [List.mem_cons, List.not_mem_nil, or_false, Prod.mk.injEq] at h; obtain ⟨rfl, rfl⟩ := h; exact mn_182) (fun t j h => by simp only [List.mem_cons, List.not_mem_nil, or_false, Prod.mk.injEq] at h; obtain ⟨rfl, rfl⟩ := h; exact ⟨by rw [mn_182]; exact tw_1499, by rw [mn_182]; exact tw_1498, mt_182, by decide, by decide⟩) (by unfold prm; decide +kernel) ml_185 (HsOk.nil (by decide +kernel))
theorem dd_185_463 : decode (mi 185).2.1 463 = .ok (.istore 6, 2) := by decide +kernel
theorem st_185_463 : Sd 185 463 2 (i_stI 6) := sd_istore dd_185_463
theorem dd_185_465 : decode (mi 185).2.1 465 = .ok (.aload_n 2, 1) := by decide +kernel
theorem st_185_465 : Sd 185 465 1 (i_ldR 2) := sd_aload_n (j := 2) dd_185_465 rfl
theorem dd_185_466 : decode (mi 185).2.1 466 = .ok (.invokevirtual 44, 3) := by decide +kernel
theorem st_185_466 : Sd 185 466 3 (i_cV [(2, 179)] 1 7 []) := sd_virt ⟨"ContractDeskModel", "thrown", "()I"⟩ dd_185_466 (by rw [mc_185]; exact tw_1368) (fun t j h => by simp only [List.mem_cons, List.not_mem_nil, or_false, Prod.mk.injEq] at h; obtain ⟨rfl, rfl⟩ := h; exact mn_179) (fun t j h => by simp only [List.mem_cons, List.not_mem_nil, or_false, Prod.mk.injEq] at h; obtain ⟨rfl, rfl⟩ := h; exact ⟨by rw [mn_179]; exact tw_1370, by rw [mn_179]; exact tw_1369, mt_179, by decide, by decide⟩) (by unfold prm; decide +kernel) ml_185 (HsOk.nil (by decide +kernel))
theorem dd_185_469 : decode (mi 185).2.1 469 = .ok (.iload 5, 2) := by decide +kernel
theorem st_185_469 : Sd 185 469 2 (i_ldI 5) := sd_iload dd_185_469
theorem dd_185_471 : decode (mi 185).2.1 471 = .ok (.if_icmp .eq 5, 3) := by decide +kernel
theorem st_185_471 : Sd 185 471 3 (i_ceq 476) := sd_icmp_eq dd_185_471 (by decide)
theorem dd_185_474 : decode (mi 185).2.1 474 = .ok (.iconst 0, 1) := by decide +kernel
theorem st_185_474 : Sd 185 474 1 (i_ic 0) := sd_iconst dd_185_474
theorem dd_185_475 : decode (mi 185).2.1 475 = .ok (.ireturn, 1) := by decide +kernel
theorem st_185_475 : Sd 185 475 1 (i_rI 2) := sd_ireturn dd_185_475 (by decide) mr_185
def bk_185_440 : Tr := sq (i_ldR 1) (sq (i_ldR 0) (sq (i_ldI 4) (sq (i_ic 1) (sq (i_iadd) (sq (i_aI [20, 40]) (sq (i_ldR 3) (sq (i_cS 127 3 7 []) (sq (i_stI 5) (sq (i_ldR 2) (sq (i_ldR 0) (sq (i_ldI 4) (sq (i_ic 1) (sq (i_iadd) (sq (i_aI [20, 40]) (sq (i_cV [(2, 182)] 2 7 []) (sq (i_stI 6) (sq (i_ldR 2) (sq (i_cV [(2, 179)] 1 7 []) (sq (i_ldI 5) (sq (i_ceq 476) (sq (i_ic 0) (i_rI 2))))))))))))))))))))))
theorem sb_185_440 : Sd 185 440 36 bk_185_440 := Sd.sq st_185_440 (Sd.sq st_185_441 (Sd.sq st_185_442 (Sd.sq st_185_444 (Sd.sq st_185_445 (Sd.sq st_185_446 (Sd.sq st_185_447 (Sd.sq st_185_448 (Sd.sq st_185_451 (Sd.sq st_185_453 (Sd.sq st_185_454 (Sd.sq st_185_455 (Sd.sq st_185_457 (Sd.sq st_185_458 (Sd.sq st_185_459 (Sd.sq st_185_460 (Sd.sq st_185_463 (Sd.sq st_185_465 (Sd.sq st_185_466 (Sd.sq st_185_469 (Sd.sq st_185_471 (Sd.sq st_185_474 (st_185_475))))))))))))))))))))))
theorem dd_185_476 : decode (mi 185).2.1 476 = .ok (.iload 5, 2) := by decide +kernel
theorem st_185_476 : Sd 185 476 2 (i_ldI 5) := sd_iload dd_185_476
theorem dd_185_478 : decode (mi 185).2.1 478 = .ok (.ifCond .ne 15, 3) := by decide +kernel
theorem st_185_478 : Sd 185 478 3 (i_zne 493) := sd_if_ne dd_185_478 (by decide)
theorem dd_185_481 : decode (mi 185).2.1 481 = .ok (.aload_n 3, 1) := by decide +kernel
theorem st_185_481 : Sd 185 481 1 (i_ldR 3) := sd_aload_n (j := 3) dd_185_481 rfl
theorem dd_185_482 : decode (mi 185).2.1 482 = .ok (.iconst 0, 1) := by decide +kernel
theorem st_185_482 : Sd 185 482 1 (i_ic 0) := sd_iconst dd_185_482
theorem dd_185_483 : decode (mi 185).2.1 483 = .ok (.laload, 1) := by decide +kernel
theorem st_185_483 : Sd 185 483 1 (i_aL [24]) := sd_laload dd_185_483 (by decide)
theorem dd_185_484 : decode (mi 185).2.1 484 = .ok (.iload 6, 2) := by decide +kernel
theorem st_185_484 : Sd 185 484 2 (i_ldI 6) := sd_iload dd_185_484
theorem dd_185_486 : decode (mi 185).2.1 486 = .ok (.i2l, 1) := by decide +kernel
theorem st_185_486 : Sd 185 486 1 (i_i2l) := sd_i2l dd_185_486
theorem dd_185_487 : decode (mi 185).2.1 487 = .ok (.lcmp, 1) := by decide +kernel
theorem st_185_487 : Sd 185 487 1 (i_lcmp) := sd_lcmp dd_185_487
theorem dd_185_488 : decode (mi 185).2.1 488 = .ok (.ifCond .eq 5, 3) := by decide +kernel
theorem st_185_488 : Sd 185 488 3 (i_zeq 493) := sd_if_eq dd_185_488 (by decide)
theorem dd_185_491 : decode (mi 185).2.1 491 = .ok (.iconst 0, 1) := by decide +kernel
theorem st_185_491 : Sd 185 491 1 (i_ic 0) := sd_iconst dd_185_491
theorem dd_185_492 : decode (mi 185).2.1 492 = .ok (.ireturn, 1) := by decide +kernel
theorem st_185_492 : Sd 185 492 1 (i_rI 2) := sd_ireturn dd_185_492 (by decide) mr_185
def bk_185_476 : Tr := sq (i_ldI 5) (sq (i_zne 493) (sq (i_ldR 3) (sq (i_ic 0) (sq (i_aL [24]) (sq (i_ldI 6) (sq (i_i2l) (sq (i_lcmp) (sq (i_zeq 493) (sq (i_ic 0) (i_rI 2))))))))))
theorem sb_185_476 : Sd 185 476 17 bk_185_476 := Sd.sq st_185_476 (Sd.sq st_185_478 (Sd.sq st_185_481 (Sd.sq st_185_482 (Sd.sq st_185_483 (Sd.sq st_185_484 (Sd.sq st_185_486 (Sd.sq st_185_487 (Sd.sq st_185_488 (Sd.sq st_185_491 (st_185_492))))))))))
theorem dd_185_493 : decode (mi 185).2.1 493 = .ok (.goto 103, 3) := by decide +kernel
theorem st_185_493 : Sd 185 493 3 (i_goto 596) := sd_goto dd_185_493 (by decide)
def bk_185_493 : Tr := i_goto 596
theorem sb_185_493 : Sd 185 493 3 bk_185_493 := st_185_493
theorem dd_185_496 : decode (mi 185).2.1 496 = .ok (.aload_n 1, 1) := by decide +kernel
theorem st_185_496 : Sd 185 496 1 (i_ldR 1) := sd_aload_n (j := 1) dd_185_496 rfl
theorem dd_185_497 : decode (mi 185).2.1 497 = .ok (.invokevirtual 71, 3) := by decide +kernel
theorem st_185_497 : Sd 185 497 3 (i_cV [(1, 45)] 1 7 []) := sd_virt ⟨"ContractDesk", "listed", "()I"⟩ dd_185_497 (by rw [mc_185]; exact tw_666) (fun t j h => by simp only [List.mem_cons, List.not_mem_nil, or_false, Prod.mk.injEq] at h; obtain ⟨rfl, rfl⟩ := h; exact mn_45) (fun t j h => by simp only [List.mem_cons, List.not_mem_nil, or_false, Prod.mk.injEq] at h; obtain ⟨rfl, rfl⟩ := h; exact ⟨by rw [mn_45]; exact tw_668, by rw [mn_45]; exact tw_667, mt_45, by decide, by decide⟩) (by unfold prm; decide +kernel) ml_185 (HsOk.nil (by decide +kernel))
theorem dd_185_500 : decode (mi 185).2.1 500 = .ok (.aload_n 2, 1) := by decide +kernel
theorem st_185_500 : Sd 185 500 1 (i_ldR 2) := sd_aload_n (j := 2) dd_185_500 rfl
theorem dd_185_501 : decode (mi 185).2.1 501 = .ok (.invokevirtual 74, 3) := by decide +kernel
theorem st_185_501 : Sd 185 501 3 (i_cV [(2, 156)] 1 7 []) := sd_virt ⟨"ContractDeskModel", "listed", "()I"⟩ dd_185_501 (by rw [mc_185]; exact tw_1573) (fun t j h => by simp only [List.mem_cons, List.not_mem_nil, or_false, Prod.mk.injEq] at h; obtain ⟨rfl, rfl⟩ := h; exact mn_156) (fun t j h => by simp only [List.mem_cons, List.not_mem_nil, or_false, Prod.mk.injEq] at h; obtain ⟨rfl, rfl⟩ := h; exact ⟨by rw [mn_156]; exact tw_1575, by rw [mn_156]; exact tw_1574, mt_156, by decide, by decide⟩) (by unfold prm; decide +kernel) ml_185 (HsOk.nil (by decide +kernel))
theorem dd_185_504 : decode (mi 185).2.1 504 = .ok (.if_icmp .eq 92, 3) := by decide +kernel
theorem st_185_504 : Sd 185 504 3 (i_ceq 596) := sd_icmp_eq dd_185_504 (by decide)
theorem dd_185_507 : decode (mi 185).2.1 507 = .ok (.iconst 0, 1) := by decide +kernel
theorem st_185_507 : Sd 185 507 1 (i_ic 0) := sd_iconst dd_185_507
theorem dd_185_508 : decode (mi 185).2.1 508 = .ok (.ireturn, 1) := by decide +kernel
theorem st_185_508 : Sd 185 508 1 (i_rI 2) := sd_ireturn dd_185_508 (by decide) mr_185
def bk_185_496 : Tr := sq (i_ldR 1) (sq (i_cV [(1, 45)] 1 7 []) (sq (i_ldR 2) (sq (i_cV [(2, 156)] 1 7 []) (sq (i_ceq 596) (sq (i_ic 0) (i_rI 2))))))
theorem sb_185_496 : Sd 185 496 13 bk_185_496 := Sd.sq st_185_496 (Sd.sq st_185_497 (Sd.sq st_185_500 (Sd.sq st_185_501 (Sd.sq st_185_504 (Sd.sq st_185_507 (st_185_508))))))
theorem dd_185_509 : decode (mi 185).2.1 509 = .ok (.aload_n 1, 1) := by decide +kernel
theorem st_185_509 : Sd 185 509 1 (i_ldR 1) := sd_aload_n (j := 1) dd_185_509 rfl
theorem dd_185_510 : decode (mi 185).2.1 510 = .ok (.aload_n 0, 1) := by decide +kernel
theorem st_185_510 : Sd 185 510 1 (i_ldR 0) := sd_aload_n (j := 0) dd_185_510 rfl
theorem dd_185_511 : decode (mi 185).2.1 511 = .ok (.iload 4, 2) := by decide +kernel
theorem st_185_511 : Sd 185 511 2 (i_ldI 4) := sd_iload dd_185_511
theorem dd_185_513 : decode (mi 185).2.1 513 = .ok (.iconst 1, 1) := by decide +kernel
theorem st_185_513 : Sd 185 513 1 (i_ic 1) := sd_iconst dd_185_513
theorem dd_185_514 : decode (mi 185).2.1 514 = .ok (.iadd, 1) := by decide +kernel
theorem st_185_514 : Sd 185 514 1 (i_iadd) := sd_iadd dd_185_514
theorem dd_185_515 : decode (mi 185).2.1 515 = .ok (.iaload, 1) := by decide +kernel
theorem st_185_515 : Sd 185 515 1 (i_aI [20, 40]) := sd_iaload dd_185_515 (by decide)
theorem dd_185_516 : decode (mi 185).2.1 516 = .ok (.invokevirtual 75, 3) := by decide +kernel
theorem st_185_516 : Sd 185 516 3 (i_cV [(1, 48)] 2 7 []) := sd_virt ⟨"ContractDesk", "mismatch", "(I)I"⟩ dd_185_516 (by rw [mc_185]; exact tw_670) (fun t j h => by simp only [List.mem_cons, List.not_mem_nil, or_false, Prod.mk.injEq] at h; obtain ⟨rfl, rfl⟩ := h; exact mn_48) (fun t j h => by simp only [List.mem_cons, List.not_mem_nil, or_false, Prod.mk.injEq] at h; obtain ⟨rfl, rfl⟩ := h; exact ⟨by rw [mn_48]; exact tw_672, by rw [mn_48]; exact tw_671, mt_48, by decide, by decide⟩) (by unfold prm; decide +kernel) ml_185 (HsOk.nil (by decide +kernel))
theorem dd_185_519 : decode (mi 185).2.1 519 = .ok (.aload_n 2, 1) := by decide +kernel
theorem st_185_519 : Sd 185 519 1 (i_ldR 2) := sd_aload_n (j := 2) dd_185_519 rfl
theorem dd_185_520 : decode (mi 185).2.1 520 = .ok (.aload_n 0, 1) := by decide +kernel
theorem st_185_520 : Sd 185 520 1 (i_ldR 0) := sd_aload_n (j := 0) dd_185_520 rfl
theorem dd_185_521 : decode (mi 185).2.1 521 = .ok (.iload 4, 2) := by decide +kernel
theorem st_185_521 : Sd 185 521 2 (i_ldI 4) := sd_iload dd_185_521
theorem dd_185_523 : decode (mi 185).2.1 523 = .ok (.iconst 1, 1) := by decide +kernel
theorem st_185_523 : Sd 185 523 1 (i_ic 1) := sd_iconst dd_185_523
theorem dd_185_524 : decode (mi 185).2.1 524 = .ok (.iadd, 1) := by decide +kernel
theorem st_185_524 : Sd 185 524 1 (i_iadd) := sd_iadd dd_185_524
theorem dd_185_525 : decode (mi 185).2.1 525 = .ok (.iaload, 1) := by decide +kernel
theorem st_185_525 : Sd 185 525 1 (i_aI [20, 40]) := sd_iaload dd_185_525 (by decide)
theorem dd_185_526 : decode (mi 185).2.1 526 = .ok (.invokevirtual 78, 3) := by decide +kernel
theorem st_185_526 : Sd 185 526 3 (i_cV [(2, 161)] 2 7 []) := sd_virt ⟨"ContractDeskModel", "mismatch", "(I)I"⟩ dd_185_526 (by rw [mc_185]; exact tw_1577) (fun t j h => by simp only [List.mem_cons, List.not_mem_nil, or_false, Prod.mk.injEq] at h; obtain ⟨rfl, rfl⟩ := h; exact mn_161) (fun t j h => by simp only [List.mem_cons, List.not_mem_nil, or_false, Prod.mk.injEq] at h; obtain ⟨rfl, rfl⟩ := h; exact ⟨by rw [mn_161]; exact tw_1579, by rw [mn_161]; exact tw_1578, mt_161, by decide, by decide⟩) (by unfold prm; decide +kernel) ml_185 (HsOk.nil (by decide +kernel))
theorem dd_185_529 : decode (mi 185).2.1 529 = .ok (.if_icmp .eq 67, 3) := by decide +kernel
theorem st_185_529 : Sd 185 529 3 (i_ceq 596) := sd_icmp_eq dd_185_529 (by decide)
theorem dd_185_532 : decode (mi 185).2.1 532 = .ok (.iconst 0, 1) := by decide +kernel
theorem st_185_532 : Sd 185 532 1 (i_ic 0) := sd_iconst dd_185_532
theorem dd_185_533 : decode (mi 185).2.1 533 = .ok (.ireturn, 1) := by decide +kernel
theorem st_185_533 : Sd 185 533 1 (i_rI 2) := sd_ireturn dd_185_533 (by decide) mr_185
def bk_185_509 : Tr := sq (i_ldR 1) (sq (i_ldR 0) (sq (i_ldI 4) (sq (i_ic 1) (sq (i_iadd) (sq (i_aI [20, 40]) (sq (i_cV [(1, 48)] 2 7 []) (sq (i_ldR 2) (sq (i_ldR 0) (sq (i_ldI 4) (sq (i_ic 1) (sq (i_iadd) (sq (i_aI [20, 40]) (sq (i_cV [(2, 161)] 2 7 []) (sq (i_ceq 596) (sq (i_ic 0) (i_rI 2))))))))))))))))
theorem sb_185_509 : Sd 185 509 25 bk_185_509 := Sd.sq st_185_509 (Sd.sq st_185_510 (Sd.sq st_185_511 (Sd.sq st_185_513 (Sd.sq st_185_514 (Sd.sq st_185_515 (Sd.sq st_185_516 (Sd.sq st_185_519 (Sd.sq st_185_520 (Sd.sq st_185_521 (Sd.sq st_185_523 (Sd.sq st_185_524 (Sd.sq st_185_525 (Sd.sq st_185_526 (Sd.sq st_185_529 (Sd.sq st_185_532 (st_185_533))))))))))))))))
theorem dd_185_534 : decode (mi 185).2.1 534 = .ok (.aload_n 1, 1) := by decide +kernel
theorem st_185_534 : Sd 185 534 1 (i_ldR 1) := sd_aload_n (j := 1) dd_185_534 rfl
theorem dd_185_535 : decode (mi 185).2.1 535 = .ok (.aload_n 0, 1) := by decide +kernel
theorem st_185_535 : Sd 185 535 1 (i_ldR 0) := sd_aload_n (j := 0) dd_185_535 rfl
theorem dd_185_536 : decode (mi 185).2.1 536 = .ok (.iload 4, 2) := by decide +kernel
theorem st_185_536 : Sd 185 536 2 (i_ldI 4) := sd_iload dd_185_536
theorem dd_185_538 : decode (mi 185).2.1 538 = .ok (.iconst 1, 1) := by decide +kernel
theorem st_185_538 : Sd 185 538 1 (i_ic 1) := sd_iconst dd_185_538
theorem dd_185_539 : decode (mi 185).2.1 539 = .ok (.iadd, 1) := by decide +kernel
theorem st_185_539 : Sd 185 539 1 (i_iadd) := sd_iadd dd_185_539
theorem dd_185_540 : decode (mi 185).2.1 540 = .ok (.iaload, 1) := by decide +kernel
theorem st_185_540 : Sd 185 540 1 (i_aI [20, 40]) := sd_iaload dd_185_540 (by decide)
theorem dd_185_541 : decode (mi 185).2.1 541 = .ok (.aload_n 0, 1) := by decide +kernel
theorem st_185_541 : Sd 185 541 1 (i_ldR 0) := sd_aload_n (j := 0) dd_185_541 rfl
theorem dd_185_542 : decode (mi 185).2.1 542 = .ok (.iload 4, 2) := by decide +kernel
theorem st_185_542 : Sd 185 542 2 (i_ldI 4) := sd_iload dd_185_542
theorem dd_185_544 : decode (mi 185).2.1 544 = .ok (.iconst 2, 1) := by decide +kernel
theorem st_185_544 : Sd 185 544 1 (i_ic 2) := sd_iconst dd_185_544
theorem dd_185_545 : decode (mi 185).2.1 545 = .ok (.iadd, 1) := by decide +kernel
theorem st_185_545 : Sd 185 545 1 (i_iadd) := sd_iadd dd_185_545
theorem dd_185_546 : decode (mi 185).2.1 546 = .ok (.iaload, 1) := by decide +kernel
theorem st_185_546 : Sd 185 546 1 (i_aI [20, 40]) := sd_iaload dd_185_546 (by decide)
theorem dd_185_547 : decode (mi 185).2.1 547 = .ok (.invokevirtual 79, 3) := by decide +kernel
theorem st_185_547 : Sd 185 547 3 (i_cV [(1, 43)] 3 7 []) := sd_virt ⟨"ContractDesk", "letter", "(II)I"⟩ dd_185_547 (by rw [mc_185]; exact tw_675) (fun t j h => by simp only [List.mem_cons, List.not_mem_nil, or_false, Prod.mk.injEq] at h; obtain ⟨rfl, rfl⟩ := h; exact mn_43) (fun t j h => by simp only [List.mem_cons, List.not_mem_nil, or_false, Prod.mk.injEq] at h; obtain ⟨rfl, rfl⟩ := h; exact ⟨by rw [mn_43]; exact tw_677, by rw [mn_43]; exact tw_676, mt_43, by decide, by decide⟩) (by unfold prm; decide +kernel) ml_185 (HsOk.nil (by decide +kernel))
theorem dd_185_550 : decode (mi 185).2.1 550 = .ok (.aload_n 2, 1) := by decide +kernel
theorem st_185_550 : Sd 185 550 1 (i_ldR 2) := sd_aload_n (j := 2) dd_185_550 rfl
theorem dd_185_551 : decode (mi 185).2.1 551 = .ok (.aload_n 0, 1) := by decide +kernel
theorem st_185_551 : Sd 185 551 1 (i_ldR 0) := sd_aload_n (j := 0) dd_185_551 rfl
theorem dd_185_552 : decode (mi 185).2.1 552 = .ok (.iload 4, 2) := by decide +kernel
theorem st_185_552 : Sd 185 552 2 (i_ldI 4) := sd_iload dd_185_552
theorem dd_185_554 : decode (mi 185).2.1 554 = .ok (.iconst 1, 1) := by decide +kernel
theorem st_185_554 : Sd 185 554 1 (i_ic 1) := sd_iconst dd_185_554
theorem dd_185_555 : decode (mi 185).2.1 555 = .ok (.iadd, 1) := by decide +kernel
theorem st_185_555 : Sd 185 555 1 (i_iadd) := sd_iadd dd_185_555
theorem dd_185_556 : decode (mi 185).2.1 556 = .ok (.iaload, 1) := by decide +kernel
theorem st_185_556 : Sd 185 556 1 (i_aI [20, 40]) := sd_iaload dd_185_556 (by decide)
theorem dd_185_557 : decode (mi 185).2.1 557 = .ok (.aload_n 0, 1) := by decide +kernel
theorem st_185_557 : Sd 185 557 1 (i_ldR 0) := sd_aload_n (j := 0) dd_185_557 rfl
theorem dd_185_558 : decode (mi 185).2.1 558 = .ok (.iload 4, 2) := by decide +kernel
theorem st_185_558 : Sd 185 558 2 (i_ldI 4) := sd_iload dd_185_558
theorem dd_185_560 : decode (mi 185).2.1 560 = .ok (.iconst 2, 1) := by decide +kernel
theorem st_185_560 : Sd 185 560 1 (i_ic 2) := sd_iconst dd_185_560
theorem dd_185_561 : decode (mi 185).2.1 561 = .ok (.iadd, 1) := by decide +kernel
theorem st_185_561 : Sd 185 561 1 (i_iadd) := sd_iadd dd_185_561
theorem dd_185_562 : decode (mi 185).2.1 562 = .ok (.iaload, 1) := by decide +kernel
theorem st_185_562 : Sd 185 562 1 (i_aI [20, 40]) := sd_iaload dd_185_562 (by decide)
theorem dd_185_563 : decode (mi 185).2.1 563 = .ok (.invokevirtual 83, 3) := by decide +kernel
theorem st_185_563 : Sd 185 563 3 (i_cV [(2, 154)] 3 7 []) := sd_virt ⟨"ContractDeskModel", "letter", "(II)I"⟩ dd_185_563 (by rw [mc_185]; exact tw_1581) (fun t j h => by simp only [List.mem_cons, List.not_mem_nil, or_false, Prod.mk.injEq] at h; obtain ⟨rfl, rfl⟩ := h; exact mn_154) (fun t j h => by simp only [List.mem_cons, List.not_mem_nil, or_false, Prod.mk.injEq] at h; obtain ⟨rfl, rfl⟩ := h; exact ⟨by rw [mn_154]; exact tw_1583, by rw [mn_154]; exact tw_1582, mt_154, by decide, by decide⟩) (by unfold prm; decide +kernel) ml_185 (HsOk.nil (by decide +kernel))
theorem dd_185_566 : decode (mi 185).2.1 566 = .ok (.if_icmp .eq 30, 3) := by decide +kernel
theorem st_185_566 : Sd 185 566 3 (i_ceq 596) := sd_icmp_eq dd_185_566 (by decide)
theorem dd_185_569 : decode (mi 185).2.1 569 = .ok (.iconst 0, 1) := by decide +kernel
theorem st_185_569 : Sd 185 569 1 (i_ic 0) := sd_iconst dd_185_569
theorem dd_185_570 : decode (mi 185).2.1 570 = .ok (.ireturn, 1) := by decide +kernel
theorem st_185_570 : Sd 185 570 1 (i_rI 2) := sd_ireturn dd_185_570 (by decide) mr_185
def bk_185_534 : Tr := sq (i_ldR 1) (sq (i_ldR 0) (sq (i_ldI 4) (sq (i_ic 1) (sq (i_iadd) (sq (i_aI [20, 40]) (sq (i_ldR 0) (sq (i_ldI 4) (sq (i_ic 2) (sq (i_iadd) (sq (i_aI [20, 40]) (sq (i_cV [(1, 43)] 3 7 []) (sq (i_ldR 2) (sq (i_ldR 0) (sq (i_ldI 4) (sq (i_ic 1) (sq (i_iadd) (sq (i_aI [20, 40]) (sq (i_ldR 0) (sq (i_ldI 4) (sq (i_ic 2) (sq (i_iadd) (sq (i_aI [20, 40]) (sq (i_cV [(2, 154)] 3 7 []) (sq (i_ceq 596) (sq (i_ic 0) (i_rI 2))))))))))))))))))))))))))
theorem sb_185_534 : Sd 185 534 37 bk_185_534 := Sd.sq st_185_534 (Sd.sq st_185_535 (Sd.sq st_185_536 (Sd.sq st_185_538 (Sd.sq st_185_539 (Sd.sq st_185_540 (Sd.sq st_185_541 (Sd.sq st_185_542 (Sd.sq st_185_544 (Sd.sq st_185_545 (Sd.sq st_185_546 (Sd.sq st_185_547 (Sd.sq st_185_550 (Sd.sq st_185_551 (Sd.sq st_185_552 (Sd.sq st_185_554 (Sd.sq st_185_555 (Sd.sq st_185_556 (Sd.sq st_185_557 (Sd.sq st_185_558 (Sd.sq st_185_560 (Sd.sq st_185_561 (Sd.sq st_185_562 (Sd.sq st_185_563 (Sd.sq st_185_566 (Sd.sq st_185_569 (st_185_570))))))))))))))))))))))))))
theorem dd_185_571 : decode (mi 185).2.1 571 = .ok (.aload_n 1, 1) := by decide +kernel
theorem st_185_571 : Sd 185 571 1 (i_ldR 1) := sd_aload_n (j := 1) dd_185_571 rfl
theorem dd_185_572 : decode (mi 185).2.1 572 = .ok (.aload_n 0, 1) := by decide +kernel
theorem st_185_572 : Sd 185 572 1 (i_ldR 0) := sd_aload_n (j := 0) dd_185_572 rfl
theorem dd_185_573 : decode (mi 185).2.1 573 = .ok (.iload 4, 2) := by decide +kernel
theorem st_185_573 : Sd 185 573 2 (i_ldI 4) := sd_iload dd_185_573
theorem dd_185_575 : decode (mi 185).2.1 575 = .ok (.iconst 1, 1) := by decide +kernel
theorem st_185_575 : Sd 185 575 1 (i_ic 1) := sd_iconst dd_185_575
theorem dd_185_576 : decode (mi 185).2.1 576 = .ok (.iadd, 1) := by decide +kernel
theorem st_185_576 : Sd 185 576 1 (i_iadd) := sd_iadd dd_185_576
theorem dd_185_577 : decode (mi 185).2.1 577 = .ok (.iaload, 1) := by decide +kernel
theorem st_185_577 : Sd 185 577 1 (i_aI [20, 40]) := sd_iaload dd_185_577 (by decide)
theorem dd_185_578 : decode (mi 185).2.1 578 = .ok (.invokevirtual 84, 3) := by decide +kernel
theorem st_185_578 : Sd 185 578 3 (i_cV [(1, 39)] 2 7 []) := sd_virt ⟨"ContractDesk", "event", "(I)I"⟩ dd_185_578 (by rw [mc_185]; exact tw_680) (fun t j h => by simp only [List.mem_cons, List.not_mem_nil, or_false, Prod.mk.injEq] at h; obtain ⟨rfl, rfl⟩ := h; exact mn_39) (fun t j h => by simp only [List.mem_cons, List.not_mem_nil, or_false, Prod.mk.injEq] at h; obtain ⟨rfl, rfl⟩ := h; exact ⟨by rw [mn_39]; exact tw_682, by rw [mn_39]; exact tw_681, mt_39, by decide, by decide⟩) (by unfold prm; decide +kernel) ml_185 (HsOk.nil (by decide +kernel))
theorem dd_185_581 : decode (mi 185).2.1 581 = .ok (.aload_n 2, 1) := by decide +kernel
theorem st_185_581 : Sd 185 581 1 (i_ldR 2) := sd_aload_n (j := 2) dd_185_581 rfl
theorem dd_185_582 : decode (mi 185).2.1 582 = .ok (.aload_n 0, 1) := by decide +kernel
theorem st_185_582 : Sd 185 582 1 (i_ldR 0) := sd_aload_n (j := 0) dd_185_582 rfl
theorem dd_185_583 : decode (mi 185).2.1 583 = .ok (.iload 4, 2) := by decide +kernel
theorem st_185_583 : Sd 185 583 2 (i_ldI 4) := sd_iload dd_185_583
theorem dd_185_585 : decode (mi 185).2.1 585 = .ok (.iconst 1, 1) := by decide +kernel
theorem st_185_585 : Sd 185 585 1 (i_ic 1) := sd_iconst dd_185_585
theorem dd_185_586 : decode (mi 185).2.1 586 = .ok (.iadd, 1) := by decide +kernel
theorem st_185_586 : Sd 185 586 1 (i_iadd) := sd_iadd dd_185_586
theorem dd_185_587 : decode (mi 185).2.1 587 = .ok (.iaload, 1) := by decide +kernel
theorem st_185_587 : Sd 185 587 1 (i_aI [20, 40]) := sd_iaload dd_185_587 (by decide)
theorem dd_185_588 : decode (mi 185).2.1 588 = .ok (.invokevirtual 87, 3) := by decide +kernel
theorem st_185_588 : Sd 185 588 3 (i_cV [(2, 141)] 2 7 []) := sd_virt ⟨"ContractDeskModel", "event", "(I)I"⟩ dd_185_588 (by rw [mc_185]; exact tw_1585) (fun t j h => by simp only [List.mem_cons, List.not_mem_nil, or_false, Prod.mk.injEq] at h; obtain ⟨rfl, rfl⟩ := h; exact mn_141) (fun t j h => by simp only [List.mem_cons, List.not_mem_nil, or_false, Prod.mk.injEq] at h; obtain ⟨rfl, rfl⟩ := h; exact ⟨by rw [mn_141]; exact tw_1587, by rw [mn_141]; exact tw_1586, mt_141, by decide, by decide⟩) (by unfold prm; decide +kernel) ml_185 (HsOk.nil (by decide +kernel))
theorem dd_185_591 : decode (mi 185).2.1 591 = .ok (.if_icmp .eq 5, 3) := by decide +kernel
theorem st_185_591 : Sd 185 591 3 (i_ceq 596) := sd_icmp_eq dd_185_591 (by decide)
theorem dd_185_594 : decode (mi 185).2.1 594 = .ok (.iconst 0, 1) := by decide +kernel
theorem st_185_594 : Sd 185 594 1 (i_ic 0) := sd_iconst dd_185_594
theorem dd_185_595 : decode (mi 185).2.1 595 = .ok (.ireturn, 1) := by decide +kernel
theorem st_185_595 : Sd 185 595 1 (i_rI 2) := sd_ireturn dd_185_595 (by decide) mr_185
def bk_185_571 : Tr := sq (i_ldR 1) (sq (i_ldR 0) (sq (i_ldI 4) (sq (i_ic 1) (sq (i_iadd) (sq (i_aI [20, 40]) (sq (i_cV [(1, 39)] 2 7 []) (sq (i_ldR 2) (sq (i_ldR 0) (sq (i_ldI 4) (sq (i_ic 1) (sq (i_iadd) (sq (i_aI [20, 40]) (sq (i_cV [(2, 141)] 2 7 []) (sq (i_ceq 596) (sq (i_ic 0) (i_rI 2))))))))))))))))
theorem sb_185_571 : Sd 185 571 25 bk_185_571 := Sd.sq st_185_571 (Sd.sq st_185_572 (Sd.sq st_185_573 (Sd.sq st_185_575 (Sd.sq st_185_576 (Sd.sq st_185_577 (Sd.sq st_185_578 (Sd.sq st_185_581 (Sd.sq st_185_582 (Sd.sq st_185_583 (Sd.sq st_185_585 (Sd.sq st_185_586 (Sd.sq st_185_587 (Sd.sq st_185_588 (Sd.sq st_185_591 (Sd.sq st_185_594 (st_185_595))))))))))))))))
theorem dd_185_596 : decode (mi 185).2.1 596 = .ok (.iinc 4 3, 3) := by decide +kernel
theorem st_185_596 : Sd 185 596 3 (i_inc 4 3) := sd_iinc dd_185_596
theorem dd_185_599 : decode (mi 185).2.1 599 = .ok (.goto (-576), 3) := by decide +kernel
theorem st_185_599 : Sd 185 599 3 (i_goto 23) := sd_goto dd_185_599 (by decide)
def bk_185_596 : Tr := sq (i_inc 4 3) (i_goto 23)
theorem sb_185_596 : Sd 185 596 6 bk_185_596 := Sd.sq st_185_596 (st_185_599)
theorem dd_185_602 : decode (mi 185).2.1 602 = .ok (.iconst 1, 1) := by decide +kernel
theorem st_185_602 : Sd 185 602 1 (i_ic 1) := sd_iconst dd_185_602
theorem dd_185_603 : decode (mi 185).2.1 603 = .ok (.ireturn, 1) := by decide +kernel
theorem st_185_603 : Sd 185 603 1 (i_rI 2) := sd_ireturn dd_185_603 (by decide) mr_185
def bk_185_602 : Tr := sq (i_ic 1) (i_rI 2)
theorem sb_185_602 : Sd 185 602 2 bk_185_602 := Sd.sq st_185_602 (st_185_603)
