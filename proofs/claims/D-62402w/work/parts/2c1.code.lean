theorem dd_147_0 : decode (mi 147).2.1 0 = .ok (.iload_n 1, 1) := by decide +kernel
theorem st_147_0 : Sd 147 0 1 (i_ldI 1) := sd_iload_n (j := 1) dd_147_0 rfl
theorem dd_147_1 : decode (mi 147).2.1 1 = .ok (.ifCond .lt 15, 3) := by decide +kernel
theorem st_147_1 : Sd 147 1 3 (i_zlt 16) := sd_if_lt dd_147_1 (by decide)
theorem dd_147_4 : decode (mi 147).2.1 4 = .ok (.iload_n 1, 1) := by decide +kernel
theorem st_147_4 : Sd 147 4 1 (i_ldI 1) := sd_iload_n (j := 1) dd_147_4 rfl
theorem dd_147_5 : decode (mi 147).2.1 5 = .ok (.aload_n 0, 1) := by decide +kernel
theorem st_147_5 : Sd 147 5 1 (i_ldR 0) := sd_aload_n (j := 0) dd_147_5 rfl
theorem dd_147_6 : decode (mi 147).2.1 6 = .ok (.getfield 100, 3) := by decide +kernel
theorem st_147_6 : Sd 147 6 3 (i_gI 3 [2]) := sd_gI (ref := "ContractDeskModel") (decl := "ContractDeskModel") (name := "made") (desc := "I") dd_147_6 (by rw [mc_147]; exact tw_1263) (Or.inl rfl) (by decide +kernel)
theorem dd_147_9 : decode (mi 147).2.1 9 = .ok (.if_icmp .ge 7, 3) := by decide +kernel
theorem st_147_9 : Sd 147 9 3 (i_cge 16) := sd_icmp_ge dd_147_9 (by decide)
theorem dd_147_12 : decode (mi 147).2.1 12 = .ok (.iconst 1, 1) := by decide +kernel
theorem st_147_12 : Sd 147 12 1 (i_ic 1) := sd_iconst dd_147_12
theorem dd_147_13 : decode (mi 147).2.1 13 = .ok (.goto 4, 3) := by decide +kernel
theorem st_147_13 : Sd 147 13 3 (i_goto 17) := sd_goto dd_147_13 (by decide)
def bk_147_0 : Tr := sq (i_ldI 1) (sq (i_zlt 16) (sq (i_ldI 1) (sq (i_ldR 0) (sq (i_gI 3 [2]) (sq (i_cge 16) (sq (i_ic 1) (i_goto 17)))))))
theorem sb_147_0 : Sd 147 0 16 bk_147_0 := Sd.sq st_147_0 (Sd.sq st_147_1 (Sd.sq st_147_4 (Sd.sq st_147_5 (Sd.sq st_147_6 (Sd.sq st_147_9 (Sd.sq st_147_12 (st_147_13)))))))
theorem dd_147_16 : decode (mi 147).2.1 16 = .ok (.iconst 0, 1) := by decide +kernel
theorem st_147_16 : Sd 147 16 1 (i_ic 0) := sd_iconst dd_147_16
def bk_147_16 : Tr := sq (i_ic 0) (i_fall 17)
theorem sb_147_16 : Sd 147 16 1 bk_147_16 := Sd.sq st_147_16 (sd_fall rfl)
theorem dd_147_17 : decode (mi 147).2.1 17 = .ok (.ireturn, 1) := by decide +kernel
theorem st_147_17 : Sd 147 17 1 (i_rI 2) := sd_ireturn dd_147_17 (by decide) mr_147
def bk_147_17 : Tr := i_rI 2
theorem sb_147_17 : Sd 147 17 1 bk_147_17 := st_147_17
theorem dd_148_0 : decode (mi 148).2.1 0 = .ok (.iload_n 0, 1) := by decide +kernel
theorem st_148_0 : Sd 148 0 1 (i_ldI 0) := sd_iload_n (j := 0) dd_148_0 rfl
theorem dd_148_1 : decode (mi 148).2.1 1 = .ok (.bipush 97, 2) := by decide +kernel
theorem st_148_1 : Sd 148 1 2 (i_ic 97) := sd_bipush dd_148_1 (by decide)
theorem dd_148_3 : decode (mi 148).2.1 3 = .ok (.if_icmp .lt 13, 3) := by decide +kernel
theorem st_148_3 : Sd 148 3 3 (i_clt 16) := sd_icmp_lt dd_148_3 (by decide)
theorem dd_148_6 : decode (mi 148).2.1 6 = .ok (.iload_n 0, 1) := by decide +kernel
theorem st_148_6 : Sd 148 6 1 (i_ldI 0) := sd_iload_n (j := 0) dd_148_6 rfl
theorem dd_148_7 : decode (mi 148).2.1 7 = .ok (.bipush 122, 2) := by decide +kernel
theorem st_148_7 : Sd 148 7 2 (i_ic 122) := sd_bipush dd_148_7 (by decide)
theorem dd_148_9 : decode (mi 148).2.1 9 = .ok (.if_icmp .gt 7, 3) := by decide +kernel
theorem st_148_9 : Sd 148 9 3 (i_cgt 16) := sd_icmp_gt dd_148_9 (by decide)
theorem dd_148_12 : decode (mi 148).2.1 12 = .ok (.iconst 1, 1) := by decide +kernel
theorem st_148_12 : Sd 148 12 1 (i_ic 1) := sd_iconst dd_148_12
theorem dd_148_13 : decode (mi 148).2.1 13 = .ok (.goto 4, 3) := by decide +kernel
theorem st_148_13 : Sd 148 13 3 (i_goto 17) := sd_goto dd_148_13 (by decide)
def bk_148_0 : Tr := sq (i_ldI 0) (sq (i_ic 97) (sq (i_clt 16) (sq (i_ldI 0) (sq (i_ic 122) (sq (i_cgt 16) (sq (i_ic 1) (i_goto 17)))))))
theorem sb_148_0 : Sd 148 0 16 bk_148_0 := Sd.sq st_148_0 (Sd.sq st_148_1 (Sd.sq st_148_3 (Sd.sq st_148_6 (Sd.sq st_148_7 (Sd.sq st_148_9 (Sd.sq st_148_12 (st_148_13)))))))
theorem dd_148_16 : decode (mi 148).2.1 16 = .ok (.iconst 0, 1) := by decide +kernel
theorem st_148_16 : Sd 148 16 1 (i_ic 0) := sd_iconst dd_148_16
def bk_148_16 : Tr := sq (i_ic 0) (i_fall 17)
theorem sb_148_16 : Sd 148 16 1 bk_148_16 := Sd.sq st_148_16 (sd_fall rfl)
theorem dd_148_17 : decode (mi 148).2.1 17 = .ok (.ireturn, 1) := by decide +kernel
theorem st_148_17 : Sd 148 17 1 (i_rI 2) := sd_ireturn dd_148_17 (by decide) mr_148
def bk_148_17 : Tr := i_rI 2
theorem sb_148_17 : Sd 148 17 1 bk_148_17 := st_148_17
theorem dd_149_0 : decode (mi 149).2.1 0 = .ok (.sipush 401, 3) := by decide +kernel
theorem st_149_0 : Sd 149 0 3 (i_ic 401) := sd_sipush dd_149_0 (by decide)
theorem dd_149_3 : decode (mi 149).2.1 3 = .ok (.istore_n 1, 1) := by decide +kernel
theorem st_149_3 : Sd 149 3 1 (i_stI 1) := sd_istore_n (j := 1) dd_149_3 rfl
theorem dd_149_4 : decode (mi 149).2.1 4 = .ok (.iconst 0, 1) := by decide +kernel
theorem st_149_4 : Sd 149 4 1 (i_ic 0) := sd_iconst dd_149_4
theorem dd_149_5 : decode (mi 149).2.1 5 = .ok (.istore_n 2, 1) := by decide +kernel
theorem st_149_5 : Sd 149 5 1 (i_stI 2) := sd_istore_n (j := 2) dd_149_5 rfl
def bk_149_0 : Tr := sq (i_ic 401) (sq (i_stI 1) (sq (i_ic 0) (sq (i_stI 2) (i_fall 6))))
theorem sb_149_0 : Sd 149 0 6 bk_149_0 := Sd.sq st_149_0 (Sd.sq st_149_3 (Sd.sq st_149_4 (Sd.sq st_149_5 (sd_fall rfl))))
theorem dd_149_6 : decode (mi 149).2.1 6 = .ok (.aload_n 0, 1) := by decide +kernel
theorem st_149_6 : Sd 149 6 1 (i_ldR 0) := sd_aload_n (j := 0) dd_149_6 rfl
theorem dd_149_7 : decode (mi 149).2.1 7 = .ok (.iload_n 1, 1) := by decide +kernel
theorem st_149_7 : Sd 149 7 1 (i_ldI 1) := sd_iload_n (j := 1) dd_149_7 rfl
theorem dd_149_8 : decode (mi 149).2.1 8 = .ok (.invokevirtual 103, 3) := by decide +kernel
theorem st_149_8 : Sd 149 8 3 (i_cV [(2, 129)] 2 7 []) := sd_virt ⟨"ContractDeskModel", "at", "(I)C"⟩ dd_149_8 (by rw [mc_149]; exact tw_1388) (fun t j h => by simp only [List.mem_cons, List.not_mem_nil, or_false, Prod.mk.injEq] at h; obtain ⟨rfl, rfl⟩ := h; exact mn_129) (fun t j h => by simp only [List.mem_cons, List.not_mem_nil, or_false, Prod.mk.injEq] at h; obtain ⟨rfl, rfl⟩ := h; exact ⟨by rw [mn_129]; exact tw_30, by rw [mn_129]; exact tw_1390, mt_129, by decide, by decide⟩) (by unfold prm; decide +kernel) ml_149 (HsOk.nil (by decide +kernel))
theorem dd_149_11 : decode (mi 149).2.1 11 = .ok (.bipush 58, 2) := by decide +kernel
theorem st_149_11 : Sd 149 11 2 (i_ic 58) := sd_bipush dd_149_11 (by decide)
theorem dd_149_13 : decode (mi 149).2.1 13 = .ok (.if_icmp .eq 30, 3) := by decide +kernel
theorem st_149_13 : Sd 149 13 3 (i_ceq 43) := sd_icmp_eq dd_149_13 (by decide)
theorem dd_149_16 : decode (mi 149).2.1 16 = .ok (.iload_n 2, 1) := by decide +kernel
theorem st_149_16 : Sd 149 16 1 (i_ldI 2) := sd_iload_n (j := 2) dd_149_16 rfl
theorem dd_149_17 : decode (mi 149).2.1 17 = .ok (.iconst 5, 1) := by decide +kernel
theorem st_149_17 : Sd 149 17 1 (i_ic 5) := sd_iconst dd_149_17
theorem dd_149_18 : decode (mi 149).2.1 18 = .ok (.if_icmp .ge 11, 3) := by decide +kernel
theorem st_149_18 : Sd 149 18 3 (i_cge 29) := sd_icmp_ge dd_149_18 (by decide)
theorem dd_149_21 : decode (mi 149).2.1 21 = .ok (.aload_n 0, 1) := by decide +kernel
theorem st_149_21 : Sd 149 21 1 (i_ldR 0) := sd_aload_n (j := 0) dd_149_21 rfl
theorem dd_149_22 : decode (mi 149).2.1 22 = .ok (.iload_n 1, 1) := by decide +kernel
theorem st_149_22 : Sd 149 22 1 (i_ldI 1) := sd_iload_n (j := 1) dd_149_22 rfl
theorem dd_149_23 : decode (mi 149).2.1 23 = .ok (.invokevirtual 167, 3) := by decide +kernel
theorem st_149_23 : Sd 149 23 3 (i_cV [(2, 176)] 2 7 []) := sd_virt ⟨"ContractDeskModel", "stepEnd", "(I)I"⟩ dd_149_23 (by rw [mc_149]; exact tw_1465) (fun t j h => by simp only [List.mem_cons, List.not_mem_nil, or_false, Prod.mk.injEq] at h; obtain ⟨rfl, rfl⟩ := h; exact mn_176) (fun t j h => by simp only [List.mem_cons, List.not_mem_nil, or_false, Prod.mk.injEq] at h; obtain ⟨rfl, rfl⟩ := h; exact ⟨by rw [mn_176]; exact tw_44, by rw [mn_176]; exact tw_1467, mt_176, by decide, by decide⟩) (by unfold prm; decide +kernel) ml_149 (HsOk.nil (by decide +kernel))
theorem dd_149_26 : decode (mi 149).2.1 26 = .ok (.goto 4, 3) := by decide +kernel
theorem st_149_26 : Sd 149 26 3 (i_goto 30) := sd_goto dd_149_26 (by decide)
def bk_149_6 : Tr := sq (i_ldR 0) (sq (i_ldI 1) (sq (i_cV [(2, 129)] 2 7 []) (sq (i_ic 58) (sq (i_ceq 43) (sq (i_ldI 2) (sq (i_ic 5) (sq (i_cge 29) (sq (i_ldR 0) (sq (i_ldI 1) (sq (i_cV [(2, 176)] 2 7 []) (i_goto 30)))))))))))
theorem sb_149_6 : Sd 149 6 23 bk_149_6 := Sd.sq st_149_6 (Sd.sq st_149_7 (Sd.sq st_149_8 (Sd.sq st_149_11 (Sd.sq st_149_13 (Sd.sq st_149_16 (Sd.sq st_149_17 (Sd.sq st_149_18 (Sd.sq st_149_21 (Sd.sq st_149_22 (Sd.sq st_149_23 (st_149_26)))))))))))
theorem dd_149_29 : decode (mi 149).2.1 29 = .ok (.iconst (-1), 1) := by decide +kernel
theorem st_149_29 : Sd 149 29 1 (i_ic (-1)) := sd_iconst dd_149_29
def bk_149_29 : Tr := sq (i_ic (-1)) (i_fall 30)
theorem sb_149_29 : Sd 149 29 1 bk_149_29 := Sd.sq st_149_29 (sd_fall rfl)
theorem dd_149_30 : decode (mi 149).2.1 30 = .ok (.istore_n 1, 1) := by decide +kernel
theorem st_149_30 : Sd 149 30 1 (i_stI 1) := sd_istore_n (j := 1) dd_149_30 rfl
theorem dd_149_31 : decode (mi 149).2.1 31 = .ok (.iload_n 1, 1) := by decide +kernel
theorem st_149_31 : Sd 149 31 1 (i_ldI 1) := sd_iload_n (j := 1) dd_149_31 rfl
theorem dd_149_32 : decode (mi 149).2.1 32 = .ok (.ifCond .ge 5, 3) := by decide +kernel
theorem st_149_32 : Sd 149 32 3 (i_zge 37) := sd_if_ge dd_149_32 (by decide)
theorem dd_149_35 : decode (mi 149).2.1 35 = .ok (.iconst 0, 1) := by decide +kernel
theorem st_149_35 : Sd 149 35 1 (i_ic 0) := sd_iconst dd_149_35
theorem dd_149_36 : decode (mi 149).2.1 36 = .ok (.ireturn, 1) := by decide +kernel
theorem st_149_36 : Sd 149 36 1 (i_rI 2) := sd_ireturn dd_149_36 (by decide) mr_149
def bk_149_30 : Tr := sq (i_stI 1) (sq (i_ldI 1) (sq (i_zge 37) (sq (i_ic 0) (i_rI 2))))
theorem sb_149_30 : Sd 149 30 7 bk_149_30 := Sd.sq st_149_30 (Sd.sq st_149_31 (Sd.sq st_149_32 (Sd.sq st_149_35 (st_149_36))))
theorem dd_149_37 : decode (mi 149).2.1 37 = .ok (.iinc 2 1, 3) := by decide +kernel
theorem st_149_37 : Sd 149 37 3 (i_inc 2 1) := sd_iinc dd_149_37
theorem dd_149_40 : decode (mi 149).2.1 40 = .ok (.goto (-34), 3) := by decide +kernel
theorem st_149_40 : Sd 149 40 3 (i_goto 6) := sd_goto dd_149_40 (by decide)
def bk_149_37 : Tr := sq (i_inc 2 1) (i_goto 6)
theorem sb_149_37 : Sd 149 37 6 bk_149_37 := Sd.sq st_149_37 (st_149_40)
theorem dd_149_43 : decode (mi 149).2.1 43 = .ok (.iconst 0, 1) := by decide +kernel
theorem st_149_43 : Sd 149 43 1 (i_ic 0) := sd_iconst dd_149_43
theorem dd_149_44 : decode (mi 149).2.1 44 = .ok (.istore_n 3, 1) := by decide +kernel
theorem st_149_44 : Sd 149 44 1 (i_stI 3) := sd_istore_n (j := 3) dd_149_44 rfl
theorem dd_149_45 : decode (mi 149).2.1 45 = .ok (.sipush 400, 3) := by decide +kernel
theorem st_149_45 : Sd 149 45 3 (i_ic 400) := sd_sipush dd_149_45 (by decide)
theorem dd_149_48 : decode (mi 149).2.1 48 = .ok (.aload_n 0, 1) := by decide +kernel
theorem st_149_48 : Sd 149 48 1 (i_ldR 0) := sd_aload_n (j := 0) dd_149_48 rfl
theorem dd_149_49 : decode (mi 149).2.1 49 = .ok (.getfield 97, 3) := by decide +kernel
theorem st_149_49 : Sd 149 49 3 (i_gI 2 [2]) := sd_gI (ref := "ContractDeskModel") (decl := "ContractDeskModel") (name := "typed") (desc := "I") dd_149_49 (by rw [mc_149]; exact tw_1262) (Or.inl rfl) (by decide +kernel)
theorem dd_149_52 : decode (mi 149).2.1 52 = .ok (.iadd, 1) := by decide +kernel
theorem st_149_52 : Sd 149 52 1 (i_iadd) := sd_iadd dd_149_52
theorem dd_149_53 : decode (mi 149).2.1 53 = .ok (.istore 4, 2) := by decide +kernel
theorem st_149_53 : Sd 149 53 2 (i_stI 4) := sd_istore dd_149_53
theorem dd_149_55 : decode (mi 149).2.1 55 = .ok (.aload_n 0, 1) := by decide +kernel
theorem st_149_55 : Sd 149 55 1 (i_ldR 0) := sd_aload_n (j := 0) dd_149_55 rfl
theorem dd_149_56 : decode (mi 149).2.1 56 = .ok (.sipush 400, 3) := by decide +kernel
theorem st_149_56 : Sd 149 56 3 (i_ic 400) := sd_sipush dd_149_56 (by decide)
theorem dd_149_59 : decode (mi 149).2.1 59 = .ok (.invokevirtual 103, 3) := by decide +kernel
theorem st_149_59 : Sd 149 59 3 (i_cV [(2, 129)] 2 7 []) := sd_virt ⟨"ContractDeskModel", "at", "(I)C"⟩ dd_149_59 (by rw [mc_149]; exact tw_1388) (fun t j h => by simp only [List.mem_cons, List.not_mem_nil, or_false, Prod.mk.injEq] at h; obtain ⟨rfl, rfl⟩ := h; exact mn_129) (fun t j h => by simp only [List.mem_cons, List.not_mem_nil, or_false, Prod.mk.injEq] at h; obtain ⟨rfl, rfl⟩ := h; exact ⟨by rw [mn_129]; exact tw_30, by rw [mn_129]; exact tw_1390, mt_129, by decide, by decide⟩) (by unfold prm; decide +kernel) ml_149 (HsOk.nil (by decide +kernel))
theorem dd_149_62 : decode (mi 149).2.1 62 = .ok (.bipush 36, 2) := by decide +kernel
theorem st_149_62 : Sd 149 62 2 (i_ic 36) := sd_bipush dd_149_62 (by decide)
theorem dd_149_64 : decode (mi 149).2.1 64 = .ok (.if_icmp .ne 7, 3) := by decide +kernel
theorem st_149_64 : Sd 149 64 3 (i_cne 71) := sd_icmp_ne dd_149_64 (by decide)
theorem dd_149_67 : decode (mi 149).2.1 67 = .ok (.iconst 1, 1) := by decide +kernel
theorem st_149_67 : Sd 149 67 1 (i_ic 1) := sd_iconst dd_149_67
theorem dd_149_68 : decode (mi 149).2.1 68 = .ok (.goto 4, 3) := by decide +kernel
theorem st_149_68 : Sd 149 68 3 (i_goto 72) := sd_goto dd_149_68 (by decide)
def bk_149_43 : Tr := sq (i_ic 0) (sq (i_stI 3) (sq (i_ic 400) (sq (i_ldR 0) (sq (i_gI 2 [2]) (sq (i_iadd) (sq (i_stI 4) (sq (i_ldR 0) (sq (i_ic 400) (sq (i_cV [(2, 129)] 2 7 []) (sq (i_ic 36) (sq (i_cne 71) (sq (i_ic 1) (i_goto 72)))))))))))))
theorem sb_149_43 : Sd 149 43 28 bk_149_43 := Sd.sq st_149_43 (Sd.sq st_149_44 (Sd.sq st_149_45 (Sd.sq st_149_48 (Sd.sq st_149_49 (Sd.sq st_149_52 (Sd.sq st_149_53 (Sd.sq st_149_55 (Sd.sq st_149_56 (Sd.sq st_149_59 (Sd.sq st_149_62 (Sd.sq st_149_64 (Sd.sq st_149_67 (st_149_68)))))))))))))
theorem dd_149_71 : decode (mi 149).2.1 71 = .ok (.iconst 0, 1) := by decide +kernel
theorem st_149_71 : Sd 149 71 1 (i_ic 0) := sd_iconst dd_149_71
def bk_149_71 : Tr := sq (i_ic 0) (i_fall 72)
theorem sb_149_71 : Sd 149 71 1 bk_149_71 := Sd.sq st_149_71 (sd_fall rfl)
theorem dd_149_72 : decode (mi 149).2.1 72 = .ok (.istore 5, 2) := by decide +kernel
theorem st_149_72 : Sd 149 72 2 (i_stI 5) := sd_istore dd_149_72
def bk_149_72 : Tr := sq (i_stI 5) (i_fall 74)
theorem sb_149_72 : Sd 149 72 2 bk_149_72 := Sd.sq st_149_72 (sd_fall rfl)
theorem dd_149_74 : decode (mi 149).2.1 74 = .ok (.iload 5, 2) := by decide +kernel
theorem st_149_74 : Sd 149 74 2 (i_ldI 5) := sd_iload dd_149_74
theorem dd_149_76 : decode (mi 149).2.1 76 = .ok (.ifCond .eq 77, 3) := by decide +kernel
theorem st_149_76 : Sd 149 76 3 (i_zeq 153) := sd_if_eq dd_149_76 (by decide)
theorem dd_149_79 : decode (mi 149).2.1 79 = .ok (.aload_n 0, 1) := by decide +kernel
theorem st_149_79 : Sd 149 79 1 (i_ldR 0) := sd_aload_n (j := 0) dd_149_79 rfl
theorem dd_149_80 : decode (mi 149).2.1 80 = .ok (.iload_n 1, 1) := by decide +kernel
theorem st_149_80 : Sd 149 80 1 (i_ldI 1) := sd_iload_n (j := 1) dd_149_80 rfl
theorem dd_149_81 : decode (mi 149).2.1 81 = .ok (.iconst 1, 1) := by decide +kernel
theorem st_149_81 : Sd 149 81 1 (i_ic 1) := sd_iconst dd_149_81
theorem dd_149_82 : decode (mi 149).2.1 82 = .ok (.iadd, 1) := by decide +kernel
theorem st_149_82 : Sd 149 82 1 (i_iadd) := sd_iadd dd_149_82
theorem dd_149_83 : decode (mi 149).2.1 83 = .ok (.invokevirtual 170, 3) := by decide +kernel
theorem st_149_83 : Sd 149 83 3 (i_cV [(2, 158)] 2 7 []) := sd_virt ⟨"ContractDeskModel", "matcherEnd", "(I)I"⟩ dd_149_83 (by rw [mc_149]; exact tw_1469) (fun t j h => by simp only [List.mem_cons, List.not_mem_nil, or_false, Prod.mk.injEq] at h; obtain ⟨rfl, rfl⟩ := h; exact mn_158) (fun t j h => by simp only [List.mem_cons, List.not_mem_nil, or_false, Prod.mk.injEq] at h; obtain ⟨rfl, rfl⟩ := h; exact ⟨by rw [mn_158]; exact tw_45, by rw [mn_158]; exact tw_1471, mt_158, by decide, by decide⟩) (by unfold prm; decide +kernel) ml_149 (HsOk.nil (by decide +kernel))
theorem dd_149_86 : decode (mi 149).2.1 86 = .ok (.istore_n 1, 1) := by decide +kernel
theorem st_149_86 : Sd 149 86 1 (i_stI 1) := sd_istore_n (j := 1) dd_149_86 rfl
theorem dd_149_87 : decode (mi 149).2.1 87 = .ok (.iload_n 1, 1) := by decide +kernel
theorem st_149_87 : Sd 149 87 1 (i_ldI 1) := sd_iload_n (j := 1) dd_149_87 rfl
theorem dd_149_88 : decode (mi 149).2.1 88 = .ok (.ifCond .lt 9, 3) := by decide +kernel
theorem st_149_88 : Sd 149 88 3 (i_zlt 97) := sd_if_lt dd_149_88 (by decide)
theorem dd_149_91 : decode (mi 149).2.1 91 = .ok (.iload_n 1, 1) := by decide +kernel
theorem st_149_91 : Sd 149 91 1 (i_ldI 1) := sd_iload_n (j := 1) dd_149_91 rfl
theorem dd_149_92 : decode (mi 149).2.1 92 = .ok (.iload 4, 2) := by decide +kernel
theorem st_149_92 : Sd 149 92 2 (i_ldI 4) := sd_iload dd_149_92
theorem dd_149_94 : decode (mi 149).2.1 94 = .ok (.if_icmp .ne 15, 3) := by decide +kernel
theorem st_149_94 : Sd 149 94 3 (i_cne 109) := sd_icmp_ne dd_149_94 (by decide)
def bk_149_74 : Tr := sq (i_ldI 5) (sq (i_zeq 153) (sq (i_ldR 0) (sq (i_ldI 1) (sq (i_ic 1) (sq (i_iadd) (sq (i_cV [(2, 158)] 2 7 []) (sq (i_stI 1) (sq (i_ldI 1) (sq (i_zlt 97) (sq (i_ldI 1) (sq (i_ldI 4) (sq (i_cne 109) (i_fall 97)))))))))))))
theorem sb_149_74 : Sd 149 74 23 bk_149_74 := Sd.sq st_149_74 (Sd.sq st_149_76 (Sd.sq st_149_79 (Sd.sq st_149_80 (Sd.sq st_149_81 (Sd.sq st_149_82 (Sd.sq st_149_83 (Sd.sq st_149_86 (Sd.sq st_149_87 (Sd.sq st_149_88 (Sd.sq st_149_91 (Sd.sq st_149_92 (Sd.sq st_149_94 (sd_fall rfl)))))))))))))
theorem dd_149_97 : decode (mi 149).2.1 97 = .ok (.iload_n 1, 1) := by decide +kernel
theorem st_149_97 : Sd 149 97 1 (i_ldI 1) := sd_iload_n (j := 1) dd_149_97 rfl
theorem dd_149_98 : decode (mi 149).2.1 98 = .ok (.iload 4, 2) := by decide +kernel
theorem st_149_98 : Sd 149 98 2 (i_ldI 4) := sd_iload dd_149_98
theorem dd_149_100 : decode (mi 149).2.1 100 = .ok (.if_icmp .ne 7, 3) := by decide +kernel
theorem st_149_100 : Sd 149 100 3 (i_cne 107) := sd_icmp_ne dd_149_100 (by decide)
theorem dd_149_103 : decode (mi 149).2.1 103 = .ok (.iconst 1, 1) := by decide +kernel
theorem st_149_103 : Sd 149 103 1 (i_ic 1) := sd_iconst dd_149_103
theorem dd_149_104 : decode (mi 149).2.1 104 = .ok (.goto 4, 3) := by decide +kernel
theorem st_149_104 : Sd 149 104 3 (i_goto 108) := sd_goto dd_149_104 (by decide)
def bk_149_97 : Tr := sq (i_ldI 1) (sq (i_ldI 4) (sq (i_cne 107) (sq (i_ic 1) (i_goto 108))))
theorem sb_149_97 : Sd 149 97 10 bk_149_97 := Sd.sq st_149_97 (Sd.sq st_149_98 (Sd.sq st_149_100 (Sd.sq st_149_103 (st_149_104))))
theorem dd_149_107 : decode (mi 149).2.1 107 = .ok (.iconst 0, 1) := by decide +kernel
theorem st_149_107 : Sd 149 107 1 (i_ic 0) := sd_iconst dd_149_107
def bk_149_107 : Tr := sq (i_ic 0) (i_fall 108)
theorem sb_149_107 : Sd 149 107 1 bk_149_107 := Sd.sq st_149_107 (sd_fall rfl)
theorem dd_149_108 : decode (mi 149).2.1 108 = .ok (.ireturn, 1) := by decide +kernel
theorem st_149_108 : Sd 149 108 1 (i_rI 2) := sd_ireturn dd_149_108 (by decide) mr_149
def bk_149_108 : Tr := i_rI 2
theorem sb_149_108 : Sd 149 108 1 bk_149_108 := st_149_108
theorem dd_149_109 : decode (mi 149).2.1 109 = .ok (.aload_n 0, 1) := by decide +kernel
theorem st_149_109 : Sd 149 109 1 (i_ldR 0) := sd_aload_n (j := 0) dd_149_109 rfl
theorem dd_149_110 : decode (mi 149).2.1 110 = .ok (.iload_n 1, 1) := by decide +kernel
theorem st_149_110 : Sd 149 110 1 (i_ldI 1) := sd_iload_n (j := 1) dd_149_110 rfl
theorem dd_149_111 : decode (mi 149).2.1 111 = .ok (.invokevirtual 103, 3) := by decide +kernel
theorem st_149_111 : Sd 149 111 3 (i_cV [(2, 129)] 2 7 []) := sd_virt ⟨"ContractDeskModel", "at", "(I)C"⟩ dd_149_111 (by rw [mc_149]; exact tw_1388) (fun t j h => by simp only [List.mem_cons, List.not_mem_nil, or_false, Prod.mk.injEq] at h; obtain ⟨rfl, rfl⟩ := h; exact mn_129) (fun t j h => by simp only [List.mem_cons, List.not_mem_nil, or_false, Prod.mk.injEq] at h; obtain ⟨rfl, rfl⟩ := h; exact ⟨by rw [mn_129]; exact tw_30, by rw [mn_129]; exact tw_1390, mt_129, by decide, by decide⟩) (by unfold prm; decide +kernel) ml_149 (HsOk.nil (by decide +kernel))
theorem dd_149_114 : decode (mi 149).2.1 114 = .ok (.istore 6, 2) := by decide +kernel
theorem st_149_114 : Sd 149 114 2 (i_stI 6) := sd_istore dd_149_114
theorem dd_149_116 : decode (mi 149).2.1 116 = .ok (.iload 6, 2) := by decide +kernel
theorem st_149_116 : Sd 149 116 2 (i_ldI 6) := sd_iload dd_149_116
theorem dd_149_118 : decode (mi 149).2.1 118 = .ok (.bipush 38, 2) := by decide +kernel
theorem st_149_118 : Sd 149 118 2 (i_ic 38) := sd_bipush dd_149_118 (by decide)
theorem dd_149_120 : decode (mi 149).2.1 120 = .ok (.if_icmp .eq 10, 3) := by decide +kernel
theorem st_149_120 : Sd 149 120 3 (i_ceq 130) := sd_icmp_eq dd_149_120 (by decide)
theorem dd_149_123 : decode (mi 149).2.1 123 = .ok (.iload 6, 2) := by decide +kernel
theorem st_149_123 : Sd 149 123 2 (i_ldI 6) := sd_iload dd_149_123
theorem dd_149_125 : decode (mi 149).2.1 125 = .ok (.bipush 124, 2) := by decide +kernel
theorem st_149_125 : Sd 149 125 2 (i_ic 124) := sd_bipush dd_149_125 (by decide)
theorem dd_149_127 : decode (mi 149).2.1 127 = .ok (.if_icmp .ne 17, 3) := by decide +kernel
theorem st_149_127 : Sd 149 127 3 (i_cne 144) := sd_icmp_ne dd_149_127 (by decide)
def bk_149_109 : Tr := sq (i_ldR 0) (sq (i_ldI 1) (sq (i_cV [(2, 129)] 2 7 []) (sq (i_stI 6) (sq (i_ldI 6) (sq (i_ic 38) (sq (i_ceq 130) (sq (i_ldI 6) (sq (i_ic 124) (sq (i_cne 144) (i_fall 130))))))))))
theorem sb_149_109 : Sd 149 109 21 bk_149_109 := Sd.sq st_149_109 (Sd.sq st_149_110 (Sd.sq st_149_111 (Sd.sq st_149_114 (Sd.sq st_149_116 (Sd.sq st_149_118 (Sd.sq st_149_120 (Sd.sq st_149_123 (Sd.sq st_149_125 (Sd.sq st_149_127 (sd_fall rfl))))))))))
theorem dd_149_130 : decode (mi 149).2.1 130 = .ok (.iload_n 3, 1) := by decide +kernel
theorem st_149_130 : Sd 149 130 1 (i_ldI 3) := sd_iload_n (j := 3) dd_149_130 rfl
theorem dd_149_131 : decode (mi 149).2.1 131 = .ok (.ifCond .eq 9, 3) := by decide +kernel
theorem st_149_131 : Sd 149 131 3 (i_zeq 140) := sd_if_eq dd_149_131 (by decide)
theorem dd_149_134 : decode (mi 149).2.1 134 = .ok (.iload_n 3, 1) := by decide +kernel
theorem st_149_134 : Sd 149 134 1 (i_ldI 3) := sd_iload_n (j := 3) dd_149_134 rfl
theorem dd_149_135 : decode (mi 149).2.1 135 = .ok (.iload 6, 2) := by decide +kernel
theorem st_149_135 : Sd 149 135 2 (i_ldI 6) := sd_iload dd_149_135
theorem dd_149_137 : decode (mi 149).2.1 137 = .ok (.if_icmp .ne 7, 3) := by decide +kernel
theorem st_149_137 : Sd 149 137 3 (i_cne 144) := sd_icmp_ne dd_149_137 (by decide)
def bk_149_130 : Tr := sq (i_ldI 3) (sq (i_zeq 140) (sq (i_ldI 3) (sq (i_ldI 6) (sq (i_cne 144) (i_fall 140)))))
theorem sb_149_130 : Sd 149 130 10 bk_149_130 := Sd.sq st_149_130 (Sd.sq st_149_131 (Sd.sq st_149_134 (Sd.sq st_149_135 (Sd.sq st_149_137 (sd_fall rfl)))))
theorem dd_149_140 : decode (mi 149).2.1 140 = .ok (.iconst 1, 1) := by decide +kernel
theorem st_149_140 : Sd 149 140 1 (i_ic 1) := sd_iconst dd_149_140
theorem dd_149_141 : decode (mi 149).2.1 141 = .ok (.goto 4, 3) := by decide +kernel
theorem st_149_141 : Sd 149 141 3 (i_goto 145) := sd_goto dd_149_141 (by decide)
def bk_149_140 : Tr := sq (i_ic 1) (i_goto 145)
theorem sb_149_140 : Sd 149 140 4 bk_149_140 := Sd.sq st_149_140 (st_149_141)
theorem dd_149_144 : decode (mi 149).2.1 144 = .ok (.iconst 0, 1) := by decide +kernel
theorem st_149_144 : Sd 149 144 1 (i_ic 0) := sd_iconst dd_149_144
def bk_149_144 : Tr := sq (i_ic 0) (i_fall 145)
theorem sb_149_144 : Sd 149 144 1 bk_149_144 := Sd.sq st_149_144 (sd_fall rfl)
theorem dd_149_145 : decode (mi 149).2.1 145 = .ok (.istore 5, 2) := by decide +kernel
theorem st_149_145 : Sd 149 145 2 (i_stI 5) := sd_istore dd_149_145
theorem dd_149_147 : decode (mi 149).2.1 147 = .ok (.iload 6, 2) := by decide +kernel
theorem st_149_147 : Sd 149 147 2 (i_ldI 6) := sd_iload dd_149_147
theorem dd_149_149 : decode (mi 149).2.1 149 = .ok (.istore_n 3, 1) := by decide +kernel
theorem st_149_149 : Sd 149 149 1 (i_stI 3) := sd_istore_n (j := 3) dd_149_149 rfl
theorem dd_149_150 : decode (mi 149).2.1 150 = .ok (.goto (-76), 3) := by decide +kernel
theorem st_149_150 : Sd 149 150 3 (i_goto 74) := sd_goto dd_149_150 (by decide)
def bk_149_145 : Tr := sq (i_stI 5) (sq (i_ldI 6) (sq (i_stI 3) (i_goto 74)))
theorem sb_149_145 : Sd 149 145 8 bk_149_145 := Sd.sq st_149_145 (Sd.sq st_149_147 (Sd.sq st_149_149 (st_149_150)))
theorem dd_149_153 : decode (mi 149).2.1 153 = .ok (.iconst 0, 1) := by decide +kernel
theorem st_149_153 : Sd 149 153 1 (i_ic 0) := sd_iconst dd_149_153
theorem dd_149_154 : decode (mi 149).2.1 154 = .ok (.ireturn, 1) := by decide +kernel
theorem st_149_154 : Sd 149 154 1 (i_rI 2) := sd_ireturn dd_149_154 (by decide) mr_149
def bk_149_153 : Tr := sq (i_ic 0) (i_rI 2)
theorem sb_149_153 : Sd 149 153 2 bk_149_153 := Sd.sq st_149_153 (st_149_154)
theorem dd_150_0 : decode (mi 150).2.1 0 = .ok (.iload_n 1, 1) := by decide +kernel
theorem st_150_0 : Sd 150 0 1 (i_ldI 1) := sd_iload_n (j := 1) dd_150_0 rfl
theorem dd_150_1 : decode (mi 150).2.1 1 = .ok (.istore_n 2, 1) := by decide +kernel
theorem st_150_1 : Sd 150 1 1 (i_stI 2) := sd_istore_n (j := 2) dd_150_1 rfl
theorem dd_150_2 : decode (mi 150).2.1 2 = .ok (.iconst 0, 1) := by decide +kernel
theorem st_150_2 : Sd 150 2 1 (i_ic 0) := sd_iconst dd_150_2
theorem dd_150_3 : decode (mi 150).2.1 3 = .ok (.istore_n 3, 1) := by decide +kernel
theorem st_150_3 : Sd 150 3 1 (i_stI 3) := sd_istore_n (j := 3) dd_150_3 rfl
def bk_150_0 : Tr := sq (i_ldI 1) (sq (i_stI 2) (sq (i_ic 0) (sq (i_stI 3) (i_fall 4))))
theorem sb_150_0 : Sd 150 0 4 bk_150_0 := Sd.sq st_150_0 (Sd.sq st_150_1 (Sd.sq st_150_2 (Sd.sq st_150_3 (sd_fall rfl))))
theorem dd_150_4 : decode (mi 150).2.1 4 = .ok (.iload_n 3, 1) := by decide +kernel
theorem st_150_4 : Sd 150 4 1 (i_ldI 3) := sd_iload_n (j := 3) dd_150_4 rfl
theorem dd_150_5 : decode (mi 150).2.1 5 = .ok (.bipush 8, 2) := by decide +kernel
theorem st_150_5 : Sd 150 5 2 (i_ic 8) := sd_bipush dd_150_5 (by decide)
theorem dd_150_7 : decode (mi 150).2.1 7 = .ok (.if_icmp .ge 64, 3) := by decide +kernel
theorem st_150_7 : Sd 150 7 3 (i_cge 71) := sd_icmp_ge dd_150_7 (by decide)
theorem dd_150_10 : decode (mi 150).2.1 10 = .ok (.aload_n 0, 1) := by decide +kernel
theorem st_150_10 : Sd 150 10 1 (i_ldR 0) := sd_aload_n (j := 0) dd_150_10 rfl
theorem dd_150_11 : decode (mi 150).2.1 11 = .ok (.iload_n 2, 1) := by decide +kernel
theorem st_150_11 : Sd 150 11 1 (i_ldI 2) := sd_iload_n (j := 2) dd_150_11 rfl
theorem dd_150_12 : decode (mi 150).2.1 12 = .ok (.invokevirtual 103, 3) := by decide +kernel
theorem st_150_12 : Sd 150 12 3 (i_cV [(2, 129)] 2 4 []) := sd_virt ⟨"ContractDeskModel", "at", "(I)C"⟩ dd_150_12 (by rw [mc_150]; exact tw_1388) (fun t j h => by simp only [List.mem_cons, List.not_mem_nil, or_false, Prod.mk.injEq] at h; obtain ⟨rfl, rfl⟩ := h; exact mn_129) (fun t j h => by simp only [List.mem_cons, List.not_mem_nil, or_false, Prod.mk.injEq] at h; obtain ⟨rfl, rfl⟩ := h; exact ⟨by rw [mn_129]; exact tw_30, by rw [mn_129]; exact tw_1390, mt_129, by decide, by decide⟩) (by unfold prm; decide +kernel) ml_150 (HsOk.nil (by decide +kernel))
theorem dd_150_15 : decode (mi 150).2.1 15 = .ok (.invokestatic 111, 3) := by decide +kernel
theorem st_150_15 : Sd 150 15 3 (i_cS 148 1 4 []) := sd_static dd_150_15 (by rw [mc_150, mn_148]; exact tw_1392) (by rw [mn_148]; exact tw_1393) mt_148 pm_148 ml_150 (HsOk.nil (by decide +kernel))
theorem dd_150_18 : decode (mi 150).2.1 18 = .ok (.ifCond .ne 13, 3) := by decide +kernel
theorem st_150_18 : Sd 150 18 3 (i_zne 31) := sd_if_ne dd_150_18 (by decide)
theorem dd_150_21 : decode (mi 150).2.1 21 = .ok (.aload_n 0, 1) := by decide +kernel
theorem st_150_21 : Sd 150 21 1 (i_ldR 0) := sd_aload_n (j := 0) dd_150_21 rfl
theorem dd_150_22 : decode (mi 150).2.1 22 = .ok (.iload_n 2, 1) := by decide +kernel
theorem st_150_22 : Sd 150 22 1 (i_ldI 2) := sd_iload_n (j := 2) dd_150_22 rfl
theorem dd_150_23 : decode (mi 150).2.1 23 = .ok (.invokevirtual 103, 3) := by decide +kernel
theorem st_150_23 : Sd 150 23 3 (i_cV [(2, 129)] 2 4 []) := sd_virt ⟨"ContractDeskModel", "at", "(I)C"⟩ dd_150_23 (by rw [mc_150]; exact tw_1388) (fun t j h => by simp only [List.mem_cons, List.not_mem_nil, or_false, Prod.mk.injEq] at h; obtain ⟨rfl, rfl⟩ := h; exact mn_129) (fun t j h => by simp only [List.mem_cons, List.not_mem_nil, or_false, Prod.mk.injEq] at h; obtain ⟨rfl, rfl⟩ := h; exact ⟨by rw [mn_129]; exact tw_30, by rw [mn_129]; exact tw_1390, mt_129, by decide, by decide⟩) (by unfold prm; decide +kernel) ml_150 (HsOk.nil (by decide +kernel))
theorem dd_150_26 : decode (mi 150).2.1 26 = .ok (.bipush 46, 2) := by decide +kernel
theorem st_150_26 : Sd 150 26 2 (i_ic 46) := sd_bipush dd_150_26 (by decide)
theorem dd_150_28 : decode (mi 150).2.1 28 = .ok (.if_icmp .ne 43, 3) := by decide +kernel
theorem st_150_28 : Sd 150 28 3 (i_cne 71) := sd_icmp_ne dd_150_28 (by decide)
def bk_150_4 : Tr := sq (i_ldI 3) (sq (i_ic 8) (sq (i_cge 71) (sq (i_ldR 0) (sq (i_ldI 2) (sq (i_cV [(2, 129)] 2 4 []) (sq (i_cS 148 1 4 []) (sq (i_zne 31) (sq (i_ldR 0) (sq (i_ldI 2) (sq (i_cV [(2, 129)] 2 4 []) (sq (i_ic 46) (sq (i_cne 71) (i_fall 31)))))))))))))
theorem sb_150_4 : Sd 150 4 27 bk_150_4 := Sd.sq st_150_4 (Sd.sq st_150_5 (Sd.sq st_150_7 (Sd.sq st_150_10 (Sd.sq st_150_11 (Sd.sq st_150_12 (Sd.sq st_150_15 (Sd.sq st_150_18 (Sd.sq st_150_21 (Sd.sq st_150_22 (Sd.sq st_150_23 (Sd.sq st_150_26 (Sd.sq st_150_28 (sd_fall rfl)))))))))))))
theorem dd_150_31 : decode (mi 150).2.1 31 = .ok (.aload_n 0, 1) := by decide +kernel
theorem st_150_31 : Sd 150 31 1 (i_ldR 0) := sd_aload_n (j := 0) dd_150_31 rfl
theorem dd_150_32 : decode (mi 150).2.1 32 = .ok (.iload_n 2, 1) := by decide +kernel
theorem st_150_32 : Sd 150 32 1 (i_ldI 2) := sd_iload_n (j := 2) dd_150_32 rfl
theorem dd_150_33 : decode (mi 150).2.1 33 = .ok (.iconst 1, 1) := by decide +kernel
theorem st_150_33 : Sd 150 33 1 (i_ic 1) := sd_iconst dd_150_33
theorem dd_150_34 : decode (mi 150).2.1 34 = .ok (.iadd, 1) := by decide +kernel
theorem st_150_34 : Sd 150 34 1 (i_iadd) := sd_iadd dd_150_34
theorem dd_150_35 : decode (mi 150).2.1 35 = .ok (.invokevirtual 103, 3) := by decide +kernel
theorem st_150_35 : Sd 150 35 3 (i_cV [(2, 129)] 2 4 []) := sd_virt ⟨"ContractDeskModel", "at", "(I)C"⟩ dd_150_35 (by rw [mc_150]; exact tw_1388) (fun t j h => by simp only [List.mem_cons, List.not_mem_nil, or_false, Prod.mk.injEq] at h; obtain ⟨rfl, rfl⟩ := h; exact mn_129) (fun t j h => by simp only [List.mem_cons, List.not_mem_nil, or_false, Prod.mk.injEq] at h; obtain ⟨rfl, rfl⟩ := h; exact ⟨by rw [mn_129]; exact tw_30, by rw [mn_129]; exact tw_1390, mt_129, by decide, by decide⟩) (by unfold prm; decide +kernel) ml_150 (HsOk.nil (by decide +kernel))
theorem dd_150_38 : decode (mi 150).2.1 38 = .ok (.bipush 42, 2) := by decide +kernel
theorem st_150_38 : Sd 150 38 2 (i_ic 42) := sd_bipush dd_150_38 (by decide)
theorem dd_150_40 : decode (mi 150).2.1 40 = .ok (.if_icmp .eq 15, 3) := by decide +kernel
theorem st_150_40 : Sd 150 40 3 (i_ceq 55) := sd_icmp_eq dd_150_40 (by decide)
theorem dd_150_43 : decode (mi 150).2.1 43 = .ok (.aload_n 0, 1) := by decide +kernel
theorem st_150_43 : Sd 150 43 1 (i_ldR 0) := sd_aload_n (j := 0) dd_150_43 rfl
theorem dd_150_44 : decode (mi 150).2.1 44 = .ok (.iload_n 2, 1) := by decide +kernel
theorem st_150_44 : Sd 150 44 1 (i_ldI 2) := sd_iload_n (j := 2) dd_150_44 rfl
theorem dd_150_45 : decode (mi 150).2.1 45 = .ok (.iconst 1, 1) := by decide +kernel
theorem st_150_45 : Sd 150 45 1 (i_ic 1) := sd_iconst dd_150_45
theorem dd_150_46 : decode (mi 150).2.1 46 = .ok (.iadd, 1) := by decide +kernel
theorem st_150_46 : Sd 150 46 1 (i_iadd) := sd_iadd dd_150_46
theorem dd_150_47 : decode (mi 150).2.1 47 = .ok (.invokevirtual 103, 3) := by decide +kernel
theorem st_150_47 : Sd 150 47 3 (i_cV [(2, 129)] 2 4 []) := sd_virt ⟨"ContractDeskModel", "at", "(I)C"⟩ dd_150_47 (by rw [mc_150]; exact tw_1388) (fun t j h => by simp only [List.mem_cons, List.not_mem_nil, or_false, Prod.mk.injEq] at h; obtain ⟨rfl, rfl⟩ := h; exact mn_129) (fun t j h => by simp only [List.mem_cons, List.not_mem_nil, or_false, Prod.mk.injEq] at h; obtain ⟨rfl, rfl⟩ := h; exact ⟨by rw [mn_129]; exact tw_30, by rw [mn_129]; exact tw_1390, mt_129, by decide, by decide⟩) (by unfold prm; decide +kernel) ml_150 (HsOk.nil (by decide +kernel))
theorem dd_150_50 : decode (mi 150).2.1 50 = .ok (.bipush 43, 2) := by decide +kernel
theorem st_150_50 : Sd 150 50 2 (i_ic 43) := sd_bipush dd_150_50 (by decide)
theorem dd_150_52 : decode (mi 150).2.1 52 = .ok (.if_icmp .ne 9, 3) := by decide +kernel
theorem st_150_52 : Sd 150 52 3 (i_cne 61) := sd_icmp_ne dd_150_52 (by decide)
def bk_150_31 : Tr := sq (i_ldR 0) (sq (i_ldI 2) (sq (i_ic 1) (sq (i_iadd) (sq (i_cV [(2, 129)] 2 4 []) (sq (i_ic 42) (sq (i_ceq 55) (sq (i_ldR 0) (sq (i_ldI 2) (sq (i_ic 1) (sq (i_iadd) (sq (i_cV [(2, 129)] 2 4 []) (sq (i_ic 43) (sq (i_cne 61) (i_fall 55))))))))))))))
theorem sb_150_31 : Sd 150 31 24 bk_150_31 := Sd.sq st_150_31 (Sd.sq st_150_32 (Sd.sq st_150_33 (Sd.sq st_150_34 (Sd.sq st_150_35 (Sd.sq st_150_38 (Sd.sq st_150_40 (Sd.sq st_150_43 (Sd.sq st_150_44 (Sd.sq st_150_45 (Sd.sq st_150_46 (Sd.sq st_150_47 (Sd.sq st_150_50 (Sd.sq st_150_52 (sd_fall rfl))))))))))))))
theorem dd_150_55 : decode (mi 150).2.1 55 = .ok (.iload_n 2, 1) := by decide +kernel
theorem st_150_55 : Sd 150 55 1 (i_ldI 2) := sd_iload_n (j := 2) dd_150_55 rfl
theorem dd_150_56 : decode (mi 150).2.1 56 = .ok (.iconst 2, 1) := by decide +kernel
theorem st_150_56 : Sd 150 56 1 (i_ic 2) := sd_iconst dd_150_56
theorem dd_150_57 : decode (mi 150).2.1 57 = .ok (.iadd, 1) := by decide +kernel
theorem st_150_57 : Sd 150 57 1 (i_iadd) := sd_iadd dd_150_57
theorem dd_150_58 : decode (mi 150).2.1 58 = .ok (.goto 6, 3) := by decide +kernel
theorem st_150_58 : Sd 150 58 3 (i_goto 64) := sd_goto dd_150_58 (by decide)
def bk_150_55 : Tr := sq (i_ldI 2) (sq (i_ic 2) (sq (i_iadd) (i_goto 64)))
theorem sb_150_55 : Sd 150 55 6 bk_150_55 := Sd.sq st_150_55 (Sd.sq st_150_56 (Sd.sq st_150_57 (st_150_58)))
theorem dd_150_61 : decode (mi 150).2.1 61 = .ok (.iload_n 2, 1) := by decide +kernel
theorem st_150_61 : Sd 150 61 1 (i_ldI 2) := sd_iload_n (j := 2) dd_150_61 rfl
theorem dd_150_62 : decode (mi 150).2.1 62 = .ok (.iconst 1, 1) := by decide +kernel
theorem st_150_62 : Sd 150 62 1 (i_ic 1) := sd_iconst dd_150_62
theorem dd_150_63 : decode (mi 150).2.1 63 = .ok (.iadd, 1) := by decide +kernel
theorem st_150_63 : Sd 150 63 1 (i_iadd) := sd_iadd dd_150_63
def bk_150_61 : Tr := sq (i_ldI 2) (sq (i_ic 1) (sq (i_iadd) (i_fall 64)))
theorem sb_150_61 : Sd 150 61 3 bk_150_61 := Sd.sq st_150_61 (Sd.sq st_150_62 (Sd.sq st_150_63 (sd_fall rfl)))
theorem dd_150_64 : decode (mi 150).2.1 64 = .ok (.istore_n 2, 1) := by decide +kernel
theorem st_150_64 : Sd 150 64 1 (i_stI 2) := sd_istore_n (j := 2) dd_150_64 rfl
theorem dd_150_65 : decode (mi 150).2.1 65 = .ok (.iinc 3 1, 3) := by decide +kernel
theorem st_150_65 : Sd 150 65 3 (i_inc 3 1) := sd_iinc dd_150_65
theorem dd_150_68 : decode (mi 150).2.1 68 = .ok (.goto (-64), 3) := by decide +kernel
theorem st_150_68 : Sd 150 68 3 (i_goto 4) := sd_goto dd_150_68 (by decide)
def bk_150_64 : Tr := sq (i_stI 2) (sq (i_inc 3 1) (i_goto 4))
theorem sb_150_64 : Sd 150 64 7 bk_150_64 := Sd.sq st_150_64 (Sd.sq st_150_65 (st_150_68))
theorem dd_150_71 : decode (mi 150).2.1 71 = .ok (.iload_n 2, 1) := by decide +kernel
theorem st_150_71 : Sd 150 71 1 (i_ldI 2) := sd_iload_n (j := 2) dd_150_71 rfl
theorem dd_150_72 : decode (mi 150).2.1 72 = .ok (.iload_n 1, 1) := by decide +kernel
theorem st_150_72 : Sd 150 72 1 (i_ldI 1) := sd_iload_n (j := 1) dd_150_72 rfl
theorem dd_150_73 : decode (mi 150).2.1 73 = .ok (.if_icmp .le 19, 3) := by decide +kernel
theorem st_150_73 : Sd 150 73 3 (i_cle 92) := sd_icmp_le dd_150_73 (by decide)
theorem dd_150_76 : decode (mi 150).2.1 76 = .ok (.aload_n 0, 1) := by decide +kernel
theorem st_150_76 : Sd 150 76 1 (i_ldR 0) := sd_aload_n (j := 0) dd_150_76 rfl
theorem dd_150_77 : decode (mi 150).2.1 77 = .ok (.iload_n 2, 1) := by decide +kernel
theorem st_150_77 : Sd 150 77 1 (i_ldI 2) := sd_iload_n (j := 2) dd_150_77 rfl
theorem dd_150_78 : decode (mi 150).2.1 78 = .ok (.invokevirtual 103, 3) := by decide +kernel
theorem st_150_78 : Sd 150 78 3 (i_cV [(2, 129)] 2 4 []) := sd_virt ⟨"ContractDeskModel", "at", "(I)C"⟩ dd_150_78 (by rw [mc_150]; exact tw_1388) (fun t j h => by simp only [List.mem_cons, List.not_mem_nil, or_false, Prod.mk.injEq] at h; obtain ⟨rfl, rfl⟩ := h; exact mn_129) (fun t j h => by simp only [List.mem_cons, List.not_mem_nil, or_false, Prod.mk.injEq] at h; obtain ⟨rfl, rfl⟩ := h; exact ⟨by rw [mn_129]; exact tw_30, by rw [mn_129]; exact tw_1390, mt_129, by decide, by decide⟩) (by unfold prm; decide +kernel) ml_150 (HsOk.nil (by decide +kernel))
theorem dd_150_81 : decode (mi 150).2.1 81 = .ok (.bipush 47, 2) := by decide +kernel
theorem st_150_81 : Sd 150 81 2 (i_ic 47) := sd_bipush dd_150_81 (by decide)
theorem dd_150_83 : decode (mi 150).2.1 83 = .ok (.if_icmp .ne 9, 3) := by decide +kernel
theorem st_150_83 : Sd 150 83 3 (i_cne 92) := sd_icmp_ne dd_150_83 (by decide)
theorem dd_150_86 : decode (mi 150).2.1 86 = .ok (.iload_n 2, 1) := by decide +kernel
theorem st_150_86 : Sd 150 86 1 (i_ldI 2) := sd_iload_n (j := 2) dd_150_86 rfl
theorem dd_150_87 : decode (mi 150).2.1 87 = .ok (.iconst 1, 1) := by decide +kernel
theorem st_150_87 : Sd 150 87 1 (i_ic 1) := sd_iconst dd_150_87
theorem dd_150_88 : decode (mi 150).2.1 88 = .ok (.iadd, 1) := by decide +kernel
theorem st_150_88 : Sd 150 88 1 (i_iadd) := sd_iadd dd_150_88
theorem dd_150_89 : decode (mi 150).2.1 89 = .ok (.goto 4, 3) := by decide +kernel
theorem st_150_89 : Sd 150 89 3 (i_goto 93) := sd_goto dd_150_89 (by decide)
def bk_150_71 : Tr := sq (i_ldI 2) (sq (i_ldI 1) (sq (i_cle 92) (sq (i_ldR 0) (sq (i_ldI 2) (sq (i_cV [(2, 129)] 2 4 []) (sq (i_ic 47) (sq (i_cne 92) (sq (i_ldI 2) (sq (i_ic 1) (sq (i_iadd) (i_goto 93)))))))))))
theorem sb_150_71 : Sd 150 71 21 bk_150_71 := Sd.sq st_150_71 (Sd.sq st_150_72 (Sd.sq st_150_73 (Sd.sq st_150_76 (Sd.sq st_150_77 (Sd.sq st_150_78 (Sd.sq st_150_81 (Sd.sq st_150_83 (Sd.sq st_150_86 (Sd.sq st_150_87 (Sd.sq st_150_88 (st_150_89)))))))))))
theorem dd_150_92 : decode (mi 150).2.1 92 = .ok (.iconst (-1), 1) := by decide +kernel
theorem st_150_92 : Sd 150 92 1 (i_ic (-1)) := sd_iconst dd_150_92
def bk_150_92 : Tr := sq (i_ic (-1)) (i_fall 93)
theorem sb_150_92 : Sd 150 92 1 bk_150_92 := Sd.sq st_150_92 (sd_fall rfl)
theorem dd_150_93 : decode (mi 150).2.1 93 = .ok (.ireturn, 1) := by decide +kernel
theorem st_150_93 : Sd 150 93 1 (i_rI 0) := sd_ireturn dd_150_93 (by decide) mr_150
def bk_150_93 : Tr := i_rI 0
theorem sb_150_93 : Sd 150 93 1 bk_150_93 := st_150_93
theorem dd_151_0 : decode (mi 151).2.1 0 = .ok (.iconst 0, 1) := by decide +kernel
theorem st_151_0 : Sd 151 0 1 (i_ic 0) := sd_iconst dd_151_0
theorem dd_151_1 : decode (mi 151).2.1 1 = .ok (.istore_n 2, 1) := by decide +kernel
theorem st_151_1 : Sd 151 1 1 (i_stI 2) := sd_istore_n (j := 2) dd_151_1 rfl
def bk_151_0 : Tr := sq (i_ic 0) (sq (i_stI 2) (i_fall 2))
theorem sb_151_0 : Sd 151 0 2 bk_151_0 := Sd.sq st_151_0 (Sd.sq st_151_1 (sd_fall rfl))
theorem dd_151_2 : decode (mi 151).2.1 2 = .ok (.iload_n 2, 1) := by decide +kernel
theorem st_151_2 : Sd 151 2 1 (i_ldI 2) := sd_iload_n (j := 2) dd_151_2 rfl
theorem dd_151_3 : decode (mi 151).2.1 3 = .ok (.aload_n 0, 1) := by decide +kernel
theorem st_151_3 : Sd 151 3 1 (i_ldR 0) := sd_aload_n (j := 0) dd_151_3 rfl
theorem dd_151_4 : decode (mi 151).2.1 4 = .ok (.getfield 97, 3) := by decide +kernel
theorem st_151_4 : Sd 151 4 3 (i_gI 2 [2]) := sd_gI (ref := "ContractDeskModel") (decl := "ContractDeskModel") (name := "typed") (desc := "I") dd_151_4 (by rw [mc_151]; exact tw_1262) (Or.inl rfl) (by decide +kernel)
theorem dd_151_7 : decode (mi 151).2.1 7 = .ok (.if_icmp .ge 27, 3) := by decide +kernel
theorem st_151_7 : Sd 151 7 3 (i_cge 34) := sd_icmp_ge dd_151_7 (by decide)
theorem dd_151_10 : decode (mi 151).2.1 10 = .ok (.aload_n 0, 1) := by decide +kernel
theorem st_151_10 : Sd 151 10 1 (i_ldR 0) := sd_aload_n (j := 0) dd_151_10 rfl
theorem dd_151_11 : decode (mi 151).2.1 11 = .ok (.getfield 7, 3) := by decide +kernel
theorem st_151_11 : Sd 151 11 3 (i_gR 1 [2]) := sd_gR (ref := "ContractDeskModel") (decl := "ContractDeskModel") (name := "all") (desc := "[C") dd_151_11 (by rw [mc_151]; exact tw_1261) (Or.inl rfl) (by decide +kernel)
theorem dd_151_14 : decode (mi 151).2.1 14 = .ok (.iload_n 1, 1) := by decide +kernel
theorem st_151_14 : Sd 151 14 1 (i_ldI 1) := sd_iload_n (j := 1) dd_151_14 rfl
theorem dd_151_15 : decode (mi 151).2.1 15 = .ok (.iload_n 2, 1) := by decide +kernel
theorem st_151_15 : Sd 151 15 1 (i_ldI 2) := sd_iload_n (j := 2) dd_151_15 rfl
theorem dd_151_16 : decode (mi 151).2.1 16 = .ok (.iadd, 1) := by decide +kernel
theorem st_151_16 : Sd 151 16 1 (i_iadd) := sd_iadd dd_151_16
theorem dd_151_17 : decode (mi 151).2.1 17 = .ok (.aload_n 0, 1) := by decide +kernel
theorem st_151_17 : Sd 151 17 1 (i_ldR 0) := sd_aload_n (j := 0) dd_151_17 rfl
theorem dd_151_18 : decode (mi 151).2.1 18 = .ok (.getfield 7, 3) := by decide +kernel
theorem st_151_18 : Sd 151 18 3 (i_gR 1 [2]) := sd_gR (ref := "ContractDeskModel") (decl := "ContractDeskModel") (name := "all") (desc := "[C") dd_151_18 (by rw [mc_151]; exact tw_1261) (Or.inl rfl) (by decide +kernel)
theorem dd_151_21 : decode (mi 151).2.1 21 = .ok (.sipush 400, 3) := by decide +kernel
theorem st_151_21 : Sd 151 21 3 (i_ic 400) := sd_sipush dd_151_21 (by decide)
theorem dd_151_24 : decode (mi 151).2.1 24 = .ok (.iload_n 2, 1) := by decide +kernel
theorem st_151_24 : Sd 151 24 1 (i_ldI 2) := sd_iload_n (j := 2) dd_151_24 rfl
theorem dd_151_25 : decode (mi 151).2.1 25 = .ok (.iadd, 1) := by decide +kernel
theorem st_151_25 : Sd 151 25 1 (i_iadd) := sd_iadd dd_151_25
theorem dd_151_26 : decode (mi 151).2.1 26 = .ok (.caload, 1) := by decide +kernel
theorem st_151_26 : Sd 151 26 1 (i_aI [21]) := sd_caload dd_151_26 (by decide)
theorem dd_151_27 : decode (mi 151).2.1 27 = .ok (.castore, 1) := by decide +kernel
theorem st_151_27 : Sd 151 27 1 (i_sI [21] 1) := sd_castore dd_151_27 (by decide)
theorem dd_151_28 : decode (mi 151).2.1 28 = .ok (.iinc 2 1, 3) := by decide +kernel
theorem st_151_28 : Sd 151 28 3 (i_inc 2 1) := sd_iinc dd_151_28
theorem dd_151_31 : decode (mi 151).2.1 31 = .ok (.goto (-29), 3) := by decide +kernel
theorem st_151_31 : Sd 151 31 3 (i_goto 2) := sd_goto dd_151_31 (by decide)
def bk_151_2 : Tr := sq (i_ldI 2) (sq (i_ldR 0) (sq (i_gI 2 [2]) (sq (i_cge 34) (sq (i_ldR 0) (sq (i_gR 1 [2]) (sq (i_ldI 1) (sq (i_ldI 2) (sq (i_iadd) (sq (i_ldR 0) (sq (i_gR 1 [2]) (sq (i_ic 400) (sq (i_ldI 2) (sq (i_iadd) (sq (i_aI [21]) (sq (i_sI [21] 1) (sq (i_inc 2 1) (i_goto 2)))))))))))))))))
theorem sb_151_2 : Sd 151 2 32 bk_151_2 := Sd.sq st_151_2 (Sd.sq st_151_3 (Sd.sq st_151_4 (Sd.sq st_151_7 (Sd.sq st_151_10 (Sd.sq st_151_11 (Sd.sq st_151_14 (Sd.sq st_151_15 (Sd.sq st_151_16 (Sd.sq st_151_17 (Sd.sq st_151_18 (Sd.sq st_151_21 (Sd.sq st_151_24 (Sd.sq st_151_25 (Sd.sq st_151_26 (Sd.sq st_151_27 (Sd.sq st_151_28 (st_151_31)))))))))))))))))
theorem dd_151_34 : decode (mi 151).2.1 34 = .ok (.aload_n 0, 1) := by decide +kernel
theorem st_151_34 : Sd 151 34 1 (i_ldR 0) := sd_aload_n (j := 0) dd_151_34 rfl
theorem dd_151_35 : decode (mi 151).2.1 35 = .ok (.getfield 97, 3) := by decide +kernel
theorem st_151_35 : Sd 151 35 3 (i_gI 2 [2]) := sd_gI (ref := "ContractDeskModel") (decl := "ContractDeskModel") (name := "typed") (desc := "I") dd_151_35 (by rw [mc_151]; exact tw_1262) (Or.inl rfl) (by decide +kernel)
theorem dd_151_38 : decode (mi 151).2.1 38 = .ok (.bipush 100, 2) := by decide +kernel
theorem st_151_38 : Sd 151 38 2 (i_ic 100) := sd_bipush dd_151_38 (by decide)
theorem dd_151_40 : decode (mi 151).2.1 40 = .ok (.if_icmp .ge 15, 3) := by decide +kernel
theorem st_151_40 : Sd 151 40 3 (i_cge 55) := sd_icmp_ge dd_151_40 (by decide)
theorem dd_151_43 : decode (mi 151).2.1 43 = .ok (.aload_n 0, 1) := by decide +kernel
theorem st_151_43 : Sd 151 43 1 (i_ldR 0) := sd_aload_n (j := 0) dd_151_43 rfl
theorem dd_151_44 : decode (mi 151).2.1 44 = .ok (.getfield 7, 3) := by decide +kernel
theorem st_151_44 : Sd 151 44 3 (i_gR 1 [2]) := sd_gR (ref := "ContractDeskModel") (decl := "ContractDeskModel") (name := "all") (desc := "[C") dd_151_44 (by rw [mc_151]; exact tw_1261) (Or.inl rfl) (by decide +kernel)
theorem dd_151_47 : decode (mi 151).2.1 47 = .ok (.iload_n 1, 1) := by decide +kernel
theorem st_151_47 : Sd 151 47 1 (i_ldI 1) := sd_iload_n (j := 1) dd_151_47 rfl
theorem dd_151_48 : decode (mi 151).2.1 48 = .ok (.aload_n 0, 1) := by decide +kernel
theorem st_151_48 : Sd 151 48 1 (i_ldR 0) := sd_aload_n (j := 0) dd_151_48 rfl
theorem dd_151_49 : decode (mi 151).2.1 49 = .ok (.getfield 97, 3) := by decide +kernel
theorem st_151_49 : Sd 151 49 3 (i_gI 2 [2]) := sd_gI (ref := "ContractDeskModel") (decl := "ContractDeskModel") (name := "typed") (desc := "I") dd_151_49 (by rw [mc_151]; exact tw_1262) (Or.inl rfl) (by decide +kernel)
theorem dd_151_52 : decode (mi 151).2.1 52 = .ok (.iadd, 1) := by decide +kernel
theorem st_151_52 : Sd 151 52 1 (i_iadd) := sd_iadd dd_151_52
theorem dd_151_53 : decode (mi 151).2.1 53 = .ok (.iconst 0, 1) := by decide +kernel
theorem st_151_53 : Sd 151 53 1 (i_ic 0) := sd_iconst dd_151_53
theorem dd_151_54 : decode (mi 151).2.1 54 = .ok (.castore, 1) := by decide +kernel
theorem st_151_54 : Sd 151 54 1 (i_sI [21] 1) := sd_castore dd_151_54 (by decide)
def bk_151_34 : Tr := sq (i_ldR 0) (sq (i_gI 2 [2]) (sq (i_ic 100) (sq (i_cge 55) (sq (i_ldR 0) (sq (i_gR 1 [2]) (sq (i_ldI 1) (sq (i_ldR 0) (sq (i_gI 2 [2]) (sq (i_iadd) (sq (i_ic 0) (sq (i_sI [21] 1) (i_fall 55))))))))))))
theorem sb_151_34 : Sd 151 34 21 bk_151_34 := Sd.sq st_151_34 (Sd.sq st_151_35 (Sd.sq st_151_38 (Sd.sq st_151_40 (Sd.sq st_151_43 (Sd.sq st_151_44 (Sd.sq st_151_47 (Sd.sq st_151_48 (Sd.sq st_151_49 (Sd.sq st_151_52 (Sd.sq st_151_53 (Sd.sq st_151_54 (sd_fall rfl))))))))))))
theorem dd_151_55 : decode (mi 151).2.1 55 = .ok (.return_, 1) := by decide +kernel
theorem st_151_55 : Sd 151 55 1 (i_ret) := sd_ret dd_151_55 mr_151
def bk_151_55 : Tr := i_ret
theorem sb_151_55 : Sd 151 55 1 bk_151_55 := st_151_55
theorem dd_152_0 : decode (mi 152).2.1 0 = .ok (.aload_n 0, 1) := by decide +kernel
theorem st_152_0 : Sd 152 0 1 (i_ldR 0) := sd_aload_n (j := 0) dd_152_0 rfl
theorem dd_152_1 : decode (mi 152).2.1 1 = .ok (.getfield 7, 3) := by decide +kernel
theorem st_152_1 : Sd 152 1 3 (i_gR 1 [2]) := sd_gR (ref := "ContractDeskModel") (decl := "ContractDeskModel") (name := "all") (desc := "[C") dd_152_1 (by rw [mc_152]; exact tw_1261) (Or.inl rfl) (by decide +kernel)
theorem dd_152_4 : decode (mi 152).2.1 4 = .ok (.iload_n 1, 1) := by decide +kernel
theorem st_152_4 : Sd 152 4 1 (i_ldI 1) := sd_iload_n (j := 1) dd_152_4 rfl
theorem dd_152_5 : decode (mi 152).2.1 5 = .ok (.caload, 1) := by decide +kernel
theorem st_152_5 : Sd 152 5 1 (i_aI [21]) := sd_caload dd_152_5 (by decide)
theorem dd_152_6 : decode (mi 152).2.1 6 = .ok (.istore_n 2, 1) := by decide +kernel
theorem st_152_6 : Sd 152 6 1 (i_stI 2) := sd_istore_n (j := 2) dd_152_6 rfl
theorem dd_152_7 : decode (mi 152).2.1 7 = .ok (.iload_n 2, 1) := by decide +kernel
theorem st_152_7 : Sd 152 7 1 (i_ldI 2) := sd_iload_n (j := 2) dd_152_7 rfl
theorem dd_152_8 : decode (mi 152).2.1 8 = .ok (.bipush 110, 2) := by decide +kernel
theorem st_152_8 : Sd 152 8 2 (i_ic 110) := sd_bipush dd_152_8 (by decide)
theorem dd_152_10 : decode (mi 152).2.1 10 = .ok (.if_icmp .ne 7, 3) := by decide +kernel
theorem st_152_10 : Sd 152 10 3 (i_cne 17) := sd_icmp_ne dd_152_10 (by decide)
theorem dd_152_13 : decode (mi 152).2.1 13 = .ok (.iconst 0, 1) := by decide +kernel
theorem st_152_13 : Sd 152 13 1 (i_ic 0) := sd_iconst dd_152_13
theorem dd_152_14 : decode (mi 152).2.1 14 = .ok (.goto 50, 3) := by decide +kernel
theorem st_152_14 : Sd 152 14 3 (i_goto 64) := sd_goto dd_152_14 (by decide)
def bk_152_0 : Tr := sq (i_ldR 0) (sq (i_gR 1 [2]) (sq (i_ldI 1) (sq (i_aI [21]) (sq (i_stI 2) (sq (i_ldI 2) (sq (i_ic 110) (sq (i_cne 17) (sq (i_ic 0) (i_goto 64)))))))))
theorem sb_152_0 : Sd 152 0 17 bk_152_0 := Sd.sq st_152_0 (Sd.sq st_152_1 (Sd.sq st_152_4 (Sd.sq st_152_5 (Sd.sq st_152_6 (Sd.sq st_152_7 (Sd.sq st_152_8 (Sd.sq st_152_10 (Sd.sq st_152_13 (st_152_14)))))))))
theorem dd_152_17 : decode (mi 152).2.1 17 = .ok (.iload_n 2, 1) := by decide +kernel
theorem st_152_17 : Sd 152 17 1 (i_ldI 2) := sd_iload_n (j := 2) dd_152_17 rfl
theorem dd_152_18 : decode (mi 152).2.1 18 = .ok (.bipush 116, 2) := by decide +kernel
theorem st_152_18 : Sd 152 18 2 (i_ic 116) := sd_bipush dd_152_18 (by decide)
theorem dd_152_20 : decode (mi 152).2.1 20 = .ok (.if_icmp .eq 9, 3) := by decide +kernel
theorem st_152_20 : Sd 152 20 3 (i_ceq 29) := sd_icmp_eq dd_152_20 (by decide)
theorem dd_152_23 : decode (mi 152).2.1 23 = .ok (.iload_n 2, 1) := by decide +kernel
theorem st_152_23 : Sd 152 23 1 (i_ldI 2) := sd_iload_n (j := 2) dd_152_23 rfl
theorem dd_152_24 : decode (mi 152).2.1 24 = .ok (.bipush 102, 2) := by decide +kernel
theorem st_152_24 : Sd 152 24 2 (i_ic 102) := sd_bipush dd_152_24 (by decide)
theorem dd_152_26 : decode (mi 152).2.1 26 = .ok (.if_icmp .ne 7, 3) := by decide +kernel
theorem st_152_26 : Sd 152 26 3 (i_cne 33) := sd_icmp_ne dd_152_26 (by decide)
def bk_152_17 : Tr := sq (i_ldI 2) (sq (i_ic 116) (sq (i_ceq 29) (sq (i_ldI 2) (sq (i_ic 102) (sq (i_cne 33) (i_fall 29))))))
theorem sb_152_17 : Sd 152 17 12 bk_152_17 := Sd.sq st_152_17 (Sd.sq st_152_18 (Sd.sq st_152_20 (Sd.sq st_152_23 (Sd.sq st_152_24 (Sd.sq st_152_26 (sd_fall rfl))))))
theorem dd_152_29 : decode (mi 152).2.1 29 = .ok (.iconst 1, 1) := by decide +kernel
theorem st_152_29 : Sd 152 29 1 (i_ic 1) := sd_iconst dd_152_29
theorem dd_152_30 : decode (mi 152).2.1 30 = .ok (.goto 34, 3) := by decide +kernel
theorem st_152_30 : Sd 152 30 3 (i_goto 64) := sd_goto dd_152_30 (by decide)
def bk_152_29 : Tr := sq (i_ic 1) (i_goto 64)
theorem sb_152_29 : Sd 152 29 4 bk_152_29 := Sd.sq st_152_29 (st_152_30)
theorem dd_152_33 : decode (mi 152).2.1 33 = .ok (.iload_n 2, 1) := by decide +kernel
theorem st_152_33 : Sd 152 33 1 (i_ldI 2) := sd_iload_n (j := 2) dd_152_33 rfl
theorem dd_152_34 : decode (mi 152).2.1 34 = .ok (.bipush 34, 2) := by decide +kernel
theorem st_152_34 : Sd 152 34 2 (i_ic 34) := sd_bipush dd_152_34 (by decide)
theorem dd_152_36 : decode (mi 152).2.1 36 = .ok (.if_icmp .ne 7, 3) := by decide +kernel
theorem st_152_36 : Sd 152 36 3 (i_cne 43) := sd_icmp_ne dd_152_36 (by decide)
theorem dd_152_39 : decode (mi 152).2.1 39 = .ok (.iconst 3, 1) := by decide +kernel
theorem st_152_39 : Sd 152 39 1 (i_ic 3) := sd_iconst dd_152_39
theorem dd_152_40 : decode (mi 152).2.1 40 = .ok (.goto 24, 3) := by decide +kernel
theorem st_152_40 : Sd 152 40 3 (i_goto 64) := sd_goto dd_152_40 (by decide)
def bk_152_33 : Tr := sq (i_ldI 2) (sq (i_ic 34) (sq (i_cne 43) (sq (i_ic 3) (i_goto 64))))
theorem sb_152_33 : Sd 152 33 10 bk_152_33 := Sd.sq st_152_33 (Sd.sq st_152_34 (Sd.sq st_152_36 (Sd.sq st_152_39 (st_152_40))))
theorem dd_152_43 : decode (mi 152).2.1 43 = .ok (.iload_n 2, 1) := by decide +kernel
theorem st_152_43 : Sd 152 43 1 (i_ldI 2) := sd_iload_n (j := 2) dd_152_43 rfl
theorem dd_152_44 : decode (mi 152).2.1 44 = .ok (.bipush 91, 2) := by decide +kernel
theorem st_152_44 : Sd 152 44 2 (i_ic 91) := sd_bipush dd_152_44 (by decide)
theorem dd_152_46 : decode (mi 152).2.1 46 = .ok (.if_icmp .ne 7, 3) := by decide +kernel
theorem st_152_46 : Sd 152 46 3 (i_cne 53) := sd_icmp_ne dd_152_46 (by decide)
theorem dd_152_49 : decode (mi 152).2.1 49 = .ok (.iconst 4, 1) := by decide +kernel
theorem st_152_49 : Sd 152 49 1 (i_ic 4) := sd_iconst dd_152_49
theorem dd_152_50 : decode (mi 152).2.1 50 = .ok (.goto 14, 3) := by decide +kernel
theorem st_152_50 : Sd 152 50 3 (i_goto 64) := sd_goto dd_152_50 (by decide)
def bk_152_43 : Tr := sq (i_ldI 2) (sq (i_ic 91) (sq (i_cne 53) (sq (i_ic 4) (i_goto 64))))
theorem sb_152_43 : Sd 152 43 10 bk_152_43 := Sd.sq st_152_43 (Sd.sq st_152_44 (Sd.sq st_152_46 (Sd.sq st_152_49 (st_152_50))))
theorem dd_152_53 : decode (mi 152).2.1 53 = .ok (.iload_n 2, 1) := by decide +kernel
theorem st_152_53 : Sd 152 53 1 (i_ldI 2) := sd_iload_n (j := 2) dd_152_53 rfl
theorem dd_152_54 : decode (mi 152).2.1 54 = .ok (.bipush 123, 2) := by decide +kernel
theorem st_152_54 : Sd 152 54 2 (i_ic 123) := sd_bipush dd_152_54 (by decide)
theorem dd_152_56 : decode (mi 152).2.1 56 = .ok (.if_icmp .ne 7, 3) := by decide +kernel
theorem st_152_56 : Sd 152 56 3 (i_cne 63) := sd_icmp_ne dd_152_56 (by decide)
theorem dd_152_59 : decode (mi 152).2.1 59 = .ok (.iconst 5, 1) := by decide +kernel
theorem st_152_59 : Sd 152 59 1 (i_ic 5) := sd_iconst dd_152_59
theorem dd_152_60 : decode (mi 152).2.1 60 = .ok (.goto 4, 3) := by decide +kernel
theorem st_152_60 : Sd 152 60 3 (i_goto 64) := sd_goto dd_152_60 (by decide)
def bk_152_53 : Tr := sq (i_ldI 2) (sq (i_ic 123) (sq (i_cne 63) (sq (i_ic 5) (i_goto 64))))
theorem sb_152_53 : Sd 152 53 10 bk_152_53 := Sd.sq st_152_53 (Sd.sq st_152_54 (Sd.sq st_152_56 (Sd.sq st_152_59 (st_152_60))))
theorem dd_152_63 : decode (mi 152).2.1 63 = .ok (.iconst 2, 1) := by decide +kernel
theorem st_152_63 : Sd 152 63 1 (i_ic 2) := sd_iconst dd_152_63
def bk_152_63 : Tr := sq (i_ic 2) (i_fall 64)
theorem sb_152_63 : Sd 152 63 1 bk_152_63 := Sd.sq st_152_63 (sd_fall rfl)
theorem dd_152_64 : decode (mi 152).2.1 64 = .ok (.ireturn, 1) := by decide +kernel
theorem st_152_64 : Sd 152 64 1 (i_rI 0) := sd_ireturn dd_152_64 (by decide) mr_152
def bk_152_64 : Tr := i_rI 0
theorem sb_152_64 : Sd 152 64 1 bk_152_64 := st_152_64
theorem dd_153_0 : decode (mi 153).2.1 0 = .ok (.aload_n 0, 1) := by decide +kernel
theorem st_153_0 : Sd 153 0 1 (i_ldR 0) := sd_aload_n (j := 0) dd_153_0 rfl
theorem dd_153_1 : decode (mi 153).2.1 1 = .ok (.iconst 0, 1) := by decide +kernel
theorem st_153_1 : Sd 153 1 1 (i_ic 0) := sd_iconst dd_153_1
theorem dd_153_2 : decode (mi 153).2.1 2 = .ok (.putfield 180, 3) := by decide +kernel
theorem st_153_2 : Sd 153 2 3 (i_pI 27 [2] 0) := sd_pI (ref := "ContractDeskModel") (decl := "ContractDeskModel") (name := "steps") (desc := "I") dd_153_2 (by rw [mc_153]; exact tw_1287) (Or.inl rfl) (by decide +kernel) (by decide +kernel) (by decide)
theorem dd_153_5 : decode (mi 153).2.1 5 = .ok (.iload_n 1, 1) := by decide +kernel
theorem st_153_5 : Sd 153 5 1 (i_ldI 1) := sd_iload_n (j := 1) dd_153_5 rfl
theorem dd_153_6 : decode (mi 153).2.1 6 = .ok (.istore_n 2, 1) := by decide +kernel
theorem st_153_6 : Sd 153 6 1 (i_stI 2) := sd_istore_n (j := 2) dd_153_6 rfl
def bk_153_0 : Tr := sq (i_ldR 0) (sq (i_ic 0) (sq (i_pI 27 [2] 0) (sq (i_ldI 1) (sq (i_stI 2) (i_fall 7)))))
theorem sb_153_0 : Sd 153 0 7 bk_153_0 := Sd.sq st_153_0 (Sd.sq st_153_1 (Sd.sq st_153_2 (Sd.sq st_153_5 (Sd.sq st_153_6 (sd_fall rfl)))))
theorem dd_153_7 : decode (mi 153).2.1 7 = .ok (.iload_n 2, 1) := by decide +kernel
theorem st_153_7 : Sd 153 7 1 (i_ldI 2) := sd_iload_n (j := 2) dd_153_7 rfl
theorem dd_153_8 : decode (mi 153).2.1 8 = .ok (.ifCond .le 23, 3) := by decide +kernel
theorem st_153_8 : Sd 153 8 3 (i_zle 31) := sd_if_le dd_153_8 (by decide)
theorem dd_153_11 : decode (mi 153).2.1 11 = .ok (.aload_n 0, 1) := by decide +kernel
theorem st_153_11 : Sd 153 11 1 (i_ldR 0) := sd_aload_n (j := 0) dd_153_11 rfl
theorem dd_153_12 : decode (mi 153).2.1 12 = .ok (.dup, 1) := by decide +kernel
theorem st_153_12 : Sd 153 12 1 (i_dup) := sd_dup dd_153_12
theorem dd_153_13 : decode (mi 153).2.1 13 = .ok (.getfield 180, 3) := by decide +kernel
theorem st_153_13 : Sd 153 13 3 (i_gI 27 [2]) := sd_gI (ref := "ContractDeskModel") (decl := "ContractDeskModel") (name := "steps") (desc := "I") dd_153_13 (by rw [mc_153]; exact tw_1287) (Or.inl rfl) (by decide +kernel)
theorem dd_153_16 : decode (mi 153).2.1 16 = .ok (.iconst 1, 1) := by decide +kernel
theorem st_153_16 : Sd 153 16 1 (i_ic 1) := sd_iconst dd_153_16
theorem dd_153_17 : decode (mi 153).2.1 17 = .ok (.iadd, 1) := by decide +kernel
theorem st_153_17 : Sd 153 17 1 (i_iadd) := sd_iadd dd_153_17
theorem dd_153_18 : decode (mi 153).2.1 18 = .ok (.putfield 180, 3) := by decide +kernel
theorem st_153_18 : Sd 153 18 3 (i_pI 27 [2] 0) := sd_pI (ref := "ContractDeskModel") (decl := "ContractDeskModel") (name := "steps") (desc := "I") dd_153_18 (by rw [mc_153]; exact tw_1287) (Or.inl rfl) (by decide +kernel) (by decide +kernel) (by decide)
theorem dd_153_21 : decode (mi 153).2.1 21 = .ok (.aload_n 0, 1) := by decide +kernel
theorem st_153_21 : Sd 153 21 1 (i_ldR 0) := sd_aload_n (j := 0) dd_153_21 rfl
theorem dd_153_22 : decode (mi 153).2.1 22 = .ok (.getfield 54, 3) := by decide +kernel
theorem st_153_22 : Sd 153 22 3 (i_gR 20 [2]) := sd_gR (ref := "ContractDeskModel") (decl := "ContractDeskModel") (name := "around") (desc := "[I") dd_153_22 (by rw [mc_153]; exact tw_1280) (Or.inl rfl) (by decide +kernel)
theorem dd_153_25 : decode (mi 153).2.1 25 = .ok (.iload_n 2, 1) := by decide +kernel
theorem st_153_25 : Sd 153 25 1 (i_ldI 2) := sd_iload_n (j := 2) dd_153_25 rfl
theorem dd_153_26 : decode (mi 153).2.1 26 = .ok (.iaload, 1) := by decide +kernel
theorem st_153_26 : Sd 153 26 1 (i_aI [20]) := sd_iaload dd_153_26 (by decide)
theorem dd_153_27 : decode (mi 153).2.1 27 = .ok (.istore_n 2, 1) := by decide +kernel
theorem st_153_27 : Sd 153 27 1 (i_stI 2) := sd_istore_n (j := 2) dd_153_27 rfl
theorem dd_153_28 : decode (mi 153).2.1 28 = .ok (.goto (-21), 3) := by decide +kernel
theorem st_153_28 : Sd 153 28 3 (i_goto 7) := sd_goto dd_153_28 (by decide)
def bk_153_7 : Tr := sq (i_ldI 2) (sq (i_zle 31) (sq (i_ldR 0) (sq (i_dup) (sq (i_gI 27 [2]) (sq (i_ic 1) (sq (i_iadd) (sq (i_pI 27 [2] 0) (sq (i_ldR 0) (sq (i_gR 20 [2]) (sq (i_ldI 2) (sq (i_aI [20]) (sq (i_stI 2) (i_goto 7)))))))))))))
theorem sb_153_7 : Sd 153 7 24 bk_153_7 := Sd.sq st_153_7 (Sd.sq st_153_8 (Sd.sq st_153_11 (Sd.sq st_153_12 (Sd.sq st_153_13 (Sd.sq st_153_16 (Sd.sq st_153_17 (Sd.sq st_153_18 (Sd.sq st_153_21 (Sd.sq st_153_22 (Sd.sq st_153_25 (Sd.sq st_153_26 (Sd.sq st_153_27 (st_153_28)))))))))))))
theorem dd_153_31 : decode (mi 153).2.1 31 = .ok (.aload_n 0, 1) := by decide +kernel
theorem st_153_31 : Sd 153 31 1 (i_ldR 0) := sd_aload_n (j := 0) dd_153_31 rfl
theorem dd_153_32 : decode (mi 153).2.1 32 = .ok (.getfield 180, 3) := by decide +kernel
theorem st_153_32 : Sd 153 32 3 (i_gI 27 [2]) := sd_gI (ref := "ContractDeskModel") (decl := "ContractDeskModel") (name := "steps") (desc := "I") dd_153_32 (by rw [mc_153]; exact tw_1287) (Or.inl rfl) (by decide +kernel)
theorem dd_153_35 : decode (mi 153).2.1 35 = .ok (.istore_n 2, 1) := by decide +kernel
theorem st_153_35 : Sd 153 35 1 (i_stI 2) := sd_istore_n (j := 2) dd_153_35 rfl
theorem dd_153_36 : decode (mi 153).2.1 36 = .ok (.iload_n 1, 1) := by decide +kernel
theorem st_153_36 : Sd 153 36 1 (i_ldI 1) := sd_iload_n (j := 1) dd_153_36 rfl
theorem dd_153_37 : decode (mi 153).2.1 37 = .ok (.istore_n 3, 1) := by decide +kernel
theorem st_153_37 : Sd 153 37 1 (i_stI 3) := sd_istore_n (j := 3) dd_153_37 rfl
def bk_153_31 : Tr := sq (i_ldR 0) (sq (i_gI 27 [2]) (sq (i_stI 2) (sq (i_ldI 1) (sq (i_stI 3) (i_fall 38)))))
theorem sb_153_31 : Sd 153 31 7 bk_153_31 := Sd.sq st_153_31 (Sd.sq st_153_32 (Sd.sq st_153_35 (Sd.sq st_153_36 (Sd.sq st_153_37 (sd_fall rfl)))))
theorem dd_153_38 : decode (mi 153).2.1 38 = .ok (.iload_n 3, 1) := by decide +kernel
theorem st_153_38 : Sd 153 38 1 (i_ldI 3) := sd_iload_n (j := 3) dd_153_38 rfl
theorem dd_153_39 : decode (mi 153).2.1 39 = .ok (.ifCond .le 28, 3) := by decide +kernel
theorem st_153_39 : Sd 153 39 3 (i_zle 67) := sd_if_le dd_153_39 (by decide)
theorem dd_153_42 : decode (mi 153).2.1 42 = .ok (.iinc 2 (-1), 3) := by decide +kernel
theorem st_153_42 : Sd 153 42 3 (i_inc 2 (-1)) := sd_iinc dd_153_42
theorem dd_153_45 : decode (mi 153).2.1 45 = .ok (.aload_n 0, 1) := by decide +kernel
theorem st_153_45 : Sd 153 45 1 (i_ldR 0) := sd_aload_n (j := 0) dd_153_45 rfl
theorem dd_153_46 : decode (mi 153).2.1 46 = .ok (.getfield 72, 3) := by decide +kernel
theorem st_153_46 : Sd 153 46 3 (i_gR 28 [2]) := sd_gR (ref := "ContractDeskModel") (decl := "ContractDeskModel") (name := "stepRow") (desc := "[I") dd_153_46 (by rw [mc_153]; exact tw_1288) (Or.inl rfl) (by decide +kernel)
theorem dd_153_49 : decode (mi 153).2.1 49 = .ok (.iload_n 2, 1) := by decide +kernel
theorem st_153_49 : Sd 153 49 1 (i_ldI 2) := sd_iload_n (j := 2) dd_153_49 rfl
theorem dd_153_50 : decode (mi 153).2.1 50 = .ok (.aload_n 0, 1) := by decide +kernel
theorem st_153_50 : Sd 153 50 1 (i_ldR 0) := sd_aload_n (j := 0) dd_153_50 rfl
theorem dd_153_51 : decode (mi 153).2.1 51 = .ok (.getfield 57, 3) := by decide +kernel
theorem st_153_51 : Sd 153 51 3 (i_gR 21 [2]) := sd_gR (ref := "ContractDeskModel") (decl := "ContractDeskModel") (name := "step") (desc := "[I") dd_153_51 (by rw [mc_153]; exact tw_1281) (Or.inl rfl) (by decide +kernel)
theorem dd_153_54 : decode (mi 153).2.1 54 = .ok (.iload_n 3, 1) := by decide +kernel
theorem st_153_54 : Sd 153 54 1 (i_ldI 3) := sd_iload_n (j := 3) dd_153_54 rfl
theorem dd_153_55 : decode (mi 153).2.1 55 = .ok (.iaload, 1) := by decide +kernel
theorem st_153_55 : Sd 153 55 1 (i_aI [20]) := sd_iaload dd_153_55 (by decide)
theorem dd_153_56 : decode (mi 153).2.1 56 = .ok (.iastore, 1) := by decide +kernel
theorem st_153_56 : Sd 153 56 1 (i_sI [20] 0) := sd_iastore dd_153_56 (by decide)
theorem dd_153_57 : decode (mi 153).2.1 57 = .ok (.aload_n 0, 1) := by decide +kernel
theorem st_153_57 : Sd 153 57 1 (i_ldR 0) := sd_aload_n (j := 0) dd_153_57 rfl
theorem dd_153_58 : decode (mi 153).2.1 58 = .ok (.getfield 54, 3) := by decide +kernel
theorem st_153_58 : Sd 153 58 3 (i_gR 20 [2]) := sd_gR (ref := "ContractDeskModel") (decl := "ContractDeskModel") (name := "around") (desc := "[I") dd_153_58 (by rw [mc_153]; exact tw_1280) (Or.inl rfl) (by decide +kernel)
theorem dd_153_61 : decode (mi 153).2.1 61 = .ok (.iload_n 3, 1) := by decide +kernel
theorem st_153_61 : Sd 153 61 1 (i_ldI 3) := sd_iload_n (j := 3) dd_153_61 rfl
theorem dd_153_62 : decode (mi 153).2.1 62 = .ok (.iaload, 1) := by decide +kernel
theorem st_153_62 : Sd 153 62 1 (i_aI [20]) := sd_iaload dd_153_62 (by decide)
theorem dd_153_63 : decode (mi 153).2.1 63 = .ok (.istore_n 3, 1) := by decide +kernel
theorem st_153_63 : Sd 153 63 1 (i_stI 3) := sd_istore_n (j := 3) dd_153_63 rfl
theorem dd_153_64 : decode (mi 153).2.1 64 = .ok (.goto (-26), 3) := by decide +kernel
theorem st_153_64 : Sd 153 64 3 (i_goto 38) := sd_goto dd_153_64 (by decide)
def bk_153_38 : Tr := sq (i_ldI 3) (sq (i_zle 67) (sq (i_inc 2 (-1)) (sq (i_ldR 0) (sq (i_gR 28 [2]) (sq (i_ldI 2) (sq (i_ldR 0) (sq (i_gR 21 [2]) (sq (i_ldI 3) (sq (i_aI [20]) (sq (i_sI [20] 0) (sq (i_ldR 0) (sq (i_gR 20 [2]) (sq (i_ldI 3) (sq (i_aI [20]) (sq (i_stI 3) (i_goto 38))))))))))))))))
theorem sb_153_38 : Sd 153 38 29 bk_153_38 := Sd.sq st_153_38 (Sd.sq st_153_39 (Sd.sq st_153_42 (Sd.sq st_153_45 (Sd.sq st_153_46 (Sd.sq st_153_49 (Sd.sq st_153_50 (Sd.sq st_153_51 (Sd.sq st_153_54 (Sd.sq st_153_55 (Sd.sq st_153_56 (Sd.sq st_153_57 (Sd.sq st_153_58 (Sd.sq st_153_61 (Sd.sq st_153_62 (Sd.sq st_153_63 (st_153_64))))))))))))))))
theorem dd_153_67 : decode (mi 153).2.1 67 = .ok (.return_, 1) := by decide +kernel
theorem st_153_67 : Sd 153 67 1 (i_ret) := sd_ret dd_153_67 mr_153
def bk_153_67 : Tr := i_ret
theorem sb_153_67 : Sd 153 67 1 bk_153_67 := st_153_67
theorem dd_154_0 : decode (mi 154).2.1 0 = .ok (.aload_n 0, 1) := by decide +kernel
theorem st_154_0 : Sd 154 0 1 (i_ldR 0) := sd_aload_n (j := 0) dd_154_0 rfl
theorem dd_154_1 : decode (mi 154).2.1 1 = .ok (.iconst 0, 1) := by decide +kernel
theorem st_154_1 : Sd 154 1 1 (i_ic 0) := sd_iconst dd_154_1
theorem dd_154_2 : decode (mi 154).2.1 2 = .ok (.putfield 93, 3) := by decide +kernel
theorem st_154_2 : Sd 154 2 3 (i_pI 0 [2] 0) := sd_pI (ref := "ContractDeskModel") (decl := "ContractDeskModel") (name := "thrown") (desc := "I") dd_154_2 (by rw [mc_154]; exact tw_1260) (Or.inl rfl) (by decide +kernel) (by decide +kernel) (by decide)
theorem dd_154_5 : decode (mi 154).2.1 5 = .ok (.iload_n 1, 1) := by decide +kernel
theorem st_154_5 : Sd 154 5 1 (i_ldI 1) := sd_iload_n (j := 1) dd_154_5 rfl
theorem dd_154_6 : decode (mi 154).2.1 6 = .ok (.ifCond .lt 39, 3) := by decide +kernel
theorem st_154_6 : Sd 154 6 3 (i_zlt 45) := sd_if_lt dd_154_6 (by decide)
theorem dd_154_9 : decode (mi 154).2.1 9 = .ok (.iload_n 1, 1) := by decide +kernel
theorem st_154_9 : Sd 154 9 1 (i_ldI 1) := sd_iload_n (j := 1) dd_154_9 rfl
theorem dd_154_10 : decode (mi 154).2.1 10 = .ok (.aload_n 0, 1) := by decide +kernel
theorem st_154_10 : Sd 154 10 1 (i_ldR 0) := sd_aload_n (j := 0) dd_154_10 rfl
theorem dd_154_11 : decode (mi 154).2.1 11 = .ok (.getfield 215, 3) := by decide +kernel
theorem st_154_11 : Sd 154 11 3 (i_gI 13 [2]) := sd_gI (ref := "ContractDeskModel") (decl := "ContractDeskModel") (name := "listed") (desc := "I") dd_154_11 (by rw [mc_154]; exact tw_1273) (Or.inl rfl) (by decide +kernel)
theorem dd_154_14 : decode (mi 154).2.1 14 = .ok (.if_icmp .ge 31, 3) := by decide +kernel
theorem st_154_14 : Sd 154 14 3 (i_cge 45) := sd_icmp_ge dd_154_14 (by decide)
theorem dd_154_17 : decode (mi 154).2.1 17 = .ok (.iload_n 2, 1) := by decide +kernel
theorem st_154_17 : Sd 154 17 1 (i_ldI 2) := sd_iload_n (j := 2) dd_154_17 rfl
theorem dd_154_18 : decode (mi 154).2.1 18 = .ok (.ifCond .lt 27, 3) := by decide +kernel
theorem st_154_18 : Sd 154 18 3 (i_zlt 45) := sd_if_lt dd_154_18 (by decide)
theorem dd_154_21 : decode (mi 154).2.1 21 = .ok (.iload_n 2, 1) := by decide +kernel
theorem st_154_21 : Sd 154 21 1 (i_ldI 2) := sd_iload_n (j := 2) dd_154_21 rfl
theorem dd_154_22 : decode (mi 154).2.1 22 = .ok (.aload_n 0, 1) := by decide +kernel
theorem st_154_22 : Sd 154 22 1 (i_ldR 0) := sd_aload_n (j := 0) dd_154_22 rfl
theorem dd_154_23 : decode (mi 154).2.1 23 = .ok (.getfield 42, 3) := by decide +kernel
theorem st_154_23 : Sd 154 23 3 (i_gR 15 [2]) := sd_gR (ref := "ContractDeskModel") (decl := "ContractDeskModel") (name := "letters") (desc := "[I") dd_154_23 (by rw [mc_154]; exact tw_1275) (Or.inl rfl) (by decide +kernel)
theorem dd_154_26 : decode (mi 154).2.1 26 = .ok (.iload_n 1, 1) := by decide +kernel
theorem st_154_26 : Sd 154 26 1 (i_ldI 1) := sd_iload_n (j := 1) dd_154_26 rfl
theorem dd_154_27 : decode (mi 154).2.1 27 = .ok (.iaload, 1) := by decide +kernel
theorem st_154_27 : Sd 154 27 1 (i_aI [20]) := sd_iaload dd_154_27 (by decide)
theorem dd_154_28 : decode (mi 154).2.1 28 = .ok (.if_icmp .ge 17, 3) := by decide +kernel
theorem st_154_28 : Sd 154 28 3 (i_cge 45) := sd_icmp_ge dd_154_28 (by decide)
theorem dd_154_31 : decode (mi 154).2.1 31 = .ok (.aload_n 0, 1) := by decide +kernel
theorem st_154_31 : Sd 154 31 1 (i_ldR 0) := sd_aload_n (j := 0) dd_154_31 rfl
theorem dd_154_32 : decode (mi 154).2.1 32 = .ok (.getfield 45, 3) := by decide +kernel
theorem st_154_32 : Sd 154 32 3 (i_gR 16 [2]) := sd_gR (ref := "ContractDeskModel") (decl := "ContractDeskModel") (name := "places") (desc := "[C") dd_154_32 (by rw [mc_154]; exact tw_1276) (Or.inl rfl) (by decide +kernel)
theorem dd_154_35 : decode (mi 154).2.1 35 = .ok (.bipush 24, 2) := by decide +kernel
theorem st_154_35 : Sd 154 35 2 (i_ic 24) := sd_bipush dd_154_35 (by decide)
theorem dd_154_37 : decode (mi 154).2.1 37 = .ok (.iload_n 1, 1) := by decide +kernel
theorem st_154_37 : Sd 154 37 1 (i_ldI 1) := sd_iload_n (j := 1) dd_154_37 rfl
theorem dd_154_38 : decode (mi 154).2.1 38 = .ok (.imul, 1) := by decide +kernel
theorem st_154_38 : Sd 154 38 1 (i_imul) := sd_imul dd_154_38
theorem dd_154_39 : decode (mi 154).2.1 39 = .ok (.iload_n 2, 1) := by decide +kernel
theorem st_154_39 : Sd 154 39 1 (i_ldI 2) := sd_iload_n (j := 2) dd_154_39 rfl
theorem dd_154_40 : decode (mi 154).2.1 40 = .ok (.iadd, 1) := by decide +kernel
theorem st_154_40 : Sd 154 40 1 (i_iadd) := sd_iadd dd_154_40
theorem dd_154_41 : decode (mi 154).2.1 41 = .ok (.caload, 1) := by decide +kernel
theorem st_154_41 : Sd 154 41 1 (i_aI [21]) := sd_caload dd_154_41 (by decide)
theorem dd_154_42 : decode (mi 154).2.1 42 = .ok (.goto 4, 3) := by decide +kernel
theorem st_154_42 : Sd 154 42 3 (i_goto 46) := sd_goto dd_154_42 (by decide)
def bk_154_0 : Tr := sq (i_ldR 0) (sq (i_ic 0) (sq (i_pI 0 [2] 0) (sq (i_ldI 1) (sq (i_zlt 45) (sq (i_ldI 1) (sq (i_ldR 0) (sq (i_gI 13 [2]) (sq (i_cge 45) (sq (i_ldI 2) (sq (i_zlt 45) (sq (i_ldI 2) (sq (i_ldR 0) (sq (i_gR 15 [2]) (sq (i_ldI 1) (sq (i_aI [20]) (sq (i_cge 45) (sq (i_ldR 0) (sq (i_gR 16 [2]) (sq (i_ic 24) (sq (i_ldI 1) (sq (i_imul) (sq (i_ldI 2) (sq (i_iadd) (sq (i_aI [21]) (i_goto 46)))))))))))))))))))))))))
theorem sb_154_0 : Sd 154 0 45 bk_154_0 := Sd.sq st_154_0 (Sd.sq st_154_1 (Sd.sq st_154_2 (Sd.sq st_154_5 (Sd.sq st_154_6 (Sd.sq st_154_9 (Sd.sq st_154_10 (Sd.sq st_154_11 (Sd.sq st_154_14 (Sd.sq st_154_17 (Sd.sq st_154_18 (Sd.sq st_154_21 (Sd.sq st_154_22 (Sd.sq st_154_23 (Sd.sq st_154_26 (Sd.sq st_154_27 (Sd.sq st_154_28 (Sd.sq st_154_31 (Sd.sq st_154_32 (Sd.sq st_154_35 (Sd.sq st_154_37 (Sd.sq st_154_38 (Sd.sq st_154_39 (Sd.sq st_154_40 (Sd.sq st_154_41 (st_154_42)))))))))))))))))))))))))
theorem dd_154_45 : decode (mi 154).2.1 45 = .ok (.iconst (-1), 1) := by decide +kernel
theorem st_154_45 : Sd 154 45 1 (i_ic (-1)) := sd_iconst dd_154_45
def bk_154_45 : Tr := sq (i_ic (-1)) (i_fall 46)
theorem sb_154_45 : Sd 154 45 1 bk_154_45 := Sd.sq st_154_45 (sd_fall rfl)
theorem dd_154_46 : decode (mi 154).2.1 46 = .ok (.ireturn, 1) := by decide +kernel
theorem st_154_46 : Sd 154 46 1 (i_rI 0) := sd_ireturn dd_154_46 (by decide) mr_154
def bk_154_46 : Tr := i_rI 0
theorem sb_154_46 : Sd 154 46 1 bk_154_46 := st_154_46
theorem dd_155_0 : decode (mi 155).2.1 0 = .ok (.aload_n 0, 1) := by decide +kernel
theorem st_155_0 : Sd 155 0 1 (i_ldR 0) := sd_aload_n (j := 0) dd_155_0 rfl
theorem dd_155_1 : decode (mi 155).2.1 1 = .ok (.getfield 215, 3) := by decide +kernel
theorem st_155_1 : Sd 155 1 3 (i_gI 13 [2]) := sd_gI (ref := "ContractDeskModel") (decl := "ContractDeskModel") (name := "listed") (desc := "I") dd_155_1 (by rw [mc_155]; exact tw_1273) (Or.inl rfl) (by decide +kernel)
theorem dd_155_4 : decode (mi 155).2.1 4 = .ok (.bipush 30, 2) := by decide +kernel
theorem st_155_4 : Sd 155 4 2 (i_ic 30) := sd_bipush dd_155_4 (by decide)
theorem dd_155_6 : decode (mi 155).2.1 6 = .ok (.if_icmp .lt 4, 3) := by decide +kernel
theorem st_155_6 : Sd 155 6 3 (i_clt 10) := sd_icmp_lt dd_155_6 (by decide)
theorem dd_155_9 : decode (mi 155).2.1 9 = .ok (.return_, 1) := by decide +kernel
theorem st_155_9 : Sd 155 9 1 (i_ret) := sd_ret dd_155_9 mr_155
def bk_155_0 : Tr := sq (i_ldR 0) (sq (i_gI 13 [2]) (sq (i_ic 30) (sq (i_clt 10) (i_ret))))
theorem sb_155_0 : Sd 155 0 10 bk_155_0 := Sd.sq st_155_0 (Sd.sq st_155_1 (Sd.sq st_155_4 (Sd.sq st_155_6 (st_155_9))))
theorem dd_155_10 : decode (mi 155).2.1 10 = .ok (.aload_n 0, 1) := by decide +kernel
theorem st_155_10 : Sd 155 10 1 (i_ldR 0) := sd_aload_n (j := 0) dd_155_10 rfl
theorem dd_155_11 : decode (mi 155).2.1 11 = .ok (.getfield 39, 3) := by decide +kernel
theorem st_155_11 : Sd 155 11 3 (i_gR 14 [2]) := sd_gR (ref := "ContractDeskModel") (decl := "ContractDeskModel") (name := "kinds") (desc := "[I") dd_155_11 (by rw [mc_155]; exact tw_1274) (Or.inl rfl) (by decide +kernel)
theorem dd_155_14 : decode (mi 155).2.1 14 = .ok (.aload_n 0, 1) := by decide +kernel
theorem st_155_14 : Sd 155 14 1 (i_ldR 0) := sd_aload_n (j := 0) dd_155_14 rfl
theorem dd_155_15 : decode (mi 155).2.1 15 = .ok (.getfield 215, 3) := by decide +kernel
theorem st_155_15 : Sd 155 15 3 (i_gI 13 [2]) := sd_gI (ref := "ContractDeskModel") (decl := "ContractDeskModel") (name := "listed") (desc := "I") dd_155_15 (by rw [mc_155]; exact tw_1273) (Or.inl rfl) (by decide +kernel)
theorem dd_155_18 : decode (mi 155).2.1 18 = .ok (.iload_n 1, 1) := by decide +kernel
theorem st_155_18 : Sd 155 18 1 (i_ldI 1) := sd_iload_n (j := 1) dd_155_18 rfl
theorem dd_155_19 : decode (mi 155).2.1 19 = .ok (.iastore, 1) := by decide +kernel
theorem st_155_19 : Sd 155 19 1 (i_sI [20] 0) := sd_iastore dd_155_19 (by decide)
theorem dd_155_20 : decode (mi 155).2.1 20 = .ok (.aload_n 0, 1) := by decide +kernel
theorem st_155_20 : Sd 155 20 1 (i_ldR 0) := sd_aload_n (j := 0) dd_155_20 rfl
theorem dd_155_21 : decode (mi 155).2.1 21 = .ok (.getfield 42, 3) := by decide +kernel
theorem st_155_21 : Sd 155 21 3 (i_gR 15 [2]) := sd_gR (ref := "ContractDeskModel") (decl := "ContractDeskModel") (name := "letters") (desc := "[I") dd_155_21 (by rw [mc_155]; exact tw_1275) (Or.inl rfl) (by decide +kernel)
theorem dd_155_24 : decode (mi 155).2.1 24 = .ok (.aload_n 0, 1) := by decide +kernel
theorem st_155_24 : Sd 155 24 1 (i_ldR 0) := sd_aload_n (j := 0) dd_155_24 rfl
theorem dd_155_25 : decode (mi 155).2.1 25 = .ok (.getfield 215, 3) := by decide +kernel
theorem st_155_25 : Sd 155 25 3 (i_gI 13 [2]) := sd_gI (ref := "ContractDeskModel") (decl := "ContractDeskModel") (name := "listed") (desc := "I") dd_155_25 (by rw [mc_155]; exact tw_1273) (Or.inl rfl) (by decide +kernel)
theorem dd_155_28 : decode (mi 155).2.1 28 = .ok (.iconst 0, 1) := by decide +kernel
theorem st_155_28 : Sd 155 28 1 (i_ic 0) := sd_iconst dd_155_28
theorem dd_155_29 : decode (mi 155).2.1 29 = .ok (.iastore, 1) := by decide +kernel
theorem st_155_29 : Sd 155 29 1 (i_sI [20] 0) := sd_iastore dd_155_29 (by decide)
theorem dd_155_30 : decode (mi 155).2.1 30 = .ok (.aload_n 0, 1) := by decide +kernel
theorem st_155_30 : Sd 155 30 1 (i_ldR 0) := sd_aload_n (j := 0) dd_155_30 rfl
theorem dd_155_31 : decode (mi 155).2.1 31 = .ok (.aload_n 0, 1) := by decide +kernel
theorem st_155_31 : Sd 155 31 1 (i_ldR 0) := sd_aload_n (j := 0) dd_155_31 rfl
theorem dd_155_32 : decode (mi 155).2.1 32 = .ok (.getfield 215, 3) := by decide +kernel
theorem st_155_32 : Sd 155 32 3 (i_gI 13 [2]) := sd_gI (ref := "ContractDeskModel") (decl := "ContractDeskModel") (name := "listed") (desc := "I") dd_155_32 (by rw [mc_155]; exact tw_1273) (Or.inl rfl) (by decide +kernel)
theorem dd_155_35 : decode (mi 155).2.1 35 = .ok (.bipush 36, 2) := by decide +kernel
theorem st_155_35 : Sd 155 35 2 (i_ic 36) := sd_bipush dd_155_35 (by decide)
theorem dd_155_37 : decode (mi 155).2.1 37 = .ok (.invokevirtual 218, 3) := by decide +kernel
theorem st_155_37 : Sd 155 37 3 (i_cV [(2, 169)] 3 5 []) := sd_virt ⟨"ContractDeskModel", "put", "(II)V"⟩ dd_155_37 (by rw [mc_155]; exact tw_1525) (fun t j h => by simp only [List.mem_cons, List.not_mem_nil, or_false, Prod.mk.injEq] at h; obtain ⟨rfl, rfl⟩ := h; exact mn_169) (fun t j h => by simp only [List.mem_cons, List.not_mem_nil, or_false, Prod.mk.injEq] at h; obtain ⟨rfl, rfl⟩ := h; exact ⟨by rw [mn_169]; exact tw_57, by rw [mn_169]; exact tw_1527, mt_169, by decide, by decide⟩) (by unfold prm; decide +kernel) ml_155 (HsOk.nil (by decide +kernel))
theorem dd_155_40 : decode (mi 155).2.1 40 = .ok (.iconst 0, 1) := by decide +kernel
theorem st_155_40 : Sd 155 40 1 (i_ic 0) := sd_iconst dd_155_40
theorem dd_155_41 : decode (mi 155).2.1 41 = .ok (.istore_n 2, 1) := by decide +kernel
theorem st_155_41 : Sd 155 41 1 (i_stI 2) := sd_istore_n (j := 2) dd_155_41 rfl
def bk_155_10 : Tr := sq (i_ldR 0) (sq (i_gR 14 [2]) (sq (i_ldR 0) (sq (i_gI 13 [2]) (sq (i_ldI 1) (sq (i_sI [20] 0) (sq (i_ldR 0) (sq (i_gR 15 [2]) (sq (i_ldR 0) (sq (i_gI 13 [2]) (sq (i_ic 0) (sq (i_sI [20] 0) (sq (i_ldR 0) (sq (i_ldR 0) (sq (i_gI 13 [2]) (sq (i_ic 36) (sq (i_cV [(2, 169)] 3 5 []) (sq (i_ic 0) (sq (i_stI 2) (i_fall 42)))))))))))))))))))
theorem sb_155_10 : Sd 155 10 32 bk_155_10 := Sd.sq st_155_10 (Sd.sq st_155_11 (Sd.sq st_155_14 (Sd.sq st_155_15 (Sd.sq st_155_18 (Sd.sq st_155_19 (Sd.sq st_155_20 (Sd.sq st_155_21 (Sd.sq st_155_24 (Sd.sq st_155_25 (Sd.sq st_155_28 (Sd.sq st_155_29 (Sd.sq st_155_30 (Sd.sq st_155_31 (Sd.sq st_155_32 (Sd.sq st_155_35 (Sd.sq st_155_37 (Sd.sq st_155_40 (Sd.sq st_155_41 (sd_fall rfl)))))))))))))))))))
theorem dd_155_42 : decode (mi 155).2.1 42 = .ok (.iload_n 2, 1) := by decide +kernel
theorem st_155_42 : Sd 155 42 1 (i_ldI 2) := sd_iload_n (j := 2) dd_155_42 rfl
theorem dd_155_43 : decode (mi 155).2.1 43 = .ok (.aload_n 0, 1) := by decide +kernel
theorem st_155_43 : Sd 155 43 1 (i_ldR 0) := sd_aload_n (j := 0) dd_155_43 rfl
theorem dd_155_44 : decode (mi 155).2.1 44 = .ok (.getfield 180, 3) := by decide +kernel
theorem st_155_44 : Sd 155 44 3 (i_gI 27 [2]) := sd_gI (ref := "ContractDeskModel") (decl := "ContractDeskModel") (name := "steps") (desc := "I") dd_155_44 (by rw [mc_155]; exact tw_1287) (Or.inl rfl) (by decide +kernel)
theorem dd_155_47 : decode (mi 155).2.1 47 = .ok (.if_icmp .ge 106, 3) := by decide +kernel
theorem st_155_47 : Sd 155 47 3 (i_cge 153) := sd_icmp_ge dd_155_47 (by decide)
theorem dd_155_50 : decode (mi 155).2.1 50 = .ok (.aload_n 0, 1) := by decide +kernel
theorem st_155_50 : Sd 155 50 1 (i_ldR 0) := sd_aload_n (j := 0) dd_155_50 rfl
theorem dd_155_51 : decode (mi 155).2.1 51 = .ok (.getfield 72, 3) := by decide +kernel
theorem st_155_51 : Sd 155 51 3 (i_gR 28 [2]) := sd_gR (ref := "ContractDeskModel") (decl := "ContractDeskModel") (name := "stepRow") (desc := "[I") dd_155_51 (by rw [mc_155]; exact tw_1288) (Or.inl rfl) (by decide +kernel)
theorem dd_155_54 : decode (mi 155).2.1 54 = .ok (.iload_n 2, 1) := by decide +kernel
theorem st_155_54 : Sd 155 54 1 (i_ldI 2) := sd_iload_n (j := 2) dd_155_54 rfl
theorem dd_155_55 : decode (mi 155).2.1 55 = .ok (.iaload, 1) := by decide +kernel
theorem st_155_55 : Sd 155 55 1 (i_aI [20]) := sd_iaload dd_155_55 (by decide)
theorem dd_155_56 : decode (mi 155).2.1 56 = .ok (.istore_n 3, 1) := by decide +kernel
theorem st_155_56 : Sd 155 56 1 (i_stI 3) := sd_istore_n (j := 3) dd_155_56 rfl
theorem dd_155_57 : decode (mi 155).2.1 57 = .ok (.iload_n 3, 1) := by decide +kernel
theorem st_155_57 : Sd 155 57 1 (i_ldI 3) := sd_iload_n (j := 3) dd_155_57 rfl
theorem dd_155_58 : decode (mi 155).2.1 58 = .ok (.ifCond .le 25, 3) := by decide +kernel
theorem st_155_58 : Sd 155 58 3 (i_zle 83) := sd_if_le dd_155_58 (by decide)
theorem dd_155_61 : decode (mi 155).2.1 61 = .ok (.aload_n 0, 1) := by decide +kernel
theorem st_155_61 : Sd 155 61 1 (i_ldR 0) := sd_aload_n (j := 0) dd_155_61 rfl
theorem dd_155_62 : decode (mi 155).2.1 62 = .ok (.aload_n 0, 1) := by decide +kernel
theorem st_155_62 : Sd 155 62 1 (i_ldR 0) := sd_aload_n (j := 0) dd_155_62 rfl
theorem dd_155_63 : decode (mi 155).2.1 63 = .ok (.getfield 215, 3) := by decide +kernel
theorem st_155_63 : Sd 155 63 3 (i_gI 13 [2]) := sd_gI (ref := "ContractDeskModel") (decl := "ContractDeskModel") (name := "listed") (desc := "I") dd_155_63 (by rw [mc_155]; exact tw_1273) (Or.inl rfl) (by decide +kernel)
theorem dd_155_66 : decode (mi 155).2.1 66 = .ok (.bipush 46, 2) := by decide +kernel
theorem st_155_66 : Sd 155 66 2 (i_ic 46) := sd_bipush dd_155_66 (by decide)
theorem dd_155_68 : decode (mi 155).2.1 68 = .ok (.invokevirtual 218, 3) := by decide +kernel
theorem st_155_68 : Sd 155 68 3 (i_cV [(2, 169)] 3 5 []) := sd_virt ⟨"ContractDeskModel", "put", "(II)V"⟩ dd_155_68 (by rw [mc_155]; exact tw_1525) (fun t j h => by simp only [List.mem_cons, List.not_mem_nil, or_false, Prod.mk.injEq] at h; obtain ⟨rfl, rfl⟩ := h; exact mn_169) (fun t j h => by simp only [List.mem_cons, List.not_mem_nil, or_false, Prod.mk.injEq] at h; obtain ⟨rfl, rfl⟩ := h; exact ⟨by rw [mn_169]; exact tw_57, by rw [mn_169]; exact tw_1527, mt_169, by decide, by decide⟩) (by unfold prm; decide +kernel) ml_155 (HsOk.nil (by decide +kernel))
theorem dd_155_71 : decode (mi 155).2.1 71 = .ok (.aload_n 0, 1) := by decide +kernel
theorem st_155_71 : Sd 155 71 1 (i_ldR 0) := sd_aload_n (j := 0) dd_155_71 rfl
theorem dd_155_72 : decode (mi 155).2.1 72 = .ok (.aload_n 0, 1) := by decide +kernel
theorem st_155_72 : Sd 155 72 1 (i_ldR 0) := sd_aload_n (j := 0) dd_155_72 rfl
theorem dd_155_73 : decode (mi 155).2.1 73 = .ok (.getfield 215, 3) := by decide +kernel
theorem st_155_73 : Sd 155 73 3 (i_gI 13 [2]) := sd_gI (ref := "ContractDeskModel") (decl := "ContractDeskModel") (name := "listed") (desc := "I") dd_155_73 (by rw [mc_155]; exact tw_1273) (Or.inl rfl) (by decide +kernel)
theorem dd_155_76 : decode (mi 155).2.1 76 = .ok (.iload_n 3, 1) := by decide +kernel
theorem st_155_76 : Sd 155 76 1 (i_ldI 3) := sd_iload_n (j := 3) dd_155_76 rfl
theorem dd_155_77 : decode (mi 155).2.1 77 = .ok (.invokevirtual 218, 3) := by decide +kernel
theorem st_155_77 : Sd 155 77 3 (i_cV [(2, 169)] 3 5 []) := sd_virt ⟨"ContractDeskModel", "put", "(II)V"⟩ dd_155_77 (by rw [mc_155]; exact tw_1525) (fun t j h => by simp only [List.mem_cons, List.not_mem_nil, or_false, Prod.mk.injEq] at h; obtain ⟨rfl, rfl⟩ := h; exact mn_169) (fun t j h => by simp only [List.mem_cons, List.not_mem_nil, or_false, Prod.mk.injEq] at h; obtain ⟨rfl, rfl⟩ := h; exact ⟨by rw [mn_169]; exact tw_57, by rw [mn_169]; exact tw_1527, mt_169, by decide, by decide⟩) (by unfold prm; decide +kernel) ml_155 (HsOk.nil (by decide +kernel))
theorem dd_155_80 : decode (mi 155).2.1 80 = .ok (.goto 67, 3) := by decide +kernel
theorem st_155_80 : Sd 155 80 3 (i_goto 147) := sd_goto dd_155_80 (by decide)
def bk_155_42 : Tr := sq (i_ldI 2) (sq (i_ldR 0) (sq (i_gI 27 [2]) (sq (i_cge 153) (sq (i_ldR 0) (sq (i_gR 28 [2]) (sq (i_ldI 2) (sq (i_aI [20]) (sq (i_stI 3) (sq (i_ldI 3) (sq (i_zle 83) (sq (i_ldR 0) (sq (i_ldR 0) (sq (i_gI 13 [2]) (sq (i_ic 46) (sq (i_cV [(2, 169)] 3 5 []) (sq (i_ldR 0) (sq (i_ldR 0) (sq (i_gI 13 [2]) (sq (i_ldI 3) (sq (i_cV [(2, 169)] 3 5 []) (i_goto 147)))))))))))))))))))))
theorem sb_155_42 : Sd 155 42 41 bk_155_42 := Sd.sq st_155_42 (Sd.sq st_155_43 (Sd.sq st_155_44 (Sd.sq st_155_47 (Sd.sq st_155_50 (Sd.sq st_155_51 (Sd.sq st_155_54 (Sd.sq st_155_55 (Sd.sq st_155_56 (Sd.sq st_155_57 (Sd.sq st_155_58 (Sd.sq st_155_61 (Sd.sq st_155_62 (Sd.sq st_155_63 (Sd.sq st_155_66 (Sd.sq st_155_68 (Sd.sq st_155_71 (Sd.sq st_155_72 (Sd.sq st_155_73 (Sd.sq st_155_76 (Sd.sq st_155_77 (st_155_80)))))))))))))))))))))
theorem dd_155_83 : decode (mi 155).2.1 83 = .ok (.iconst (-1), 1) := by decide +kernel
theorem st_155_83 : Sd 155 83 1 (i_ic (-1)) := sd_iconst dd_155_83
theorem dd_155_84 : decode (mi 155).2.1 84 = .ok (.iload_n 3, 1) := by decide +kernel
theorem st_155_84 : Sd 155 84 1 (i_ldI 3) := sd_iload_n (j := 3) dd_155_84 rfl
theorem dd_155_85 : decode (mi 155).2.1 85 = .ok (.isub, 1) := by decide +kernel
theorem st_155_85 : Sd 155 85 1 (i_isub) := sd_isub dd_155_85
theorem dd_155_86 : decode (mi 155).2.1 86 = .ok (.istore 4, 2) := by decide +kernel
theorem st_155_86 : Sd 155 86 2 (i_stI 4) := sd_istore dd_155_86
theorem dd_155_88 : decode (mi 155).2.1 88 = .ok (.aload_n 0, 1) := by decide +kernel
theorem st_155_88 : Sd 155 88 1 (i_ldR 0) := sd_aload_n (j := 0) dd_155_88 rfl
theorem dd_155_89 : decode (mi 155).2.1 89 = .ok (.aload_n 0, 1) := by decide +kernel
theorem st_155_89 : Sd 155 89 1 (i_ldR 0) := sd_aload_n (j := 0) dd_155_89 rfl
theorem dd_155_90 : decode (mi 155).2.1 90 = .ok (.getfield 215, 3) := by decide +kernel
theorem st_155_90 : Sd 155 90 3 (i_gI 13 [2]) := sd_gI (ref := "ContractDeskModel") (decl := "ContractDeskModel") (name := "listed") (desc := "I") dd_155_90 (by rw [mc_155]; exact tw_1273) (Or.inl rfl) (by decide +kernel)
theorem dd_155_93 : decode (mi 155).2.1 93 = .ok (.bipush 91, 2) := by decide +kernel
theorem st_155_93 : Sd 155 93 2 (i_ic 91) := sd_bipush dd_155_93 (by decide)
theorem dd_155_95 : decode (mi 155).2.1 95 = .ok (.invokevirtual 218, 3) := by decide +kernel
theorem st_155_95 : Sd 155 95 3 (i_cV [(2, 169)] 3 5 []) := sd_virt ⟨"ContractDeskModel", "put", "(II)V"⟩ dd_155_95 (by rw [mc_155]; exact tw_1525) (fun t j h => by simp only [List.mem_cons, List.not_mem_nil, or_false, Prod.mk.injEq] at h; obtain ⟨rfl, rfl⟩ := h; exact mn_169) (fun t j h => by simp only [List.mem_cons, List.not_mem_nil, or_false, Prod.mk.injEq] at h; obtain ⟨rfl, rfl⟩ := h; exact ⟨by rw [mn_169]; exact tw_57, by rw [mn_169]; exact tw_1527, mt_169, by decide, by decide⟩) (by unfold prm; decide +kernel) ml_155 (HsOk.nil (by decide +kernel))
theorem dd_155_98 : decode (mi 155).2.1 98 = .ok (.iload 4, 2) := by decide +kernel
theorem st_155_98 : Sd 155 98 2 (i_ldI 4) := sd_iload dd_155_98
theorem dd_155_100 : decode (mi 155).2.1 100 = .ok (.bipush 9, 2) := by decide +kernel
theorem st_155_100 : Sd 155 100 2 (i_ic 9) := sd_bipush dd_155_100 (by decide)
theorem dd_155_102 : decode (mi 155).2.1 102 = .ok (.if_icmp .le 19, 3) := by decide +kernel
theorem st_155_102 : Sd 155 102 3 (i_cle 121) := sd_icmp_le dd_155_102 (by decide)
theorem dd_155_105 : decode (mi 155).2.1 105 = .ok (.aload_n 0, 1) := by decide +kernel
theorem st_155_105 : Sd 155 105 1 (i_ldR 0) := sd_aload_n (j := 0) dd_155_105 rfl
theorem dd_155_106 : decode (mi 155).2.1 106 = .ok (.aload_n 0, 1) := by decide +kernel
theorem st_155_106 : Sd 155 106 1 (i_ldR 0) := sd_aload_n (j := 0) dd_155_106 rfl
theorem dd_155_107 : decode (mi 155).2.1 107 = .ok (.getfield 215, 3) := by decide +kernel
theorem st_155_107 : Sd 155 107 3 (i_gI 13 [2]) := sd_gI (ref := "ContractDeskModel") (decl := "ContractDeskModel") (name := "listed") (desc := "I") dd_155_107 (by rw [mc_155]; exact tw_1273) (Or.inl rfl) (by decide +kernel)
theorem dd_155_110 : decode (mi 155).2.1 110 = .ok (.bipush 48, 2) := by decide +kernel
theorem st_155_110 : Sd 155 110 2 (i_ic 48) := sd_bipush dd_155_110 (by decide)
theorem dd_155_112 : decode (mi 155).2.1 112 = .ok (.iload 4, 2) := by decide +kernel
theorem st_155_112 : Sd 155 112 2 (i_ldI 4) := sd_iload dd_155_112
theorem dd_155_114 : decode (mi 155).2.1 114 = .ok (.bipush 10, 2) := by decide +kernel
theorem st_155_114 : Sd 155 114 2 (i_ic 10) := sd_bipush dd_155_114 (by decide)
theorem dd_155_116 : decode (mi 155).2.1 116 = .ok (.idiv, 1) := by decide +kernel
theorem st_155_116 : Sd 155 116 1 (i_idiv) := sd_idiv dd_155_116
theorem dd_155_117 : decode (mi 155).2.1 117 = .ok (.iadd, 1) := by decide +kernel
theorem st_155_117 : Sd 155 117 1 (i_iadd) := sd_iadd dd_155_117
theorem dd_155_118 : decode (mi 155).2.1 118 = .ok (.invokevirtual 218, 3) := by decide +kernel
theorem st_155_118 : Sd 155 118 3 (i_cV [(2, 169)] 3 5 []) := sd_virt ⟨"ContractDeskModel", "put", "(II)V"⟩ dd_155_118 (by rw [mc_155]; exact tw_1525) (fun t j h => by simp only [List.mem_cons, List.not_mem_nil, or_false, Prod.mk.injEq] at h; obtain ⟨rfl, rfl⟩ := h; exact mn_169) (fun t j h => by simp only [List.mem_cons, List.not_mem_nil, or_false, Prod.mk.injEq] at h; obtain ⟨rfl, rfl⟩ := h; exact ⟨by rw [mn_169]; exact tw_57, by rw [mn_169]; exact tw_1527, mt_169, by decide, by decide⟩) (by unfold prm; decide +kernel) ml_155 (HsOk.nil (by decide +kernel))
def bk_155_83 : Tr := sq (i_ic (-1)) (sq (i_ldI 3) (sq (i_isub) (sq (i_stI 4) (sq (i_ldR 0) (sq (i_ldR 0) (sq (i_gI 13 [2]) (sq (i_ic 91) (sq (i_cV [(2, 169)] 3 5 []) (sq (i_ldI 4) (sq (i_ic 9) (sq (i_cle 121) (sq (i_ldR 0) (sq (i_ldR 0) (sq (i_gI 13 [2]) (sq (i_ic 48) (sq (i_ldI 4) (sq (i_ic 10) (sq (i_idiv) (sq (i_iadd) (sq (i_cV [(2, 169)] 3 5 []) (i_fall 121)))))))))))))))))))))
theorem sb_155_83 : Sd 155 83 38 bk_155_83 := Sd.sq st_155_83 (Sd.sq st_155_84 (Sd.sq st_155_85 (Sd.sq st_155_86 (Sd.sq st_155_88 (Sd.sq st_155_89 (Sd.sq st_155_90 (Sd.sq st_155_93 (Sd.sq st_155_95 (Sd.sq st_155_98 (Sd.sq st_155_100 (Sd.sq st_155_102 (Sd.sq st_155_105 (Sd.sq st_155_106 (Sd.sq st_155_107 (Sd.sq st_155_110 (Sd.sq st_155_112 (Sd.sq st_155_114 (Sd.sq st_155_116 (Sd.sq st_155_117 (Sd.sq st_155_118 (sd_fall rfl)))))))))))))))))))))
theorem dd_155_121 : decode (mi 155).2.1 121 = .ok (.aload_n 0, 1) := by decide +kernel
theorem st_155_121 : Sd 155 121 1 (i_ldR 0) := sd_aload_n (j := 0) dd_155_121 rfl
theorem dd_155_122 : decode (mi 155).2.1 122 = .ok (.aload_n 0, 1) := by decide +kernel
theorem st_155_122 : Sd 155 122 1 (i_ldR 0) := sd_aload_n (j := 0) dd_155_122 rfl
theorem dd_155_123 : decode (mi 155).2.1 123 = .ok (.getfield 215, 3) := by decide +kernel
theorem st_155_123 : Sd 155 123 3 (i_gI 13 [2]) := sd_gI (ref := "ContractDeskModel") (decl := "ContractDeskModel") (name := "listed") (desc := "I") dd_155_123 (by rw [mc_155]; exact tw_1273) (Or.inl rfl) (by decide +kernel)
theorem dd_155_126 : decode (mi 155).2.1 126 = .ok (.bipush 48, 2) := by decide +kernel
theorem st_155_126 : Sd 155 126 2 (i_ic 48) := sd_bipush dd_155_126 (by decide)
theorem dd_155_128 : decode (mi 155).2.1 128 = .ok (.iload 4, 2) := by decide +kernel
theorem st_155_128 : Sd 155 128 2 (i_ldI 4) := sd_iload dd_155_128
theorem dd_155_130 : decode (mi 155).2.1 130 = .ok (.bipush 10, 2) := by decide +kernel
theorem st_155_130 : Sd 155 130 2 (i_ic 10) := sd_bipush dd_155_130 (by decide)
theorem dd_155_132 : decode (mi 155).2.1 132 = .ok (.irem, 1) := by decide +kernel
theorem st_155_132 : Sd 155 132 1 (i_irem) := sd_irem dd_155_132
theorem dd_155_133 : decode (mi 155).2.1 133 = .ok (.iadd, 1) := by decide +kernel
theorem st_155_133 : Sd 155 133 1 (i_iadd) := sd_iadd dd_155_133
theorem dd_155_134 : decode (mi 155).2.1 134 = .ok (.invokevirtual 218, 3) := by decide +kernel
theorem st_155_134 : Sd 155 134 3 (i_cV [(2, 169)] 3 5 []) := sd_virt ⟨"ContractDeskModel", "put", "(II)V"⟩ dd_155_134 (by rw [mc_155]; exact tw_1525) (fun t j h => by simp only [List.mem_cons, List.not_mem_nil, or_false, Prod.mk.injEq] at h; obtain ⟨rfl, rfl⟩ := h; exact mn_169) (fun t j h => by simp only [List.mem_cons, List.not_mem_nil, or_false, Prod.mk.injEq] at h; obtain ⟨rfl, rfl⟩ := h; exact ⟨by rw [mn_169]; exact tw_57, by rw [mn_169]; exact tw_1527, mt_169, by decide, by decide⟩) (by unfold prm; decide +kernel) ml_155 (HsOk.nil (by decide +kernel))
theorem dd_155_137 : decode (mi 155).2.1 137 = .ok (.aload_n 0, 1) := by decide +kernel
theorem st_155_137 : Sd 155 137 1 (i_ldR 0) := sd_aload_n (j := 0) dd_155_137 rfl
theorem dd_155_138 : decode (mi 155).2.1 138 = .ok (.aload_n 0, 1) := by decide +kernel
theorem st_155_138 : Sd 155 138 1 (i_ldR 0) := sd_aload_n (j := 0) dd_155_138 rfl
theorem dd_155_139 : decode (mi 155).2.1 139 = .ok (.getfield 215, 3) := by decide +kernel
theorem st_155_139 : Sd 155 139 3 (i_gI 13 [2]) := sd_gI (ref := "ContractDeskModel") (decl := "ContractDeskModel") (name := "listed") (desc := "I") dd_155_139 (by rw [mc_155]; exact tw_1273) (Or.inl rfl) (by decide +kernel)
theorem dd_155_142 : decode (mi 155).2.1 142 = .ok (.bipush 93, 2) := by decide +kernel
theorem st_155_142 : Sd 155 142 2 (i_ic 93) := sd_bipush dd_155_142 (by decide)
theorem dd_155_144 : decode (mi 155).2.1 144 = .ok (.invokevirtual 218, 3) := by decide +kernel
theorem st_155_144 : Sd 155 144 3 (i_cV [(2, 169)] 3 5 []) := sd_virt ⟨"ContractDeskModel", "put", "(II)V"⟩ dd_155_144 (by rw [mc_155]; exact tw_1525) (fun t j h => by simp only [List.mem_cons, List.not_mem_nil, or_false, Prod.mk.injEq] at h; obtain ⟨rfl, rfl⟩ := h; exact mn_169) (fun t j h => by simp only [List.mem_cons, List.not_mem_nil, or_false, Prod.mk.injEq] at h; obtain ⟨rfl, rfl⟩ := h; exact ⟨by rw [mn_169]; exact tw_57, by rw [mn_169]; exact tw_1527, mt_169, by decide, by decide⟩) (by unfold prm; decide +kernel) ml_155 (HsOk.nil (by decide +kernel))
def bk_155_121 : Tr := sq (i_ldR 0) (sq (i_ldR 0) (sq (i_gI 13 [2]) (sq (i_ic 48) (sq (i_ldI 4) (sq (i_ic 10) (sq (i_irem) (sq (i_iadd) (sq (i_cV [(2, 169)] 3 5 []) (sq (i_ldR 0) (sq (i_ldR 0) (sq (i_gI 13 [2]) (sq (i_ic 93) (sq (i_cV [(2, 169)] 3 5 []) (i_fall 147))))))))))))))
theorem sb_155_121 : Sd 155 121 26 bk_155_121 := Sd.sq st_155_121 (Sd.sq st_155_122 (Sd.sq st_155_123 (Sd.sq st_155_126 (Sd.sq st_155_128 (Sd.sq st_155_130 (Sd.sq st_155_132 (Sd.sq st_155_133 (Sd.sq st_155_134 (Sd.sq st_155_137 (Sd.sq st_155_138 (Sd.sq st_155_139 (Sd.sq st_155_142 (Sd.sq st_155_144 (sd_fall rfl))))))))))))))
theorem dd_155_147 : decode (mi 155).2.1 147 = .ok (.iinc 2 1, 3) := by decide +kernel
theorem st_155_147 : Sd 155 147 3 (i_inc 2 1) := sd_iinc dd_155_147
theorem dd_155_150 : decode (mi 155).2.1 150 = .ok (.goto (-108), 3) := by decide +kernel
theorem st_155_150 : Sd 155 150 3 (i_goto 42) := sd_goto dd_155_150 (by decide)
def bk_155_147 : Tr := sq (i_inc 2 1) (i_goto 42)
theorem sb_155_147 : Sd 155 147 6 bk_155_147 := Sd.sq st_155_147 (st_155_150)
theorem dd_155_153 : decode (mi 155).2.1 153 = .ok (.aload_n 0, 1) := by decide +kernel
theorem st_155_153 : Sd 155 153 1 (i_ldR 0) := sd_aload_n (j := 0) dd_155_153 rfl
theorem dd_155_154 : decode (mi 155).2.1 154 = .ok (.dup, 1) := by decide +kernel
theorem st_155_154 : Sd 155 154 1 (i_dup) := sd_dup dd_155_154
theorem dd_155_155 : decode (mi 155).2.1 155 = .ok (.getfield 215, 3) := by decide +kernel
theorem st_155_155 : Sd 155 155 3 (i_gI 13 [2]) := sd_gI (ref := "ContractDeskModel") (decl := "ContractDeskModel") (name := "listed") (desc := "I") dd_155_155 (by rw [mc_155]; exact tw_1273) (Or.inl rfl) (by decide +kernel)
theorem dd_155_158 : decode (mi 155).2.1 158 = .ok (.iconst 1, 1) := by decide +kernel
theorem st_155_158 : Sd 155 158 1 (i_ic 1) := sd_iconst dd_155_158
theorem dd_155_159 : decode (mi 155).2.1 159 = .ok (.iadd, 1) := by decide +kernel
theorem st_155_159 : Sd 155 159 1 (i_iadd) := sd_iadd dd_155_159
theorem dd_155_160 : decode (mi 155).2.1 160 = .ok (.putfield 215, 3) := by decide +kernel
theorem st_155_160 : Sd 155 160 3 (i_pI 13 [2] 0) := sd_pI (ref := "ContractDeskModel") (decl := "ContractDeskModel") (name := "listed") (desc := "I") dd_155_160 (by rw [mc_155]; exact tw_1273) (Or.inl rfl) (by decide +kernel) (by decide +kernel) (by decide)
theorem dd_155_163 : decode (mi 155).2.1 163 = .ok (.return_, 1) := by decide +kernel
theorem st_155_163 : Sd 155 163 1 (i_ret) := sd_ret dd_155_163 mr_155
def bk_155_153 : Tr := sq (i_ldR 0) (sq (i_dup) (sq (i_gI 13 [2]) (sq (i_ic 1) (sq (i_iadd) (sq (i_pI 13 [2] 0) (i_ret))))))
theorem sb_155_153 : Sd 155 153 11 bk_155_153 := Sd.sq st_155_153 (Sd.sq st_155_154 (Sd.sq st_155_155 (Sd.sq st_155_158 (Sd.sq st_155_159 (Sd.sq st_155_160 (st_155_163))))))
theorem dd_156_0 : decode (mi 156).2.1 0 = .ok (.aload_n 0, 1) := by decide +kernel
theorem st_156_0 : Sd 156 0 1 (i_ldR 0) := sd_aload_n (j := 0) dd_156_0 rfl
theorem dd_156_1 : decode (mi 156).2.1 1 = .ok (.iconst 0, 1) := by decide +kernel
theorem st_156_1 : Sd 156 1 1 (i_ic 0) := sd_iconst dd_156_1
theorem dd_156_2 : decode (mi 156).2.1 2 = .ok (.putfield 93, 3) := by decide +kernel
theorem st_156_2 : Sd 156 2 3 (i_pI 0 [2] 0) := sd_pI (ref := "ContractDeskModel") (decl := "ContractDeskModel") (name := "thrown") (desc := "I") dd_156_2 (by rw [mc_156]; exact tw_1260) (Or.inl rfl) (by decide +kernel) (by decide +kernel) (by decide)
theorem dd_156_5 : decode (mi 156).2.1 5 = .ok (.aload_n 0, 1) := by decide +kernel
theorem st_156_5 : Sd 156 5 1 (i_ldR 0) := sd_aload_n (j := 0) dd_156_5 rfl
theorem dd_156_6 : decode (mi 156).2.1 6 = .ok (.getfield 215, 3) := by decide +kernel
theorem st_156_6 : Sd 156 6 3 (i_gI 13 [2]) := sd_gI (ref := "ContractDeskModel") (decl := "ContractDeskModel") (name := "listed") (desc := "I") dd_156_6 (by rw [mc_156]; exact tw_1273) (Or.inl rfl) (by decide +kernel)
theorem dd_156_9 : decode (mi 156).2.1 9 = .ok (.ireturn, 1) := by decide +kernel
theorem st_156_9 : Sd 156 9 1 (i_rI 0) := sd_ireturn dd_156_9 (by decide) mr_156
def bk_156_0 : Tr := sq (i_ldR 0) (sq (i_ic 0) (sq (i_pI 0 [2] 0) (sq (i_ldR 0) (sq (i_gI 13 [2]) (i_rI 0)))))
theorem sb_156_0 : Sd 156 0 10 bk_156_0 := Sd.sq st_156_0 (Sd.sq st_156_1 (Sd.sq st_156_2 (Sd.sq st_156_5 (Sd.sq st_156_6 (st_156_9)))))
theorem dd_157_0 : decode (mi 157).2.1 0 = .ok (.aload_n 0, 1) := by decide +kernel
theorem st_157_0 : Sd 157 0 1 (i_ldR 0) := sd_aload_n (j := 0) dd_157_0 rfl
theorem dd_157_1 : decode (mi 157).2.1 1 = .ok (.aload_n 0, 1) := by decide +kernel
theorem st_157_1 : Sd 157 1 1 (i_ldR 0) := sd_aload_n (j := 0) dd_157_1 rfl
theorem dd_157_2 : decode (mi 157).2.1 2 = .ok (.getfield 100, 3) := by decide +kernel
theorem st_157_2 : Sd 157 2 3 (i_gI 3 [2]) := sd_gI (ref := "ContractDeskModel") (decl := "ContractDeskModel") (name := "made") (desc := "I") dd_157_2 (by rw [mc_157]; exact tw_1263) (Or.inl rfl) (by decide +kernel)
theorem dd_157_5 : decode (mi 157).2.1 5 = .ok (.iconst 4, 1) := by decide +kernel
theorem st_157_5 : Sd 157 5 1 (i_ic 4) := sd_iconst dd_157_5
theorem dd_157_6 : decode (mi 157).2.1 6 = .ok (.if_icmp .ne 7, 3) := by decide +kernel
theorem st_157_6 : Sd 157 6 3 (i_cne 13) := sd_icmp_ne dd_157_6 (by decide)
theorem dd_157_9 : decode (mi 157).2.1 9 = .ok (.iconst 1, 1) := by decide +kernel
theorem st_157_9 : Sd 157 9 1 (i_ic 1) := sd_iconst dd_157_9
theorem dd_157_10 : decode (mi 157).2.1 10 = .ok (.goto 4, 3) := by decide +kernel
theorem st_157_10 : Sd 157 10 3 (i_goto 14) := sd_goto dd_157_10 (by decide)
def bk_157_0 : Tr := sq (i_ldR 0) (sq (i_ldR 0) (sq (i_gI 3 [2]) (sq (i_ic 4) (sq (i_cne 13) (sq (i_ic 1) (i_goto 14))))))
theorem sb_157_0 : Sd 157 0 13 bk_157_0 := Sd.sq st_157_0 (Sd.sq st_157_1 (Sd.sq st_157_2 (Sd.sq st_157_5 (Sd.sq st_157_6 (Sd.sq st_157_9 (st_157_10))))))
theorem dd_157_13 : decode (mi 157).2.1 13 = .ok (.iconst 0, 1) := by decide +kernel
theorem st_157_13 : Sd 157 13 1 (i_ic 0) := sd_iconst dd_157_13
def bk_157_13 : Tr := sq (i_ic 0) (i_fall 14)
theorem sb_157_13 : Sd 157 13 1 bk_157_13 := Sd.sq st_157_13 (sd_fall rfl)
theorem dd_157_14 : decode (mi 157).2.1 14 = .ok (.putfield 93, 3) := by decide +kernel
theorem st_157_14 : Sd 157 14 3 (i_pI 0 [2] 0) := sd_pI (ref := "ContractDeskModel") (decl := "ContractDeskModel") (name := "thrown") (desc := "I") dd_157_14 (by rw [mc_157]; exact tw_1260) (Or.inl rfl) (by decide +kernel) (by decide +kernel) (by decide)
theorem dd_157_17 : decode (mi 157).2.1 17 = .ok (.aload_n 0, 1) := by decide +kernel
theorem st_157_17 : Sd 157 17 1 (i_ldR 0) := sd_aload_n (j := 0) dd_157_17 rfl
theorem dd_157_18 : decode (mi 157).2.1 18 = .ok (.getfield 93, 3) := by decide +kernel
theorem st_157_18 : Sd 157 18 3 (i_gI 0 [2]) := sd_gI (ref := "ContractDeskModel") (decl := "ContractDeskModel") (name := "thrown") (desc := "I") dd_157_18 (by rw [mc_157]; exact tw_1260) (Or.inl rfl) (by decide +kernel)
theorem dd_157_21 : decode (mi 157).2.1 21 = .ok (.ifCond .le 5, 3) := by decide +kernel
theorem st_157_21 : Sd 157 21 3 (i_zle 26) := sd_if_le dd_157_21 (by decide)
theorem dd_157_24 : decode (mi 157).2.1 24 = .ok (.iconst 0, 1) := by decide +kernel
theorem st_157_24 : Sd 157 24 1 (i_ic 0) := sd_iconst dd_157_24
theorem dd_157_25 : decode (mi 157).2.1 25 = .ok (.ireturn, 1) := by decide +kernel
theorem st_157_25 : Sd 157 25 1 (i_rI 0) := sd_ireturn dd_157_25 (by decide) mr_157
def bk_157_14 : Tr := sq (i_pI 0 [2] 0) (sq (i_ldR 0) (sq (i_gI 0 [2]) (sq (i_zle 26) (sq (i_ic 0) (i_rI 0)))))
theorem sb_157_14 : Sd 157 14 12 bk_157_14 := Sd.sq st_157_14 (Sd.sq st_157_17 (Sd.sq st_157_18 (Sd.sq st_157_21 (Sd.sq st_157_24 (st_157_25)))))
theorem dd_157_26 : decode (mi 157).2.1 26 = .ok (.aload_n 0, 1) := by decide +kernel
theorem st_157_26 : Sd 157 26 1 (i_ldR 0) := sd_aload_n (j := 0) dd_157_26 rfl
theorem dd_157_27 : decode (mi 157).2.1 27 = .ok (.getfield 13, 3) := by decide +kernel
theorem st_157_27 : Sd 157 27 3 (i_gR 4 [2]) := sd_gR (ref := "ContractDeskModel") (decl := "ContractDeskModel") (name := "strict") (desc := "[Z") dd_157_27 (by rw [mc_157]; exact tw_1264) (Or.inl rfl) (by decide +kernel)
theorem dd_157_30 : decode (mi 157).2.1 30 = .ok (.aload_n 0, 1) := by decide +kernel
theorem st_157_30 : Sd 157 30 1 (i_ldR 0) := sd_aload_n (j := 0) dd_157_30 rfl
theorem dd_157_31 : decode (mi 157).2.1 31 = .ok (.getfield 100, 3) := by decide +kernel
theorem st_157_31 : Sd 157 31 3 (i_gI 3 [2]) := sd_gI (ref := "ContractDeskModel") (decl := "ContractDeskModel") (name := "made") (desc := "I") dd_157_31 (by rw [mc_157]; exact tw_1263) (Or.inl rfl) (by decide +kernel)
theorem dd_157_34 : decode (mi 157).2.1 34 = .ok (.iload_n 1, 1) := by decide +kernel
theorem st_157_34 : Sd 157 34 1 (i_ldI 1) := sd_iload_n (j := 1) dd_157_34 rfl
theorem dd_157_35 : decode (mi 157).2.1 35 = .ok (.bastore, 1) := by decide +kernel
theorem st_157_35 : Sd 157 35 1 (i_sI [22] 2) := sd_bastoreZ dd_157_35 (by decide)
theorem dd_157_36 : decode (mi 157).2.1 36 = .ok (.aload_n 0, 1) := by decide +kernel
theorem st_157_36 : Sd 157 36 1 (i_ldR 0) := sd_aload_n (j := 0) dd_157_36 rfl
theorem dd_157_37 : decode (mi 157).2.1 37 = .ok (.dup, 1) := by decide +kernel
theorem st_157_37 : Sd 157 37 1 (i_dup) := sd_dup dd_157_37
theorem dd_157_38 : decode (mi 157).2.1 38 = .ok (.getfield 100, 3) := by decide +kernel
theorem st_157_38 : Sd 157 38 3 (i_gI 3 [2]) := sd_gI (ref := "ContractDeskModel") (decl := "ContractDeskModel") (name := "made") (desc := "I") dd_157_38 (by rw [mc_157]; exact tw_1263) (Or.inl rfl) (by decide +kernel)
theorem dd_157_41 : decode (mi 157).2.1 41 = .ok (.iconst 1, 1) := by decide +kernel
theorem st_157_41 : Sd 157 41 1 (i_ic 1) := sd_iconst dd_157_41
theorem dd_157_42 : decode (mi 157).2.1 42 = .ok (.iadd, 1) := by decide +kernel
theorem st_157_42 : Sd 157 42 1 (i_iadd) := sd_iadd dd_157_42
theorem dd_157_43 : decode (mi 157).2.1 43 = .ok (.putfield 100, 3) := by decide +kernel
theorem st_157_43 : Sd 157 43 3 (i_pI 3 [2] 0) := sd_pI (ref := "ContractDeskModel") (decl := "ContractDeskModel") (name := "made") (desc := "I") dd_157_43 (by rw [mc_157]; exact tw_1263) (Or.inl rfl) (by decide +kernel) (by decide +kernel) (by decide)
theorem dd_157_46 : decode (mi 157).2.1 46 = .ok (.aload_n 0, 1) := by decide +kernel
theorem st_157_46 : Sd 157 46 1 (i_ldR 0) := sd_aload_n (j := 0) dd_157_46 rfl
theorem dd_157_47 : decode (mi 157).2.1 47 = .ok (.getfield 100, 3) := by decide +kernel
theorem st_157_47 : Sd 157 47 3 (i_gI 3 [2]) := sd_gI (ref := "ContractDeskModel") (decl := "ContractDeskModel") (name := "made") (desc := "I") dd_157_47 (by rw [mc_157]; exact tw_1263) (Or.inl rfl) (by decide +kernel)
theorem dd_157_50 : decode (mi 157).2.1 50 = .ok (.iconst 1, 1) := by decide +kernel
theorem st_157_50 : Sd 157 50 1 (i_ic 1) := sd_iconst dd_157_50
theorem dd_157_51 : decode (mi 157).2.1 51 = .ok (.isub, 1) := by decide +kernel
theorem st_157_51 : Sd 157 51 1 (i_isub) := sd_isub dd_157_51
theorem dd_157_52 : decode (mi 157).2.1 52 = .ok (.ireturn, 1) := by decide +kernel
theorem st_157_52 : Sd 157 52 1 (i_rI 0) := sd_ireturn dd_157_52 (by decide) mr_157
def bk_157_26 : Tr := sq (i_ldR 0) (sq (i_gR 4 [2]) (sq (i_ldR 0) (sq (i_gI 3 [2]) (sq (i_ldI 1) (sq (i_sI [22] 2) (sq (i_ldR 0) (sq (i_dup) (sq (i_gI 3 [2]) (sq (i_ic 1) (sq (i_iadd) (sq (i_pI 3 [2] 0) (sq (i_ldR 0) (sq (i_gI 3 [2]) (sq (i_ic 1) (sq (i_isub) (i_rI 0))))))))))))))))
theorem sb_157_26 : Sd 157 26 27 bk_157_26 := Sd.sq st_157_26 (Sd.sq st_157_27 (Sd.sq st_157_30 (Sd.sq st_157_31 (Sd.sq st_157_34 (Sd.sq st_157_35 (Sd.sq st_157_36 (Sd.sq st_157_37 (Sd.sq st_157_38 (Sd.sq st_157_41 (Sd.sq st_157_42 (Sd.sq st_157_43 (Sd.sq st_157_46 (Sd.sq st_157_47 (Sd.sq st_157_50 (Sd.sq st_157_51 (st_157_52))))))))))))))))
theorem dd_158_0 : decode (mi 158).2.1 0 = .ok (.aload_n 0, 1) := by decide +kernel
theorem st_158_0 : Sd 158 0 1 (i_ldR 0) := sd_aload_n (j := 0) dd_158_0 rfl
theorem dd_158_1 : decode (mi 158).2.1 1 = .ok (.iload_n 1, 1) := by decide +kernel
theorem st_158_1 : Sd 158 1 1 (i_ldI 1) := sd_iload_n (j := 1) dd_158_1 rfl
theorem dd_158_2 : decode (mi 158).2.1 2 = .ok (.invokevirtual 103, 3) := by decide +kernel
theorem st_158_2 : Sd 158 2 3 (i_cV [(2, 129)] 2 4 []) := sd_virt ⟨"ContractDeskModel", "at", "(I)C"⟩ dd_158_2 (by rw [mc_158]; exact tw_1388) (fun t j h => by simp only [List.mem_cons, List.not_mem_nil, or_false, Prod.mk.injEq] at h; obtain ⟨rfl, rfl⟩ := h; exact mn_129) (fun t j h => by simp only [List.mem_cons, List.not_mem_nil, or_false, Prod.mk.injEq] at h; obtain ⟨rfl, rfl⟩ := h; exact ⟨by rw [mn_129]; exact tw_30, by rw [mn_129]; exact tw_1390, mt_129, by decide, by decide⟩) (by unfold prm; decide +kernel) ml_158 (HsOk.nil (by decide +kernel))
theorem dd_158_5 : decode (mi 158).2.1 5 = .ok (.istore_n 2, 1) := by decide +kernel
theorem st_158_5 : Sd 158 5 1 (i_stI 2) := sd_istore_n (j := 2) dd_158_5 rfl
theorem dd_158_6 : decode (mi 158).2.1 6 = .ok (.iload_n 2, 1) := by decide +kernel
theorem st_158_6 : Sd 158 6 1 (i_ldI 2) := sd_iload_n (j := 2) dd_158_6 rfl
theorem dd_158_7 : decode (mi 158).2.1 7 = .ok (.bipush 116, 2) := by decide +kernel
theorem st_158_7 : Sd 158 7 2 (i_ic 116) := sd_bipush dd_158_7 (by decide)
theorem dd_158_9 : decode (mi 158).2.1 9 = .ok (.if_icmp .eq 21, 3) := by decide +kernel
theorem st_158_9 : Sd 158 9 3 (i_ceq 30) := sd_icmp_eq dd_158_9 (by decide)
theorem dd_158_12 : decode (mi 158).2.1 12 = .ok (.iload_n 2, 1) := by decide +kernel
theorem st_158_12 : Sd 158 12 1 (i_ldI 2) := sd_iload_n (j := 2) dd_158_12 rfl
theorem dd_158_13 : decode (mi 158).2.1 13 = .ok (.bipush 61, 2) := by decide +kernel
theorem st_158_13 : Sd 158 13 2 (i_ic 61) := sd_bipush dd_158_13 (by decide)
theorem dd_158_15 : decode (mi 158).2.1 15 = .ok (.if_icmp .eq 15, 3) := by decide +kernel
theorem st_158_15 : Sd 158 15 3 (i_ceq 30) := sd_icmp_eq dd_158_15 (by decide)
theorem dd_158_18 : decode (mi 158).2.1 18 = .ok (.iload_n 2, 1) := by decide +kernel
theorem st_158_18 : Sd 158 18 1 (i_ldI 2) := sd_iload_n (j := 2) dd_158_18 rfl
theorem dd_158_19 : decode (mi 158).2.1 19 = .ok (.bipush 48, 2) := by decide +kernel
theorem st_158_19 : Sd 158 19 2 (i_ic 48) := sd_bipush dd_158_19 (by decide)
theorem dd_158_21 : decode (mi 158).2.1 21 = .ok (.if_icmp .eq 9, 3) := by decide +kernel
theorem st_158_21 : Sd 158 21 3 (i_ceq 30) := sd_icmp_eq dd_158_21 (by decide)
theorem dd_158_24 : decode (mi 158).2.1 24 = .ok (.iload_n 2, 1) := by decide +kernel
theorem st_158_24 : Sd 158 24 1 (i_ldI 2) := sd_iload_n (j := 2) dd_158_24 rfl
theorem dd_158_25 : decode (mi 158).2.1 25 = .ok (.bipush 105, 2) := by decide +kernel
theorem st_158_25 : Sd 158 25 2 (i_ic 105) := sd_bipush dd_158_25 (by decide)
theorem dd_158_27 : decode (mi 158).2.1 27 = .ok (.if_icmp .ne 7, 3) := by decide +kernel
theorem st_158_27 : Sd 158 27 3 (i_cne 34) := sd_icmp_ne dd_158_27 (by decide)
def bk_158_0 : Tr := sq (i_ldR 0) (sq (i_ldI 1) (sq (i_cV [(2, 129)] 2 4 []) (sq (i_stI 2) (sq (i_ldI 2) (sq (i_ic 116) (sq (i_ceq 30) (sq (i_ldI 2) (sq (i_ic 61) (sq (i_ceq 30) (sq (i_ldI 2) (sq (i_ic 48) (sq (i_ceq 30) (sq (i_ldI 2) (sq (i_ic 105) (sq (i_cne 34) (i_fall 30))))))))))))))))
theorem sb_158_0 : Sd 158 0 30 bk_158_0 := Sd.sq st_158_0 (Sd.sq st_158_1 (Sd.sq st_158_2 (Sd.sq st_158_5 (Sd.sq st_158_6 (Sd.sq st_158_7 (Sd.sq st_158_9 (Sd.sq st_158_12 (Sd.sq st_158_13 (Sd.sq st_158_15 (Sd.sq st_158_18 (Sd.sq st_158_19 (Sd.sq st_158_21 (Sd.sq st_158_24 (Sd.sq st_158_25 (Sd.sq st_158_27 (sd_fall rfl))))))))))))))))
theorem dd_158_30 : decode (mi 158).2.1 30 = .ok (.iload_n 1, 1) := by decide +kernel
theorem st_158_30 : Sd 158 30 1 (i_ldI 1) := sd_iload_n (j := 1) dd_158_30 rfl
theorem dd_158_31 : decode (mi 158).2.1 31 = .ok (.iconst 1, 1) := by decide +kernel
theorem st_158_31 : Sd 158 31 1 (i_ic 1) := sd_iconst dd_158_31
theorem dd_158_32 : decode (mi 158).2.1 32 = .ok (.iadd, 1) := by decide +kernel
theorem st_158_32 : Sd 158 32 1 (i_iadd) := sd_iadd dd_158_32
theorem dd_158_33 : decode (mi 158).2.1 33 = .ok (.ireturn, 1) := by decide +kernel
theorem st_158_33 : Sd 158 33 1 (i_rI 0) := sd_ireturn dd_158_33 (by decide) mr_158
def bk_158_30 : Tr := sq (i_ldI 1) (sq (i_ic 1) (sq (i_iadd) (i_rI 0)))
theorem sb_158_30 : Sd 158 30 4 bk_158_30 := Sd.sq st_158_30 (Sd.sq st_158_31 (Sd.sq st_158_32 (st_158_33)))
theorem dd_158_34 : decode (mi 158).2.1 34 = .ok (.iload_n 2, 1) := by decide +kernel
theorem st_158_34 : Sd 158 34 1 (i_ldI 2) := sd_iload_n (j := 2) dd_158_34 rfl
theorem dd_158_35 : decode (mi 158).2.1 35 = .ok (.bipush 62, 2) := by decide +kernel
theorem st_158_35 : Sd 158 35 2 (i_ic 62) := sd_bipush dd_158_35 (by decide)
theorem dd_158_37 : decode (mi 158).2.1 37 = .ok (.if_icmp .eq 9, 3) := by decide +kernel
theorem st_158_37 : Sd 158 37 3 (i_ceq 46) := sd_icmp_eq dd_158_37 (by decide)
theorem dd_158_40 : decode (mi 158).2.1 40 = .ok (.iload_n 2, 1) := by decide +kernel
theorem st_158_40 : Sd 158 40 1 (i_ldI 2) := sd_iload_n (j := 2) dd_158_40 rfl
theorem dd_158_41 : decode (mi 158).2.1 41 = .ok (.bipush 60, 2) := by decide +kernel
theorem st_158_41 : Sd 158 41 2 (i_ic 60) := sd_bipush dd_158_41 (by decide)
theorem dd_158_43 : decode (mi 158).2.1 43 = .ok (.if_icmp .ne 24, 3) := by decide +kernel
theorem st_158_43 : Sd 158 43 3 (i_cne 67) := sd_icmp_ne dd_158_43 (by decide)
def bk_158_34 : Tr := sq (i_ldI 2) (sq (i_ic 62) (sq (i_ceq 46) (sq (i_ldI 2) (sq (i_ic 60) (sq (i_cne 67) (i_fall 46))))))
theorem sb_158_34 : Sd 158 34 12 bk_158_34 := Sd.sq st_158_34 (Sd.sq st_158_35 (Sd.sq st_158_37 (Sd.sq st_158_40 (Sd.sq st_158_41 (Sd.sq st_158_43 (sd_fall rfl))))))
theorem dd_158_46 : decode (mi 158).2.1 46 = .ok (.aload_n 0, 1) := by decide +kernel
theorem st_158_46 : Sd 158 46 1 (i_ldR 0) := sd_aload_n (j := 0) dd_158_46 rfl
theorem dd_158_47 : decode (mi 158).2.1 47 = .ok (.iload_n 1, 1) := by decide +kernel
theorem st_158_47 : Sd 158 47 1 (i_ldI 1) := sd_iload_n (j := 1) dd_158_47 rfl
theorem dd_158_48 : decode (mi 158).2.1 48 = .ok (.iconst 1, 1) := by decide +kernel
theorem st_158_48 : Sd 158 48 1 (i_ic 1) := sd_iconst dd_158_48
theorem dd_158_49 : decode (mi 158).2.1 49 = .ok (.iadd, 1) := by decide +kernel
theorem st_158_49 : Sd 158 49 1 (i_iadd) := sd_iadd dd_158_49
theorem dd_158_50 : decode (mi 158).2.1 50 = .ok (.invokevirtual 103, 3) := by decide +kernel
theorem st_158_50 : Sd 158 50 3 (i_cV [(2, 129)] 2 4 []) := sd_virt ⟨"ContractDeskModel", "at", "(I)C"⟩ dd_158_50 (by rw [mc_158]; exact tw_1388) (fun t j h => by simp only [List.mem_cons, List.not_mem_nil, or_false, Prod.mk.injEq] at h; obtain ⟨rfl, rfl⟩ := h; exact mn_129) (fun t j h => by simp only [List.mem_cons, List.not_mem_nil, or_false, Prod.mk.injEq] at h; obtain ⟨rfl, rfl⟩ := h; exact ⟨by rw [mn_129]; exact tw_30, by rw [mn_129]; exact tw_1390, mt_129, by decide, by decide⟩) (by unfold prm; decide +kernel) ml_158 (HsOk.nil (by decide +kernel))
theorem dd_158_53 : decode (mi 158).2.1 53 = .ok (.invokestatic 115, 3) := by decide +kernel
theorem st_158_53 : Sd 158 53 3 (i_cS 137 1 4 []) := sd_static dd_158_53 (by rw [mc_158, mn_137]; exact tw_1403) (by rw [mn_137]; exact tw_1404) mt_137 pm_137 ml_158 (HsOk.nil (by decide +kernel))
theorem dd_158_56 : decode (mi 158).2.1 56 = .ok (.ifCond .eq 9, 3) := by decide +kernel
theorem st_158_56 : Sd 158 56 3 (i_zeq 65) := sd_if_eq dd_158_56 (by decide)
theorem dd_158_59 : decode (mi 158).2.1 59 = .ok (.iload_n 1, 1) := by decide +kernel
theorem st_158_59 : Sd 158 59 1 (i_ldI 1) := sd_iload_n (j := 1) dd_158_59 rfl
theorem dd_158_60 : decode (mi 158).2.1 60 = .ok (.iconst 2, 1) := by decide +kernel
theorem st_158_60 : Sd 158 60 1 (i_ic 2) := sd_iconst dd_158_60
theorem dd_158_61 : decode (mi 158).2.1 61 = .ok (.iadd, 1) := by decide +kernel
theorem st_158_61 : Sd 158 61 1 (i_iadd) := sd_iadd dd_158_61
theorem dd_158_62 : decode (mi 158).2.1 62 = .ok (.goto 4, 3) := by decide +kernel
theorem st_158_62 : Sd 158 62 3 (i_goto 66) := sd_goto dd_158_62 (by decide)
def bk_158_46 : Tr := sq (i_ldR 0) (sq (i_ldI 1) (sq (i_ic 1) (sq (i_iadd) (sq (i_cV [(2, 129)] 2 4 []) (sq (i_cS 137 1 4 []) (sq (i_zeq 65) (sq (i_ldI 1) (sq (i_ic 2) (sq (i_iadd) (i_goto 66))))))))))
theorem sb_158_46 : Sd 158 46 19 bk_158_46 := Sd.sq st_158_46 (Sd.sq st_158_47 (Sd.sq st_158_48 (Sd.sq st_158_49 (Sd.sq st_158_50 (Sd.sq st_158_53 (Sd.sq st_158_56 (Sd.sq st_158_59 (Sd.sq st_158_60 (Sd.sq st_158_61 (st_158_62))))))))))
theorem dd_158_65 : decode (mi 158).2.1 65 = .ok (.iconst (-1), 1) := by decide +kernel
theorem st_158_65 : Sd 158 65 1 (i_ic (-1)) := sd_iconst dd_158_65
def bk_158_65 : Tr := sq (i_ic (-1)) (i_fall 66)
theorem sb_158_65 : Sd 158 65 1 bk_158_65 := Sd.sq st_158_65 (sd_fall rfl)
theorem dd_158_66 : decode (mi 158).2.1 66 = .ok (.ireturn, 1) := by decide +kernel
theorem st_158_66 : Sd 158 66 1 (i_rI 0) := sd_ireturn dd_158_66 (by decide) mr_158
def bk_158_66 : Tr := i_rI 0
theorem sb_158_66 : Sd 158 66 1 bk_158_66 := st_158_66
theorem dd_158_67 : decode (mi 158).2.1 67 = .ok (.iload_n 2, 1) := by decide +kernel
theorem st_158_67 : Sd 158 67 1 (i_ldI 2) := sd_iload_n (j := 2) dd_158_67 rfl
theorem dd_158_68 : decode (mi 158).2.1 68 = .ok (.bipush 47, 2) := by decide +kernel
theorem st_158_68 : Sd 158 68 2 (i_ic 47) := sd_bipush dd_158_68 (by decide)
theorem dd_158_70 : decode (mi 158).2.1 70 = .ok (.if_icmp .ne 11, 3) := by decide +kernel
theorem st_158_70 : Sd 158 70 3 (i_cne 81) := sd_icmp_ne dd_158_70 (by decide)
theorem dd_158_73 : decode (mi 158).2.1 73 = .ok (.aload_n 0, 1) := by decide +kernel
theorem st_158_73 : Sd 158 73 1 (i_ldR 0) := sd_aload_n (j := 0) dd_158_73 rfl
theorem dd_158_74 : decode (mi 158).2.1 74 = .ok (.iload_n 1, 1) := by decide +kernel
theorem st_158_74 : Sd 158 74 1 (i_ldI 1) := sd_iload_n (j := 1) dd_158_74 rfl
theorem dd_158_75 : decode (mi 158).2.1 75 = .ok (.iconst 1, 1) := by decide +kernel
theorem st_158_75 : Sd 158 75 1 (i_ic 1) := sd_iconst dd_158_75
theorem dd_158_76 : decode (mi 158).2.1 76 = .ok (.iadd, 1) := by decide +kernel
theorem st_158_76 : Sd 158 76 1 (i_iadd) := sd_iadd dd_158_76
theorem dd_158_77 : decode (mi 158).2.1 77 = .ok (.invokevirtual 164, 3) := by decide +kernel
theorem st_158_77 : Sd 158 77 3 (i_cV [(2, 150)] 2 4 []) := sd_virt ⟨"ContractDeskModel", "itemsEnd", "(I)I"⟩ dd_158_77 (by rw [mc_158]; exact tw_1473) (fun t j h => by simp only [List.mem_cons, List.not_mem_nil, or_false, Prod.mk.injEq] at h; obtain ⟨rfl, rfl⟩ := h; exact mn_150) (fun t j h => by simp only [List.mem_cons, List.not_mem_nil, or_false, Prod.mk.injEq] at h; obtain ⟨rfl, rfl⟩ := h; exact ⟨by rw [mn_150]; exact tw_46, by rw [mn_150]; exact tw_1475, mt_150, by decide, by decide⟩) (by unfold prm; decide +kernel) ml_158 (HsOk.nil (by decide +kernel))
theorem dd_158_80 : decode (mi 158).2.1 80 = .ok (.ireturn, 1) := by decide +kernel
theorem st_158_80 : Sd 158 80 1 (i_rI 0) := sd_ireturn dd_158_80 (by decide) mr_158
def bk_158_67 : Tr := sq (i_ldI 2) (sq (i_ic 47) (sq (i_cne 81) (sq (i_ldR 0) (sq (i_ldI 1) (sq (i_ic 1) (sq (i_iadd) (sq (i_cV [(2, 150)] 2 4 []) (i_rI 0))))))))
theorem sb_158_67 : Sd 158 67 14 bk_158_67 := Sd.sq st_158_67 (Sd.sq st_158_68 (Sd.sq st_158_70 (Sd.sq st_158_73 (Sd.sq st_158_74 (Sd.sq st_158_75 (Sd.sq st_158_76 (Sd.sq st_158_77 (st_158_80))))))))
theorem dd_158_81 : decode (mi 158).2.1 81 = .ok (.iload_n 1, 1) := by decide +kernel
theorem st_158_81 : Sd 158 81 1 (i_ldI 1) := sd_iload_n (j := 1) dd_158_81 rfl
theorem dd_158_82 : decode (mi 158).2.1 82 = .ok (.iconst 1, 1) := by decide +kernel
theorem st_158_82 : Sd 158 82 1 (i_ic 1) := sd_iconst dd_158_82
theorem dd_158_83 : decode (mi 158).2.1 83 = .ok (.iadd, 1) := by decide +kernel
theorem st_158_83 : Sd 158 83 1 (i_iadd) := sd_iadd dd_158_83
theorem dd_158_84 : decode (mi 158).2.1 84 = .ok (.istore_n 3, 1) := by decide +kernel
theorem st_158_84 : Sd 158 84 1 (i_stI 3) := sd_istore_n (j := 3) dd_158_84 rfl
def bk_158_81 : Tr := sq (i_ldI 1) (sq (i_ic 1) (sq (i_iadd) (sq (i_stI 3) (i_fall 85))))
theorem sb_158_81 : Sd 158 81 4 bk_158_81 := Sd.sq st_158_81 (Sd.sq st_158_82 (Sd.sq st_158_83 (Sd.sq st_158_84 (sd_fall rfl))))
theorem dd_158_85 : decode (mi 158).2.1 85 = .ok (.aload_n 0, 1) := by decide +kernel
theorem st_158_85 : Sd 158 85 1 (i_ldR 0) := sd_aload_n (j := 0) dd_158_85 rfl
theorem dd_158_86 : decode (mi 158).2.1 86 = .ok (.iload_n 3, 1) := by decide +kernel
theorem st_158_86 : Sd 158 86 1 (i_ldI 3) := sd_iload_n (j := 3) dd_158_86 rfl
theorem dd_158_87 : decode (mi 158).2.1 87 = .ok (.invokevirtual 103, 3) := by decide +kernel
theorem st_158_87 : Sd 158 87 3 (i_cV [(2, 129)] 2 4 []) := sd_virt ⟨"ContractDeskModel", "at", "(I)C"⟩ dd_158_87 (by rw [mc_158]; exact tw_1388) (fun t j h => by simp only [List.mem_cons, List.not_mem_nil, or_false, Prod.mk.injEq] at h; obtain ⟨rfl, rfl⟩ := h; exact mn_129) (fun t j h => by simp only [List.mem_cons, List.not_mem_nil, or_false, Prod.mk.injEq] at h; obtain ⟨rfl, rfl⟩ := h; exact ⟨by rw [mn_129]; exact tw_30, by rw [mn_129]; exact tw_1390, mt_129, by decide, by decide⟩) (by unfold prm; decide +kernel) ml_158 (HsOk.nil (by decide +kernel))
theorem dd_158_90 : decode (mi 158).2.1 90 = .ok (.invokestatic 111, 3) := by decide +kernel
theorem st_158_90 : Sd 158 90 3 (i_cS 148 1 4 []) := sd_static dd_158_90 (by rw [mc_158, mn_148]; exact tw_1392) (by rw [mn_148]; exact tw_1393) mt_148 pm_148 ml_158 (HsOk.nil (by decide +kernel))
theorem dd_158_93 : decode (mi 158).2.1 93 = .ok (.ifCond .eq 17, 3) := by decide +kernel
theorem st_158_93 : Sd 158 93 3 (i_zeq 110) := sd_if_eq dd_158_93 (by decide)
theorem dd_158_96 : decode (mi 158).2.1 96 = .ok (.iload_n 3, 1) := by decide +kernel
theorem st_158_96 : Sd 158 96 1 (i_ldI 3) := sd_iload_n (j := 3) dd_158_96 rfl
theorem dd_158_97 : decode (mi 158).2.1 97 = .ok (.iload_n 1, 1) := by decide +kernel
theorem st_158_97 : Sd 158 97 1 (i_ldI 1) := sd_iload_n (j := 1) dd_158_97 rfl
theorem dd_158_98 : decode (mi 158).2.1 98 = .ok (.bipush 7, 2) := by decide +kernel
theorem st_158_98 : Sd 158 98 2 (i_ic 7) := sd_bipush dd_158_98 (by decide)
theorem dd_158_100 : decode (mi 158).2.1 100 = .ok (.iadd, 1) := by decide +kernel
theorem st_158_100 : Sd 158 100 1 (i_iadd) := sd_iadd dd_158_100
theorem dd_158_101 : decode (mi 158).2.1 101 = .ok (.if_icmp .ge 9, 3) := by decide +kernel
theorem st_158_101 : Sd 158 101 3 (i_cge 110) := sd_icmp_ge dd_158_101 (by decide)
theorem dd_158_104 : decode (mi 158).2.1 104 = .ok (.iinc 3 1, 3) := by decide +kernel
theorem st_158_104 : Sd 158 104 3 (i_inc 3 1) := sd_iinc dd_158_104
theorem dd_158_107 : decode (mi 158).2.1 107 = .ok (.goto (-22), 3) := by decide +kernel
theorem st_158_107 : Sd 158 107 3 (i_goto 85) := sd_goto dd_158_107 (by decide)
def bk_158_85 : Tr := sq (i_ldR 0) (sq (i_ldI 3) (sq (i_cV [(2, 129)] 2 4 []) (sq (i_cS 148 1 4 []) (sq (i_zeq 110) (sq (i_ldI 3) (sq (i_ldI 1) (sq (i_ic 7) (sq (i_iadd) (sq (i_cge 110) (sq (i_inc 3 1) (i_goto 85)))))))))))
theorem sb_158_85 : Sd 158 85 25 bk_158_85 := Sd.sq st_158_85 (Sd.sq st_158_86 (Sd.sq st_158_87 (Sd.sq st_158_90 (Sd.sq st_158_93 (Sd.sq st_158_96 (Sd.sq st_158_97 (Sd.sq st_158_98 (Sd.sq st_158_100 (Sd.sq st_158_101 (Sd.sq st_158_104 (st_158_107)))))))))))
theorem dd_158_110 : decode (mi 158).2.1 110 = .ok (.iload_n 2, 1) := by decide +kernel
theorem st_158_110 : Sd 158 110 1 (i_ldI 2) := sd_iload_n (j := 2) dd_158_110 rfl
theorem dd_158_111 : decode (mi 158).2.1 111 = .ok (.bipush 126, 2) := by decide +kernel
theorem st_158_111 : Sd 158 111 2 (i_ic 126) := sd_bipush dd_158_111 (by decide)
theorem dd_158_113 : decode (mi 158).2.1 113 = .ok (.if_icmp .ne 14, 3) := by decide +kernel
theorem st_158_113 : Sd 158 113 3 (i_cne 127) := sd_icmp_ne dd_158_113 (by decide)
theorem dd_158_116 : decode (mi 158).2.1 116 = .ok (.iload_n 3, 1) := by decide +kernel
theorem st_158_116 : Sd 158 116 1 (i_ldI 3) := sd_iload_n (j := 3) dd_158_116 rfl
theorem dd_158_117 : decode (mi 158).2.1 117 = .ok (.iload_n 1, 1) := by decide +kernel
theorem st_158_117 : Sd 158 117 1 (i_ldI 1) := sd_iload_n (j := 1) dd_158_117 rfl
theorem dd_158_118 : decode (mi 158).2.1 118 = .ok (.iconst 1, 1) := by decide +kernel
theorem st_158_118 : Sd 158 118 1 (i_ic 1) := sd_iconst dd_158_118
theorem dd_158_119 : decode (mi 158).2.1 119 = .ok (.iadd, 1) := by decide +kernel
theorem st_158_119 : Sd 158 119 1 (i_iadd) := sd_iadd dd_158_119
theorem dd_158_120 : decode (mi 158).2.1 120 = .ok (.if_icmp .le 7, 3) := by decide +kernel
theorem st_158_120 : Sd 158 120 3 (i_cle 127) := sd_icmp_le dd_158_120 (by decide)
theorem dd_158_123 : decode (mi 158).2.1 123 = .ok (.iload_n 3, 1) := by decide +kernel
theorem st_158_123 : Sd 158 123 1 (i_ldI 3) := sd_iload_n (j := 3) dd_158_123 rfl
theorem dd_158_124 : decode (mi 158).2.1 124 = .ok (.goto 4, 3) := by decide +kernel
theorem st_158_124 : Sd 158 124 3 (i_goto 128) := sd_goto dd_158_124 (by decide)
def bk_158_110 : Tr := sq (i_ldI 2) (sq (i_ic 126) (sq (i_cne 127) (sq (i_ldI 3) (sq (i_ldI 1) (sq (i_ic 1) (sq (i_iadd) (sq (i_cle 127) (sq (i_ldI 3) (i_goto 128)))))))))
theorem sb_158_110 : Sd 158 110 17 bk_158_110 := Sd.sq st_158_110 (Sd.sq st_158_111 (Sd.sq st_158_113 (Sd.sq st_158_116 (Sd.sq st_158_117 (Sd.sq st_158_118 (Sd.sq st_158_119 (Sd.sq st_158_120 (Sd.sq st_158_123 (st_158_124)))))))))
theorem dd_158_127 : decode (mi 158).2.1 127 = .ok (.iconst (-1), 1) := by decide +kernel
theorem st_158_127 : Sd 158 127 1 (i_ic (-1)) := sd_iconst dd_158_127
def bk_158_127 : Tr := sq (i_ic (-1)) (i_fall 128)
theorem sb_158_127 : Sd 158 127 1 bk_158_127 := Sd.sq st_158_127 (sd_fall rfl)
theorem dd_158_128 : decode (mi 158).2.1 128 = .ok (.ireturn, 1) := by decide +kernel
theorem st_158_128 : Sd 158 128 1 (i_rI 0) := sd_ireturn dd_158_128 (by decide) mr_158
def bk_158_128 : Tr := i_rI 0
theorem sb_158_128 : Sd 158 128 1 bk_158_128 := st_158_128
theorem dd_159_0 : decode (mi 159).2.1 0 = .ok (.aload_n 0, 1) := by decide +kernel
theorem st_159_0 : Sd 159 0 1 (i_ldR 0) := sd_aload_n (j := 0) dd_159_0 rfl
theorem dd_159_1 : decode (mi 159).2.1 1 = .ok (.iload_n 1, 1) := by decide +kernel
theorem st_159_1 : Sd 159 1 1 (i_ldI 1) := sd_iload_n (j := 1) dd_159_1 rfl
theorem dd_159_2 : decode (mi 159).2.1 2 = .ok (.invokevirtual 135, 3) := by decide +kernel
theorem st_159_2 : Sd 159 2 3 (i_cV [(2, 165)] 2 6 []) := sd_virt ⟨"ContractDeskModel", "parts", "(I)I"⟩ dd_159_2 (by rw [mc_159]; exact tw_1433) (fun t j h => by simp only [List.mem_cons, List.not_mem_nil, or_false, Prod.mk.injEq] at h; obtain ⟨rfl, rfl⟩ := h; exact mn_165) (fun t j h => by simp only [List.mem_cons, List.not_mem_nil, or_false, Prod.mk.injEq] at h; obtain ⟨rfl, rfl⟩ := h; exact ⟨by rw [mn_165]; exact tw_39, by rw [mn_165]; exact tw_1435, mt_165, by decide, by decide⟩) (by unfold prm; decide +kernel) ml_159 (HsOk.nil (by decide +kernel))
theorem dd_159_5 : decode (mi 159).2.1 5 = .ok (.istore_n 3, 1) := by decide +kernel
theorem st_159_5 : Sd 159 5 1 (i_stI 3) := sd_istore_n (j := 3) dd_159_5 rfl
theorem dd_159_6 : decode (mi 159).2.1 6 = .ok (.iconst 0, 1) := by decide +kernel
theorem st_159_6 : Sd 159 6 1 (i_ic 0) := sd_iconst dd_159_6
theorem dd_159_7 : decode (mi 159).2.1 7 = .ok (.istore 4, 2) := by decide +kernel
theorem st_159_7 : Sd 159 7 2 (i_stI 4) := sd_istore dd_159_7
def bk_159_0 : Tr := sq (i_ldR 0) (sq (i_ldI 1) (sq (i_cV [(2, 165)] 2 6 []) (sq (i_stI 3) (sq (i_ic 0) (sq (i_stI 4) (i_fall 9))))))
theorem sb_159_0 : Sd 159 0 9 bk_159_0 := Sd.sq st_159_0 (Sd.sq st_159_1 (Sd.sq st_159_2 (Sd.sq st_159_5 (Sd.sq st_159_6 (Sd.sq st_159_7 (sd_fall rfl))))))
theorem dd_159_9 : decode (mi 159).2.1 9 = .ok (.iload 4, 2) := by decide +kernel
theorem st_159_9 : Sd 159 9 2 (i_ldI 4) := sd_iload dd_159_9
theorem dd_159_11 : decode (mi 159).2.1 11 = .ok (.iload_n 3, 1) := by decide +kernel
theorem st_159_11 : Sd 159 11 1 (i_ldI 3) := sd_iload_n (j := 3) dd_159_11 rfl
theorem dd_159_12 : decode (mi 159).2.1 12 = .ok (.if_icmp .ge 36, 3) := by decide +kernel
theorem st_159_12 : Sd 159 12 3 (i_cge 48) := sd_icmp_ge dd_159_12 (by decide)
theorem dd_159_15 : decode (mi 159).2.1 15 = .ok (.aload_n 0, 1) := by decide +kernel
theorem st_159_15 : Sd 159 15 1 (i_ldR 0) := sd_aload_n (j := 0) dd_159_15 rfl
theorem dd_159_16 : decode (mi 159).2.1 16 = .ok (.iload_n 1, 1) := by decide +kernel
theorem st_159_16 : Sd 159 16 1 (i_ldI 1) := sd_iload_n (j := 1) dd_159_16 rfl
theorem dd_159_17 : decode (mi 159).2.1 17 = .ok (.iload 4, 2) := by decide +kernel
theorem st_159_17 : Sd 159 17 2 (i_ldI 4) := sd_iload dd_159_17
theorem dd_159_19 : decode (mi 159).2.1 19 = .ok (.invokevirtual 131, 3) := by decide +kernel
theorem st_159_19 : Sd 159 19 3 (i_cV [(2, 164)] 3 6 []) := sd_virt ⟨"ContractDeskModel", "part", "(II)I"⟩ dd_159_19 (by rw [mc_159]; exact tw_1437) (fun t j h => by simp only [List.mem_cons, List.not_mem_nil, or_false, Prod.mk.injEq] at h; obtain ⟨rfl, rfl⟩ := h; exact mn_164) (fun t j h => by simp only [List.mem_cons, List.not_mem_nil, or_false, Prod.mk.injEq] at h; obtain ⟨rfl, rfl⟩ := h; exact ⟨by rw [mn_164]; exact tw_40, by rw [mn_164]; exact tw_1439, mt_164, by decide, by decide⟩) (by unfold prm; decide +kernel) ml_159 (HsOk.nil (by decide +kernel))
theorem dd_159_22 : decode (mi 159).2.1 22 = .ok (.istore 5, 2) := by decide +kernel
theorem st_159_22 : Sd 159 22 2 (i_stI 5) := sd_istore dd_159_22
theorem dd_159_24 : decode (mi 159).2.1 24 = .ok (.aload_n 0, 1) := by decide +kernel
theorem st_159_24 : Sd 159 24 1 (i_ldR 0) := sd_aload_n (j := 0) dd_159_24 rfl
theorem dd_159_25 : decode (mi 159).2.1 25 = .ok (.getfield 7, 3) := by decide +kernel
theorem st_159_25 : Sd 159 25 3 (i_gR 1 [2]) := sd_gR (ref := "ContractDeskModel") (decl := "ContractDeskModel") (name := "all") (desc := "[C") dd_159_25 (by rw [mc_159]; exact tw_1261) (Or.inl rfl) (by decide +kernel)
theorem dd_159_28 : decode (mi 159).2.1 28 = .ok (.iload 5, 2) := by decide +kernel
theorem st_159_28 : Sd 159 28 2 (i_ldI 5) := sd_iload dd_159_28
theorem dd_159_30 : decode (mi 159).2.1 30 = .ok (.iconst 1, 1) := by decide +kernel
theorem st_159_30 : Sd 159 30 1 (i_ic 1) := sd_iconst dd_159_30
theorem dd_159_31 : decode (mi 159).2.1 31 = .ok (.iadd, 1) := by decide +kernel
theorem st_159_31 : Sd 159 31 1 (i_iadd) := sd_iadd dd_159_31
theorem dd_159_32 : decode (mi 159).2.1 32 = .ok (.caload, 1) := by decide +kernel
theorem st_159_32 : Sd 159 32 1 (i_aI [21]) := sd_caload dd_159_32 (by decide)
theorem dd_159_33 : decode (mi 159).2.1 33 = .ok (.iload_n 2, 1) := by decide +kernel
theorem st_159_33 : Sd 159 33 1 (i_ldI 2) := sd_iload_n (j := 2) dd_159_33 rfl
theorem dd_159_34 : decode (mi 159).2.1 34 = .ok (.if_icmp .ne 8, 3) := by decide +kernel
theorem st_159_34 : Sd 159 34 3 (i_cne 42) := sd_icmp_ne dd_159_34 (by decide)
theorem dd_159_37 : decode (mi 159).2.1 37 = .ok (.iload 5, 2) := by decide +kernel
theorem st_159_37 : Sd 159 37 2 (i_ldI 5) := sd_iload dd_159_37
theorem dd_159_39 : decode (mi 159).2.1 39 = .ok (.iconst 4, 1) := by decide +kernel
theorem st_159_39 : Sd 159 39 1 (i_ic 4) := sd_iconst dd_159_39
theorem dd_159_40 : decode (mi 159).2.1 40 = .ok (.iadd, 1) := by decide +kernel
theorem st_159_40 : Sd 159 40 1 (i_iadd) := sd_iadd dd_159_40
theorem dd_159_41 : decode (mi 159).2.1 41 = .ok (.ireturn, 1) := by decide +kernel
theorem st_159_41 : Sd 159 41 1 (i_rI 0) := sd_ireturn dd_159_41 (by decide) mr_159
def bk_159_9 : Tr := sq (i_ldI 4) (sq (i_ldI 3) (sq (i_cge 48) (sq (i_ldR 0) (sq (i_ldI 1) (sq (i_ldI 4) (sq (i_cV [(2, 164)] 3 6 []) (sq (i_stI 5) (sq (i_ldR 0) (sq (i_gR 1 [2]) (sq (i_ldI 5) (sq (i_ic 1) (sq (i_iadd) (sq (i_aI [21]) (sq (i_ldI 2) (sq (i_cne 42) (sq (i_ldI 5) (sq (i_ic 4) (sq (i_iadd) (i_rI 0)))))))))))))))))))
theorem sb_159_9 : Sd 159 9 33 bk_159_9 := Sd.sq st_159_9 (Sd.sq st_159_11 (Sd.sq st_159_12 (Sd.sq st_159_15 (Sd.sq st_159_16 (Sd.sq st_159_17 (Sd.sq st_159_19 (Sd.sq st_159_22 (Sd.sq st_159_24 (Sd.sq st_159_25 (Sd.sq st_159_28 (Sd.sq st_159_30 (Sd.sq st_159_31 (Sd.sq st_159_32 (Sd.sq st_159_33 (Sd.sq st_159_34 (Sd.sq st_159_37 (Sd.sq st_159_39 (Sd.sq st_159_40 (st_159_41)))))))))))))))))))
theorem dd_159_42 : decode (mi 159).2.1 42 = .ok (.iinc 4 1, 3) := by decide +kernel
theorem st_159_42 : Sd 159 42 3 (i_inc 4 1) := sd_iinc dd_159_42
theorem dd_159_45 : decode (mi 159).2.1 45 = .ok (.goto (-36), 3) := by decide +kernel
theorem st_159_45 : Sd 159 45 3 (i_goto 9) := sd_goto dd_159_45 (by decide)
def bk_159_42 : Tr := sq (i_inc 4 1) (i_goto 9)
theorem sb_159_42 : Sd 159 42 6 bk_159_42 := Sd.sq st_159_42 (st_159_45)
theorem dd_159_48 : decode (mi 159).2.1 48 = .ok (.iconst (-1), 1) := by decide +kernel
theorem st_159_48 : Sd 159 48 1 (i_ic (-1)) := sd_iconst dd_159_48
theorem dd_159_49 : decode (mi 159).2.1 49 = .ok (.ireturn, 1) := by decide +kernel
theorem st_159_49 : Sd 159 49 1 (i_rI 0) := sd_ireturn dd_159_49 (by decide) mr_159
def bk_159_48 : Tr := sq (i_ic (-1)) (i_rI 0)
theorem sb_159_48 : Sd 159 48 2 bk_159_48 := Sd.sq st_159_48 (st_159_49)
theorem dd_160_0 : decode (mi 160).2.1 0 = .ok (.aload_n 0, 1) := by decide +kernel
theorem st_160_0 : Sd 160 0 1 (i_ldR 0) := sd_aload_n (j := 0) dd_160_0 rfl
theorem dd_160_1 : decode (mi 160).2.1 1 = .ok (.iload_n 2, 1) := by decide +kernel
theorem st_160_1 : Sd 160 1 1 (i_ldI 2) := sd_iload_n (j := 2) dd_160_1 rfl
theorem dd_160_2 : decode (mi 160).2.1 2 = .ok (.invokevirtual 135, 3) := by decide +kernel
theorem st_160_2 : Sd 160 2 3 (i_cV [(2, 165)] 2 11 []) := sd_virt ⟨"ContractDeskModel", "parts", "(I)I"⟩ dd_160_2 (by rw [mc_160]; exact tw_1433) (fun t j h => by simp only [List.mem_cons, List.not_mem_nil, or_false, Prod.mk.injEq] at h; obtain ⟨rfl, rfl⟩ := h; exact mn_165) (fun t j h => by simp only [List.mem_cons, List.not_mem_nil, or_false, Prod.mk.injEq] at h; obtain ⟨rfl, rfl⟩ := h; exact ⟨by rw [mn_165]; exact tw_39, by rw [mn_165]; exact tw_1435, mt_165, by decide, by decide⟩) (by unfold prm; decide +kernel) ml_160 (HsOk.nil (by decide +kernel))
theorem dd_160_5 : decode (mi 160).2.1 5 = .ok (.istore 5, 2) := by decide +kernel
theorem st_160_5 : Sd 160 5 2 (i_stI 5) := sd_istore dd_160_5
theorem dd_160_7 : decode (mi 160).2.1 7 = .ok (.aload_n 0, 1) := by decide +kernel
theorem st_160_7 : Sd 160 7 1 (i_ldR 0) := sd_aload_n (j := 0) dd_160_7 rfl
theorem dd_160_8 : decode (mi 160).2.1 8 = .ok (.iload_n 3, 1) := by decide +kernel
theorem st_160_8 : Sd 160 8 1 (i_ldI 3) := sd_iload_n (j := 3) dd_160_8 rfl
theorem dd_160_9 : decode (mi 160).2.1 9 = .ok (.invokevirtual 135, 3) := by decide +kernel
theorem st_160_9 : Sd 160 9 3 (i_cV [(2, 165)] 2 11 []) := sd_virt ⟨"ContractDeskModel", "parts", "(I)I"⟩ dd_160_9 (by rw [mc_160]; exact tw_1433) (fun t j h => by simp only [List.mem_cons, List.not_mem_nil, or_false, Prod.mk.injEq] at h; obtain ⟨rfl, rfl⟩ := h; exact mn_165) (fun t j h => by simp only [List.mem_cons, List.not_mem_nil, or_false, Prod.mk.injEq] at h; obtain ⟨rfl, rfl⟩ := h; exact ⟨by rw [mn_165]; exact tw_39, by rw [mn_165]; exact tw_1435, mt_165, by decide, by decide⟩) (by unfold prm; decide +kernel) ml_160 (HsOk.nil (by decide +kernel))
theorem dd_160_12 : decode (mi 160).2.1 12 = .ok (.istore 6, 2) := by decide +kernel
theorem st_160_12 : Sd 160 12 2 (i_stI 6) := sd_istore dd_160_12
theorem dd_160_14 : decode (mi 160).2.1 14 = .ok (.iload 6, 2) := by decide +kernel
theorem st_160_14 : Sd 160 14 2 (i_ldI 6) := sd_iload dd_160_14
theorem dd_160_16 : decode (mi 160).2.1 16 = .ok (.iconst 1, 1) := by decide +kernel
theorem st_160_16 : Sd 160 16 1 (i_ic 1) := sd_iconst dd_160_16
theorem dd_160_17 : decode (mi 160).2.1 17 = .ok (.isub, 1) := by decide +kernel
theorem st_160_17 : Sd 160 17 1 (i_isub) := sd_isub dd_160_17
theorem dd_160_18 : decode (mi 160).2.1 18 = .ok (.istore 7, 2) := by decide +kernel
theorem st_160_18 : Sd 160 18 2 (i_stI 7) := sd_istore dd_160_18
def bk_160_0 : Tr := sq (i_ldR 0) (sq (i_ldI 2) (sq (i_cV [(2, 165)] 2 11 []) (sq (i_stI 5) (sq (i_ldR 0) (sq (i_ldI 3) (sq (i_cV [(2, 165)] 2 11 []) (sq (i_stI 6) (sq (i_ldI 6) (sq (i_ic 1) (sq (i_isub) (sq (i_stI 7) (i_fall 20))))))))))))
theorem sb_160_0 : Sd 160 0 20 bk_160_0 := Sd.sq st_160_0 (Sd.sq st_160_1 (Sd.sq st_160_2 (Sd.sq st_160_5 (Sd.sq st_160_7 (Sd.sq st_160_8 (Sd.sq st_160_9 (Sd.sq st_160_12 (Sd.sq st_160_14 (Sd.sq st_160_16 (Sd.sq st_160_17 (Sd.sq st_160_18 (sd_fall rfl))))))))))))
theorem dd_160_20 : decode (mi 160).2.1 20 = .ok (.iload 7, 2) := by decide +kernel
theorem st_160_20 : Sd 160 20 2 (i_ldI 7) := sd_iload dd_160_20
theorem dd_160_22 : decode (mi 160).2.1 22 = .ok (.ifCond .lt 70, 3) := by decide +kernel
theorem st_160_22 : Sd 160 22 3 (i_zlt 92) := sd_if_lt dd_160_22 (by decide)
theorem dd_160_25 : decode (mi 160).2.1 25 = .ok (.aload_n 0, 1) := by decide +kernel
theorem st_160_25 : Sd 160 25 1 (i_ldR 0) := sd_aload_n (j := 0) dd_160_25 rfl
theorem dd_160_26 : decode (mi 160).2.1 26 = .ok (.getfield 13, 3) := by decide +kernel
theorem st_160_26 : Sd 160 26 3 (i_gR 4 [2]) := sd_gR (ref := "ContractDeskModel") (decl := "ContractDeskModel") (name := "strict") (desc := "[Z") dd_160_26 (by rw [mc_160]; exact tw_1264) (Or.inl rfl) (by decide +kernel)
theorem dd_160_29 : decode (mi 160).2.1 29 = .ok (.iload_n 1, 1) := by decide +kernel
theorem st_160_29 : Sd 160 29 1 (i_ldI 1) := sd_iload_n (j := 1) dd_160_29 rfl
theorem dd_160_30 : decode (mi 160).2.1 30 = .ok (.baload, 1) := by decide +kernel
theorem st_160_30 : Sd 160 30 1 (i_aI [22]) := sd_baloadZ dd_160_30 (by decide)
theorem dd_160_31 : decode (mi 160).2.1 31 = .ok (.ifCond .eq 61, 3) := by decide +kernel
theorem st_160_31 : Sd 160 31 3 (i_zeq 92) := sd_if_eq dd_160_31 (by decide)
theorem dd_160_34 : decode (mi 160).2.1 34 = .ok (.aload_n 0, 1) := by decide +kernel
theorem st_160_34 : Sd 160 34 1 (i_ldR 0) := sd_aload_n (j := 0) dd_160_34 rfl
theorem dd_160_35 : decode (mi 160).2.1 35 = .ok (.iload_n 3, 1) := by decide +kernel
theorem st_160_35 : Sd 160 35 1 (i_ldI 3) := sd_iload_n (j := 3) dd_160_35 rfl
theorem dd_160_36 : decode (mi 160).2.1 36 = .ok (.iload 7, 2) := by decide +kernel
theorem st_160_36 : Sd 160 36 2 (i_ldI 7) := sd_iload dd_160_36
theorem dd_160_38 : decode (mi 160).2.1 38 = .ok (.invokevirtual 131, 3) := by decide +kernel
theorem st_160_38 : Sd 160 38 3 (i_cV [(2, 164)] 3 11 []) := sd_virt ⟨"ContractDeskModel", "part", "(II)I"⟩ dd_160_38 (by rw [mc_160]; exact tw_1437) (fun t j h => by simp only [List.mem_cons, List.not_mem_nil, or_false, Prod.mk.injEq] at h; obtain ⟨rfl, rfl⟩ := h; exact mn_164) (fun t j h => by simp only [List.mem_cons, List.not_mem_nil, or_false, Prod.mk.injEq] at h; obtain ⟨rfl, rfl⟩ := h; exact ⟨by rw [mn_164]; exact tw_40, by rw [mn_164]; exact tw_1439, mt_164, by decide, by decide⟩) (by unfold prm; decide +kernel) ml_160 (HsOk.nil (by decide +kernel))
theorem dd_160_41 : decode (mi 160).2.1 41 = .ok (.istore 8, 2) := by decide +kernel
theorem st_160_41 : Sd 160 41 2 (i_stI 8) := sd_istore dd_160_41
theorem dd_160_43 : decode (mi 160).2.1 43 = .ok (.aload_n 0, 1) := by decide +kernel
theorem st_160_43 : Sd 160 43 1 (i_ldR 0) := sd_aload_n (j := 0) dd_160_43 rfl
theorem dd_160_44 : decode (mi 160).2.1 44 = .ok (.iload_n 2, 1) := by decide +kernel
theorem st_160_44 : Sd 160 44 1 (i_ldI 2) := sd_iload_n (j := 2) dd_160_44 rfl
theorem dd_160_45 : decode (mi 160).2.1 45 = .ok (.aload_n 0, 1) := by decide +kernel
theorem st_160_45 : Sd 160 45 1 (i_ldR 0) := sd_aload_n (j := 0) dd_160_45 rfl
theorem dd_160_46 : decode (mi 160).2.1 46 = .ok (.getfield 7, 3) := by decide +kernel
theorem st_160_46 : Sd 160 46 3 (i_gR 1 [2]) := sd_gR (ref := "ContractDeskModel") (decl := "ContractDeskModel") (name := "all") (desc := "[C") dd_160_46 (by rw [mc_160]; exact tw_1261) (Or.inl rfl) (by decide +kernel)
theorem dd_160_49 : decode (mi 160).2.1 49 = .ok (.iload 8, 2) := by decide +kernel
theorem st_160_49 : Sd 160 49 2 (i_ldI 8) := sd_iload dd_160_49
theorem dd_160_51 : decode (mi 160).2.1 51 = .ok (.iconst 1, 1) := by decide +kernel
theorem st_160_51 : Sd 160 51 1 (i_ic 1) := sd_iconst dd_160_51
theorem dd_160_52 : decode (mi 160).2.1 52 = .ok (.iadd, 1) := by decide +kernel
theorem st_160_52 : Sd 160 52 1 (i_iadd) := sd_iadd dd_160_52
theorem dd_160_53 : decode (mi 160).2.1 53 = .ok (.caload, 1) := by decide +kernel
theorem st_160_53 : Sd 160 53 1 (i_aI [21]) := sd_caload dd_160_53 (by decide)
theorem dd_160_54 : decode (mi 160).2.1 54 = .ok (.invokevirtual 142, 3) := by decide +kernel
theorem st_160_54 : Sd 160 54 3 (i_cV [(2, 159)] 3 11 []) := sd_virt ⟨"ContractDeskModel", "member", "(IC)I"⟩ dd_160_54 (by rw [mc_160]; exact tw_1441) (fun t j h => by simp only [List.mem_cons, List.not_mem_nil, or_false, Prod.mk.injEq] at h; obtain ⟨rfl, rfl⟩ := h; exact mn_159) (fun t j h => by simp only [List.mem_cons, List.not_mem_nil, or_false, Prod.mk.injEq] at h; obtain ⟨rfl, rfl⟩ := h; exact ⟨by rw [mn_159]; exact tw_41, by rw [mn_159]; exact tw_1443, mt_159, by decide, by decide⟩) (by unfold prm; decide +kernel) ml_160 (HsOk.nil (by decide +kernel))
theorem dd_160_57 : decode (mi 160).2.1 57 = .ok (.ifCond .ge 29, 3) := by decide +kernel
theorem st_160_57 : Sd 160 57 3 (i_zge 86) := sd_if_ge dd_160_57 (by decide)
theorem dd_160_60 : decode (mi 160).2.1 60 = .ok (.aload_n 0, 1) := by decide +kernel
theorem st_160_60 : Sd 160 60 1 (i_ldR 0) := sd_aload_n (j := 0) dd_160_60 rfl
theorem dd_160_61 : decode (mi 160).2.1 61 = .ok (.iload 4, 2) := by decide +kernel
theorem st_160_61 : Sd 160 61 2 (i_ldI 4) := sd_iload dd_160_61
theorem dd_160_63 : decode (mi 160).2.1 63 = .ok (.aload_n 0, 1) := by decide +kernel
theorem st_160_63 : Sd 160 63 1 (i_ldR 0) := sd_aload_n (j := 0) dd_160_63 rfl
theorem dd_160_64 : decode (mi 160).2.1 64 = .ok (.getfield 7, 3) := by decide +kernel
theorem st_160_64 : Sd 160 64 3 (i_gR 1 [2]) := sd_gR (ref := "ContractDeskModel") (decl := "ContractDeskModel") (name := "all") (desc := "[C") dd_160_64 (by rw [mc_160]; exact tw_1261) (Or.inl rfl) (by decide +kernel)
theorem dd_160_67 : decode (mi 160).2.1 67 = .ok (.iload 8, 2) := by decide +kernel
theorem st_160_67 : Sd 160 67 2 (i_ldI 8) := sd_iload dd_160_67
theorem dd_160_69 : decode (mi 160).2.1 69 = .ok (.iconst 1, 1) := by decide +kernel
theorem st_160_69 : Sd 160 69 1 (i_ic 1) := sd_iconst dd_160_69
theorem dd_160_70 : decode (mi 160).2.1 70 = .ok (.iadd, 1) := by decide +kernel
theorem st_160_70 : Sd 160 70 1 (i_iadd) := sd_iadd dd_160_70
theorem dd_160_71 : decode (mi 160).2.1 71 = .ok (.caload, 1) := by decide +kernel
theorem st_160_71 : Sd 160 71 1 (i_aI [21]) := sd_caload dd_160_71 (by decide)
theorem dd_160_72 : decode (mi 160).2.1 72 = .ok (.invokevirtual 237, 3) := by decide +kernel
theorem st_160_72 : Sd 160 72 3 (i_cV [(2, 166)] 3 11 []) := sd_virt ⟨"ContractDeskModel", "place", "(II)I"⟩ dd_160_72 (by rw [mc_160]; exact tw_1561) (fun t j h => by simp only [List.mem_cons, List.not_mem_nil, or_false, Prod.mk.injEq] at h; obtain ⟨rfl, rfl⟩ := h; exact mn_166) (fun t j h => by simp only [List.mem_cons, List.not_mem_nil, or_false, Prod.mk.injEq] at h; obtain ⟨rfl, rfl⟩ := h; exact ⟨by rw [mn_166]; exact tw_66, by rw [mn_166]; exact tw_1563, mt_166, by decide, by decide⟩) (by unfold prm; decide +kernel) ml_160 (HsOk.nil (by decide +kernel))
theorem dd_160_75 : decode (mi 160).2.1 75 = .ok (.istore 9, 2) := by decide +kernel
theorem st_160_75 : Sd 160 75 2 (i_stI 9) := sd_istore dd_160_75
theorem dd_160_77 : decode (mi 160).2.1 77 = .ok (.aload_n 0, 1) := by decide +kernel
theorem st_160_77 : Sd 160 77 1 (i_ldR 0) := sd_aload_n (j := 0) dd_160_77 rfl
theorem dd_160_78 : decode (mi 160).2.1 78 = .ok (.iconst 4, 1) := by decide +kernel
theorem st_160_78 : Sd 160 78 1 (i_ic 4) := sd_iconst dd_160_78
theorem dd_160_79 : decode (mi 160).2.1 79 = .ok (.iconst 0, 1) := by decide +kernel
theorem st_160_79 : Sd 160 79 1 (i_ic 0) := sd_iconst dd_160_79
theorem dd_160_80 : decode (mi 160).2.1 80 = .ok (.iconst 0, 1) := by decide +kernel
theorem st_160_80 : Sd 160 80 1 (i_ic 0) := sd_iconst dd_160_80
theorem dd_160_81 : decode (mi 160).2.1 81 = .ok (.iload 9, 2) := by decide +kernel
theorem st_160_81 : Sd 160 81 2 (i_ldI 9) := sd_iload dd_160_81
theorem dd_160_83 : decode (mi 160).2.1 83 = .ok (.invokevirtual 240, 3) := by decide +kernel
theorem st_160_83 : Sd 160 83 3 (i_cV [(2, 168)] 5 11 []) := sd_virt ⟨"ContractDeskModel", "push", "(IIII)V"⟩ dd_160_83 (by rw [mc_160]; exact tw_1513) (fun t j h => by simp only [List.mem_cons, List.not_mem_nil, or_false, Prod.mk.injEq] at h; obtain ⟨rfl, rfl⟩ := h; exact mn_168) (fun t j h => by simp only [List.mem_cons, List.not_mem_nil, or_false, Prod.mk.injEq] at h; obtain ⟨rfl, rfl⟩ := h; exact ⟨by rw [mn_168]; exact tw_54, by rw [mn_168]; exact tw_1515, mt_168, by decide, by decide⟩) (by unfold prm; decide +kernel) ml_160 (HsOk.nil (by decide +kernel))
def bk_160_20 : Tr := sq (i_ldI 7) (sq (i_zlt 92) (sq (i_ldR 0) (sq (i_gR 4 [2]) (sq (i_ldI 1) (sq (i_aI [22]) (sq (i_zeq 92) (sq (i_ldR 0) (sq (i_ldI 3) (sq (i_ldI 7) (sq (i_cV [(2, 164)] 3 11 []) (sq (i_stI 8) (sq (i_ldR 0) (sq (i_ldI 2) (sq (i_ldR 0) (sq (i_gR 1 [2]) (sq (i_ldI 8) (sq (i_ic 1) (sq (i_iadd) (sq (i_aI [21]) (sq (i_cV [(2, 159)] 3 11 []) (sq (i_zge 86) (sq (i_ldR 0) (sq (i_ldI 4) (sq (i_ldR 0) (sq (i_gR 1 [2]) (sq (i_ldI 8) (sq (i_ic 1) (sq (i_iadd) (sq (i_aI [21]) (sq (i_cV [(2, 166)] 3 11 []) (sq (i_stI 9) (sq (i_ldR 0) (sq (i_ic 4) (sq (i_ic 0) (sq (i_ic 0) (sq (i_ldI 9) (sq (i_cV [(2, 168)] 5 11 []) (i_fall 86))))))))))))))))))))))))))))))))))))))
theorem sb_160_20 : Sd 160 20 66 bk_160_20 := Sd.sq st_160_20 (Sd.sq st_160_22 (Sd.sq st_160_25 (Sd.sq st_160_26 (Sd.sq st_160_29 (Sd.sq st_160_30 (Sd.sq st_160_31 (Sd.sq st_160_34 (Sd.sq st_160_35 (Sd.sq st_160_36 (Sd.sq st_160_38 (Sd.sq st_160_41 (Sd.sq st_160_43 (Sd.sq st_160_44 (Sd.sq st_160_45 (Sd.sq st_160_46 (Sd.sq st_160_49 (Sd.sq st_160_51 (Sd.sq st_160_52 (Sd.sq st_160_53 (Sd.sq st_160_54 (Sd.sq st_160_57 (Sd.sq st_160_60 (Sd.sq st_160_61 (Sd.sq st_160_63 (Sd.sq st_160_64 (Sd.sq st_160_67 (Sd.sq st_160_69 (Sd.sq st_160_70 (Sd.sq st_160_71 (Sd.sq st_160_72 (Sd.sq st_160_75 (Sd.sq st_160_77 (Sd.sq st_160_78 (Sd.sq st_160_79 (Sd.sq st_160_80 (Sd.sq st_160_81 (Sd.sq st_160_83 (sd_fall rfl))))))))))))))))))))))))))))))))))))))
theorem dd_160_86 : decode (mi 160).2.1 86 = .ok (.iinc 7 (-1), 3) := by decide +kernel
theorem st_160_86 : Sd 160 86 3 (i_inc 7 (-1)) := sd_iinc dd_160_86
theorem dd_160_89 : decode (mi 160).2.1 89 = .ok (.goto (-69), 3) := by decide +kernel
theorem st_160_89 : Sd 160 89 3 (i_goto 20) := sd_goto dd_160_89 (by decide)
def bk_160_86 : Tr := sq (i_inc 7 (-1)) (i_goto 20)
theorem sb_160_86 : Sd 160 86 6 bk_160_86 := Sd.sq st_160_86 (st_160_89)
theorem dd_160_92 : decode (mi 160).2.1 92 = .ok (.iload 5, 2) := by decide +kernel
theorem st_160_92 : Sd 160 92 2 (i_ldI 5) := sd_iload dd_160_92
theorem dd_160_94 : decode (mi 160).2.1 94 = .ok (.iconst 1, 1) := by decide +kernel
theorem st_160_94 : Sd 160 94 1 (i_ic 1) := sd_iconst dd_160_94
theorem dd_160_95 : decode (mi 160).2.1 95 = .ok (.isub, 1) := by decide +kernel
theorem st_160_95 : Sd 160 95 1 (i_isub) := sd_isub dd_160_95
theorem dd_160_96 : decode (mi 160).2.1 96 = .ok (.istore 7, 2) := by decide +kernel
theorem st_160_96 : Sd 160 96 2 (i_stI 7) := sd_istore dd_160_96
def bk_160_92 : Tr := sq (i_ldI 5) (sq (i_ic 1) (sq (i_isub) (sq (i_stI 7) (i_fall 98))))
theorem sb_160_92 : Sd 160 92 6 bk_160_92 := Sd.sq st_160_92 (Sd.sq st_160_94 (Sd.sq st_160_95 (Sd.sq st_160_96 (sd_fall rfl))))
theorem dd_160_98 : decode (mi 160).2.1 98 = .ok (.iload 7, 2) := by decide +kernel
theorem st_160_98 : Sd 160 98 2 (i_ldI 7) := sd_iload dd_160_98
theorem dd_160_100 : decode (mi 160).2.1 100 = .ok (.ifCond .lt 73, 3) := by decide +kernel
theorem st_160_100 : Sd 160 100 3 (i_zlt 173) := sd_if_lt dd_160_100 (by decide)
theorem dd_160_103 : decode (mi 160).2.1 103 = .ok (.aload_n 0, 1) := by decide +kernel
theorem st_160_103 : Sd 160 103 1 (i_ldR 0) := sd_aload_n (j := 0) dd_160_103 rfl
theorem dd_160_104 : decode (mi 160).2.1 104 = .ok (.iload_n 2, 1) := by decide +kernel
theorem st_160_104 : Sd 160 104 1 (i_ldI 2) := sd_iload_n (j := 2) dd_160_104 rfl
theorem dd_160_105 : decode (mi 160).2.1 105 = .ok (.iload 7, 2) := by decide +kernel
theorem st_160_105 : Sd 160 105 2 (i_ldI 7) := sd_iload dd_160_105
theorem dd_160_107 : decode (mi 160).2.1 107 = .ok (.invokevirtual 131, 3) := by decide +kernel
theorem st_160_107 : Sd 160 107 3 (i_cV [(2, 164)] 3 11 []) := sd_virt ⟨"ContractDeskModel", "part", "(II)I"⟩ dd_160_107 (by rw [mc_160]; exact tw_1437) (fun t j h => by simp only [List.mem_cons, List.not_mem_nil, or_false, Prod.mk.injEq] at h; obtain ⟨rfl, rfl⟩ := h; exact mn_164) (fun t j h => by simp only [List.mem_cons, List.not_mem_nil, or_false, Prod.mk.injEq] at h; obtain ⟨rfl, rfl⟩ := h; exact ⟨by rw [mn_164]; exact tw_40, by rw [mn_164]; exact tw_1439, mt_164, by decide, by decide⟩) (by unfold prm; decide +kernel) ml_160 (HsOk.nil (by decide +kernel))
theorem dd_160_110 : decode (mi 160).2.1 110 = .ok (.istore 8, 2) := by decide +kernel
theorem st_160_110 : Sd 160 110 2 (i_stI 8) := sd_istore dd_160_110
theorem dd_160_112 : decode (mi 160).2.1 112 = .ok (.aload_n 0, 1) := by decide +kernel
theorem st_160_112 : Sd 160 112 1 (i_ldR 0) := sd_aload_n (j := 0) dd_160_112 rfl
theorem dd_160_113 : decode (mi 160).2.1 113 = .ok (.iload_n 3, 1) := by decide +kernel
theorem st_160_113 : Sd 160 113 1 (i_ldI 3) := sd_iload_n (j := 3) dd_160_113 rfl
theorem dd_160_114 : decode (mi 160).2.1 114 = .ok (.aload_n 0, 1) := by decide +kernel
theorem st_160_114 : Sd 160 114 1 (i_ldR 0) := sd_aload_n (j := 0) dd_160_114 rfl
theorem dd_160_115 : decode (mi 160).2.1 115 = .ok (.getfield 7, 3) := by decide +kernel
theorem st_160_115 : Sd 160 115 3 (i_gR 1 [2]) := sd_gR (ref := "ContractDeskModel") (decl := "ContractDeskModel") (name := "all") (desc := "[C") dd_160_115 (by rw [mc_160]; exact tw_1261) (Or.inl rfl) (by decide +kernel)
theorem dd_160_118 : decode (mi 160).2.1 118 = .ok (.iload 8, 2) := by decide +kernel
theorem st_160_118 : Sd 160 118 2 (i_ldI 8) := sd_iload dd_160_118
theorem dd_160_120 : decode (mi 160).2.1 120 = .ok (.iconst 1, 1) := by decide +kernel
theorem st_160_120 : Sd 160 120 1 (i_ic 1) := sd_iconst dd_160_120
theorem dd_160_121 : decode (mi 160).2.1 121 = .ok (.iadd, 1) := by decide +kernel
theorem st_160_121 : Sd 160 121 1 (i_iadd) := sd_iadd dd_160_121
theorem dd_160_122 : decode (mi 160).2.1 122 = .ok (.caload, 1) := by decide +kernel
theorem st_160_122 : Sd 160 122 1 (i_aI [21]) := sd_caload dd_160_122 (by decide)
theorem dd_160_123 : decode (mi 160).2.1 123 = .ok (.invokevirtual 142, 3) := by decide +kernel
theorem st_160_123 : Sd 160 123 3 (i_cV [(2, 159)] 3 11 []) := sd_virt ⟨"ContractDeskModel", "member", "(IC)I"⟩ dd_160_123 (by rw [mc_160]; exact tw_1441) (fun t j h => by simp only [List.mem_cons, List.not_mem_nil, or_false, Prod.mk.injEq] at h; obtain ⟨rfl, rfl⟩ := h; exact mn_159) (fun t j h => by simp only [List.mem_cons, List.not_mem_nil, or_false, Prod.mk.injEq] at h; obtain ⟨rfl, rfl⟩ := h; exact ⟨by rw [mn_159]; exact tw_41, by rw [mn_159]; exact tw_1443, mt_159, by decide, by decide⟩) (by unfold prm; decide +kernel) ml_160 (HsOk.nil (by decide +kernel))
theorem dd_160_126 : decode (mi 160).2.1 126 = .ok (.istore 9, 2) := by decide +kernel
theorem st_160_126 : Sd 160 126 2 (i_stI 9) := sd_istore dd_160_126
theorem dd_160_128 : decode (mi 160).2.1 128 = .ok (.aload_n 0, 1) := by decide +kernel
theorem st_160_128 : Sd 160 128 1 (i_ldR 0) := sd_aload_n (j := 0) dd_160_128 rfl
theorem dd_160_129 : decode (mi 160).2.1 129 = .ok (.iload 4, 2) := by decide +kernel
theorem st_160_129 : Sd 160 129 2 (i_ldI 4) := sd_iload dd_160_129
theorem dd_160_131 : decode (mi 160).2.1 131 = .ok (.aload_n 0, 1) := by decide +kernel
theorem st_160_131 : Sd 160 131 1 (i_ldR 0) := sd_aload_n (j := 0) dd_160_131 rfl
theorem dd_160_132 : decode (mi 160).2.1 132 = .ok (.getfield 7, 3) := by decide +kernel
theorem st_160_132 : Sd 160 132 3 (i_gR 1 [2]) := sd_gR (ref := "ContractDeskModel") (decl := "ContractDeskModel") (name := "all") (desc := "[C") dd_160_132 (by rw [mc_160]; exact tw_1261) (Or.inl rfl) (by decide +kernel)
theorem dd_160_135 : decode (mi 160).2.1 135 = .ok (.iload 8, 2) := by decide +kernel
theorem st_160_135 : Sd 160 135 2 (i_ldI 8) := sd_iload dd_160_135
theorem dd_160_137 : decode (mi 160).2.1 137 = .ok (.iconst 1, 1) := by decide +kernel
theorem st_160_137 : Sd 160 137 1 (i_ic 1) := sd_iconst dd_160_137
theorem dd_160_138 : decode (mi 160).2.1 138 = .ok (.iadd, 1) := by decide +kernel
theorem st_160_138 : Sd 160 138 1 (i_iadd) := sd_iadd dd_160_138
theorem dd_160_139 : decode (mi 160).2.1 139 = .ok (.caload, 1) := by decide +kernel
theorem st_160_139 : Sd 160 139 1 (i_aI [21]) := sd_caload dd_160_139 (by decide)
theorem dd_160_140 : decode (mi 160).2.1 140 = .ok (.invokevirtual 237, 3) := by decide +kernel
theorem st_160_140 : Sd 160 140 3 (i_cV [(2, 166)] 3 11 []) := sd_virt ⟨"ContractDeskModel", "place", "(II)I"⟩ dd_160_140 (by rw [mc_160]; exact tw_1561) (fun t j h => by simp only [List.mem_cons, List.not_mem_nil, or_false, Prod.mk.injEq] at h; obtain ⟨rfl, rfl⟩ := h; exact mn_166) (fun t j h => by simp only [List.mem_cons, List.not_mem_nil, or_false, Prod.mk.injEq] at h; obtain ⟨rfl, rfl⟩ := h; exact ⟨by rw [mn_166]; exact tw_66, by rw [mn_166]; exact tw_1563, mt_166, by decide, by decide⟩) (by unfold prm; decide +kernel) ml_160 (HsOk.nil (by decide +kernel))
theorem dd_160_143 : decode (mi 160).2.1 143 = .ok (.istore 10, 2) := by decide +kernel
theorem st_160_143 : Sd 160 143 2 (i_stI 10) := sd_istore dd_160_143
theorem dd_160_145 : decode (mi 160).2.1 145 = .ok (.aload_n 0, 1) := by decide +kernel
theorem st_160_145 : Sd 160 145 1 (i_ldR 0) := sd_aload_n (j := 0) dd_160_145 rfl
theorem dd_160_146 : decode (mi 160).2.1 146 = .ok (.iload 9, 2) := by decide +kernel
theorem st_160_146 : Sd 160 146 2 (i_ldI 9) := sd_iload dd_160_146
theorem dd_160_148 : decode (mi 160).2.1 148 = .ok (.ifCond .ge 7, 3) := by decide +kernel
theorem st_160_148 : Sd 160 148 3 (i_zge 155) := sd_if_ge dd_160_148 (by decide)
theorem dd_160_151 : decode (mi 160).2.1 151 = .ok (.iconst 3, 1) := by decide +kernel
theorem st_160_151 : Sd 160 151 1 (i_ic 3) := sd_iconst dd_160_151
theorem dd_160_152 : decode (mi 160).2.1 152 = .ok (.goto 4, 3) := by decide +kernel
theorem st_160_152 : Sd 160 152 3 (i_goto 156) := sd_goto dd_160_152 (by decide)
def bk_160_98 : Tr := sq (i_ldI 7) (sq (i_zlt 173) (sq (i_ldR 0) (sq (i_ldI 2) (sq (i_ldI 7) (sq (i_cV [(2, 164)] 3 11 []) (sq (i_stI 8) (sq (i_ldR 0) (sq (i_ldI 3) (sq (i_ldR 0) (sq (i_gR 1 [2]) (sq (i_ldI 8) (sq (i_ic 1) (sq (i_iadd) (sq (i_aI [21]) (sq (i_cV [(2, 159)] 3 11 []) (sq (i_stI 9) (sq (i_ldR 0) (sq (i_ldI 4) (sq (i_ldR 0) (sq (i_gR 1 [2]) (sq (i_ldI 8) (sq (i_ic 1) (sq (i_iadd) (sq (i_aI [21]) (sq (i_cV [(2, 166)] 3 11 []) (sq (i_stI 10) (sq (i_ldR 0) (sq (i_ldI 9) (sq (i_zge 155) (sq (i_ic 3) (i_goto 156)))))))))))))))))))))))))))))))
theorem sb_160_98 : Sd 160 98 57 bk_160_98 := Sd.sq st_160_98 (Sd.sq st_160_100 (Sd.sq st_160_103 (Sd.sq st_160_104 (Sd.sq st_160_105 (Sd.sq st_160_107 (Sd.sq st_160_110 (Sd.sq st_160_112 (Sd.sq st_160_113 (Sd.sq st_160_114 (Sd.sq st_160_115 (Sd.sq st_160_118 (Sd.sq st_160_120 (Sd.sq st_160_121 (Sd.sq st_160_122 (Sd.sq st_160_123 (Sd.sq st_160_126 (Sd.sq st_160_128 (Sd.sq st_160_129 (Sd.sq st_160_131 (Sd.sq st_160_132 (Sd.sq st_160_135 (Sd.sq st_160_137 (Sd.sq st_160_138 (Sd.sq st_160_139 (Sd.sq st_160_140 (Sd.sq st_160_143 (Sd.sq st_160_145 (Sd.sq st_160_146 (Sd.sq st_160_148 (Sd.sq st_160_151 (st_160_152)))))))))))))))))))))))))))))))
theorem dd_160_155 : decode (mi 160).2.1 155 = .ok (.iconst 0, 1) := by decide +kernel
theorem st_160_155 : Sd 160 155 1 (i_ic 0) := sd_iconst dd_160_155
def bk_160_155 : Tr := sq (i_ic 0) (i_fall 156)
theorem sb_160_155 : Sd 160 155 1 bk_160_155 := Sd.sq st_160_155 (sd_fall rfl)
theorem dd_160_156 : decode (mi 160).2.1 156 = .ok (.iload 8, 2) := by decide +kernel
theorem st_160_156 : Sd 160 156 2 (i_ldI 8) := sd_iload dd_160_156
theorem dd_160_158 : decode (mi 160).2.1 158 = .ok (.iconst 4, 1) := by decide +kernel
theorem st_160_158 : Sd 160 158 1 (i_ic 4) := sd_iconst dd_160_158
theorem dd_160_159 : decode (mi 160).2.1 159 = .ok (.iadd, 1) := by decide +kernel
theorem st_160_159 : Sd 160 159 1 (i_iadd) := sd_iadd dd_160_159
theorem dd_160_160 : decode (mi 160).2.1 160 = .ok (.iload 9, 2) := by decide +kernel
theorem st_160_160 : Sd 160 160 2 (i_ldI 9) := sd_iload dd_160_160
theorem dd_160_162 : decode (mi 160).2.1 162 = .ok (.iload 10, 2) := by decide +kernel
theorem st_160_162 : Sd 160 162 2 (i_ldI 10) := sd_iload dd_160_162
theorem dd_160_164 : decode (mi 160).2.1 164 = .ok (.invokevirtual 240, 3) := by decide +kernel
theorem st_160_164 : Sd 160 164 3 (i_cV [(2, 168)] 5 11 []) := sd_virt ⟨"ContractDeskModel", "push", "(IIII)V"⟩ dd_160_164 (by rw [mc_160]; exact tw_1513) (fun t j h => by simp only [List.mem_cons, List.not_mem_nil, or_false, Prod.mk.injEq] at h; obtain ⟨rfl, rfl⟩ := h; exact mn_168) (fun t j h => by simp only [List.mem_cons, List.not_mem_nil, or_false, Prod.mk.injEq] at h; obtain ⟨rfl, rfl⟩ := h; exact ⟨by rw [mn_168]; exact tw_54, by rw [mn_168]; exact tw_1515, mt_168, by decide, by decide⟩) (by unfold prm; decide +kernel) ml_160 (HsOk.nil (by decide +kernel))
theorem dd_160_167 : decode (mi 160).2.1 167 = .ok (.iinc 7 (-1), 3) := by decide +kernel
theorem st_160_167 : Sd 160 167 3 (i_inc 7 (-1)) := sd_iinc dd_160_167
theorem dd_160_170 : decode (mi 160).2.1 170 = .ok (.goto (-72), 3) := by decide +kernel
theorem st_160_170 : Sd 160 170 3 (i_goto 98) := sd_goto dd_160_170 (by decide)
def bk_160_156 : Tr := sq (i_ldI 8) (sq (i_ic 4) (sq (i_iadd) (sq (i_ldI 9) (sq (i_ldI 10) (sq (i_cV [(2, 168)] 5 11 []) (sq (i_inc 7 (-1)) (i_goto 98)))))))
theorem sb_160_156 : Sd 160 156 17 bk_160_156 := Sd.sq st_160_156 (Sd.sq st_160_158 (Sd.sq st_160_159 (Sd.sq st_160_160 (Sd.sq st_160_162 (Sd.sq st_160_164 (Sd.sq st_160_167 (st_160_170)))))))
theorem dd_160_173 : decode (mi 160).2.1 173 = .ok (.return_, 1) := by decide +kernel
theorem st_160_173 : Sd 160 173 1 (i_ret) := sd_ret dd_160_173 mr_160
def bk_160_173 : Tr := i_ret
theorem sb_160_173 : Sd 160 173 1 bk_160_173 := st_160_173
theorem dd_161_0 : decode (mi 161).2.1 0 = .ok (.aload_n 0, 1) := by decide +kernel
theorem st_161_0 : Sd 161 0 1 (i_ldR 0) := sd_aload_n (j := 0) dd_161_0 rfl
theorem dd_161_1 : decode (mi 161).2.1 1 = .ok (.iconst 0, 1) := by decide +kernel
theorem st_161_1 : Sd 161 1 1 (i_ic 0) := sd_iconst dd_161_1
theorem dd_161_2 : decode (mi 161).2.1 2 = .ok (.putfield 93, 3) := by decide +kernel
theorem st_161_2 : Sd 161 2 3 (i_pI 0 [2] 0) := sd_pI (ref := "ContractDeskModel") (decl := "ContractDeskModel") (name := "thrown") (desc := "I") dd_161_2 (by rw [mc_161]; exact tw_1260) (Or.inl rfl) (by decide +kernel) (by decide +kernel) (by decide)
theorem dd_161_5 : decode (mi 161).2.1 5 = .ok (.iload_n 1, 1) := by decide +kernel
theorem st_161_5 : Sd 161 5 1 (i_ldI 1) := sd_iload_n (j := 1) dd_161_5 rfl
theorem dd_161_6 : decode (mi 161).2.1 6 = .ok (.ifCond .lt 20, 3) := by decide +kernel
theorem st_161_6 : Sd 161 6 3 (i_zlt 26) := sd_if_lt dd_161_6 (by decide)
theorem dd_161_9 : decode (mi 161).2.1 9 = .ok (.iload_n 1, 1) := by decide +kernel
theorem st_161_9 : Sd 161 9 1 (i_ldI 1) := sd_iload_n (j := 1) dd_161_9 rfl
theorem dd_161_10 : decode (mi 161).2.1 10 = .ok (.aload_n 0, 1) := by decide +kernel
theorem st_161_10 : Sd 161 10 1 (i_ldR 0) := sd_aload_n (j := 0) dd_161_10 rfl
theorem dd_161_11 : decode (mi 161).2.1 11 = .ok (.getfield 215, 3) := by decide +kernel
theorem st_161_11 : Sd 161 11 3 (i_gI 13 [2]) := sd_gI (ref := "ContractDeskModel") (decl := "ContractDeskModel") (name := "listed") (desc := "I") dd_161_11 (by rw [mc_161]; exact tw_1273) (Or.inl rfl) (by decide +kernel)
theorem dd_161_14 : decode (mi 161).2.1 14 = .ok (.if_icmp .ge 12, 3) := by decide +kernel
theorem st_161_14 : Sd 161 14 3 (i_cge 26) := sd_icmp_ge dd_161_14 (by decide)
theorem dd_161_17 : decode (mi 161).2.1 17 = .ok (.aload_n 0, 1) := by decide +kernel
theorem st_161_17 : Sd 161 17 1 (i_ldR 0) := sd_aload_n (j := 0) dd_161_17 rfl
theorem dd_161_18 : decode (mi 161).2.1 18 = .ok (.getfield 39, 3) := by decide +kernel
theorem st_161_18 : Sd 161 18 3 (i_gR 14 [2]) := sd_gR (ref := "ContractDeskModel") (decl := "ContractDeskModel") (name := "kinds") (desc := "[I") dd_161_18 (by rw [mc_161]; exact tw_1274) (Or.inl rfl) (by decide +kernel)
theorem dd_161_21 : decode (mi 161).2.1 21 = .ok (.iload_n 1, 1) := by decide +kernel
theorem st_161_21 : Sd 161 21 1 (i_ldI 1) := sd_iload_n (j := 1) dd_161_21 rfl
theorem dd_161_22 : decode (mi 161).2.1 22 = .ok (.iaload, 1) := by decide +kernel
theorem st_161_22 : Sd 161 22 1 (i_aI [20]) := sd_iaload dd_161_22 (by decide)
theorem dd_161_23 : decode (mi 161).2.1 23 = .ok (.goto 4, 3) := by decide +kernel
theorem st_161_23 : Sd 161 23 3 (i_goto 27) := sd_goto dd_161_23 (by decide)
def bk_161_0 : Tr := sq (i_ldR 0) (sq (i_ic 0) (sq (i_pI 0 [2] 0) (sq (i_ldI 1) (sq (i_zlt 26) (sq (i_ldI 1) (sq (i_ldR 0) (sq (i_gI 13 [2]) (sq (i_cge 26) (sq (i_ldR 0) (sq (i_gR 14 [2]) (sq (i_ldI 1) (sq (i_aI [20]) (i_goto 27)))))))))))))
theorem sb_161_0 : Sd 161 0 26 bk_161_0 := Sd.sq st_161_0 (Sd.sq st_161_1 (Sd.sq st_161_2 (Sd.sq st_161_5 (Sd.sq st_161_6 (Sd.sq st_161_9 (Sd.sq st_161_10 (Sd.sq st_161_11 (Sd.sq st_161_14 (Sd.sq st_161_17 (Sd.sq st_161_18 (Sd.sq st_161_21 (Sd.sq st_161_22 (st_161_23)))))))))))))
theorem dd_161_26 : decode (mi 161).2.1 26 = .ok (.iconst (-1), 1) := by decide +kernel
theorem st_161_26 : Sd 161 26 1 (i_ic (-1)) := sd_iconst dd_161_26
def bk_161_26 : Tr := sq (i_ic (-1)) (i_fall 27)
theorem sb_161_26 : Sd 161 26 1 bk_161_26 := Sd.sq st_161_26 (sd_fall rfl)
theorem dd_161_27 : decode (mi 161).2.1 27 = .ok (.ireturn, 1) := by decide +kernel
theorem st_161_27 : Sd 161 27 1 (i_rI 0) := sd_ireturn dd_161_27 (by decide) mr_161
def bk_161_27 : Tr := i_rI 0
theorem sb_161_27 : Sd 161 27 1 bk_161_27 := st_161_27
theorem dd_162_0 : decode (mi 162).2.1 0 = .ok (.aload_n 0, 1) := by decide +kernel
theorem st_162_0 : Sd 162 0 1 (i_ldR 0) := sd_aload_n (j := 0) dd_162_0 rfl
theorem dd_162_1 : decode (mi 162).2.1 1 = .ok (.iconst 0, 1) := by decide +kernel
theorem st_162_1 : Sd 162 1 1 (i_ic 0) := sd_iconst dd_162_1
theorem dd_162_2 : decode (mi 162).2.1 2 = .ok (.putfield 93, 3) := by decide +kernel
theorem st_162_2 : Sd 162 2 3 (i_pI 0 [2] 0) := sd_pI (ref := "ContractDeskModel") (decl := "ContractDeskModel") (name := "thrown") (desc := "I") dd_162_2 (by rw [mc_162]; exact tw_1260) (Or.inl rfl) (by decide +kernel) (by decide +kernel) (by decide)
theorem dd_162_5 : decode (mi 162).2.1 5 = .ok (.aload_n 0, 1) := by decide +kernel
theorem st_162_5 : Sd 162 5 1 (i_ldR 0) := sd_aload_n (j := 0) dd_162_5 rfl
theorem dd_162_6 : decode (mi 162).2.1 6 = .ok (.iload_n 1, 1) := by decide +kernel
theorem st_162_6 : Sd 162 6 1 (i_ldI 1) := sd_iload_n (j := 1) dd_162_6 rfl
theorem dd_162_7 : decode (mi 162).2.1 7 = .ok (.invokevirtual 153, 3) := by decide +kernel
theorem st_162_7 : Sd 162 7 3 (i_cV [(2, 147)] 2 4 []) := sd_virt ⟨"ContractDeskModel", "isInteraction", "(I)Z"⟩ dd_162_7 (by rw [mc_162]; exact tw_1410) (fun t j h => by simp only [List.mem_cons, List.not_mem_nil, or_false, Prod.mk.injEq] at h; obtain ⟨rfl, rfl⟩ := h; exact mn_147) (fun t j h => by simp only [List.mem_cons, List.not_mem_nil, or_false, Prod.mk.injEq] at h; obtain ⟨rfl, rfl⟩ := h; exact ⟨by rw [mn_147]; exact tw_34, by rw [mn_147]; exact tw_1412, mt_147, by decide, by decide⟩) (by unfold prm; decide +kernel) ml_162 (HsOk.nil (by decide +kernel))
theorem dd_162_10 : decode (mi 162).2.1 10 = .ok (.ifCond .eq 22, 3) := by decide +kernel
theorem st_162_10 : Sd 162 10 3 (i_zeq 32) := sd_if_eq dd_162_10 (by decide)
theorem dd_162_13 : decode (mi 162).2.1 13 = .ok (.iload_n 2, 1) := by decide +kernel
theorem st_162_13 : Sd 162 13 1 (i_ldI 2) := sd_iload_n (j := 2) dd_162_13 rfl
theorem dd_162_14 : decode (mi 162).2.1 14 = .ok (.ifCond .lt 18, 3) := by decide +kernel
theorem st_162_14 : Sd 162 14 3 (i_zlt 32) := sd_if_lt dd_162_14 (by decide)
theorem dd_162_17 : decode (mi 162).2.1 17 = .ok (.iload_n 2, 1) := by decide +kernel
theorem st_162_17 : Sd 162 17 1 (i_ldI 2) := sd_iload_n (j := 2) dd_162_17 rfl
theorem dd_162_18 : decode (mi 162).2.1 18 = .ok (.iconst 5, 1) := by decide +kernel
theorem st_162_18 : Sd 162 18 1 (i_ic 5) := sd_iconst dd_162_18
theorem dd_162_19 : decode (mi 162).2.1 19 = .ok (.if_icmp .gt 13, 3) := by decide +kernel
theorem st_162_19 : Sd 162 19 3 (i_cgt 32) := sd_icmp_gt dd_162_19 (by decide)
theorem dd_162_22 : decode (mi 162).2.1 22 = .ok (.aload_n 0, 1) := by decide +kernel
theorem st_162_22 : Sd 162 22 1 (i_ldR 0) := sd_aload_n (j := 0) dd_162_22 rfl
theorem dd_162_23 : decode (mi 162).2.1 23 = .ok (.getfield 27, 3) := by decide +kernel
theorem st_162_23 : Sd 162 23 3 (i_gR 8 [2]) := sd_gR (ref := "ContractDeskModel") (decl := "ContractDeskModel") (name := "needCount") (desc := "[I") dd_162_23 (by rw [mc_162]; exact tw_1268) (Or.inl rfl) (by decide +kernel)
theorem dd_162_26 : decode (mi 162).2.1 26 = .ok (.iload_n 1, 1) := by decide +kernel
theorem st_162_26 : Sd 162 26 1 (i_ldI 1) := sd_iload_n (j := 1) dd_162_26 rfl
theorem dd_162_27 : decode (mi 162).2.1 27 = .ok (.iaload, 1) := by decide +kernel
theorem st_162_27 : Sd 162 27 1 (i_aI [20]) := sd_iaload dd_162_27 (by decide)
theorem dd_162_28 : decode (mi 162).2.1 28 = .ok (.iconst 3, 1) := by decide +kernel
theorem st_162_28 : Sd 162 28 1 (i_ic 3) := sd_iconst dd_162_28
theorem dd_162_29 : decode (mi 162).2.1 29 = .ok (.if_icmp .ne 5, 3) := by decide +kernel
theorem st_162_29 : Sd 162 29 3 (i_cne 34) := sd_icmp_ne dd_162_29 (by decide)
def bk_162_0 : Tr := sq (i_ldR 0) (sq (i_ic 0) (sq (i_pI 0 [2] 0) (sq (i_ldR 0) (sq (i_ldI 1) (sq (i_cV [(2, 147)] 2 4 []) (sq (i_zeq 32) (sq (i_ldI 2) (sq (i_zlt 32) (sq (i_ldI 2) (sq (i_ic 5) (sq (i_cgt 32) (sq (i_ldR 0) (sq (i_gR 8 [2]) (sq (i_ldI 1) (sq (i_aI [20]) (sq (i_ic 3) (sq (i_cne 34) (i_fall 32))))))))))))))))))
theorem sb_162_0 : Sd 162 0 32 bk_162_0 := Sd.sq st_162_0 (Sd.sq st_162_1 (Sd.sq st_162_2 (Sd.sq st_162_5 (Sd.sq st_162_6 (Sd.sq st_162_7 (Sd.sq st_162_10 (Sd.sq st_162_13 (Sd.sq st_162_14 (Sd.sq st_162_17 (Sd.sq st_162_18 (Sd.sq st_162_19 (Sd.sq st_162_22 (Sd.sq st_162_23 (Sd.sq st_162_26 (Sd.sq st_162_27 (Sd.sq st_162_28 (Sd.sq st_162_29 (sd_fall rfl))))))))))))))))))
theorem dd_162_32 : decode (mi 162).2.1 32 = .ok (.iconst 0, 1) := by decide +kernel
theorem st_162_32 : Sd 162 32 1 (i_ic 0) := sd_iconst dd_162_32
theorem dd_162_33 : decode (mi 162).2.1 33 = .ok (.ireturn, 1) := by decide +kernel
theorem st_162_33 : Sd 162 33 1 (i_rI 2) := sd_ireturn dd_162_33 (by decide) mr_162
def bk_162_32 : Tr := sq (i_ic 0) (i_rI 2)
theorem sb_162_32 : Sd 162 32 2 bk_162_32 := Sd.sq st_162_32 (st_162_33)
theorem dd_162_34 : decode (mi 162).2.1 34 = .ok (.iconst 0, 1) := by decide +kernel
theorem st_162_34 : Sd 162 34 1 (i_ic 0) := sd_iconst dd_162_34
theorem dd_162_35 : decode (mi 162).2.1 35 = .ok (.istore_n 3, 1) := by decide +kernel
theorem st_162_35 : Sd 162 35 1 (i_stI 3) := sd_istore_n (j := 3) dd_162_35 rfl
def bk_162_34 : Tr := sq (i_ic 0) (sq (i_stI 3) (i_fall 36))
theorem sb_162_34 : Sd 162 34 2 bk_162_34 := Sd.sq st_162_34 (Sd.sq st_162_35 (sd_fall rfl))
theorem dd_162_36 : decode (mi 162).2.1 36 = .ok (.iload_n 3, 1) := by decide +kernel
theorem st_162_36 : Sd 162 36 1 (i_ldI 3) := sd_iload_n (j := 3) dd_162_36 rfl
theorem dd_162_37 : decode (mi 162).2.1 37 = .ok (.aload_n 0, 1) := by decide +kernel
theorem st_162_37 : Sd 162 37 1 (i_ldR 0) := sd_aload_n (j := 0) dd_162_37 rfl
theorem dd_162_38 : decode (mi 162).2.1 38 = .ok (.getfield 27, 3) := by decide +kernel
theorem st_162_38 : Sd 162 38 3 (i_gR 8 [2]) := sd_gR (ref := "ContractDeskModel") (decl := "ContractDeskModel") (name := "needCount") (desc := "[I") dd_162_38 (by rw [mc_162]; exact tw_1268) (Or.inl rfl) (by decide +kernel)
theorem dd_162_41 : decode (mi 162).2.1 41 = .ok (.iload_n 1, 1) := by decide +kernel
theorem st_162_41 : Sd 162 41 1 (i_ldI 1) := sd_iload_n (j := 1) dd_162_41 rfl
theorem dd_162_42 : decode (mi 162).2.1 42 = .ok (.iaload, 1) := by decide +kernel
theorem st_162_42 : Sd 162 42 1 (i_aI [20]) := sd_iaload dd_162_42 (by decide)
theorem dd_162_43 : decode (mi 162).2.1 43 = .ok (.if_icmp .ge 25, 3) := by decide +kernel
theorem st_162_43 : Sd 162 43 3 (i_cge 68) := sd_icmp_ge dd_162_43 (by decide)
theorem dd_162_46 : decode (mi 162).2.1 46 = .ok (.aload_n 0, 1) := by decide +kernel
theorem st_162_46 : Sd 162 46 1 (i_ldR 0) := sd_aload_n (j := 0) dd_162_46 rfl
theorem dd_162_47 : decode (mi 162).2.1 47 = .ok (.getfield 30, 3) := by decide +kernel
theorem st_162_47 : Sd 162 47 3 (i_gR 9 [2]) := sd_gR (ref := "ContractDeskModel") (decl := "ContractDeskModel") (name := "need") (desc := "[I") dd_162_47 (by rw [mc_162]; exact tw_1269) (Or.inl rfl) (by decide +kernel)
theorem dd_162_50 : decode (mi 162).2.1 50 = .ok (.iconst 3, 1) := by decide +kernel
theorem st_162_50 : Sd 162 50 1 (i_ic 3) := sd_iconst dd_162_50
theorem dd_162_51 : decode (mi 162).2.1 51 = .ok (.iload_n 1, 1) := by decide +kernel
theorem st_162_51 : Sd 162 51 1 (i_ldI 1) := sd_iload_n (j := 1) dd_162_51 rfl
theorem dd_162_52 : decode (mi 162).2.1 52 = .ok (.imul, 1) := by decide +kernel
theorem st_162_52 : Sd 162 52 1 (i_imul) := sd_imul dd_162_52
theorem dd_162_53 : decode (mi 162).2.1 53 = .ok (.iload_n 3, 1) := by decide +kernel
theorem st_162_53 : Sd 162 53 1 (i_ldI 3) := sd_iload_n (j := 3) dd_162_53 rfl
theorem dd_162_54 : decode (mi 162).2.1 54 = .ok (.iadd, 1) := by decide +kernel
theorem st_162_54 : Sd 162 54 1 (i_iadd) := sd_iadd dd_162_54
theorem dd_162_55 : decode (mi 162).2.1 55 = .ok (.iaload, 1) := by decide +kernel
theorem st_162_55 : Sd 162 55 1 (i_aI [20]) := sd_iaload dd_162_55 (by decide)
theorem dd_162_56 : decode (mi 162).2.1 56 = .ok (.iload_n 2, 1) := by decide +kernel
theorem st_162_56 : Sd 162 56 1 (i_ldI 2) := sd_iload_n (j := 2) dd_162_56 rfl
theorem dd_162_57 : decode (mi 162).2.1 57 = .ok (.if_icmp .ne 5, 3) := by decide +kernel
theorem st_162_57 : Sd 162 57 3 (i_cne 62) := sd_icmp_ne dd_162_57 (by decide)
theorem dd_162_60 : decode (mi 162).2.1 60 = .ok (.iconst 0, 1) := by decide +kernel
theorem st_162_60 : Sd 162 60 1 (i_ic 0) := sd_iconst dd_162_60
theorem dd_162_61 : decode (mi 162).2.1 61 = .ok (.ireturn, 1) := by decide +kernel
theorem st_162_61 : Sd 162 61 1 (i_rI 2) := sd_ireturn dd_162_61 (by decide) mr_162
def bk_162_36 : Tr := sq (i_ldI 3) (sq (i_ldR 0) (sq (i_gR 8 [2]) (sq (i_ldI 1) (sq (i_aI [20]) (sq (i_cge 68) (sq (i_ldR 0) (sq (i_gR 9 [2]) (sq (i_ic 3) (sq (i_ldI 1) (sq (i_imul) (sq (i_ldI 3) (sq (i_iadd) (sq (i_aI [20]) (sq (i_ldI 2) (sq (i_cne 62) (sq (i_ic 0) (i_rI 2)))))))))))))))))
theorem sb_162_36 : Sd 162 36 26 bk_162_36 := Sd.sq st_162_36 (Sd.sq st_162_37 (Sd.sq st_162_38 (Sd.sq st_162_41 (Sd.sq st_162_42 (Sd.sq st_162_43 (Sd.sq st_162_46 (Sd.sq st_162_47 (Sd.sq st_162_50 (Sd.sq st_162_51 (Sd.sq st_162_52 (Sd.sq st_162_53 (Sd.sq st_162_54 (Sd.sq st_162_55 (Sd.sq st_162_56 (Sd.sq st_162_57 (Sd.sq st_162_60 (st_162_61)))))))))))))))))
theorem dd_162_62 : decode (mi 162).2.1 62 = .ok (.iinc 3 1, 3) := by decide +kernel
theorem st_162_62 : Sd 162 62 3 (i_inc 3 1) := sd_iinc dd_162_62
theorem dd_162_65 : decode (mi 162).2.1 65 = .ok (.goto (-29), 3) := by decide +kernel
theorem st_162_65 : Sd 162 65 3 (i_goto 36) := sd_goto dd_162_65 (by decide)
def bk_162_62 : Tr := sq (i_inc 3 1) (i_goto 36)
theorem sb_162_62 : Sd 162 62 6 bk_162_62 := Sd.sq st_162_62 (st_162_65)
theorem dd_162_68 : decode (mi 162).2.1 68 = .ok (.aload_n 0, 1) := by decide +kernel
theorem st_162_68 : Sd 162 68 1 (i_ldR 0) := sd_aload_n (j := 0) dd_162_68 rfl
theorem dd_162_69 : decode (mi 162).2.1 69 = .ok (.getfield 30, 3) := by decide +kernel
theorem st_162_69 : Sd 162 69 3 (i_gR 9 [2]) := sd_gR (ref := "ContractDeskModel") (decl := "ContractDeskModel") (name := "need") (desc := "[I") dd_162_69 (by rw [mc_162]; exact tw_1269) (Or.inl rfl) (by decide +kernel)
theorem dd_162_72 : decode (mi 162).2.1 72 = .ok (.iconst 3, 1) := by decide +kernel
theorem st_162_72 : Sd 162 72 1 (i_ic 3) := sd_iconst dd_162_72
theorem dd_162_73 : decode (mi 162).2.1 73 = .ok (.iload_n 1, 1) := by decide +kernel
theorem st_162_73 : Sd 162 73 1 (i_ldI 1) := sd_iload_n (j := 1) dd_162_73 rfl
theorem dd_162_74 : decode (mi 162).2.1 74 = .ok (.imul, 1) := by decide +kernel
theorem st_162_74 : Sd 162 74 1 (i_imul) := sd_imul dd_162_74
theorem dd_162_75 : decode (mi 162).2.1 75 = .ok (.aload_n 0, 1) := by decide +kernel
theorem st_162_75 : Sd 162 75 1 (i_ldR 0) := sd_aload_n (j := 0) dd_162_75 rfl
theorem dd_162_76 : decode (mi 162).2.1 76 = .ok (.getfield 27, 3) := by decide +kernel
theorem st_162_76 : Sd 162 76 3 (i_gR 8 [2]) := sd_gR (ref := "ContractDeskModel") (decl := "ContractDeskModel") (name := "needCount") (desc := "[I") dd_162_76 (by rw [mc_162]; exact tw_1268) (Or.inl rfl) (by decide +kernel)
theorem dd_162_79 : decode (mi 162).2.1 79 = .ok (.iload_n 1, 1) := by decide +kernel
theorem st_162_79 : Sd 162 79 1 (i_ldI 1) := sd_iload_n (j := 1) dd_162_79 rfl
theorem dd_162_80 : decode (mi 162).2.1 80 = .ok (.iaload, 1) := by decide +kernel
theorem st_162_80 : Sd 162 80 1 (i_aI [20]) := sd_iaload dd_162_80 (by decide)
theorem dd_162_81 : decode (mi 162).2.1 81 = .ok (.iadd, 1) := by decide +kernel
theorem st_162_81 : Sd 162 81 1 (i_iadd) := sd_iadd dd_162_81
theorem dd_162_82 : decode (mi 162).2.1 82 = .ok (.iload_n 2, 1) := by decide +kernel
theorem st_162_82 : Sd 162 82 1 (i_ldI 2) := sd_iload_n (j := 2) dd_162_82 rfl
theorem dd_162_83 : decode (mi 162).2.1 83 = .ok (.iastore, 1) := by decide +kernel
theorem st_162_83 : Sd 162 83 1 (i_sI [20] 0) := sd_iastore dd_162_83 (by decide)
theorem dd_162_84 : decode (mi 162).2.1 84 = .ok (.aload_n 0, 1) := by decide +kernel
theorem st_162_84 : Sd 162 84 1 (i_ldR 0) := sd_aload_n (j := 0) dd_162_84 rfl
theorem dd_162_85 : decode (mi 162).2.1 85 = .ok (.getfield 27, 3) := by decide +kernel
theorem st_162_85 : Sd 162 85 3 (i_gR 8 [2]) := sd_gR (ref := "ContractDeskModel") (decl := "ContractDeskModel") (name := "needCount") (desc := "[I") dd_162_85 (by rw [mc_162]; exact tw_1268) (Or.inl rfl) (by decide +kernel)
theorem dd_162_88 : decode (mi 162).2.1 88 = .ok (.iload_n 1, 1) := by decide +kernel
theorem st_162_88 : Sd 162 88 1 (i_ldI 1) := sd_iload_n (j := 1) dd_162_88 rfl
theorem dd_162_89 : decode (mi 162).2.1 89 = .ok (.dup2, 1) := by decide +kernel
theorem st_162_89 : Sd 162 89 1 (i_dup2) := sd_dup2 dd_162_89
theorem dd_162_90 : decode (mi 162).2.1 90 = .ok (.iaload, 1) := by decide +kernel
theorem st_162_90 : Sd 162 90 1 (i_aI [20]) := sd_iaload dd_162_90 (by decide)
theorem dd_162_91 : decode (mi 162).2.1 91 = .ok (.iconst 1, 1) := by decide +kernel
theorem st_162_91 : Sd 162 91 1 (i_ic 1) := sd_iconst dd_162_91
theorem dd_162_92 : decode (mi 162).2.1 92 = .ok (.iadd, 1) := by decide +kernel
theorem st_162_92 : Sd 162 92 1 (i_iadd) := sd_iadd dd_162_92
theorem dd_162_93 : decode (mi 162).2.1 93 = .ok (.iastore, 1) := by decide +kernel
theorem st_162_93 : Sd 162 93 1 (i_sI [20] 0) := sd_iastore dd_162_93 (by decide)
theorem dd_162_94 : decode (mi 162).2.1 94 = .ok (.iconst 1, 1) := by decide +kernel
theorem st_162_94 : Sd 162 94 1 (i_ic 1) := sd_iconst dd_162_94
theorem dd_162_95 : decode (mi 162).2.1 95 = .ok (.ireturn, 1) := by decide +kernel
theorem st_162_95 : Sd 162 95 1 (i_rI 2) := sd_ireturn dd_162_95 (by decide) mr_162
def bk_162_68 : Tr := sq (i_ldR 0) (sq (i_gR 9 [2]) (sq (i_ic 3) (sq (i_ldI 1) (sq (i_imul) (sq (i_ldR 0) (sq (i_gR 8 [2]) (sq (i_ldI 1) (sq (i_aI [20]) (sq (i_iadd) (sq (i_ldI 2) (sq (i_sI [20] 0) (sq (i_ldR 0) (sq (i_gR 8 [2]) (sq (i_ldI 1) (sq (i_dup2) (sq (i_aI [20]) (sq (i_ic 1) (sq (i_iadd) (sq (i_sI [20] 0) (sq (i_ic 1) (i_rI 2)))))))))))))))))))))
theorem sb_162_68 : Sd 162 68 28 bk_162_68 := Sd.sq st_162_68 (Sd.sq st_162_69 (Sd.sq st_162_72 (Sd.sq st_162_73 (Sd.sq st_162_74 (Sd.sq st_162_75 (Sd.sq st_162_76 (Sd.sq st_162_79 (Sd.sq st_162_80 (Sd.sq st_162_81 (Sd.sq st_162_82 (Sd.sq st_162_83 (Sd.sq st_162_84 (Sd.sq st_162_85 (Sd.sq st_162_88 (Sd.sq st_162_89 (Sd.sq st_162_90 (Sd.sq st_162_91 (Sd.sq st_162_92 (Sd.sq st_162_93 (Sd.sq st_162_94 (st_162_95)))))))))))))))))))))
theorem dd_163_0 : decode (mi 163).2.1 0 = .ok (.sipush 510, 3) := by decide +kernel
theorem st_163_0 : Sd 163 0 3 (i_ic 510) := sd_sipush dd_163_0 (by decide)
theorem dd_163_3 : decode (mi 163).2.1 3 = .ok (.bipush 100, 2) := by decide +kernel
theorem st_163_3 : Sd 163 3 2 (i_ic 100) := sd_bipush dd_163_3 (by decide)
theorem dd_163_5 : decode (mi 163).2.1 5 = .ok (.iload_n 1, 1) := by decide +kernel
theorem st_163_5 : Sd 163 5 1 (i_ldI 1) := sd_iload_n (j := 1) dd_163_5 rfl
theorem dd_163_6 : decode (mi 163).2.1 6 = .ok (.imul, 1) := by decide +kernel
theorem st_163_6 : Sd 163 6 1 (i_imul) := sd_imul dd_163_6
theorem dd_163_7 : decode (mi 163).2.1 7 = .ok (.iadd, 1) := by decide +kernel
theorem st_163_7 : Sd 163 7 1 (i_iadd) := sd_iadd dd_163_7
theorem dd_163_8 : decode (mi 163).2.1 8 = .ok (.aload_n 0, 1) := by decide +kernel
theorem st_163_8 : Sd 163 8 1 (i_ldR 0) := sd_aload_n (j := 0) dd_163_8 rfl
theorem dd_163_9 : decode (mi 163).2.1 9 = .ok (.getfield 24, 3) := by decide +kernel
theorem st_163_9 : Sd 163 9 3 (i_gR 7 [2]) := sd_gR (ref := "ContractDeskModel") (decl := "ContractDeskModel") (name := "ruleLength") (desc := "[I") dd_163_9 (by rw [mc_163]; exact tw_1267) (Or.inl rfl) (by decide +kernel)
theorem dd_163_12 : decode (mi 163).2.1 12 = .ok (.iload_n 1, 1) := by decide +kernel
theorem st_163_12 : Sd 163 12 1 (i_ldI 1) := sd_iload_n (j := 1) dd_163_12 rfl
theorem dd_163_13 : decode (mi 163).2.1 13 = .ok (.iaload, 1) := by decide +kernel
theorem st_163_13 : Sd 163 13 1 (i_aI [20]) := sd_iaload dd_163_13 (by decide)
theorem dd_163_14 : decode (mi 163).2.1 14 = .ok (.iadd, 1) := by decide +kernel
theorem st_163_14 : Sd 163 14 1 (i_iadd) := sd_iadd dd_163_14
theorem dd_163_15 : decode (mi 163).2.1 15 = .ok (.istore 4, 2) := by decide +kernel
theorem st_163_15 : Sd 163 15 2 (i_stI 4) := sd_istore dd_163_15
theorem dd_163_17 : decode (mi 163).2.1 17 = .ok (.aload_n 0, 1) := by decide +kernel
theorem st_163_17 : Sd 163 17 1 (i_ldR 0) := sd_aload_n (j := 0) dd_163_17 rfl
theorem dd_163_18 : decode (mi 163).2.1 18 = .ok (.iload_n 1, 1) := by decide +kernel
theorem st_163_18 : Sd 163 18 1 (i_ldI 1) := sd_iload_n (j := 1) dd_163_18 rfl
theorem dd_163_19 : decode (mi 163).2.1 19 = .ok (.invokevirtual 177, 3) := by decide +kernel
theorem st_163_19 : Sd 163 19 3 (i_cV [(2, 133)] 2 12 []) := sd_virt ⟨"ContractDeskModel", "colon", "(I)I"⟩ dd_163_19 (by rw [mc_163]; exact tw_1493) (fun t j h => by simp only [List.mem_cons, List.not_mem_nil, or_false, Prod.mk.injEq] at h; obtain ⟨rfl, rfl⟩ := h; exact mn_133) (fun t j h => by simp only [List.mem_cons, List.not_mem_nil, or_false, Prod.mk.injEq] at h; obtain ⟨rfl, rfl⟩ := h; exact ⟨by rw [mn_133]; exact tw_50, by rw [mn_133]; exact tw_1495, mt_133, by decide, by decide⟩) (by unfold prm; decide +kernel) ml_163 (HsOk.nil (by decide +kernel))
theorem dd_163_22 : decode (mi 163).2.1 22 = .ok (.iconst 1, 1) := by decide +kernel
theorem st_163_22 : Sd 163 22 1 (i_ic 1) := sd_iconst dd_163_22
theorem dd_163_23 : decode (mi 163).2.1 23 = .ok (.iadd, 1) := by decide +kernel
theorem st_163_23 : Sd 163 23 1 (i_iadd) := sd_iadd dd_163_23
theorem dd_163_24 : decode (mi 163).2.1 24 = .ok (.istore 5, 2) := by decide +kernel
theorem st_163_24 : Sd 163 24 2 (i_stI 5) := sd_istore dd_163_24
theorem dd_163_26 : decode (mi 163).2.1 26 = .ok (.iconst 1, 1) := by decide +kernel
theorem st_163_26 : Sd 163 26 1 (i_ic 1) := sd_iconst dd_163_26
theorem dd_163_27 : decode (mi 163).2.1 27 = .ok (.istore 6, 2) := by decide +kernel
theorem st_163_27 : Sd 163 27 2 (i_stI 6) := sd_istore dd_163_27
theorem dd_163_29 : decode (mi 163).2.1 29 = .ok (.iconst 0, 1) := by decide +kernel
theorem st_163_29 : Sd 163 29 1 (i_ic 0) := sd_iconst dd_163_29
theorem dd_163_30 : decode (mi 163).2.1 30 = .ok (.istore 7, 2) := by decide +kernel
theorem st_163_30 : Sd 163 30 2 (i_stI 7) := sd_istore dd_163_30
theorem dd_163_32 : decode (mi 163).2.1 32 = .ok (.iconst 0, 1) := by decide +kernel
theorem st_163_32 : Sd 163 32 1 (i_ic 0) := sd_iconst dd_163_32
theorem dd_163_33 : decode (mi 163).2.1 33 = .ok (.istore 8, 2) := by decide +kernel
theorem st_163_33 : Sd 163 33 2 (i_stI 8) := sd_istore dd_163_33
theorem dd_163_35 : decode (mi 163).2.1 35 = .ok (.iconst 0, 1) := by decide +kernel
theorem st_163_35 : Sd 163 35 1 (i_ic 0) := sd_iconst dd_163_35
theorem dd_163_36 : decode (mi 163).2.1 36 = .ok (.istore 9, 2) := by decide +kernel
theorem st_163_36 : Sd 163 36 2 (i_stI 9) := sd_istore dd_163_36
def bk_163_0 : Tr := sq (i_ic 510) (sq (i_ic 100) (sq (i_ldI 1) (sq (i_imul) (sq (i_iadd) (sq (i_ldR 0) (sq (i_gR 7 [2]) (sq (i_ldI 1) (sq (i_aI [20]) (sq (i_iadd) (sq (i_stI 4) (sq (i_ldR 0) (sq (i_ldI 1) (sq (i_cV [(2, 133)] 2 12 []) (sq (i_ic 1) (sq (i_iadd) (sq (i_stI 5) (sq (i_ic 1) (sq (i_stI 6) (sq (i_ic 0) (sq (i_stI 7) (sq (i_ic 0) (sq (i_stI 8) (sq (i_ic 0) (sq (i_stI 9) (i_fall 38)))))))))))))))))))))))))
theorem sb_163_0 : Sd 163 0 38 bk_163_0 := Sd.sq st_163_0 (Sd.sq st_163_3 (Sd.sq st_163_5 (Sd.sq st_163_6 (Sd.sq st_163_7 (Sd.sq st_163_8 (Sd.sq st_163_9 (Sd.sq st_163_12 (Sd.sq st_163_13 (Sd.sq st_163_14 (Sd.sq st_163_15 (Sd.sq st_163_17 (Sd.sq st_163_18 (Sd.sq st_163_19 (Sd.sq st_163_22 (Sd.sq st_163_23 (Sd.sq st_163_24 (Sd.sq st_163_26 (Sd.sq st_163_27 (Sd.sq st_163_29 (Sd.sq st_163_30 (Sd.sq st_163_32 (Sd.sq st_163_33 (Sd.sq st_163_35 (Sd.sq st_163_36 (sd_fall rfl)))))))))))))))))))))))))
theorem dd_163_38 : decode (mi 163).2.1 38 = .ok (.iload 5, 2) := by decide +kernel
theorem st_163_38 : Sd 163 38 2 (i_ldI 5) := sd_iload dd_163_38
theorem dd_163_40 : decode (mi 163).2.1 40 = .ok (.iload 4, 2) := by decide +kernel
theorem st_163_40 : Sd 163 40 2 (i_ldI 4) := sd_iload dd_163_40
theorem dd_163_42 : decode (mi 163).2.1 42 = .ok (.if_icmp .ge 147, 3) := by decide +kernel
theorem st_163_42 : Sd 163 42 3 (i_cge 189) := sd_icmp_ge dd_163_42 (by decide)
theorem dd_163_45 : decode (mi 163).2.1 45 = .ok (.aload_n 0, 1) := by decide +kernel
theorem st_163_45 : Sd 163 45 1 (i_ldR 0) := sd_aload_n (j := 0) dd_163_45 rfl
theorem dd_163_46 : decode (mi 163).2.1 46 = .ok (.iload 5, 2) := by decide +kernel
theorem st_163_46 : Sd 163 46 2 (i_ldI 5) := sd_iload dd_163_46
theorem dd_163_48 : decode (mi 163).2.1 48 = .ok (.iload 4, 2) := by decide +kernel
theorem st_163_48 : Sd 163 48 2 (i_ldI 4) := sd_iload dd_163_48
theorem dd_163_50 : decode (mi 163).2.1 50 = .ok (.invokevirtual 202, 3) := by decide +kernel
theorem st_163_50 : Sd 163 50 3 (i_cV [(2, 130)] 3 12 []) := sd_virt ⟨"ContractDeskModel", "behind", "(II)I"⟩ dd_163_50 (by rw [mc_163]; exact tw_1537) (fun t j h => by simp only [List.mem_cons, List.not_mem_nil, or_false, Prod.mk.injEq] at h; obtain ⟨rfl, rfl⟩ := h; exact mn_130) (fun t j h => by simp only [List.mem_cons, List.not_mem_nil, or_false, Prod.mk.injEq] at h; obtain ⟨rfl, rfl⟩ := h; exact ⟨by rw [mn_130]; exact tw_60, by rw [mn_130]; exact tw_1539, mt_130, by decide, by decide⟩) (by unfold prm; decide +kernel) ml_163 (HsOk.nil (by decide +kernel))
theorem dd_163_53 : decode (mi 163).2.1 53 = .ok (.istore 10, 2) := by decide +kernel
theorem st_163_53 : Sd 163 53 2 (i_stI 10) := sd_istore dd_163_53
theorem dd_163_55 : decode (mi 163).2.1 55 = .ok (.aload_n 0, 1) := by decide +kernel
theorem st_163_55 : Sd 163 55 1 (i_ldR 0) := sd_aload_n (j := 0) dd_163_55 rfl
theorem dd_163_56 : decode (mi 163).2.1 56 = .ok (.iload 5, 2) := by decide +kernel
theorem st_163_56 : Sd 163 56 2 (i_ldI 5) := sd_iload dd_163_56
theorem dd_163_58 : decode (mi 163).2.1 58 = .ok (.iload 10, 2) := by decide +kernel
theorem st_163_58 : Sd 163 58 2 (i_ldI 10) := sd_iload dd_163_58
theorem dd_163_60 : decode (mi 163).2.1 60 = .ok (.iload_n 2, 1) := by decide +kernel
theorem st_163_60 : Sd 163 60 1 (i_ldI 2) := sd_iload_n (j := 2) dd_163_60 rfl
theorem dd_163_61 : decode (mi 163).2.1 61 = .ok (.iload_n 3, 1) := by decide +kernel
theorem st_163_61 : Sd 163 61 1 (i_ldI 3) := sd_iload_n (j := 3) dd_163_61 rfl
theorem dd_163_62 : decode (mi 163).2.1 62 = .ok (.invokevirtual 205, 3) := by decide +kernel
theorem st_163_62 : Sd 163 62 3 (i_cV [(2, 145)] 5 12 []) := sd_virt ⟨"ContractDeskModel", "holds", "(IIII)Z"⟩ dd_163_62 (by rw [mc_163]; exact tw_1541) (fun t j h => by simp only [List.mem_cons, List.not_mem_nil, or_false, Prod.mk.injEq] at h; obtain ⟨rfl, rfl⟩ := h; exact mn_145) (fun t j h => by simp only [List.mem_cons, List.not_mem_nil, or_false, Prod.mk.injEq] at h; obtain ⟨rfl, rfl⟩ := h; exact ⟨by rw [mn_145]; exact tw_61, by rw [mn_145]; exact tw_1543, mt_145, by decide, by decide⟩) (by unfold prm; decide +kernel) ml_163 (HsOk.nil (by decide +kernel))
theorem dd_163_65 : decode (mi 163).2.1 65 = .ok (.istore 11, 2) := by decide +kernel
theorem st_163_65 : Sd 163 65 2 (i_stI 11) := sd_istore dd_163_65
theorem dd_163_67 : decode (mi 163).2.1 67 = .ok (.iload 6, 2) := by decide +kernel
theorem st_163_67 : Sd 163 67 2 (i_ldI 6) := sd_iload dd_163_67
theorem dd_163_69 : decode (mi 163).2.1 69 = .ok (.ifCond .eq 12, 3) := by decide +kernel
theorem st_163_69 : Sd 163 69 3 (i_zeq 81) := sd_if_eq dd_163_69 (by decide)
theorem dd_163_72 : decode (mi 163).2.1 72 = .ok (.iload 11, 2) := by decide +kernel
theorem st_163_72 : Sd 163 72 2 (i_ldI 11) := sd_iload dd_163_72
theorem dd_163_74 : decode (mi 163).2.1 74 = .ok (.ifCond .eq 7, 3) := by decide +kernel
theorem st_163_74 : Sd 163 74 3 (i_zeq 81) := sd_if_eq dd_163_74 (by decide)
theorem dd_163_77 : decode (mi 163).2.1 77 = .ok (.iconst 1, 1) := by decide +kernel
theorem st_163_77 : Sd 163 77 1 (i_ic 1) := sd_iconst dd_163_77
theorem dd_163_78 : decode (mi 163).2.1 78 = .ok (.goto 4, 3) := by decide +kernel
theorem st_163_78 : Sd 163 78 3 (i_goto 82) := sd_goto dd_163_78 (by decide)
def bk_163_38 : Tr := sq (i_ldI 5) (sq (i_ldI 4) (sq (i_cge 189) (sq (i_ldR 0) (sq (i_ldI 5) (sq (i_ldI 4) (sq (i_cV [(2, 130)] 3 12 []) (sq (i_stI 10) (sq (i_ldR 0) (sq (i_ldI 5) (sq (i_ldI 10) (sq (i_ldI 2) (sq (i_ldI 3) (sq (i_cV [(2, 145)] 5 12 []) (sq (i_stI 11) (sq (i_ldI 6) (sq (i_zeq 81) (sq (i_ldI 11) (sq (i_zeq 81) (sq (i_ic 1) (i_goto 82))))))))))))))))))))
theorem sb_163_38 : Sd 163 38 43 bk_163_38 := Sd.sq st_163_38 (Sd.sq st_163_40 (Sd.sq st_163_42 (Sd.sq st_163_45 (Sd.sq st_163_46 (Sd.sq st_163_48 (Sd.sq st_163_50 (Sd.sq st_163_53 (Sd.sq st_163_55 (Sd.sq st_163_56 (Sd.sq st_163_58 (Sd.sq st_163_60 (Sd.sq st_163_61 (Sd.sq st_163_62 (Sd.sq st_163_65 (Sd.sq st_163_67 (Sd.sq st_163_69 (Sd.sq st_163_72 (Sd.sq st_163_74 (Sd.sq st_163_77 (st_163_78))))))))))))))))))))
theorem dd_163_81 : decode (mi 163).2.1 81 = .ok (.iconst 0, 1) := by decide +kernel
theorem st_163_81 : Sd 163 81 1 (i_ic 0) := sd_iconst dd_163_81
def bk_163_81 : Tr := sq (i_ic 0) (i_fall 82)
theorem sb_163_81 : Sd 163 81 1 bk_163_81 := Sd.sq st_163_81 (sd_fall rfl)
theorem dd_163_82 : decode (mi 163).2.1 82 = .ok (.istore 6, 2) := by decide +kernel
theorem st_163_82 : Sd 163 82 2 (i_stI 6) := sd_istore dd_163_82
theorem dd_163_84 : decode (mi 163).2.1 84 = .ok (.iload 7, 2) := by decide +kernel
theorem st_163_84 : Sd 163 84 2 (i_ldI 7) := sd_iload dd_163_84
theorem dd_163_86 : decode (mi 163).2.1 86 = .ok (.ifCond .ne 8, 3) := by decide +kernel
theorem st_163_86 : Sd 163 86 3 (i_zne 94) := sd_if_ne dd_163_86 (by decide)
theorem dd_163_89 : decode (mi 163).2.1 89 = .ok (.iload 11, 2) := by decide +kernel
theorem st_163_89 : Sd 163 89 2 (i_ldI 11) := sd_iload dd_163_89
theorem dd_163_91 : decode (mi 163).2.1 91 = .ok (.ifCond .eq 7, 3) := by decide +kernel
theorem st_163_91 : Sd 163 91 3 (i_zeq 98) := sd_if_eq dd_163_91 (by decide)
def bk_163_82 : Tr := sq (i_stI 6) (sq (i_ldI 7) (sq (i_zne 94) (sq (i_ldI 11) (sq (i_zeq 98) (i_fall 94)))))
theorem sb_163_82 : Sd 163 82 12 bk_163_82 := Sd.sq st_163_82 (Sd.sq st_163_84 (Sd.sq st_163_86 (Sd.sq st_163_89 (Sd.sq st_163_91 (sd_fall rfl)))))
theorem dd_163_94 : decode (mi 163).2.1 94 = .ok (.iconst 1, 1) := by decide +kernel
theorem st_163_94 : Sd 163 94 1 (i_ic 1) := sd_iconst dd_163_94
theorem dd_163_95 : decode (mi 163).2.1 95 = .ok (.goto 4, 3) := by decide +kernel
theorem st_163_95 : Sd 163 95 3 (i_goto 99) := sd_goto dd_163_95 (by decide)
def bk_163_94 : Tr := sq (i_ic 1) (i_goto 99)
theorem sb_163_94 : Sd 163 94 4 bk_163_94 := Sd.sq st_163_94 (st_163_95)
theorem dd_163_98 : decode (mi 163).2.1 98 = .ok (.iconst 0, 1) := by decide +kernel
theorem st_163_98 : Sd 163 98 1 (i_ic 0) := sd_iconst dd_163_98
def bk_163_98 : Tr := sq (i_ic 0) (i_fall 99)
theorem sb_163_98 : Sd 163 98 1 bk_163_98 := Sd.sq st_163_98 (sd_fall rfl)
theorem dd_163_99 : decode (mi 163).2.1 99 = .ok (.istore 7, 2) := by decide +kernel
theorem st_163_99 : Sd 163 99 2 (i_stI 7) := sd_istore dd_163_99
theorem dd_163_101 : decode (mi 163).2.1 101 = .ok (.iload 8, 2) := by decide +kernel
theorem st_163_101 : Sd 163 101 2 (i_ldI 8) := sd_iload dd_163_101
theorem dd_163_103 : decode (mi 163).2.1 103 = .ok (.ifCond .ne 39, 3) := by decide +kernel
theorem st_163_103 : Sd 163 103 3 (i_zne 142) := sd_if_ne dd_163_103 (by decide)
theorem dd_163_106 : decode (mi 163).2.1 106 = .ok (.aload_n 0, 1) := by decide +kernel
theorem st_163_106 : Sd 163 106 1 (i_ldR 0) := sd_aload_n (j := 0) dd_163_106 rfl
theorem dd_163_107 : decode (mi 163).2.1 107 = .ok (.getfield 7, 3) := by decide +kernel
theorem st_163_107 : Sd 163 107 3 (i_gR 1 [2]) := sd_gR (ref := "ContractDeskModel") (decl := "ContractDeskModel") (name := "all") (desc := "[C") dd_163_107 (by rw [mc_163]; exact tw_1261) (Or.inl rfl) (by decide +kernel)
theorem dd_163_110 : decode (mi 163).2.1 110 = .ok (.iload 5, 2) := by decide +kernel
theorem st_163_110 : Sd 163 110 2 (i_ldI 5) := sd_iload dd_163_110
theorem dd_163_112 : decode (mi 163).2.1 112 = .ok (.caload, 1) := by decide +kernel
theorem st_163_112 : Sd 163 112 1 (i_aI [21]) := sd_caload dd_163_112 (by decide)
theorem dd_163_113 : decode (mi 163).2.1 113 = .ok (.bipush 116, 2) := by decide +kernel
theorem st_163_113 : Sd 163 113 2 (i_ic 116) := sd_bipush dd_163_113 (by decide)
theorem dd_163_115 : decode (mi 163).2.1 115 = .ok (.if_icmp .eq 27, 3) := by decide +kernel
theorem st_163_115 : Sd 163 115 3 (i_ceq 142) := sd_icmp_eq dd_163_115 (by decide)
theorem dd_163_118 : decode (mi 163).2.1 118 = .ok (.aload_n 0, 1) := by decide +kernel
theorem st_163_118 : Sd 163 118 1 (i_ldR 0) := sd_aload_n (j := 0) dd_163_118 rfl
theorem dd_163_119 : decode (mi 163).2.1 119 = .ok (.getfield 7, 3) := by decide +kernel
theorem st_163_119 : Sd 163 119 3 (i_gR 1 [2]) := sd_gR (ref := "ContractDeskModel") (decl := "ContractDeskModel") (name := "all") (desc := "[C") dd_163_119 (by rw [mc_163]; exact tw_1261) (Or.inl rfl) (by decide +kernel)
theorem dd_163_122 : decode (mi 163).2.1 122 = .ok (.iload 5, 2) := by decide +kernel
theorem st_163_122 : Sd 163 122 2 (i_ldI 5) := sd_iload dd_163_122
theorem dd_163_124 : decode (mi 163).2.1 124 = .ok (.caload, 1) := by decide +kernel
theorem st_163_124 : Sd 163 124 1 (i_aI [21]) := sd_caload dd_163_124 (by decide)
theorem dd_163_125 : decode (mi 163).2.1 125 = .ok (.bipush 62, 2) := by decide +kernel
theorem st_163_125 : Sd 163 125 2 (i_ic 62) := sd_bipush dd_163_125 (by decide)
theorem dd_163_127 : decode (mi 163).2.1 127 = .ok (.if_icmp .eq 15, 3) := by decide +kernel
theorem st_163_127 : Sd 163 127 3 (i_ceq 142) := sd_icmp_eq dd_163_127 (by decide)
theorem dd_163_130 : decode (mi 163).2.1 130 = .ok (.aload_n 0, 1) := by decide +kernel
theorem st_163_130 : Sd 163 130 1 (i_ldR 0) := sd_aload_n (j := 0) dd_163_130 rfl
theorem dd_163_131 : decode (mi 163).2.1 131 = .ok (.getfield 7, 3) := by decide +kernel
theorem st_163_131 : Sd 163 131 3 (i_gR 1 [2]) := sd_gR (ref := "ContractDeskModel") (decl := "ContractDeskModel") (name := "all") (desc := "[C") dd_163_131 (by rw [mc_163]; exact tw_1261) (Or.inl rfl) (by decide +kernel)
theorem dd_163_134 : decode (mi 163).2.1 134 = .ok (.iload 5, 2) := by decide +kernel
theorem st_163_134 : Sd 163 134 2 (i_ldI 5) := sd_iload dd_163_134
theorem dd_163_136 : decode (mi 163).2.1 136 = .ok (.caload, 1) := by decide +kernel
theorem st_163_136 : Sd 163 136 1 (i_aI [21]) := sd_caload dd_163_136 (by decide)
theorem dd_163_137 : decode (mi 163).2.1 137 = .ok (.bipush 60, 2) := by decide +kernel
theorem st_163_137 : Sd 163 137 2 (i_ic 60) := sd_bipush dd_163_137 (by decide)
theorem dd_163_139 : decode (mi 163).2.1 139 = .ok (.if_icmp .ne 7, 3) := by decide +kernel
theorem st_163_139 : Sd 163 139 3 (i_cne 146) := sd_icmp_ne dd_163_139 (by decide)
def bk_163_99 : Tr := sq (i_stI 7) (sq (i_ldI 8) (sq (i_zne 142) (sq (i_ldR 0) (sq (i_gR 1 [2]) (sq (i_ldI 5) (sq (i_aI [21]) (sq (i_ic 116) (sq (i_ceq 142) (sq (i_ldR 0) (sq (i_gR 1 [2]) (sq (i_ldI 5) (sq (i_aI [21]) (sq (i_ic 62) (sq (i_ceq 142) (sq (i_ldR 0) (sq (i_gR 1 [2]) (sq (i_ldI 5) (sq (i_aI [21]) (sq (i_ic 60) (sq (i_cne 146) (i_fall 142)))))))))))))))))))))
theorem sb_163_99 : Sd 163 99 43 bk_163_99 := Sd.sq st_163_99 (Sd.sq st_163_101 (Sd.sq st_163_103 (Sd.sq st_163_106 (Sd.sq st_163_107 (Sd.sq st_163_110 (Sd.sq st_163_112 (Sd.sq st_163_113 (Sd.sq st_163_115 (Sd.sq st_163_118 (Sd.sq st_163_119 (Sd.sq st_163_122 (Sd.sq st_163_124 (Sd.sq st_163_125 (Sd.sq st_163_127 (Sd.sq st_163_130 (Sd.sq st_163_131 (Sd.sq st_163_134 (Sd.sq st_163_136 (Sd.sq st_163_137 (Sd.sq st_163_139 (sd_fall rfl)))))))))))))))))))))
theorem dd_163_142 : decode (mi 163).2.1 142 = .ok (.iconst 1, 1) := by decide +kernel
theorem st_163_142 : Sd 163 142 1 (i_ic 1) := sd_iconst dd_163_142
theorem dd_163_143 : decode (mi 163).2.1 143 = .ok (.goto 4, 3) := by decide +kernel
theorem st_163_143 : Sd 163 143 3 (i_goto 147) := sd_goto dd_163_143 (by decide)
def bk_163_142 : Tr := sq (i_ic 1) (i_goto 147)
theorem sb_163_142 : Sd 163 142 4 bk_163_142 := Sd.sq st_163_142 (st_163_143)
theorem dd_163_146 : decode (mi 163).2.1 146 = .ok (.iconst 0, 1) := by decide +kernel
theorem st_163_146 : Sd 163 146 1 (i_ic 0) := sd_iconst dd_163_146
def bk_163_146 : Tr := sq (i_ic 0) (i_fall 147)
theorem sb_163_146 : Sd 163 146 1 bk_163_146 := Sd.sq st_163_146 (sd_fall rfl)
theorem dd_163_147 : decode (mi 163).2.1 147 = .ok (.istore 8, 2) := by decide +kernel
theorem st_163_147 : Sd 163 147 2 (i_stI 8) := sd_istore dd_163_147
theorem dd_163_149 : decode (mi 163).2.1 149 = .ok (.iload 9, 2) := by decide +kernel
theorem st_163_149 : Sd 163 149 2 (i_ldI 9) := sd_iload dd_163_149
theorem dd_163_151 : decode (mi 163).2.1 151 = .ok (.ifCond .ne 22, 3) := by decide +kernel
theorem st_163_151 : Sd 163 151 3 (i_zne 173) := sd_if_ne dd_163_151 (by decide)
theorem dd_163_154 : decode (mi 163).2.1 154 = .ok (.iload 10, 2) := by decide +kernel
theorem st_163_154 : Sd 163 154 2 (i_ldI 10) := sd_iload dd_163_154
theorem dd_163_156 : decode (mi 163).2.1 156 = .ok (.iload 4, 2) := by decide +kernel
theorem st_163_156 : Sd 163 156 2 (i_ldI 4) := sd_iload dd_163_156
theorem dd_163_158 : decode (mi 163).2.1 158 = .ok (.if_icmp .ge 19, 3) := by decide +kernel
theorem st_163_158 : Sd 163 158 3 (i_cge 177) := sd_icmp_ge dd_163_158 (by decide)
theorem dd_163_161 : decode (mi 163).2.1 161 = .ok (.aload_n 0, 1) := by decide +kernel
theorem st_163_161 : Sd 163 161 1 (i_ldR 0) := sd_aload_n (j := 0) dd_163_161 rfl
theorem dd_163_162 : decode (mi 163).2.1 162 = .ok (.getfield 7, 3) := by decide +kernel
theorem st_163_162 : Sd 163 162 3 (i_gR 1 [2]) := sd_gR (ref := "ContractDeskModel") (decl := "ContractDeskModel") (name := "all") (desc := "[C") dd_163_162 (by rw [mc_163]; exact tw_1261) (Or.inl rfl) (by decide +kernel)
theorem dd_163_165 : decode (mi 163).2.1 165 = .ok (.iload 10, 2) := by decide +kernel
theorem st_163_165 : Sd 163 165 2 (i_ldI 10) := sd_iload dd_163_165
theorem dd_163_167 : decode (mi 163).2.1 167 = .ok (.caload, 1) := by decide +kernel
theorem st_163_167 : Sd 163 167 1 (i_aI [21]) := sd_caload dd_163_167 (by decide)
theorem dd_163_168 : decode (mi 163).2.1 168 = .ok (.bipush 124, 2) := by decide +kernel
theorem st_163_168 : Sd 163 168 2 (i_ic 124) := sd_bipush dd_163_168 (by decide)
theorem dd_163_170 : decode (mi 163).2.1 170 = .ok (.if_icmp .ne 7, 3) := by decide +kernel
theorem st_163_170 : Sd 163 170 3 (i_cne 177) := sd_icmp_ne dd_163_170 (by decide)
def bk_163_147 : Tr := sq (i_stI 8) (sq (i_ldI 9) (sq (i_zne 173) (sq (i_ldI 10) (sq (i_ldI 4) (sq (i_cge 177) (sq (i_ldR 0) (sq (i_gR 1 [2]) (sq (i_ldI 10) (sq (i_aI [21]) (sq (i_ic 124) (sq (i_cne 177) (i_fall 173))))))))))))
theorem sb_163_147 : Sd 163 147 26 bk_163_147 := Sd.sq st_163_147 (Sd.sq st_163_149 (Sd.sq st_163_151 (Sd.sq st_163_154 (Sd.sq st_163_156 (Sd.sq st_163_158 (Sd.sq st_163_161 (Sd.sq st_163_162 (Sd.sq st_163_165 (Sd.sq st_163_167 (Sd.sq st_163_168 (Sd.sq st_163_170 (sd_fall rfl))))))))))))
theorem dd_163_173 : decode (mi 163).2.1 173 = .ok (.iconst 1, 1) := by decide +kernel
theorem st_163_173 : Sd 163 173 1 (i_ic 1) := sd_iconst dd_163_173
theorem dd_163_174 : decode (mi 163).2.1 174 = .ok (.goto 4, 3) := by decide +kernel
theorem st_163_174 : Sd 163 174 3 (i_goto 178) := sd_goto dd_163_174 (by decide)
def bk_163_173 : Tr := sq (i_ic 1) (i_goto 178)
theorem sb_163_173 : Sd 163 173 4 bk_163_173 := Sd.sq st_163_173 (st_163_174)
theorem dd_163_177 : decode (mi 163).2.1 177 = .ok (.iconst 0, 1) := by decide +kernel
theorem st_163_177 : Sd 163 177 1 (i_ic 0) := sd_iconst dd_163_177
def bk_163_177 : Tr := sq (i_ic 0) (i_fall 178)
theorem sb_163_177 : Sd 163 177 1 bk_163_177 := Sd.sq st_163_177 (sd_fall rfl)
theorem dd_163_178 : decode (mi 163).2.1 178 = .ok (.istore 9, 2) := by decide +kernel
theorem st_163_178 : Sd 163 178 2 (i_stI 9) := sd_istore dd_163_178
theorem dd_163_180 : decode (mi 163).2.1 180 = .ok (.iload 10, 2) := by decide +kernel
theorem st_163_180 : Sd 163 180 2 (i_ldI 10) := sd_iload dd_163_180
theorem dd_163_182 : decode (mi 163).2.1 182 = .ok (.iconst 1, 1) := by decide +kernel
theorem st_163_182 : Sd 163 182 1 (i_ic 1) := sd_iconst dd_163_182
theorem dd_163_183 : decode (mi 163).2.1 183 = .ok (.iadd, 1) := by decide +kernel
theorem st_163_183 : Sd 163 183 1 (i_iadd) := sd_iadd dd_163_183
theorem dd_163_184 : decode (mi 163).2.1 184 = .ok (.istore 5, 2) := by decide +kernel
theorem st_163_184 : Sd 163 184 2 (i_stI 5) := sd_istore dd_163_184
theorem dd_163_186 : decode (mi 163).2.1 186 = .ok (.goto (-148), 3) := by decide +kernel
theorem st_163_186 : Sd 163 186 3 (i_goto 38) := sd_goto dd_163_186 (by decide)
def bk_163_178 : Tr := sq (i_stI 9) (sq (i_ldI 10) (sq (i_ic 1) (sq (i_iadd) (sq (i_stI 5) (i_goto 38)))))
theorem sb_163_178 : Sd 163 178 11 bk_163_178 := Sd.sq st_163_178 (Sd.sq st_163_180 (Sd.sq st_163_182 (Sd.sq st_163_183 (Sd.sq st_163_184 (st_163_186)))))
theorem dd_163_189 : decode (mi 163).2.1 189 = .ok (.iload 9, 2) := by decide +kernel
theorem st_163_189 : Sd 163 189 2 (i_ldI 9) := sd_iload dd_163_189
theorem dd_163_191 : decode (mi 163).2.1 191 = .ok (.ifCond .eq 11, 3) := by decide +kernel
theorem st_163_191 : Sd 163 191 3 (i_zeq 202) := sd_if_eq dd_163_191 (by decide)
theorem dd_163_194 : decode (mi 163).2.1 194 = .ok (.iload 7, 2) := by decide +kernel
theorem st_163_194 : Sd 163 194 2 (i_ldI 7) := sd_iload dd_163_194
theorem dd_163_196 : decode (mi 163).2.1 196 = .ok (.ifCond .eq 11, 3) := by decide +kernel
theorem st_163_196 : Sd 163 196 3 (i_zeq 207) := sd_if_eq dd_163_196 (by decide)
theorem dd_163_199 : decode (mi 163).2.1 199 = .ok (.goto 12, 3) := by decide +kernel
theorem st_163_199 : Sd 163 199 3 (i_goto 211) := sd_goto dd_163_199 (by decide)
def bk_163_189 : Tr := sq (i_ldI 9) (sq (i_zeq 202) (sq (i_ldI 7) (sq (i_zeq 207) (i_goto 211))))
theorem sb_163_189 : Sd 163 189 13 bk_163_189 := Sd.sq st_163_189 (Sd.sq st_163_191 (Sd.sq st_163_194 (Sd.sq st_163_196 (st_163_199))))
theorem dd_163_202 : decode (mi 163).2.1 202 = .ok (.iload 6, 2) := by decide +kernel
theorem st_163_202 : Sd 163 202 2 (i_ldI 6) := sd_iload dd_163_202
theorem dd_163_204 : decode (mi 163).2.1 204 = .ok (.ifCond .ne 7, 3) := by decide +kernel
theorem st_163_204 : Sd 163 204 3 (i_zne 211) := sd_if_ne dd_163_204 (by decide)
def bk_163_202 : Tr := sq (i_ldI 6) (sq (i_zne 211) (i_fall 207))
theorem sb_163_202 : Sd 163 202 5 bk_163_202 := Sd.sq st_163_202 (Sd.sq st_163_204 (sd_fall rfl))
theorem dd_163_207 : decode (mi 163).2.1 207 = .ok (.iconst 0, 1) := by decide +kernel
theorem st_163_207 : Sd 163 207 1 (i_ic 0) := sd_iconst dd_163_207
theorem dd_163_208 : decode (mi 163).2.1 208 = .ok (.goto 13, 3) := by decide +kernel
theorem st_163_208 : Sd 163 208 3 (i_goto 221) := sd_goto dd_163_208 (by decide)
def bk_163_207 : Tr := sq (i_ic 0) (i_goto 221)
theorem sb_163_207 : Sd 163 207 4 bk_163_207 := Sd.sq st_163_207 (st_163_208)
theorem dd_163_211 : decode (mi 163).2.1 211 = .ok (.iload 8, 2) := by decide +kernel
theorem st_163_211 : Sd 163 211 2 (i_ldI 8) := sd_iload dd_163_211
theorem dd_163_213 : decode (mi 163).2.1 213 = .ok (.ifCond .eq 7, 3) := by decide +kernel
theorem st_163_213 : Sd 163 213 3 (i_zeq 220) := sd_if_eq dd_163_213 (by decide)
theorem dd_163_216 : decode (mi 163).2.1 216 = .ok (.iconst 3, 1) := by decide +kernel
theorem st_163_216 : Sd 163 216 1 (i_ic 3) := sd_iconst dd_163_216
theorem dd_163_217 : decode (mi 163).2.1 217 = .ok (.goto 4, 3) := by decide +kernel
theorem st_163_217 : Sd 163 217 3 (i_goto 221) := sd_goto dd_163_217 (by decide)
def bk_163_211 : Tr := sq (i_ldI 8) (sq (i_zeq 220) (sq (i_ic 3) (i_goto 221)))
theorem sb_163_211 : Sd 163 211 9 bk_163_211 := Sd.sq st_163_211 (Sd.sq st_163_213 (Sd.sq st_163_216 (st_163_217)))
theorem dd_163_220 : decode (mi 163).2.1 220 = .ok (.iconst 1, 1) := by decide +kernel
theorem st_163_220 : Sd 163 220 1 (i_ic 1) := sd_iconst dd_163_220
def bk_163_220 : Tr := sq (i_ic 1) (i_fall 221)
theorem sb_163_220 : Sd 163 220 1 bk_163_220 := Sd.sq st_163_220 (sd_fall rfl)
theorem dd_163_221 : decode (mi 163).2.1 221 = .ok (.ireturn, 1) := by decide +kernel
theorem st_163_221 : Sd 163 221 1 (i_rI 0) := sd_ireturn dd_163_221 (by decide) mr_163
def bk_163_221 : Tr := i_rI 0
theorem sb_163_221 : Sd 163 221 1 bk_163_221 := st_163_221
theorem dd_164_0 : decode (mi 164).2.1 0 = .ok (.iload_n 1, 1) := by decide +kernel
theorem st_164_0 : Sd 164 0 1 (i_ldI 1) := sd_iload_n (j := 1) dd_164_0 rfl
theorem dd_164_1 : decode (mi 164).2.1 1 = .ok (.iconst 1, 1) := by decide +kernel
theorem st_164_1 : Sd 164 1 1 (i_ic 1) := sd_iconst dd_164_1
theorem dd_164_2 : decode (mi 164).2.1 2 = .ok (.iadd, 1) := by decide +kernel
theorem st_164_2 : Sd 164 2 1 (i_iadd) := sd_iadd dd_164_2
theorem dd_164_3 : decode (mi 164).2.1 3 = .ok (.istore_n 3, 1) := by decide +kernel
theorem st_164_3 : Sd 164 3 1 (i_stI 3) := sd_istore_n (j := 3) dd_164_3 rfl
theorem dd_164_4 : decode (mi 164).2.1 4 = .ok (.iconst 0, 1) := by decide +kernel
theorem st_164_4 : Sd 164 4 1 (i_ic 0) := sd_iconst dd_164_4
theorem dd_164_5 : decode (mi 164).2.1 5 = .ok (.istore 4, 2) := by decide +kernel
theorem st_164_5 : Sd 164 5 2 (i_stI 4) := sd_istore dd_164_5
theorem dd_164_7 : decode (mi 164).2.1 7 = .ok (.aload_n 0, 1) := by decide +kernel
theorem st_164_7 : Sd 164 7 1 (i_ldR 0) := sd_aload_n (j := 0) dd_164_7 rfl
theorem dd_164_8 : decode (mi 164).2.1 8 = .ok (.getfield 7, 3) := by decide +kernel
theorem st_164_8 : Sd 164 8 3 (i_gR 1 [2]) := sd_gR (ref := "ContractDeskModel") (decl := "ContractDeskModel") (name := "all") (desc := "[C") dd_164_8 (by rw [mc_164]; exact tw_1261) (Or.inl rfl) (by decide +kernel)
theorem dd_164_11 : decode (mi 164).2.1 11 = .ok (.iload_n 1, 1) := by decide +kernel
theorem st_164_11 : Sd 164 11 1 (i_ldI 1) := sd_iload_n (j := 1) dd_164_11 rfl
theorem dd_164_12 : decode (mi 164).2.1 12 = .ok (.caload, 1) := by decide +kernel
theorem st_164_12 : Sd 164 12 1 (i_aI [21]) := sd_caload dd_164_12 (by decide)
theorem dd_164_13 : decode (mi 164).2.1 13 = .ok (.bipush 123, 2) := by decide +kernel
theorem st_164_13 : Sd 164 13 2 (i_ic 123) := sd_bipush dd_164_13 (by decide)
theorem dd_164_15 : decode (mi 164).2.1 15 = .ok (.if_icmp .ne 7, 3) := by decide +kernel
theorem st_164_15 : Sd 164 15 3 (i_cne 22) := sd_icmp_ne dd_164_15 (by decide)
theorem dd_164_18 : decode (mi 164).2.1 18 = .ok (.iconst 1, 1) := by decide +kernel
theorem st_164_18 : Sd 164 18 1 (i_ic 1) := sd_iconst dd_164_18
theorem dd_164_19 : decode (mi 164).2.1 19 = .ok (.goto 4, 3) := by decide +kernel
theorem st_164_19 : Sd 164 19 3 (i_goto 23) := sd_goto dd_164_19 (by decide)
def bk_164_0 : Tr := sq (i_ldI 1) (sq (i_ic 1) (sq (i_iadd) (sq (i_stI 3) (sq (i_ic 0) (sq (i_stI 4) (sq (i_ldR 0) (sq (i_gR 1 [2]) (sq (i_ldI 1) (sq (i_aI [21]) (sq (i_ic 123) (sq (i_cne 22) (sq (i_ic 1) (i_goto 23)))))))))))))
theorem sb_164_0 : Sd 164 0 22 bk_164_0 := Sd.sq st_164_0 (Sd.sq st_164_1 (Sd.sq st_164_2 (Sd.sq st_164_3 (Sd.sq st_164_4 (Sd.sq st_164_5 (Sd.sq st_164_7 (Sd.sq st_164_8 (Sd.sq st_164_11 (Sd.sq st_164_12 (Sd.sq st_164_13 (Sd.sq st_164_15 (Sd.sq st_164_18 (st_164_19)))))))))))))
theorem dd_164_22 : decode (mi 164).2.1 22 = .ok (.iconst 0, 1) := by decide +kernel
theorem st_164_22 : Sd 164 22 1 (i_ic 0) := sd_iconst dd_164_22
def bk_164_22 : Tr := sq (i_ic 0) (i_fall 23)
theorem sb_164_22 : Sd 164 22 1 bk_164_22 := Sd.sq st_164_22 (sd_fall rfl)
theorem dd_164_23 : decode (mi 164).2.1 23 = .ok (.istore 5, 2) := by decide +kernel
theorem st_164_23 : Sd 164 23 2 (i_stI 5) := sd_istore dd_164_23
def bk_164_23 : Tr := sq (i_stI 5) (i_fall 25)
theorem sb_164_23 : Sd 164 23 2 bk_164_23 := Sd.sq st_164_23 (sd_fall rfl)
theorem dd_164_25 : decode (mi 164).2.1 25 = .ok (.aload_n 0, 1) := by decide +kernel
theorem st_164_25 : Sd 164 25 1 (i_ldR 0) := sd_aload_n (j := 0) dd_164_25 rfl
theorem dd_164_26 : decode (mi 164).2.1 26 = .ok (.getfield 7, 3) := by decide +kernel
theorem st_164_26 : Sd 164 26 3 (i_gR 1 [2]) := sd_gR (ref := "ContractDeskModel") (decl := "ContractDeskModel") (name := "all") (desc := "[C") dd_164_26 (by rw [mc_164]; exact tw_1261) (Or.inl rfl) (by decide +kernel)
theorem dd_164_29 : decode (mi 164).2.1 29 = .ok (.iload_n 3, 1) := by decide +kernel
theorem st_164_29 : Sd 164 29 1 (i_ldI 3) := sd_iload_n (j := 3) dd_164_29 rfl
theorem dd_164_30 : decode (mi 164).2.1 30 = .ok (.caload, 1) := by decide +kernel
theorem st_164_30 : Sd 164 30 1 (i_aI [21]) := sd_caload dd_164_30 (by decide)
theorem dd_164_31 : decode (mi 164).2.1 31 = .ok (.bipush 93, 2) := by decide +kernel
theorem st_164_31 : Sd 164 31 2 (i_ic 93) := sd_bipush dd_164_31 (by decide)
theorem dd_164_33 : decode (mi 164).2.1 33 = .ok (.if_icmp .eq 64, 3) := by decide +kernel
theorem st_164_33 : Sd 164 33 3 (i_ceq 97) := sd_icmp_eq dd_164_33 (by decide)
theorem dd_164_36 : decode (mi 164).2.1 36 = .ok (.aload_n 0, 1) := by decide +kernel
theorem st_164_36 : Sd 164 36 1 (i_ldR 0) := sd_aload_n (j := 0) dd_164_36 rfl
theorem dd_164_37 : decode (mi 164).2.1 37 = .ok (.getfield 7, 3) := by decide +kernel
theorem st_164_37 : Sd 164 37 3 (i_gR 1 [2]) := sd_gR (ref := "ContractDeskModel") (decl := "ContractDeskModel") (name := "all") (desc := "[C") dd_164_37 (by rw [mc_164]; exact tw_1261) (Or.inl rfl) (by decide +kernel)
theorem dd_164_40 : decode (mi 164).2.1 40 = .ok (.iload_n 3, 1) := by decide +kernel
theorem st_164_40 : Sd 164 40 1 (i_ldI 3) := sd_iload_n (j := 3) dd_164_40 rfl
theorem dd_164_41 : decode (mi 164).2.1 41 = .ok (.caload, 1) := by decide +kernel
theorem st_164_41 : Sd 164 41 1 (i_aI [21]) := sd_caload dd_164_41 (by decide)
theorem dd_164_42 : decode (mi 164).2.1 42 = .ok (.bipush 125, 2) := by decide +kernel
theorem st_164_42 : Sd 164 42 2 (i_ic 125) := sd_bipush dd_164_42 (by decide)
theorem dd_164_44 : decode (mi 164).2.1 44 = .ok (.if_icmp .eq 53, 3) := by decide +kernel
theorem st_164_44 : Sd 164 44 3 (i_ceq 97) := sd_icmp_eq dd_164_44 (by decide)
theorem dd_164_47 : decode (mi 164).2.1 47 = .ok (.iload 4, 2) := by decide +kernel
theorem st_164_47 : Sd 164 47 2 (i_ldI 4) := sd_iload dd_164_47
theorem dd_164_49 : decode (mi 164).2.1 49 = .ok (.iload_n 2, 1) := by decide +kernel
theorem st_164_49 : Sd 164 49 1 (i_ldI 2) := sd_iload_n (j := 2) dd_164_49 rfl
theorem dd_164_50 : decode (mi 164).2.1 50 = .ok (.if_icmp .ne 5, 3) := by decide +kernel
theorem st_164_50 : Sd 164 50 3 (i_cne 55) := sd_icmp_ne dd_164_50 (by decide)
theorem dd_164_53 : decode (mi 164).2.1 53 = .ok (.iload_n 3, 1) := by decide +kernel
theorem st_164_53 : Sd 164 53 1 (i_ldI 3) := sd_iload_n (j := 3) dd_164_53 rfl
theorem dd_164_54 : decode (mi 164).2.1 54 = .ok (.ireturn, 1) := by decide +kernel
theorem st_164_54 : Sd 164 54 1 (i_rI 0) := sd_ireturn dd_164_54 (by decide) mr_164
def bk_164_25 : Tr := sq (i_ldR 0) (sq (i_gR 1 [2]) (sq (i_ldI 3) (sq (i_aI [21]) (sq (i_ic 93) (sq (i_ceq 97) (sq (i_ldR 0) (sq (i_gR 1 [2]) (sq (i_ldI 3) (sq (i_aI [21]) (sq (i_ic 125) (sq (i_ceq 97) (sq (i_ldI 4) (sq (i_ldI 2) (sq (i_cne 55) (sq (i_ldI 3) (i_rI 0))))))))))))))))
theorem sb_164_25 : Sd 164 25 30 bk_164_25 := Sd.sq st_164_25 (Sd.sq st_164_26 (Sd.sq st_164_29 (Sd.sq st_164_30 (Sd.sq st_164_31 (Sd.sq st_164_33 (Sd.sq st_164_36 (Sd.sq st_164_37 (Sd.sq st_164_40 (Sd.sq st_164_41 (Sd.sq st_164_42 (Sd.sq st_164_44 (Sd.sq st_164_47 (Sd.sq st_164_49 (Sd.sq st_164_50 (Sd.sq st_164_53 (st_164_54))))))))))))))))
theorem dd_164_55 : decode (mi 164).2.1 55 = .ok (.iinc 4 1, 3) := by decide +kernel
theorem st_164_55 : Sd 164 55 3 (i_inc 4 1) := sd_iinc dd_164_55
theorem dd_164_58 : decode (mi 164).2.1 58 = .ok (.aload_n 0, 1) := by decide +kernel
theorem st_164_58 : Sd 164 58 1 (i_ldR 0) := sd_aload_n (j := 0) dd_164_58 rfl
theorem dd_164_59 : decode (mi 164).2.1 59 = .ok (.iload 5, 2) := by decide +kernel
theorem st_164_59 : Sd 164 59 2 (i_ldI 5) := sd_iload dd_164_59
theorem dd_164_61 : decode (mi 164).2.1 61 = .ok (.ifCond .eq 9, 3) := by decide +kernel
theorem st_164_61 : Sd 164 61 3 (i_zeq 70) := sd_if_eq dd_164_61 (by decide)
theorem dd_164_64 : decode (mi 164).2.1 64 = .ok (.iload_n 3, 1) := by decide +kernel
theorem st_164_64 : Sd 164 64 1 (i_ldI 3) := sd_iload_n (j := 3) dd_164_64 rfl
theorem dd_164_65 : decode (mi 164).2.1 65 = .ok (.iconst 4, 1) := by decide +kernel
theorem st_164_65 : Sd 164 65 1 (i_ic 4) := sd_iconst dd_164_65
theorem dd_164_66 : decode (mi 164).2.1 66 = .ok (.iadd, 1) := by decide +kernel
theorem st_164_66 : Sd 164 66 1 (i_iadd) := sd_iadd dd_164_66
theorem dd_164_67 : decode (mi 164).2.1 67 = .ok (.goto 4, 3) := by decide +kernel
theorem st_164_67 : Sd 164 67 3 (i_goto 71) := sd_goto dd_164_67 (by decide)
def bk_164_55 : Tr := sq (i_inc 4 1) (sq (i_ldR 0) (sq (i_ldI 5) (sq (i_zeq 70) (sq (i_ldI 3) (sq (i_ic 4) (sq (i_iadd) (i_goto 71)))))))
theorem sb_164_55 : Sd 164 55 15 bk_164_55 := Sd.sq st_164_55 (Sd.sq st_164_58 (Sd.sq st_164_59 (Sd.sq st_164_61 (Sd.sq st_164_64 (Sd.sq st_164_65 (Sd.sq st_164_66 (st_164_67)))))))
theorem dd_164_70 : decode (mi 164).2.1 70 = .ok (.iload_n 3, 1) := by decide +kernel
theorem st_164_70 : Sd 164 70 1 (i_ldI 3) := sd_iload_n (j := 3) dd_164_70 rfl
def bk_164_70 : Tr := sq (i_ldI 3) (i_fall 71)
theorem sb_164_70 : Sd 164 70 1 bk_164_70 := Sd.sq st_164_70 (sd_fall rfl)
theorem dd_164_71 : decode (mi 164).2.1 71 = .ok (.invokevirtual 128, 3) := by decide +kernel
theorem st_164_71 : Sd 164 71 3 (i_cV [(2, 139)] 2 6 []) := sd_virt ⟨"ContractDeskModel", "end", "(I)I"⟩ dd_164_71 (by rw [mc_164]; exact tw_1426) (fun t j h => by simp only [List.mem_cons, List.not_mem_nil, or_false, Prod.mk.injEq] at h; obtain ⟨rfl, rfl⟩ := h; exact mn_139) (fun t j h => by simp only [List.mem_cons, List.not_mem_nil, or_false, Prod.mk.injEq] at h; obtain ⟨rfl, rfl⟩ := h; exact ⟨by rw [mn_139]; exact tw_38, by rw [mn_139]; exact tw_1428, mt_139, by decide, by decide⟩) (by unfold prm; decide +kernel) ml_164 (HsOk.nil (by decide +kernel))
theorem dd_164_74 : decode (mi 164).2.1 74 = .ok (.istore_n 3, 1) := by decide +kernel
theorem st_164_74 : Sd 164 74 1 (i_stI 3) := sd_istore_n (j := 3) dd_164_74 rfl
theorem dd_164_75 : decode (mi 164).2.1 75 = .ok (.aload_n 0, 1) := by decide +kernel
theorem st_164_75 : Sd 164 75 1 (i_ldR 0) := sd_aload_n (j := 0) dd_164_75 rfl
theorem dd_164_76 : decode (mi 164).2.1 76 = .ok (.getfield 7, 3) := by decide +kernel
theorem st_164_76 : Sd 164 76 3 (i_gR 1 [2]) := sd_gR (ref := "ContractDeskModel") (decl := "ContractDeskModel") (name := "all") (desc := "[C") dd_164_76 (by rw [mc_164]; exact tw_1261) (Or.inl rfl) (by decide +kernel)
theorem dd_164_79 : decode (mi 164).2.1 79 = .ok (.iload_n 3, 1) := by decide +kernel
theorem st_164_79 : Sd 164 79 1 (i_ldI 3) := sd_iload_n (j := 3) dd_164_79 rfl
theorem dd_164_80 : decode (mi 164).2.1 80 = .ok (.caload, 1) := by decide +kernel
theorem st_164_80 : Sd 164 80 1 (i_aI [21]) := sd_caload dd_164_80 (by decide)
theorem dd_164_81 : decode (mi 164).2.1 81 = .ok (.bipush 44, 2) := by decide +kernel
theorem st_164_81 : Sd 164 81 2 (i_ic 44) := sd_bipush dd_164_81 (by decide)
theorem dd_164_83 : decode (mi 164).2.1 83 = .ok (.if_icmp .ne 9, 3) := by decide +kernel
theorem st_164_83 : Sd 164 83 3 (i_cne 92) := sd_icmp_ne dd_164_83 (by decide)
theorem dd_164_86 : decode (mi 164).2.1 86 = .ok (.iload_n 3, 1) := by decide +kernel
theorem st_164_86 : Sd 164 86 1 (i_ldI 3) := sd_iload_n (j := 3) dd_164_86 rfl
theorem dd_164_87 : decode (mi 164).2.1 87 = .ok (.iconst 1, 1) := by decide +kernel
theorem st_164_87 : Sd 164 87 1 (i_ic 1) := sd_iconst dd_164_87
theorem dd_164_88 : decode (mi 164).2.1 88 = .ok (.iadd, 1) := by decide +kernel
theorem st_164_88 : Sd 164 88 1 (i_iadd) := sd_iadd dd_164_88
theorem dd_164_89 : decode (mi 164).2.1 89 = .ok (.goto 4, 3) := by decide +kernel
theorem st_164_89 : Sd 164 89 3 (i_goto 93) := sd_goto dd_164_89 (by decide)
def bk_164_71 : Tr := sq (i_cV [(2, 139)] 2 6 []) (sq (i_stI 3) (sq (i_ldR 0) (sq (i_gR 1 [2]) (sq (i_ldI 3) (sq (i_aI [21]) (sq (i_ic 44) (sq (i_cne 92) (sq (i_ldI 3) (sq (i_ic 1) (sq (i_iadd) (i_goto 93)))))))))))
theorem sb_164_71 : Sd 164 71 21 bk_164_71 := Sd.sq st_164_71 (Sd.sq st_164_74 (Sd.sq st_164_75 (Sd.sq st_164_76 (Sd.sq st_164_79 (Sd.sq st_164_80 (Sd.sq st_164_81 (Sd.sq st_164_83 (Sd.sq st_164_86 (Sd.sq st_164_87 (Sd.sq st_164_88 (st_164_89)))))))))))
theorem dd_164_92 : decode (mi 164).2.1 92 = .ok (.iload_n 3, 1) := by decide +kernel
theorem st_164_92 : Sd 164 92 1 (i_ldI 3) := sd_iload_n (j := 3) dd_164_92 rfl
def bk_164_92 : Tr := sq (i_ldI 3) (i_fall 93)
theorem sb_164_92 : Sd 164 92 1 bk_164_92 := Sd.sq st_164_92 (sd_fall rfl)
theorem dd_164_93 : decode (mi 164).2.1 93 = .ok (.istore_n 3, 1) := by decide +kernel
theorem st_164_93 : Sd 164 93 1 (i_stI 3) := sd_istore_n (j := 3) dd_164_93 rfl
theorem dd_164_94 : decode (mi 164).2.1 94 = .ok (.goto (-69), 3) := by decide +kernel
theorem st_164_94 : Sd 164 94 3 (i_goto 25) := sd_goto dd_164_94 (by decide)
def bk_164_93 : Tr := sq (i_stI 3) (i_goto 25)
theorem sb_164_93 : Sd 164 93 4 bk_164_93 := Sd.sq st_164_93 (st_164_94)
theorem dd_164_97 : decode (mi 164).2.1 97 = .ok (.iconst (-1), 1) := by decide +kernel
theorem st_164_97 : Sd 164 97 1 (i_ic (-1)) := sd_iconst dd_164_97
theorem dd_164_98 : decode (mi 164).2.1 98 = .ok (.ireturn, 1) := by decide +kernel
theorem st_164_98 : Sd 164 98 1 (i_rI 0) := sd_ireturn dd_164_98 (by decide) mr_164
def bk_164_97 : Tr := sq (i_ic (-1)) (i_rI 0)
theorem sb_164_97 : Sd 164 97 2 bk_164_97 := Sd.sq st_164_97 (st_164_98)
theorem dd_165_0 : decode (mi 165).2.1 0 = .ok (.iconst 0, 1) := by decide +kernel
theorem st_165_0 : Sd 165 0 1 (i_ic 0) := sd_iconst dd_165_0
theorem dd_165_1 : decode (mi 165).2.1 1 = .ok (.istore_n 2, 1) := by decide +kernel
theorem st_165_1 : Sd 165 1 1 (i_stI 2) := sd_istore_n (j := 2) dd_165_1 rfl
def bk_165_0 : Tr := sq (i_ic 0) (sq (i_stI 2) (i_fall 2))
theorem sb_165_0 : Sd 165 0 2 bk_165_0 := Sd.sq st_165_0 (Sd.sq st_165_1 (sd_fall rfl))
theorem dd_165_2 : decode (mi 165).2.1 2 = .ok (.aload_n 0, 1) := by decide +kernel
theorem st_165_2 : Sd 165 2 1 (i_ldR 0) := sd_aload_n (j := 0) dd_165_2 rfl
theorem dd_165_3 : decode (mi 165).2.1 3 = .ok (.iload_n 1, 1) := by decide +kernel
theorem st_165_3 : Sd 165 3 1 (i_ldI 1) := sd_iload_n (j := 1) dd_165_3 rfl
theorem dd_165_4 : decode (mi 165).2.1 4 = .ok (.iload_n 2, 1) := by decide +kernel
theorem st_165_4 : Sd 165 4 1 (i_ldI 2) := sd_iload_n (j := 2) dd_165_4 rfl
theorem dd_165_5 : decode (mi 165).2.1 5 = .ok (.invokevirtual 131, 3) := by decide +kernel
theorem st_165_5 : Sd 165 5 3 (i_cV [(2, 164)] 3 3 []) := sd_virt ⟨"ContractDeskModel", "part", "(II)I"⟩ dd_165_5 (by rw [mc_165]; exact tw_1437) (fun t j h => by simp only [List.mem_cons, List.not_mem_nil, or_false, Prod.mk.injEq] at h; obtain ⟨rfl, rfl⟩ := h; exact mn_164) (fun t j h => by simp only [List.mem_cons, List.not_mem_nil, or_false, Prod.mk.injEq] at h; obtain ⟨rfl, rfl⟩ := h; exact ⟨by rw [mn_164]; exact tw_40, by rw [mn_164]; exact tw_1439, mt_164, by decide, by decide⟩) (by unfold prm; decide +kernel) ml_165 (HsOk.nil (by decide +kernel))
theorem dd_165_8 : decode (mi 165).2.1 8 = .ok (.ifCond .lt 9, 3) := by decide +kernel
theorem st_165_8 : Sd 165 8 3 (i_zlt 17) := sd_if_lt dd_165_8 (by decide)
theorem dd_165_11 : decode (mi 165).2.1 11 = .ok (.iinc 2 1, 3) := by decide +kernel
theorem st_165_11 : Sd 165 11 3 (i_inc 2 1) := sd_iinc dd_165_11
theorem dd_165_14 : decode (mi 165).2.1 14 = .ok (.goto (-12), 3) := by decide +kernel
theorem st_165_14 : Sd 165 14 3 (i_goto 2) := sd_goto dd_165_14 (by decide)
def bk_165_2 : Tr := sq (i_ldR 0) (sq (i_ldI 1) (sq (i_ldI 2) (sq (i_cV [(2, 164)] 3 3 []) (sq (i_zlt 17) (sq (i_inc 2 1) (i_goto 2))))))
theorem sb_165_2 : Sd 165 2 15 bk_165_2 := Sd.sq st_165_2 (Sd.sq st_165_3 (Sd.sq st_165_4 (Sd.sq st_165_5 (Sd.sq st_165_8 (Sd.sq st_165_11 (st_165_14))))))
theorem dd_165_17 : decode (mi 165).2.1 17 = .ok (.iload_n 2, 1) := by decide +kernel
theorem st_165_17 : Sd 165 17 1 (i_ldI 2) := sd_iload_n (j := 2) dd_165_17 rfl
theorem dd_165_18 : decode (mi 165).2.1 18 = .ok (.ireturn, 1) := by decide +kernel
theorem st_165_18 : Sd 165 18 1 (i_rI 0) := sd_ireturn dd_165_18 (by decide) mr_165
def bk_165_17 : Tr := sq (i_ldI 2) (i_rI 0)
theorem sb_165_17 : Sd 165 17 2 bk_165_17 := Sd.sq st_165_17 (st_165_18)
theorem dd_166_0 : decode (mi 166).2.1 0 = .ok (.aload_n 0, 1) := by decide +kernel
theorem st_166_0 : Sd 166 0 1 (i_ldR 0) := sd_aload_n (j := 0) dd_166_0 rfl
theorem dd_166_1 : decode (mi 166).2.1 1 = .ok (.getfield 54, 3) := by decide +kernel
theorem st_166_1 : Sd 166 1 3 (i_gR 20 [2]) := sd_gR (ref := "ContractDeskModel") (decl := "ContractDeskModel") (name := "around") (desc := "[I") dd_166_1 (by rw [mc_166]; exact tw_1280) (Or.inl rfl) (by decide +kernel)
theorem dd_166_4 : decode (mi 166).2.1 4 = .ok (.aload_n 0, 1) := by decide +kernel
theorem st_166_4 : Sd 166 4 1 (i_ldR 0) := sd_aload_n (j := 0) dd_166_4 rfl
theorem dd_166_5 : decode (mi 166).2.1 5 = .ok (.getfield 212, 3) := by decide +kernel
theorem st_166_5 : Sd 166 5 3 (i_gI 19 [2]) := sd_gI (ref := "ContractDeskModel") (decl := "ContractDeskModel") (name := "spots") (desc := "I") dd_166_5 (by rw [mc_166]; exact tw_1279) (Or.inl rfl) (by decide +kernel)
theorem dd_166_8 : decode (mi 166).2.1 8 = .ok (.iload_n 1, 1) := by decide +kernel
theorem st_166_8 : Sd 166 8 1 (i_ldI 1) := sd_iload_n (j := 1) dd_166_8 rfl
theorem dd_166_9 : decode (mi 166).2.1 9 = .ok (.iastore, 1) := by decide +kernel
theorem st_166_9 : Sd 166 9 1 (i_sI [20] 0) := sd_iastore dd_166_9 (by decide)
theorem dd_166_10 : decode (mi 166).2.1 10 = .ok (.aload_n 0, 1) := by decide +kernel
theorem st_166_10 : Sd 166 10 1 (i_ldR 0) := sd_aload_n (j := 0) dd_166_10 rfl
theorem dd_166_11 : decode (mi 166).2.1 11 = .ok (.getfield 57, 3) := by decide +kernel
theorem st_166_11 : Sd 166 11 3 (i_gR 21 [2]) := sd_gR (ref := "ContractDeskModel") (decl := "ContractDeskModel") (name := "step") (desc := "[I") dd_166_11 (by rw [mc_166]; exact tw_1281) (Or.inl rfl) (by decide +kernel)
theorem dd_166_14 : decode (mi 166).2.1 14 = .ok (.aload_n 0, 1) := by decide +kernel
theorem st_166_14 : Sd 166 14 1 (i_ldR 0) := sd_aload_n (j := 0) dd_166_14 rfl
theorem dd_166_15 : decode (mi 166).2.1 15 = .ok (.getfield 212, 3) := by decide +kernel
theorem st_166_15 : Sd 166 15 3 (i_gI 19 [2]) := sd_gI (ref := "ContractDeskModel") (decl := "ContractDeskModel") (name := "spots") (desc := "I") dd_166_15 (by rw [mc_166]; exact tw_1279) (Or.inl rfl) (by decide +kernel)
theorem dd_166_18 : decode (mi 166).2.1 18 = .ok (.iload_n 2, 1) := by decide +kernel
theorem st_166_18 : Sd 166 18 1 (i_ldI 2) := sd_iload_n (j := 2) dd_166_18 rfl
theorem dd_166_19 : decode (mi 166).2.1 19 = .ok (.iastore, 1) := by decide +kernel
theorem st_166_19 : Sd 166 19 1 (i_sI [20] 0) := sd_iastore dd_166_19 (by decide)
theorem dd_166_20 : decode (mi 166).2.1 20 = .ok (.aload_n 0, 1) := by decide +kernel
theorem st_166_20 : Sd 166 20 1 (i_ldR 0) := sd_aload_n (j := 0) dd_166_20 rfl
theorem dd_166_21 : decode (mi 166).2.1 21 = .ok (.dup, 1) := by decide +kernel
theorem st_166_21 : Sd 166 21 1 (i_dup) := sd_dup dd_166_21
theorem dd_166_22 : decode (mi 166).2.1 22 = .ok (.getfield 212, 3) := by decide +kernel
theorem st_166_22 : Sd 166 22 3 (i_gI 19 [2]) := sd_gI (ref := "ContractDeskModel") (decl := "ContractDeskModel") (name := "spots") (desc := "I") dd_166_22 (by rw [mc_166]; exact tw_1279) (Or.inl rfl) (by decide +kernel)
theorem dd_166_25 : decode (mi 166).2.1 25 = .ok (.iconst 1, 1) := by decide +kernel
theorem st_166_25 : Sd 166 25 1 (i_ic 1) := sd_iconst dd_166_25
theorem dd_166_26 : decode (mi 166).2.1 26 = .ok (.iadd, 1) := by decide +kernel
theorem st_166_26 : Sd 166 26 1 (i_iadd) := sd_iadd dd_166_26
theorem dd_166_27 : decode (mi 166).2.1 27 = .ok (.putfield 212, 3) := by decide +kernel
theorem st_166_27 : Sd 166 27 3 (i_pI 19 [2] 0) := sd_pI (ref := "ContractDeskModel") (decl := "ContractDeskModel") (name := "spots") (desc := "I") dd_166_27 (by rw [mc_166]; exact tw_1279) (Or.inl rfl) (by decide +kernel) (by decide +kernel) (by decide)
theorem dd_166_30 : decode (mi 166).2.1 30 = .ok (.aload_n 0, 1) := by decide +kernel
theorem st_166_30 : Sd 166 30 1 (i_ldR 0) := sd_aload_n (j := 0) dd_166_30 rfl
theorem dd_166_31 : decode (mi 166).2.1 31 = .ok (.getfield 212, 3) := by decide +kernel
theorem st_166_31 : Sd 166 31 3 (i_gI 19 [2]) := sd_gI (ref := "ContractDeskModel") (decl := "ContractDeskModel") (name := "spots") (desc := "I") dd_166_31 (by rw [mc_166]; exact tw_1279) (Or.inl rfl) (by decide +kernel)
theorem dd_166_34 : decode (mi 166).2.1 34 = .ok (.iconst 1, 1) := by decide +kernel
theorem st_166_34 : Sd 166 34 1 (i_ic 1) := sd_iconst dd_166_34
theorem dd_166_35 : decode (mi 166).2.1 35 = .ok (.isub, 1) := by decide +kernel
theorem st_166_35 : Sd 166 35 1 (i_isub) := sd_isub dd_166_35
theorem dd_166_36 : decode (mi 166).2.1 36 = .ok (.ireturn, 1) := by decide +kernel
theorem st_166_36 : Sd 166 36 1 (i_rI 0) := sd_ireturn dd_166_36 (by decide) mr_166
def bk_166_0 : Tr := sq (i_ldR 0) (sq (i_gR 20 [2]) (sq (i_ldR 0) (sq (i_gI 19 [2]) (sq (i_ldI 1) (sq (i_sI [20] 0) (sq (i_ldR 0) (sq (i_gR 21 [2]) (sq (i_ldR 0) (sq (i_gI 19 [2]) (sq (i_ldI 2) (sq (i_sI [20] 0) (sq (i_ldR 0) (sq (i_dup) (sq (i_gI 19 [2]) (sq (i_ic 1) (sq (i_iadd) (sq (i_pI 19 [2] 0) (sq (i_ldR 0) (sq (i_gI 19 [2]) (sq (i_ic 1) (sq (i_isub) (i_rI 0))))))))))))))))))))))
theorem sb_166_0 : Sd 166 0 37 bk_166_0 := Sd.sq st_166_0 (Sd.sq st_166_1 (Sd.sq st_166_4 (Sd.sq st_166_5 (Sd.sq st_166_8 (Sd.sq st_166_9 (Sd.sq st_166_10 (Sd.sq st_166_11 (Sd.sq st_166_14 (Sd.sq st_166_15 (Sd.sq st_166_18 (Sd.sq st_166_19 (Sd.sq st_166_20 (Sd.sq st_166_21 (Sd.sq st_166_22 (Sd.sq st_166_25 (Sd.sq st_166_26 (Sd.sq st_166_27 (Sd.sq st_166_30 (Sd.sq st_166_31 (Sd.sq st_166_34 (Sd.sq st_166_35 (st_166_36))))))))))))))))))))))
theorem dd_167_0 : decode (mi 167).2.1 0 = .ok (.aload_n 0, 1) := by decide +kernel
theorem st_167_0 : Sd 167 0 1 (i_ldR 0) := sd_aload_n (j := 0) dd_167_0 rfl
theorem dd_167_1 : decode (mi 167).2.1 1 = .ok (.iload_n 1, 1) := by decide +kernel
theorem st_167_1 : Sd 167 1 1 (i_ldI 1) := sd_iload_n (j := 1) dd_167_1 rfl
theorem dd_167_2 : decode (mi 167).2.1 2 = .ok (.bipush 110, 2) := by decide +kernel
theorem st_167_2 : Sd 167 2 2 (i_ic 110) := sd_bipush dd_167_2 (by decide)
theorem dd_167_4 : decode (mi 167).2.1 4 = .ok (.bipush 117, 2) := by decide +kernel
theorem st_167_4 : Sd 167 4 2 (i_ic 117) := sd_bipush dd_167_4 (by decide)
theorem dd_167_6 : decode (mi 167).2.1 6 = .ok (.bipush 108, 2) := by decide +kernel
theorem st_167_6 : Sd 167 6 2 (i_ic 108) := sd_bipush dd_167_6 (by decide)
theorem dd_167_8 : decode (mi 167).2.1 8 = .ok (.bipush 108, 2) := by decide +kernel
theorem st_167_8 : Sd 167 8 2 (i_ic 108) := sd_bipush dd_167_8 (by decide)
theorem dd_167_10 : decode (mi 167).2.1 10 = .ok (.invokevirtual 107, 3) := by decide +kernel
theorem st_167_10 : Sd 167 10 3 (i_cV [(2, 183)] 6 4 []) := sd_virt ⟨"ContractDeskModel", "word", "(ICCCC)Z"⟩ dd_167_10 (by rw [mc_167]; exact tw_1399) (fun t j h => by simp only [List.mem_cons, List.not_mem_nil, or_false, Prod.mk.injEq] at h; obtain ⟨rfl, rfl⟩ := h; exact mn_183) (fun t j h => by simp only [List.mem_cons, List.not_mem_nil, or_false, Prod.mk.injEq] at h; obtain ⟨rfl, rfl⟩ := h; exact ⟨by rw [mn_183]; exact tw_32, by rw [mn_183]; exact tw_1401, mt_183, by decide, by decide⟩) (by unfold prm; decide +kernel) ml_167 (HsOk.nil (by decide +kernel))
theorem dd_167_13 : decode (mi 167).2.1 13 = .ok (.ifCond .ne 19, 3) := by decide +kernel
theorem st_167_13 : Sd 167 13 3 (i_zne 32) := sd_if_ne dd_167_13 (by decide)
theorem dd_167_16 : decode (mi 167).2.1 16 = .ok (.aload_n 0, 1) := by decide +kernel
theorem st_167_16 : Sd 167 16 1 (i_ldR 0) := sd_aload_n (j := 0) dd_167_16 rfl
theorem dd_167_17 : decode (mi 167).2.1 17 = .ok (.iload_n 1, 1) := by decide +kernel
theorem st_167_17 : Sd 167 17 1 (i_ldI 1) := sd_iload_n (j := 1) dd_167_17 rfl
theorem dd_167_18 : decode (mi 167).2.1 18 = .ok (.bipush 116, 2) := by decide +kernel
theorem st_167_18 : Sd 167 18 2 (i_ic 116) := sd_bipush dd_167_18 (by decide)
theorem dd_167_20 : decode (mi 167).2.1 20 = .ok (.bipush 114, 2) := by decide +kernel
theorem st_167_20 : Sd 167 20 2 (i_ic 114) := sd_bipush dd_167_20 (by decide)
theorem dd_167_22 : decode (mi 167).2.1 22 = .ok (.bipush 117, 2) := by decide +kernel
theorem st_167_22 : Sd 167 22 2 (i_ic 117) := sd_bipush dd_167_22 (by decide)
theorem dd_167_24 : decode (mi 167).2.1 24 = .ok (.bipush 101, 2) := by decide +kernel
theorem st_167_24 : Sd 167 24 2 (i_ic 101) := sd_bipush dd_167_24 (by decide)
theorem dd_167_26 : decode (mi 167).2.1 26 = .ok (.invokevirtual 107, 3) := by decide +kernel
theorem st_167_26 : Sd 167 26 3 (i_cV [(2, 183)] 6 4 []) := sd_virt ⟨"ContractDeskModel", "word", "(ICCCC)Z"⟩ dd_167_26 (by rw [mc_167]; exact tw_1399) (fun t j h => by simp only [List.mem_cons, List.not_mem_nil, or_false, Prod.mk.injEq] at h; obtain ⟨rfl, rfl⟩ := h; exact mn_183) (fun t j h => by simp only [List.mem_cons, List.not_mem_nil, or_false, Prod.mk.injEq] at h; obtain ⟨rfl, rfl⟩ := h; exact ⟨by rw [mn_183]; exact tw_32, by rw [mn_183]; exact tw_1401, mt_183, by decide, by decide⟩) (by unfold prm; decide +kernel) ml_167 (HsOk.nil (by decide +kernel))
theorem dd_167_29 : decode (mi 167).2.1 29 = .ok (.ifCond .eq 7, 3) := by decide +kernel
theorem st_167_29 : Sd 167 29 3 (i_zeq 36) := sd_if_eq dd_167_29 (by decide)
def bk_167_0 : Tr := sq (i_ldR 0) (sq (i_ldI 1) (sq (i_ic 110) (sq (i_ic 117) (sq (i_ic 108) (sq (i_ic 108) (sq (i_cV [(2, 183)] 6 4 []) (sq (i_zne 32) (sq (i_ldR 0) (sq (i_ldI 1) (sq (i_ic 116) (sq (i_ic 114) (sq (i_ic 117) (sq (i_ic 101) (sq (i_cV [(2, 183)] 6 4 []) (sq (i_zeq 36) (i_fall 32))))))))))))))))
theorem sb_167_0 : Sd 167 0 32 bk_167_0 := Sd.sq st_167_0 (Sd.sq st_167_1 (Sd.sq st_167_2 (Sd.sq st_167_4 (Sd.sq st_167_6 (Sd.sq st_167_8 (Sd.sq st_167_10 (Sd.sq st_167_13 (Sd.sq st_167_16 (Sd.sq st_167_17 (Sd.sq st_167_18 (Sd.sq st_167_20 (Sd.sq st_167_22 (Sd.sq st_167_24 (Sd.sq st_167_26 (Sd.sq st_167_29 (sd_fall rfl))))))))))))))))
theorem dd_167_32 : decode (mi 167).2.1 32 = .ok (.iload_n 1, 1) := by decide +kernel
theorem st_167_32 : Sd 167 32 1 (i_ldI 1) := sd_iload_n (j := 1) dd_167_32 rfl
theorem dd_167_33 : decode (mi 167).2.1 33 = .ok (.iconst 4, 1) := by decide +kernel
theorem st_167_33 : Sd 167 33 1 (i_ic 4) := sd_iconst dd_167_33
theorem dd_167_34 : decode (mi 167).2.1 34 = .ok (.iadd, 1) := by decide +kernel
theorem st_167_34 : Sd 167 34 1 (i_iadd) := sd_iadd dd_167_34
theorem dd_167_35 : decode (mi 167).2.1 35 = .ok (.ireturn, 1) := by decide +kernel
theorem st_167_35 : Sd 167 35 1 (i_rI 0) := sd_ireturn dd_167_35 (by decide) mr_167
def bk_167_32 : Tr := sq (i_ldI 1) (sq (i_ic 4) (sq (i_iadd) (i_rI 0)))
theorem sb_167_32 : Sd 167 32 4 bk_167_32 := Sd.sq st_167_32 (Sd.sq st_167_33 (Sd.sq st_167_34 (st_167_35)))
theorem dd_167_36 : decode (mi 167).2.1 36 = .ok (.aload_n 0, 1) := by decide +kernel
theorem st_167_36 : Sd 167 36 1 (i_ldR 0) := sd_aload_n (j := 0) dd_167_36 rfl
theorem dd_167_37 : decode (mi 167).2.1 37 = .ok (.iload_n 1, 1) := by decide +kernel
theorem st_167_37 : Sd 167 37 1 (i_ldI 1) := sd_iload_n (j := 1) dd_167_37 rfl
theorem dd_167_38 : decode (mi 167).2.1 38 = .ok (.bipush 102, 2) := by decide +kernel
theorem st_167_38 : Sd 167 38 2 (i_ic 102) := sd_bipush dd_167_38 (by decide)
theorem dd_167_40 : decode (mi 167).2.1 40 = .ok (.bipush 97, 2) := by decide +kernel
theorem st_167_40 : Sd 167 40 2 (i_ic 97) := sd_bipush dd_167_40 (by decide)
theorem dd_167_42 : decode (mi 167).2.1 42 = .ok (.bipush 108, 2) := by decide +kernel
theorem st_167_42 : Sd 167 42 2 (i_ic 108) := sd_bipush dd_167_42 (by decide)
theorem dd_167_44 : decode (mi 167).2.1 44 = .ok (.bipush 115, 2) := by decide +kernel
theorem st_167_44 : Sd 167 44 2 (i_ic 115) := sd_bipush dd_167_44 (by decide)
theorem dd_167_46 : decode (mi 167).2.1 46 = .ok (.invokevirtual 107, 3) := by decide +kernel
theorem st_167_46 : Sd 167 46 3 (i_cV [(2, 183)] 6 4 []) := sd_virt ⟨"ContractDeskModel", "word", "(ICCCC)Z"⟩ dd_167_46 (by rw [mc_167]; exact tw_1399) (fun t j h => by simp only [List.mem_cons, List.not_mem_nil, or_false, Prod.mk.injEq] at h; obtain ⟨rfl, rfl⟩ := h; exact mn_183) (fun t j h => by simp only [List.mem_cons, List.not_mem_nil, or_false, Prod.mk.injEq] at h; obtain ⟨rfl, rfl⟩ := h; exact ⟨by rw [mn_183]; exact tw_32, by rw [mn_183]; exact tw_1401, mt_183, by decide, by decide⟩) (by unfold prm; decide +kernel) ml_167 (HsOk.nil (by decide +kernel))
theorem dd_167_49 : decode (mi 167).2.1 49 = .ok (.ifCond .eq 19, 3) := by decide +kernel
theorem st_167_49 : Sd 167 49 3 (i_zeq 68) := sd_if_eq dd_167_49 (by decide)
theorem dd_167_52 : decode (mi 167).2.1 52 = .ok (.aload_n 0, 1) := by decide +kernel
theorem st_167_52 : Sd 167 52 1 (i_ldR 0) := sd_aload_n (j := 0) dd_167_52 rfl
theorem dd_167_53 : decode (mi 167).2.1 53 = .ok (.iload_n 1, 1) := by decide +kernel
theorem st_167_53 : Sd 167 53 1 (i_ldI 1) := sd_iload_n (j := 1) dd_167_53 rfl
theorem dd_167_54 : decode (mi 167).2.1 54 = .ok (.iconst 4, 1) := by decide +kernel
theorem st_167_54 : Sd 167 54 1 (i_ic 4) := sd_iconst dd_167_54
theorem dd_167_55 : decode (mi 167).2.1 55 = .ok (.iadd, 1) := by decide +kernel
theorem st_167_55 : Sd 167 55 1 (i_iadd) := sd_iadd dd_167_55
theorem dd_167_56 : decode (mi 167).2.1 56 = .ok (.invokevirtual 103, 3) := by decide +kernel
theorem st_167_56 : Sd 167 56 3 (i_cV [(2, 129)] 2 4 []) := sd_virt ⟨"ContractDeskModel", "at", "(I)C"⟩ dd_167_56 (by rw [mc_167]; exact tw_1388) (fun t j h => by simp only [List.mem_cons, List.not_mem_nil, or_false, Prod.mk.injEq] at h; obtain ⟨rfl, rfl⟩ := h; exact mn_129) (fun t j h => by simp only [List.mem_cons, List.not_mem_nil, or_false, Prod.mk.injEq] at h; obtain ⟨rfl, rfl⟩ := h; exact ⟨by rw [mn_129]; exact tw_30, by rw [mn_129]; exact tw_1390, mt_129, by decide, by decide⟩) (by unfold prm; decide +kernel) ml_167 (HsOk.nil (by decide +kernel))
theorem dd_167_59 : decode (mi 167).2.1 59 = .ok (.bipush 101, 2) := by decide +kernel
theorem st_167_59 : Sd 167 59 2 (i_ic 101) := sd_bipush dd_167_59 (by decide)
theorem dd_167_61 : decode (mi 167).2.1 61 = .ok (.if_icmp .ne 7, 3) := by decide +kernel
theorem st_167_61 : Sd 167 61 3 (i_cne 68) := sd_icmp_ne dd_167_61 (by decide)
theorem dd_167_64 : decode (mi 167).2.1 64 = .ok (.iload_n 1, 1) := by decide +kernel
theorem st_167_64 : Sd 167 64 1 (i_ldI 1) := sd_iload_n (j := 1) dd_167_64 rfl
theorem dd_167_65 : decode (mi 167).2.1 65 = .ok (.iconst 5, 1) := by decide +kernel
theorem st_167_65 : Sd 167 65 1 (i_ic 5) := sd_iconst dd_167_65
theorem dd_167_66 : decode (mi 167).2.1 66 = .ok (.iadd, 1) := by decide +kernel
theorem st_167_66 : Sd 167 66 1 (i_iadd) := sd_iadd dd_167_66
theorem dd_167_67 : decode (mi 167).2.1 67 = .ok (.ireturn, 1) := by decide +kernel
theorem st_167_67 : Sd 167 67 1 (i_rI 0) := sd_ireturn dd_167_67 (by decide) mr_167
def bk_167_36 : Tr := sq (i_ldR 0) (sq (i_ldI 1) (sq (i_ic 102) (sq (i_ic 97) (sq (i_ic 108) (sq (i_ic 115) (sq (i_cV [(2, 183)] 6 4 []) (sq (i_zeq 68) (sq (i_ldR 0) (sq (i_ldI 1) (sq (i_ic 4) (sq (i_iadd) (sq (i_cV [(2, 129)] 2 4 []) (sq (i_ic 101) (sq (i_cne 68) (sq (i_ldI 1) (sq (i_ic 5) (sq (i_iadd) (i_rI 0))))))))))))))))))
theorem sb_167_36 : Sd 167 36 32 bk_167_36 := Sd.sq st_167_36 (Sd.sq st_167_37 (Sd.sq st_167_38 (Sd.sq st_167_40 (Sd.sq st_167_42 (Sd.sq st_167_44 (Sd.sq st_167_46 (Sd.sq st_167_49 (Sd.sq st_167_52 (Sd.sq st_167_53 (Sd.sq st_167_54 (Sd.sq st_167_55 (Sd.sq st_167_56 (Sd.sq st_167_59 (Sd.sq st_167_61 (Sd.sq st_167_64 (Sd.sq st_167_65 (Sd.sq st_167_66 (st_167_67))))))))))))))))))
theorem dd_167_68 : decode (mi 167).2.1 68 = .ok (.aload_n 0, 1) := by decide +kernel
theorem st_167_68 : Sd 167 68 1 (i_ldR 0) := sd_aload_n (j := 0) dd_167_68 rfl
theorem dd_167_69 : decode (mi 167).2.1 69 = .ok (.iload_n 1, 1) := by decide +kernel
theorem st_167_69 : Sd 167 69 1 (i_ldI 1) := sd_iload_n (j := 1) dd_167_69 rfl
theorem dd_167_70 : decode (mi 167).2.1 70 = .ok (.invokevirtual 103, 3) := by decide +kernel
theorem st_167_70 : Sd 167 70 3 (i_cV [(2, 129)] 2 4 []) := sd_virt ⟨"ContractDeskModel", "at", "(I)C"⟩ dd_167_70 (by rw [mc_167]; exact tw_1388) (fun t j h => by simp only [List.mem_cons, List.not_mem_nil, or_false, Prod.mk.injEq] at h; obtain ⟨rfl, rfl⟩ := h; exact mn_129) (fun t j h => by simp only [List.mem_cons, List.not_mem_nil, or_false, Prod.mk.injEq] at h; obtain ⟨rfl, rfl⟩ := h; exact ⟨by rw [mn_129]; exact tw_30, by rw [mn_129]; exact tw_1390, mt_129, by decide, by decide⟩) (by unfold prm; decide +kernel) ml_167 (HsOk.nil (by decide +kernel))
theorem dd_167_73 : decode (mi 167).2.1 73 = .ok (.bipush 34, 2) := by decide +kernel
theorem st_167_73 : Sd 167 73 2 (i_ic 34) := sd_bipush dd_167_73 (by decide)
theorem dd_167_75 : decode (mi 167).2.1 75 = .ok (.if_icmp .ne 50, 3) := by decide +kernel
theorem st_167_75 : Sd 167 75 3 (i_cne 125) := sd_icmp_ne dd_167_75 (by decide)
theorem dd_167_78 : decode (mi 167).2.1 78 = .ok (.iload_n 1, 1) := by decide +kernel
theorem st_167_78 : Sd 167 78 1 (i_ldI 1) := sd_iload_n (j := 1) dd_167_78 rfl
theorem dd_167_79 : decode (mi 167).2.1 79 = .ok (.iconst 1, 1) := by decide +kernel
theorem st_167_79 : Sd 167 79 1 (i_ic 1) := sd_iconst dd_167_79
theorem dd_167_80 : decode (mi 167).2.1 80 = .ok (.iadd, 1) := by decide +kernel
theorem st_167_80 : Sd 167 80 1 (i_iadd) := sd_iadd dd_167_80
theorem dd_167_81 : decode (mi 167).2.1 81 = .ok (.istore_n 2, 1) := by decide +kernel
theorem st_167_81 : Sd 167 81 1 (i_stI 2) := sd_istore_n (j := 2) dd_167_81 rfl
def bk_167_68 : Tr := sq (i_ldR 0) (sq (i_ldI 1) (sq (i_cV [(2, 129)] 2 4 []) (sq (i_ic 34) (sq (i_cne 125) (sq (i_ldI 1) (sq (i_ic 1) (sq (i_iadd) (sq (i_stI 2) (i_fall 82)))))))))
theorem sb_167_68 : Sd 167 68 14 bk_167_68 := Sd.sq st_167_68 (Sd.sq st_167_69 (Sd.sq st_167_70 (Sd.sq st_167_73 (Sd.sq st_167_75 (Sd.sq st_167_78 (Sd.sq st_167_79 (Sd.sq st_167_80 (Sd.sq st_167_81 (sd_fall rfl)))))))))
theorem dd_167_82 : decode (mi 167).2.1 82 = .ok (.aload_n 0, 1) := by decide +kernel
theorem st_167_82 : Sd 167 82 1 (i_ldR 0) := sd_aload_n (j := 0) dd_167_82 rfl
theorem dd_167_83 : decode (mi 167).2.1 83 = .ok (.iload_n 2, 1) := by decide +kernel
theorem st_167_83 : Sd 167 83 1 (i_ldI 2) := sd_iload_n (j := 2) dd_167_83 rfl
theorem dd_167_84 : decode (mi 167).2.1 84 = .ok (.invokevirtual 103, 3) := by decide +kernel
theorem st_167_84 : Sd 167 84 3 (i_cV [(2, 129)] 2 4 []) := sd_virt ⟨"ContractDeskModel", "at", "(I)C"⟩ dd_167_84 (by rw [mc_167]; exact tw_1388) (fun t j h => by simp only [List.mem_cons, List.not_mem_nil, or_false, Prod.mk.injEq] at h; obtain ⟨rfl, rfl⟩ := h; exact mn_129) (fun t j h => by simp only [List.mem_cons, List.not_mem_nil, or_false, Prod.mk.injEq] at h; obtain ⟨rfl, rfl⟩ := h; exact ⟨by rw [mn_129]; exact tw_30, by rw [mn_129]; exact tw_1390, mt_129, by decide, by decide⟩) (by unfold prm; decide +kernel) ml_167 (HsOk.nil (by decide +kernel))
theorem dd_167_87 : decode (mi 167).2.1 87 = .ok (.invokestatic 111, 3) := by decide +kernel
theorem st_167_87 : Sd 167 87 3 (i_cS 148 1 4 []) := sd_static dd_167_87 (by rw [mc_167, mn_148]; exact tw_1392) (by rw [mn_148]; exact tw_1393) mt_148 pm_148 ml_167 (HsOk.nil (by decide +kernel))
theorem dd_167_90 : decode (mi 167).2.1 90 = .ok (.ifCond .eq 9, 3) := by decide +kernel
theorem st_167_90 : Sd 167 90 3 (i_zeq 99) := sd_if_eq dd_167_90 (by decide)
theorem dd_167_93 : decode (mi 167).2.1 93 = .ok (.iinc 2 1, 3) := by decide +kernel
theorem st_167_93 : Sd 167 93 3 (i_inc 2 1) := sd_iinc dd_167_93
theorem dd_167_96 : decode (mi 167).2.1 96 = .ok (.goto (-14), 3) := by decide +kernel
theorem st_167_96 : Sd 167 96 3 (i_goto 82) := sd_goto dd_167_96 (by decide)
def bk_167_82 : Tr := sq (i_ldR 0) (sq (i_ldI 2) (sq (i_cV [(2, 129)] 2 4 []) (sq (i_cS 148 1 4 []) (sq (i_zeq 99) (sq (i_inc 2 1) (i_goto 82))))))
theorem sb_167_82 : Sd 167 82 17 bk_167_82 := Sd.sq st_167_82 (Sd.sq st_167_83 (Sd.sq st_167_84 (Sd.sq st_167_87 (Sd.sq st_167_90 (Sd.sq st_167_93 (st_167_96))))))
theorem dd_167_99 : decode (mi 167).2.1 99 = .ok (.aload_n 0, 1) := by decide +kernel
theorem st_167_99 : Sd 167 99 1 (i_ldR 0) := sd_aload_n (j := 0) dd_167_99 rfl
theorem dd_167_100 : decode (mi 167).2.1 100 = .ok (.iload_n 2, 1) := by decide +kernel
theorem st_167_100 : Sd 167 100 1 (i_ldI 2) := sd_iload_n (j := 2) dd_167_100 rfl
theorem dd_167_101 : decode (mi 167).2.1 101 = .ok (.invokevirtual 103, 3) := by decide +kernel
theorem st_167_101 : Sd 167 101 3 (i_cV [(2, 129)] 2 4 []) := sd_virt ⟨"ContractDeskModel", "at", "(I)C"⟩ dd_167_101 (by rw [mc_167]; exact tw_1388) (fun t j h => by simp only [List.mem_cons, List.not_mem_nil, or_false, Prod.mk.injEq] at h; obtain ⟨rfl, rfl⟩ := h; exact mn_129) (fun t j h => by simp only [List.mem_cons, List.not_mem_nil, or_false, Prod.mk.injEq] at h; obtain ⟨rfl, rfl⟩ := h; exact ⟨by rw [mn_129]; exact tw_30, by rw [mn_129]; exact tw_1390, mt_129, by decide, by decide⟩) (by unfold prm; decide +kernel) ml_167 (HsOk.nil (by decide +kernel))
theorem dd_167_104 : decode (mi 167).2.1 104 = .ok (.bipush 34, 2) := by decide +kernel
theorem st_167_104 : Sd 167 104 2 (i_ic 34) := sd_bipush dd_167_104 (by decide)
theorem dd_167_106 : decode (mi 167).2.1 106 = .ok (.if_icmp .ne 17, 3) := by decide +kernel
theorem st_167_106 : Sd 167 106 3 (i_cne 123) := sd_icmp_ne dd_167_106 (by decide)
theorem dd_167_109 : decode (mi 167).2.1 109 = .ok (.iload_n 2, 1) := by decide +kernel
theorem st_167_109 : Sd 167 109 1 (i_ldI 2) := sd_iload_n (j := 2) dd_167_109 rfl
theorem dd_167_110 : decode (mi 167).2.1 110 = .ok (.iload_n 1, 1) := by decide +kernel
theorem st_167_110 : Sd 167 110 1 (i_ldI 1) := sd_iload_n (j := 1) dd_167_110 rfl
theorem dd_167_111 : decode (mi 167).2.1 111 = .ok (.isub, 1) := by decide +kernel
theorem st_167_111 : Sd 167 111 1 (i_isub) := sd_isub dd_167_111
theorem dd_167_112 : decode (mi 167).2.1 112 = .ok (.bipush 13, 2) := by decide +kernel
theorem st_167_112 : Sd 167 112 2 (i_ic 13) := sd_bipush dd_167_112 (by decide)
theorem dd_167_114 : decode (mi 167).2.1 114 = .ok (.if_icmp .gt 9, 3) := by decide +kernel
theorem st_167_114 : Sd 167 114 3 (i_cgt 123) := sd_icmp_gt dd_167_114 (by decide)
theorem dd_167_117 : decode (mi 167).2.1 117 = .ok (.iload_n 2, 1) := by decide +kernel
theorem st_167_117 : Sd 167 117 1 (i_ldI 2) := sd_iload_n (j := 2) dd_167_117 rfl
theorem dd_167_118 : decode (mi 167).2.1 118 = .ok (.iconst 1, 1) := by decide +kernel
theorem st_167_118 : Sd 167 118 1 (i_ic 1) := sd_iconst dd_167_118
theorem dd_167_119 : decode (mi 167).2.1 119 = .ok (.iadd, 1) := by decide +kernel
theorem st_167_119 : Sd 167 119 1 (i_iadd) := sd_iadd dd_167_119
theorem dd_167_120 : decode (mi 167).2.1 120 = .ok (.goto 4, 3) := by decide +kernel
theorem st_167_120 : Sd 167 120 3 (i_goto 124) := sd_goto dd_167_120 (by decide)
def bk_167_99 : Tr := sq (i_ldR 0) (sq (i_ldI 2) (sq (i_cV [(2, 129)] 2 4 []) (sq (i_ic 34) (sq (i_cne 123) (sq (i_ldI 2) (sq (i_ldI 1) (sq (i_isub) (sq (i_ic 13) (sq (i_cgt 123) (sq (i_ldI 2) (sq (i_ic 1) (sq (i_iadd) (i_goto 124)))))))))))))
theorem sb_167_99 : Sd 167 99 24 bk_167_99 := Sd.sq st_167_99 (Sd.sq st_167_100 (Sd.sq st_167_101 (Sd.sq st_167_104 (Sd.sq st_167_106 (Sd.sq st_167_109 (Sd.sq st_167_110 (Sd.sq st_167_111 (Sd.sq st_167_112 (Sd.sq st_167_114 (Sd.sq st_167_117 (Sd.sq st_167_118 (Sd.sq st_167_119 (st_167_120)))))))))))))
theorem dd_167_123 : decode (mi 167).2.1 123 = .ok (.iconst (-1), 1) := by decide +kernel
theorem st_167_123 : Sd 167 123 1 (i_ic (-1)) := sd_iconst dd_167_123
def bk_167_123 : Tr := sq (i_ic (-1)) (i_fall 124)
theorem sb_167_123 : Sd 167 123 1 bk_167_123 := Sd.sq st_167_123 (sd_fall rfl)
theorem dd_167_124 : decode (mi 167).2.1 124 = .ok (.ireturn, 1) := by decide +kernel
theorem st_167_124 : Sd 167 124 1 (i_rI 0) := sd_ireturn dd_167_124 (by decide) mr_167
def bk_167_124 : Tr := i_rI 0
theorem sb_167_124 : Sd 167 124 1 bk_167_124 := st_167_124
theorem dd_167_125 : decode (mi 167).2.1 125 = .ok (.aload_n 0, 1) := by decide +kernel
theorem st_167_125 : Sd 167 125 1 (i_ldR 0) := sd_aload_n (j := 0) dd_167_125 rfl
theorem dd_167_126 : decode (mi 167).2.1 126 = .ok (.iload_n 1, 1) := by decide +kernel
theorem st_167_126 : Sd 167 126 1 (i_ldI 1) := sd_iload_n (j := 1) dd_167_126 rfl
theorem dd_167_127 : decode (mi 167).2.1 127 = .ok (.invokevirtual 103, 3) := by decide +kernel
theorem st_167_127 : Sd 167 127 3 (i_cV [(2, 129)] 2 4 []) := sd_virt ⟨"ContractDeskModel", "at", "(I)C"⟩ dd_167_127 (by rw [mc_167]; exact tw_1388) (fun t j h => by simp only [List.mem_cons, List.not_mem_nil, or_false, Prod.mk.injEq] at h; obtain ⟨rfl, rfl⟩ := h; exact mn_129) (fun t j h => by simp only [List.mem_cons, List.not_mem_nil, or_false, Prod.mk.injEq] at h; obtain ⟨rfl, rfl⟩ := h; exact ⟨by rw [mn_129]; exact tw_30, by rw [mn_129]; exact tw_1390, mt_129, by decide, by decide⟩) (by unfold prm; decide +kernel) ml_167 (HsOk.nil (by decide +kernel))
theorem dd_167_130 : decode (mi 167).2.1 130 = .ok (.bipush 45, 2) := by decide +kernel
theorem st_167_130 : Sd 167 130 2 (i_ic 45) := sd_bipush dd_167_130 (by decide)
theorem dd_167_132 : decode (mi 167).2.1 132 = .ok (.if_icmp .ne 9, 3) := by decide +kernel
theorem st_167_132 : Sd 167 132 3 (i_cne 141) := sd_icmp_ne dd_167_132 (by decide)
theorem dd_167_135 : decode (mi 167).2.1 135 = .ok (.iload_n 1, 1) := by decide +kernel
theorem st_167_135 : Sd 167 135 1 (i_ldI 1) := sd_iload_n (j := 1) dd_167_135 rfl
theorem dd_167_136 : decode (mi 167).2.1 136 = .ok (.iconst 1, 1) := by decide +kernel
theorem st_167_136 : Sd 167 136 1 (i_ic 1) := sd_iconst dd_167_136
theorem dd_167_137 : decode (mi 167).2.1 137 = .ok (.iadd, 1) := by decide +kernel
theorem st_167_137 : Sd 167 137 1 (i_iadd) := sd_iadd dd_167_137
theorem dd_167_138 : decode (mi 167).2.1 138 = .ok (.goto 4, 3) := by decide +kernel
theorem st_167_138 : Sd 167 138 3 (i_goto 142) := sd_goto dd_167_138 (by decide)
def bk_167_125 : Tr := sq (i_ldR 0) (sq (i_ldI 1) (sq (i_cV [(2, 129)] 2 4 []) (sq (i_ic 45) (sq (i_cne 141) (sq (i_ldI 1) (sq (i_ic 1) (sq (i_iadd) (i_goto 142))))))))
theorem sb_167_125 : Sd 167 125 16 bk_167_125 := Sd.sq st_167_125 (Sd.sq st_167_126 (Sd.sq st_167_127 (Sd.sq st_167_130 (Sd.sq st_167_132 (Sd.sq st_167_135 (Sd.sq st_167_136 (Sd.sq st_167_137 (st_167_138))))))))
theorem dd_167_141 : decode (mi 167).2.1 141 = .ok (.iload_n 1, 1) := by decide +kernel
theorem st_167_141 : Sd 167 141 1 (i_ldI 1) := sd_iload_n (j := 1) dd_167_141 rfl
def bk_167_141 : Tr := sq (i_ldI 1) (i_fall 142)
theorem sb_167_141 : Sd 167 141 1 bk_167_141 := Sd.sq st_167_141 (sd_fall rfl)
theorem dd_167_142 : decode (mi 167).2.1 142 = .ok (.istore_n 2, 1) := by decide +kernel
theorem st_167_142 : Sd 167 142 1 (i_stI 2) := sd_istore_n (j := 2) dd_167_142 rfl
theorem dd_167_143 : decode (mi 167).2.1 143 = .ok (.aload_n 0, 1) := by decide +kernel
theorem st_167_143 : Sd 167 143 1 (i_ldR 0) := sd_aload_n (j := 0) dd_167_143 rfl
theorem dd_167_144 : decode (mi 167).2.1 144 = .ok (.iload_n 1, 1) := by decide +kernel
theorem st_167_144 : Sd 167 144 1 (i_ldI 1) := sd_iload_n (j := 1) dd_167_144 rfl
theorem dd_167_145 : decode (mi 167).2.1 145 = .ok (.invokevirtual 103, 3) := by decide +kernel
theorem st_167_145 : Sd 167 145 3 (i_cV [(2, 129)] 2 4 []) := sd_virt ⟨"ContractDeskModel", "at", "(I)C"⟩ dd_167_145 (by rw [mc_167]; exact tw_1388) (fun t j h => by simp only [List.mem_cons, List.not_mem_nil, or_false, Prod.mk.injEq] at h; obtain ⟨rfl, rfl⟩ := h; exact mn_129) (fun t j h => by simp only [List.mem_cons, List.not_mem_nil, or_false, Prod.mk.injEq] at h; obtain ⟨rfl, rfl⟩ := h; exact ⟨by rw [mn_129]; exact tw_30, by rw [mn_129]; exact tw_1390, mt_129, by decide, by decide⟩) (by unfold prm; decide +kernel) ml_167 (HsOk.nil (by decide +kernel))
theorem dd_167_148 : decode (mi 167).2.1 148 = .ok (.bipush 48, 2) := by decide +kernel
theorem st_167_148 : Sd 167 148 2 (i_ic 48) := sd_bipush dd_167_148 (by decide)
theorem dd_167_150 : decode (mi 167).2.1 150 = .ok (.if_icmp .ne 7, 3) := by decide +kernel
theorem st_167_150 : Sd 167 150 3 (i_cne 157) := sd_icmp_ne dd_167_150 (by decide)
theorem dd_167_153 : decode (mi 167).2.1 153 = .ok (.iload_n 1, 1) := by decide +kernel
theorem st_167_153 : Sd 167 153 1 (i_ldI 1) := sd_iload_n (j := 1) dd_167_153 rfl
theorem dd_167_154 : decode (mi 167).2.1 154 = .ok (.iconst 1, 1) := by decide +kernel
theorem st_167_154 : Sd 167 154 1 (i_ic 1) := sd_iconst dd_167_154
theorem dd_167_155 : decode (mi 167).2.1 155 = .ok (.iadd, 1) := by decide +kernel
theorem st_167_155 : Sd 167 155 1 (i_iadd) := sd_iadd dd_167_155
theorem dd_167_156 : decode (mi 167).2.1 156 = .ok (.ireturn, 1) := by decide +kernel
theorem st_167_156 : Sd 167 156 1 (i_rI 0) := sd_ireturn dd_167_156 (by decide) mr_167
def bk_167_142 : Tr := sq (i_stI 2) (sq (i_ldR 0) (sq (i_ldI 1) (sq (i_cV [(2, 129)] 2 4 []) (sq (i_ic 48) (sq (i_cne 157) (sq (i_ldI 1) (sq (i_ic 1) (sq (i_iadd) (i_rI 0)))))))))
theorem sb_167_142 : Sd 167 142 15 bk_167_142 := Sd.sq st_167_142 (Sd.sq st_167_143 (Sd.sq st_167_144 (Sd.sq st_167_145 (Sd.sq st_167_148 (Sd.sq st_167_150 (Sd.sq st_167_153 (Sd.sq st_167_154 (Sd.sq st_167_155 (st_167_156)))))))))
theorem dd_167_157 : decode (mi 167).2.1 157 = .ok (.iload_n 2, 1) := by decide +kernel
theorem st_167_157 : Sd 167 157 1 (i_ldI 2) := sd_iload_n (j := 2) dd_167_157 rfl
theorem dd_167_158 : decode (mi 167).2.1 158 = .ok (.istore_n 3, 1) := by decide +kernel
theorem st_167_158 : Sd 167 158 1 (i_stI 3) := sd_istore_n (j := 3) dd_167_158 rfl
def bk_167_157 : Tr := sq (i_ldI 2) (sq (i_stI 3) (i_fall 159))
theorem sb_167_157 : Sd 167 157 2 bk_167_157 := Sd.sq st_167_157 (Sd.sq st_167_158 (sd_fall rfl))
theorem dd_167_159 : decode (mi 167).2.1 159 = .ok (.aload_n 0, 1) := by decide +kernel
theorem st_167_159 : Sd 167 159 1 (i_ldR 0) := sd_aload_n (j := 0) dd_167_159 rfl
theorem dd_167_160 : decode (mi 167).2.1 160 = .ok (.iload_n 2, 1) := by decide +kernel
theorem st_167_160 : Sd 167 160 1 (i_ldI 2) := sd_iload_n (j := 2) dd_167_160 rfl
theorem dd_167_161 : decode (mi 167).2.1 161 = .ok (.invokevirtual 103, 3) := by decide +kernel
theorem st_167_161 : Sd 167 161 3 (i_cV [(2, 129)] 2 4 []) := sd_virt ⟨"ContractDeskModel", "at", "(I)C"⟩ dd_167_161 (by rw [mc_167]; exact tw_1388) (fun t j h => by simp only [List.mem_cons, List.not_mem_nil, or_false, Prod.mk.injEq] at h; obtain ⟨rfl, rfl⟩ := h; exact mn_129) (fun t j h => by simp only [List.mem_cons, List.not_mem_nil, or_false, Prod.mk.injEq] at h; obtain ⟨rfl, rfl⟩ := h; exact ⟨by rw [mn_129]; exact tw_30, by rw [mn_129]; exact tw_1390, mt_129, by decide, by decide⟩) (by unfold prm; decide +kernel) ml_167 (HsOk.nil (by decide +kernel))
theorem dd_167_164 : decode (mi 167).2.1 164 = .ok (.invokestatic 115, 3) := by decide +kernel
theorem st_167_164 : Sd 167 164 3 (i_cS 137 1 4 []) := sd_static dd_167_164 (by rw [mc_167, mn_137]; exact tw_1403) (by rw [mn_137]; exact tw_1404) mt_137 pm_137 ml_167 (HsOk.nil (by decide +kernel))
theorem dd_167_167 : decode (mi 167).2.1 167 = .ok (.ifCond .eq 9, 3) := by decide +kernel
theorem st_167_167 : Sd 167 167 3 (i_zeq 176) := sd_if_eq dd_167_167 (by decide)
theorem dd_167_170 : decode (mi 167).2.1 170 = .ok (.iinc 2 1, 3) := by decide +kernel
theorem st_167_170 : Sd 167 170 3 (i_inc 2 1) := sd_iinc dd_167_170
theorem dd_167_173 : decode (mi 167).2.1 173 = .ok (.goto (-14), 3) := by decide +kernel
theorem st_167_173 : Sd 167 173 3 (i_goto 159) := sd_goto dd_167_173 (by decide)
def bk_167_159 : Tr := sq (i_ldR 0) (sq (i_ldI 2) (sq (i_cV [(2, 129)] 2 4 []) (sq (i_cS 137 1 4 []) (sq (i_zeq 176) (sq (i_inc 2 1) (i_goto 159))))))
theorem sb_167_159 : Sd 167 159 17 bk_167_159 := Sd.sq st_167_159 (Sd.sq st_167_160 (Sd.sq st_167_161 (Sd.sq st_167_164 (Sd.sq st_167_167 (Sd.sq st_167_170 (st_167_173))))))
theorem dd_167_176 : decode (mi 167).2.1 176 = .ok (.iload_n 2, 1) := by decide +kernel
theorem st_167_176 : Sd 167 176 1 (i_ldI 2) := sd_iload_n (j := 2) dd_167_176 rfl
theorem dd_167_177 : decode (mi 167).2.1 177 = .ok (.iload_n 3, 1) := by decide +kernel
theorem st_167_177 : Sd 167 177 1 (i_ldI 3) := sd_iload_n (j := 3) dd_167_177 rfl
theorem dd_167_178 : decode (mi 167).2.1 178 = .ok (.if_icmp .le 24, 3) := by decide +kernel
theorem st_167_178 : Sd 167 178 3 (i_cle 202) := sd_icmp_le dd_167_178 (by decide)
theorem dd_167_181 : decode (mi 167).2.1 181 = .ok (.iload_n 2, 1) := by decide +kernel
theorem st_167_181 : Sd 167 181 1 (i_ldI 2) := sd_iload_n (j := 2) dd_167_181 rfl
theorem dd_167_182 : decode (mi 167).2.1 182 = .ok (.iload_n 3, 1) := by decide +kernel
theorem st_167_182 : Sd 167 182 1 (i_ldI 3) := sd_iload_n (j := 3) dd_167_182 rfl
theorem dd_167_183 : decode (mi 167).2.1 183 = .ok (.iconst 5, 1) := by decide +kernel
theorem st_167_183 : Sd 167 183 1 (i_ic 5) := sd_iconst dd_167_183
theorem dd_167_184 : decode (mi 167).2.1 184 = .ok (.iadd, 1) := by decide +kernel
theorem st_167_184 : Sd 167 184 1 (i_iadd) := sd_iadd dd_167_184
theorem dd_167_185 : decode (mi 167).2.1 185 = .ok (.if_icmp .gt 17, 3) := by decide +kernel
theorem st_167_185 : Sd 167 185 3 (i_cgt 202) := sd_icmp_gt dd_167_185 (by decide)
theorem dd_167_188 : decode (mi 167).2.1 188 = .ok (.aload_n 0, 1) := by decide +kernel
theorem st_167_188 : Sd 167 188 1 (i_ldR 0) := sd_aload_n (j := 0) dd_167_188 rfl
theorem dd_167_189 : decode (mi 167).2.1 189 = .ok (.iload_n 3, 1) := by decide +kernel
theorem st_167_189 : Sd 167 189 1 (i_ldI 3) := sd_iload_n (j := 3) dd_167_189 rfl
theorem dd_167_190 : decode (mi 167).2.1 190 = .ok (.invokevirtual 103, 3) := by decide +kernel
theorem st_167_190 : Sd 167 190 3 (i_cV [(2, 129)] 2 4 []) := sd_virt ⟨"ContractDeskModel", "at", "(I)C"⟩ dd_167_190 (by rw [mc_167]; exact tw_1388) (fun t j h => by simp only [List.mem_cons, List.not_mem_nil, or_false, Prod.mk.injEq] at h; obtain ⟨rfl, rfl⟩ := h; exact mn_129) (fun t j h => by simp only [List.mem_cons, List.not_mem_nil, or_false, Prod.mk.injEq] at h; obtain ⟨rfl, rfl⟩ := h; exact ⟨by rw [mn_129]; exact tw_30, by rw [mn_129]; exact tw_1390, mt_129, by decide, by decide⟩) (by unfold prm; decide +kernel) ml_167 (HsOk.nil (by decide +kernel))
theorem dd_167_193 : decode (mi 167).2.1 193 = .ok (.bipush 48, 2) := by decide +kernel
theorem st_167_193 : Sd 167 193 2 (i_ic 48) := sd_bipush dd_167_193 (by decide)
theorem dd_167_195 : decode (mi 167).2.1 195 = .ok (.if_icmp .eq 7, 3) := by decide +kernel
theorem st_167_195 : Sd 167 195 3 (i_ceq 202) := sd_icmp_eq dd_167_195 (by decide)
theorem dd_167_198 : decode (mi 167).2.1 198 = .ok (.iload_n 2, 1) := by decide +kernel
theorem st_167_198 : Sd 167 198 1 (i_ldI 2) := sd_iload_n (j := 2) dd_167_198 rfl
theorem dd_167_199 : decode (mi 167).2.1 199 = .ok (.goto 4, 3) := by decide +kernel
theorem st_167_199 : Sd 167 199 3 (i_goto 203) := sd_goto dd_167_199 (by decide)
def bk_167_176 : Tr := sq (i_ldI 2) (sq (i_ldI 3) (sq (i_cle 202) (sq (i_ldI 2) (sq (i_ldI 3) (sq (i_ic 5) (sq (i_iadd) (sq (i_cgt 202) (sq (i_ldR 0) (sq (i_ldI 3) (sq (i_cV [(2, 129)] 2 4 []) (sq (i_ic 48) (sq (i_ceq 202) (sq (i_ldI 2) (i_goto 203))))))))))))))
theorem sb_167_176 : Sd 167 176 26 bk_167_176 := Sd.sq st_167_176 (Sd.sq st_167_177 (Sd.sq st_167_178 (Sd.sq st_167_181 (Sd.sq st_167_182 (Sd.sq st_167_183 (Sd.sq st_167_184 (Sd.sq st_167_185 (Sd.sq st_167_188 (Sd.sq st_167_189 (Sd.sq st_167_190 (Sd.sq st_167_193 (Sd.sq st_167_195 (Sd.sq st_167_198 (st_167_199))))))))))))))
theorem dd_167_202 : decode (mi 167).2.1 202 = .ok (.iconst (-1), 1) := by decide +kernel
theorem st_167_202 : Sd 167 202 1 (i_ic (-1)) := sd_iconst dd_167_202
def bk_167_202 : Tr := sq (i_ic (-1)) (i_fall 203)
theorem sb_167_202 : Sd 167 202 1 bk_167_202 := Sd.sq st_167_202 (sd_fall rfl)
theorem dd_167_203 : decode (mi 167).2.1 203 = .ok (.ireturn, 1) := by decide +kernel
theorem st_167_203 : Sd 167 203 1 (i_rI 0) := sd_ireturn dd_167_203 (by decide) mr_167
def bk_167_203 : Tr := i_rI 0
theorem sb_167_203 : Sd 167 203 1 bk_167_203 := st_167_203
theorem dd_168_0 : decode (mi 168).2.1 0 = .ok (.aload_n 0, 1) := by decide +kernel
theorem st_168_0 : Sd 168 0 1 (i_ldR 0) := sd_aload_n (j := 0) dd_168_0 rfl
theorem dd_168_1 : decode (mi 168).2.1 1 = .ok (.getfield 60, 3) := by decide +kernel
theorem st_168_1 : Sd 168 1 3 (i_gR 23 [2]) := sd_gR (ref := "ContractDeskModel") (decl := "ContractDeskModel") (name := "job") (desc := "[I") dd_168_1 (by rw [mc_168]; exact tw_1283) (Or.inl rfl) (by decide +kernel)
theorem dd_168_4 : decode (mi 168).2.1 4 = .ok (.aload_n 0, 1) := by decide +kernel
theorem st_168_4 : Sd 168 4 1 (i_ldR 0) := sd_aload_n (j := 0) dd_168_4 rfl
theorem dd_168_5 : decode (mi 168).2.1 5 = .ok (.getfield 209, 3) := by decide +kernel
theorem st_168_5 : Sd 168 5 3 (i_gI 22 [2]) := sd_gI (ref := "ContractDeskModel") (decl := "ContractDeskModel") (name := "pile") (desc := "I") dd_168_5 (by rw [mc_168]; exact tw_1282) (Or.inl rfl) (by decide +kernel)
theorem dd_168_8 : decode (mi 168).2.1 8 = .ok (.iload_n 1, 1) := by decide +kernel
theorem st_168_8 : Sd 168 8 1 (i_ldI 1) := sd_iload_n (j := 1) dd_168_8 rfl
theorem dd_168_9 : decode (mi 168).2.1 9 = .ok (.iastore, 1) := by decide +kernel
theorem st_168_9 : Sd 168 9 1 (i_sI [20] 0) := sd_iastore dd_168_9 (by decide)
theorem dd_168_10 : decode (mi 168).2.1 10 = .ok (.aload_n 0, 1) := by decide +kernel
theorem st_168_10 : Sd 168 10 1 (i_ldR 0) := sd_aload_n (j := 0) dd_168_10 rfl
theorem dd_168_11 : decode (mi 168).2.1 11 = .ok (.getfield 63, 3) := by decide +kernel
theorem st_168_11 : Sd 168 11 3 (i_gR 24 [2]) := sd_gR (ref := "ContractDeskModel") (decl := "ContractDeskModel") (name := "left") (desc := "[I") dd_168_11 (by rw [mc_168]; exact tw_1284) (Or.inl rfl) (by decide +kernel)
theorem dd_168_14 : decode (mi 168).2.1 14 = .ok (.aload_n 0, 1) := by decide +kernel
theorem st_168_14 : Sd 168 14 1 (i_ldR 0) := sd_aload_n (j := 0) dd_168_14 rfl
theorem dd_168_15 : decode (mi 168).2.1 15 = .ok (.getfield 209, 3) := by decide +kernel
theorem st_168_15 : Sd 168 15 3 (i_gI 22 [2]) := sd_gI (ref := "ContractDeskModel") (decl := "ContractDeskModel") (name := "pile") (desc := "I") dd_168_15 (by rw [mc_168]; exact tw_1282) (Or.inl rfl) (by decide +kernel)
theorem dd_168_18 : decode (mi 168).2.1 18 = .ok (.iload_n 2, 1) := by decide +kernel
theorem st_168_18 : Sd 168 18 1 (i_ldI 2) := sd_iload_n (j := 2) dd_168_18 rfl
theorem dd_168_19 : decode (mi 168).2.1 19 = .ok (.iastore, 1) := by decide +kernel
theorem st_168_19 : Sd 168 19 1 (i_sI [20] 0) := sd_iastore dd_168_19 (by decide)
theorem dd_168_20 : decode (mi 168).2.1 20 = .ok (.aload_n 0, 1) := by decide +kernel
theorem st_168_20 : Sd 168 20 1 (i_ldR 0) := sd_aload_n (j := 0) dd_168_20 rfl
theorem dd_168_21 : decode (mi 168).2.1 21 = .ok (.getfield 66, 3) := by decide +kernel
theorem st_168_21 : Sd 168 21 3 (i_gR 25 [2]) := sd_gR (ref := "ContractDeskModel") (decl := "ContractDeskModel") (name := "right") (desc := "[I") dd_168_21 (by rw [mc_168]; exact tw_1285) (Or.inl rfl) (by decide +kernel)
theorem dd_168_24 : decode (mi 168).2.1 24 = .ok (.aload_n 0, 1) := by decide +kernel
theorem st_168_24 : Sd 168 24 1 (i_ldR 0) := sd_aload_n (j := 0) dd_168_24 rfl
theorem dd_168_25 : decode (mi 168).2.1 25 = .ok (.getfield 209, 3) := by decide +kernel
theorem st_168_25 : Sd 168 25 3 (i_gI 22 [2]) := sd_gI (ref := "ContractDeskModel") (decl := "ContractDeskModel") (name := "pile") (desc := "I") dd_168_25 (by rw [mc_168]; exact tw_1282) (Or.inl rfl) (by decide +kernel)
theorem dd_168_28 : decode (mi 168).2.1 28 = .ok (.iload_n 3, 1) := by decide +kernel
theorem st_168_28 : Sd 168 28 1 (i_ldI 3) := sd_iload_n (j := 3) dd_168_28 rfl
theorem dd_168_29 : decode (mi 168).2.1 29 = .ok (.iastore, 1) := by decide +kernel
theorem st_168_29 : Sd 168 29 1 (i_sI [20] 0) := sd_iastore dd_168_29 (by decide)
theorem dd_168_30 : decode (mi 168).2.1 30 = .ok (.aload_n 0, 1) := by decide +kernel
theorem st_168_30 : Sd 168 30 1 (i_ldR 0) := sd_aload_n (j := 0) dd_168_30 rfl
theorem dd_168_31 : decode (mi 168).2.1 31 = .ok (.getfield 69, 3) := by decide +kernel
theorem st_168_31 : Sd 168 31 3 (i_gR 26 [2]) := sd_gR (ref := "ContractDeskModel") (decl := "ContractDeskModel") (name := "spot") (desc := "[I") dd_168_31 (by rw [mc_168]; exact tw_1286) (Or.inl rfl) (by decide +kernel)
theorem dd_168_34 : decode (mi 168).2.1 34 = .ok (.aload_n 0, 1) := by decide +kernel
theorem st_168_34 : Sd 168 34 1 (i_ldR 0) := sd_aload_n (j := 0) dd_168_34 rfl
theorem dd_168_35 : decode (mi 168).2.1 35 = .ok (.getfield 209, 3) := by decide +kernel
theorem st_168_35 : Sd 168 35 3 (i_gI 22 [2]) := sd_gI (ref := "ContractDeskModel") (decl := "ContractDeskModel") (name := "pile") (desc := "I") dd_168_35 (by rw [mc_168]; exact tw_1282) (Or.inl rfl) (by decide +kernel)
theorem dd_168_38 : decode (mi 168).2.1 38 = .ok (.iload 4, 2) := by decide +kernel
theorem st_168_38 : Sd 168 38 2 (i_ldI 4) := sd_iload dd_168_38
theorem dd_168_40 : decode (mi 168).2.1 40 = .ok (.iastore, 1) := by decide +kernel
theorem st_168_40 : Sd 168 40 1 (i_sI [20] 0) := sd_iastore dd_168_40 (by decide)
theorem dd_168_41 : decode (mi 168).2.1 41 = .ok (.aload_n 0, 1) := by decide +kernel
theorem st_168_41 : Sd 168 41 1 (i_ldR 0) := sd_aload_n (j := 0) dd_168_41 rfl
theorem dd_168_42 : decode (mi 168).2.1 42 = .ok (.dup, 1) := by decide +kernel
theorem st_168_42 : Sd 168 42 1 (i_dup) := sd_dup dd_168_42
theorem dd_168_43 : decode (mi 168).2.1 43 = .ok (.getfield 209, 3) := by decide +kernel
theorem st_168_43 : Sd 168 43 3 (i_gI 22 [2]) := sd_gI (ref := "ContractDeskModel") (decl := "ContractDeskModel") (name := "pile") (desc := "I") dd_168_43 (by rw [mc_168]; exact tw_1282) (Or.inl rfl) (by decide +kernel)
theorem dd_168_46 : decode (mi 168).2.1 46 = .ok (.iconst 1, 1) := by decide +kernel
theorem st_168_46 : Sd 168 46 1 (i_ic 1) := sd_iconst dd_168_46
theorem dd_168_47 : decode (mi 168).2.1 47 = .ok (.iadd, 1) := by decide +kernel
theorem st_168_47 : Sd 168 47 1 (i_iadd) := sd_iadd dd_168_47
theorem dd_168_48 : decode (mi 168).2.1 48 = .ok (.putfield 209, 3) := by decide +kernel
theorem st_168_48 : Sd 168 48 3 (i_pI 22 [2] 0) := sd_pI (ref := "ContractDeskModel") (decl := "ContractDeskModel") (name := "pile") (desc := "I") dd_168_48 (by rw [mc_168]; exact tw_1282) (Or.inl rfl) (by decide +kernel) (by decide +kernel) (by decide)
theorem dd_168_51 : decode (mi 168).2.1 51 = .ok (.return_, 1) := by decide +kernel
theorem st_168_51 : Sd 168 51 1 (i_ret) := sd_ret dd_168_51 mr_168
def bk_168_0 : Tr := sq (i_ldR 0) (sq (i_gR 23 [2]) (sq (i_ldR 0) (sq (i_gI 22 [2]) (sq (i_ldI 1) (sq (i_sI [20] 0) (sq (i_ldR 0) (sq (i_gR 24 [2]) (sq (i_ldR 0) (sq (i_gI 22 [2]) (sq (i_ldI 2) (sq (i_sI [20] 0) (sq (i_ldR 0) (sq (i_gR 25 [2]) (sq (i_ldR 0) (sq (i_gI 22 [2]) (sq (i_ldI 3) (sq (i_sI [20] 0) (sq (i_ldR 0) (sq (i_gR 26 [2]) (sq (i_ldR 0) (sq (i_gI 22 [2]) (sq (i_ldI 4) (sq (i_sI [20] 0) (sq (i_ldR 0) (sq (i_dup) (sq (i_gI 22 [2]) (sq (i_ic 1) (sq (i_iadd) (sq (i_pI 22 [2] 0) (i_ret))))))))))))))))))))))))))))))
theorem sb_168_0 : Sd 168 0 52 bk_168_0 := Sd.sq st_168_0 (Sd.sq st_168_1 (Sd.sq st_168_4 (Sd.sq st_168_5 (Sd.sq st_168_8 (Sd.sq st_168_9 (Sd.sq st_168_10 (Sd.sq st_168_11 (Sd.sq st_168_14 (Sd.sq st_168_15 (Sd.sq st_168_18 (Sd.sq st_168_19 (Sd.sq st_168_20 (Sd.sq st_168_21 (Sd.sq st_168_24 (Sd.sq st_168_25 (Sd.sq st_168_28 (Sd.sq st_168_29 (Sd.sq st_168_30 (Sd.sq st_168_31 (Sd.sq st_168_34 (Sd.sq st_168_35 (Sd.sq st_168_38 (Sd.sq st_168_40 (Sd.sq st_168_41 (Sd.sq st_168_42 (Sd.sq st_168_43 (Sd.sq st_168_46 (Sd.sq st_168_47 (Sd.sq st_168_48 (st_168_51))))))))))))))))))))))))))))))
theorem dd_169_0 : decode (mi 169).2.1 0 = .ok (.aload_n 0, 1) := by decide +kernel
theorem st_169_0 : Sd 169 0 1 (i_ldR 0) := sd_aload_n (j := 0) dd_169_0 rfl
theorem dd_169_1 : decode (mi 169).2.1 1 = .ok (.getfield 45, 3) := by decide +kernel
theorem st_169_1 : Sd 169 1 3 (i_gR 16 [2]) := sd_gR (ref := "ContractDeskModel") (decl := "ContractDeskModel") (name := "places") (desc := "[C") dd_169_1 (by rw [mc_169]; exact tw_1276) (Or.inl rfl) (by decide +kernel)
theorem dd_169_4 : decode (mi 169).2.1 4 = .ok (.bipush 24, 2) := by decide +kernel
theorem st_169_4 : Sd 169 4 2 (i_ic 24) := sd_bipush dd_169_4 (by decide)
theorem dd_169_6 : decode (mi 169).2.1 6 = .ok (.iload_n 1, 1) := by decide +kernel
theorem st_169_6 : Sd 169 6 1 (i_ldI 1) := sd_iload_n (j := 1) dd_169_6 rfl
theorem dd_169_7 : decode (mi 169).2.1 7 = .ok (.imul, 1) := by decide +kernel
theorem st_169_7 : Sd 169 7 1 (i_imul) := sd_imul dd_169_7
theorem dd_169_8 : decode (mi 169).2.1 8 = .ok (.aload_n 0, 1) := by decide +kernel
theorem st_169_8 : Sd 169 8 1 (i_ldR 0) := sd_aload_n (j := 0) dd_169_8 rfl
theorem dd_169_9 : decode (mi 169).2.1 9 = .ok (.getfield 42, 3) := by decide +kernel
theorem st_169_9 : Sd 169 9 3 (i_gR 15 [2]) := sd_gR (ref := "ContractDeskModel") (decl := "ContractDeskModel") (name := "letters") (desc := "[I") dd_169_9 (by rw [mc_169]; exact tw_1275) (Or.inl rfl) (by decide +kernel)
theorem dd_169_12 : decode (mi 169).2.1 12 = .ok (.iload_n 1, 1) := by decide +kernel
theorem st_169_12 : Sd 169 12 1 (i_ldI 1) := sd_iload_n (j := 1) dd_169_12 rfl
theorem dd_169_13 : decode (mi 169).2.1 13 = .ok (.iaload, 1) := by decide +kernel
theorem st_169_13 : Sd 169 13 1 (i_aI [20]) := sd_iaload dd_169_13 (by decide)
theorem dd_169_14 : decode (mi 169).2.1 14 = .ok (.iadd, 1) := by decide +kernel
theorem st_169_14 : Sd 169 14 1 (i_iadd) := sd_iadd dd_169_14
theorem dd_169_15 : decode (mi 169).2.1 15 = .ok (.iload_n 2, 1) := by decide +kernel
theorem st_169_15 : Sd 169 15 1 (i_ldI 2) := sd_iload_n (j := 2) dd_169_15 rfl
theorem dd_169_16 : decode (mi 169).2.1 16 = .ok (.i2c, 1) := by decide +kernel
theorem st_169_16 : Sd 169 16 1 (i_i2c) := sd_i2c dd_169_16
theorem dd_169_17 : decode (mi 169).2.1 17 = .ok (.castore, 1) := by decide +kernel
theorem st_169_17 : Sd 169 17 1 (i_sI [21] 1) := sd_castore dd_169_17 (by decide)
theorem dd_169_18 : decode (mi 169).2.1 18 = .ok (.aload_n 0, 1) := by decide +kernel
theorem st_169_18 : Sd 169 18 1 (i_ldR 0) := sd_aload_n (j := 0) dd_169_18 rfl
theorem dd_169_19 : decode (mi 169).2.1 19 = .ok (.getfield 42, 3) := by decide +kernel
theorem st_169_19 : Sd 169 19 3 (i_gR 15 [2]) := sd_gR (ref := "ContractDeskModel") (decl := "ContractDeskModel") (name := "letters") (desc := "[I") dd_169_19 (by rw [mc_169]; exact tw_1275) (Or.inl rfl) (by decide +kernel)
theorem dd_169_22 : decode (mi 169).2.1 22 = .ok (.iload_n 1, 1) := by decide +kernel
theorem st_169_22 : Sd 169 22 1 (i_ldI 1) := sd_iload_n (j := 1) dd_169_22 rfl
theorem dd_169_23 : decode (mi 169).2.1 23 = .ok (.dup2, 1) := by decide +kernel
theorem st_169_23 : Sd 169 23 1 (i_dup2) := sd_dup2 dd_169_23
theorem dd_169_24 : decode (mi 169).2.1 24 = .ok (.iaload, 1) := by decide +kernel
theorem st_169_24 : Sd 169 24 1 (i_aI [20]) := sd_iaload dd_169_24 (by decide)
theorem dd_169_25 : decode (mi 169).2.1 25 = .ok (.iconst 1, 1) := by decide +kernel
theorem st_169_25 : Sd 169 25 1 (i_ic 1) := sd_iconst dd_169_25
theorem dd_169_26 : decode (mi 169).2.1 26 = .ok (.iadd, 1) := by decide +kernel
theorem st_169_26 : Sd 169 26 1 (i_iadd) := sd_iadd dd_169_26
theorem dd_169_27 : decode (mi 169).2.1 27 = .ok (.iastore, 1) := by decide +kernel
theorem st_169_27 : Sd 169 27 1 (i_sI [20] 0) := sd_iastore dd_169_27 (by decide)
theorem dd_169_28 : decode (mi 169).2.1 28 = .ok (.return_, 1) := by decide +kernel
theorem st_169_28 : Sd 169 28 1 (i_ret) := sd_ret dd_169_28 mr_169
def bk_169_0 : Tr := sq (i_ldR 0) (sq (i_gR 16 [2]) (sq (i_ic 24) (sq (i_ldI 1) (sq (i_imul) (sq (i_ldR 0) (sq (i_gR 15 [2]) (sq (i_ldI 1) (sq (i_aI [20]) (sq (i_iadd) (sq (i_ldI 2) (sq (i_i2c) (sq (i_sI [21] 1) (sq (i_ldR 0) (sq (i_gR 15 [2]) (sq (i_ldI 1) (sq (i_dup2) (sq (i_aI [20]) (sq (i_ic 1) (sq (i_iadd) (sq (i_sI [20] 0) (i_ret)))))))))))))))))))))
theorem sb_169_0 : Sd 169 0 29 bk_169_0 := Sd.sq st_169_0 (Sd.sq st_169_1 (Sd.sq st_169_4 (Sd.sq st_169_6 (Sd.sq st_169_7 (Sd.sq st_169_8 (Sd.sq st_169_9 (Sd.sq st_169_12 (Sd.sq st_169_13 (Sd.sq st_169_14 (Sd.sq st_169_15 (Sd.sq st_169_16 (Sd.sq st_169_17 (Sd.sq st_169_18 (Sd.sq st_169_19 (Sd.sq st_169_22 (Sd.sq st_169_23 (Sd.sq st_169_24 (Sd.sq st_169_25 (Sd.sq st_169_26 (Sd.sq st_169_27 (st_169_28)))))))))))))))))))))
theorem dd_170_0 : decode (mi 170).2.1 0 = .ok (.aload_n 0, 1) := by decide +kernel
theorem st_170_0 : Sd 170 0 1 (i_ldR 0) := sd_aload_n (j := 0) dd_170_0 rfl
theorem dd_170_1 : decode (mi 170).2.1 1 = .ok (.iconst 0, 1) := by decide +kernel
theorem st_170_1 : Sd 170 1 1 (i_ic 0) := sd_iconst dd_170_1
theorem dd_170_2 : decode (mi 170).2.1 2 = .ok (.putfield 180, 3) := by decide +kernel
theorem st_170_2 : Sd 170 2 3 (i_pI 27 [2] 0) := sd_pI (ref := "ContractDeskModel") (decl := "ContractDeskModel") (name := "steps") (desc := "I") dd_170_2 (by rw [mc_170]; exact tw_1287) (Or.inl rfl) (by decide +kernel) (by decide +kernel) (by decide)
theorem dd_170_5 : decode (mi 170).2.1 5 = .ok (.sipush 401, 3) := by decide +kernel
theorem st_170_5 : Sd 170 5 3 (i_ic 401) := sd_sipush dd_170_5 (by decide)
theorem dd_170_8 : decode (mi 170).2.1 8 = .ok (.istore_n 1, 1) := by decide +kernel
theorem st_170_8 : Sd 170 8 1 (i_stI 1) := sd_istore_n (j := 1) dd_170_8 rfl
theorem dd_170_9 : decode (mi 170).2.1 9 = .ok (.sipush 400, 3) := by decide +kernel
theorem st_170_9 : Sd 170 9 3 (i_ic 400) := sd_sipush dd_170_9 (by decide)
theorem dd_170_12 : decode (mi 170).2.1 12 = .ok (.aload_n 0, 1) := by decide +kernel
theorem st_170_12 : Sd 170 12 1 (i_ldR 0) := sd_aload_n (j := 0) dd_170_12 rfl
theorem dd_170_13 : decode (mi 170).2.1 13 = .ok (.getfield 97, 3) := by decide +kernel
theorem st_170_13 : Sd 170 13 3 (i_gI 2 [2]) := sd_gI (ref := "ContractDeskModel") (decl := "ContractDeskModel") (name := "typed") (desc := "I") dd_170_13 (by rw [mc_170]; exact tw_1262) (Or.inl rfl) (by decide +kernel)
theorem dd_170_16 : decode (mi 170).2.1 16 = .ok (.iadd, 1) := by decide +kernel
theorem st_170_16 : Sd 170 16 1 (i_iadd) := sd_iadd dd_170_16
theorem dd_170_17 : decode (mi 170).2.1 17 = .ok (.istore_n 2, 1) := by decide +kernel
theorem st_170_17 : Sd 170 17 1 (i_stI 2) := sd_istore_n (j := 2) dd_170_17 rfl
def bk_170_0 : Tr := sq (i_ldR 0) (sq (i_ic 0) (sq (i_pI 27 [2] 0) (sq (i_ic 401) (sq (i_stI 1) (sq (i_ic 400) (sq (i_ldR 0) (sq (i_gI 2 [2]) (sq (i_iadd) (sq (i_stI 2) (i_fall 18))))))))))
theorem sb_170_0 : Sd 170 0 18 bk_170_0 := Sd.sq st_170_0 (Sd.sq st_170_1 (Sd.sq st_170_2 (Sd.sq st_170_5 (Sd.sq st_170_8 (Sd.sq st_170_9 (Sd.sq st_170_12 (Sd.sq st_170_13 (Sd.sq st_170_16 (Sd.sq st_170_17 (sd_fall rfl))))))))))
theorem dd_170_18 : decode (mi 170).2.1 18 = .ok (.iload_n 1, 1) := by decide +kernel
theorem st_170_18 : Sd 170 18 1 (i_ldI 1) := sd_iload_n (j := 1) dd_170_18 rfl
theorem dd_170_19 : decode (mi 170).2.1 19 = .ok (.iload_n 2, 1) := by decide +kernel
theorem st_170_19 : Sd 170 19 1 (i_ldI 2) := sd_iload_n (j := 2) dd_170_19 rfl
theorem dd_170_20 : decode (mi 170).2.1 20 = .ok (.if_icmp .ge 175, 3) := by decide +kernel
theorem st_170_20 : Sd 170 20 3 (i_cge 195) := sd_icmp_ge dd_170_20 (by decide)
theorem dd_170_23 : decode (mi 170).2.1 23 = .ok (.aload_n 0, 1) := by decide +kernel
theorem st_170_23 : Sd 170 23 1 (i_ldR 0) := sd_aload_n (j := 0) dd_170_23 rfl
theorem dd_170_24 : decode (mi 170).2.1 24 = .ok (.iload_n 1, 1) := by decide +kernel
theorem st_170_24 : Sd 170 24 1 (i_ldI 1) := sd_iload_n (j := 1) dd_170_24 rfl
theorem dd_170_25 : decode (mi 170).2.1 25 = .ok (.invokevirtual 103, 3) := by decide +kernel
theorem st_170_25 : Sd 170 25 3 (i_cV [(2, 129)] 2 5 []) := sd_virt ⟨"ContractDeskModel", "at", "(I)C"⟩ dd_170_25 (by rw [mc_170]; exact tw_1388) (fun t j h => by simp only [List.mem_cons, List.not_mem_nil, or_false, Prod.mk.injEq] at h; obtain ⟨rfl, rfl⟩ := h; exact mn_129) (fun t j h => by simp only [List.mem_cons, List.not_mem_nil, or_false, Prod.mk.injEq] at h; obtain ⟨rfl, rfl⟩ := h; exact ⟨by rw [mn_129]; exact tw_30, by rw [mn_129]; exact tw_1390, mt_129, by decide, by decide⟩) (by unfold prm; decide +kernel) ml_170 (HsOk.nil (by decide +kernel))
theorem dd_170_28 : decode (mi 170).2.1 28 = .ok (.bipush 46, 2) := by decide +kernel
theorem st_170_28 : Sd 170 28 2 (i_ic 46) := sd_bipush dd_170_28 (by decide)
theorem dd_170_30 : decode (mi 170).2.1 30 = .ok (.if_icmp .ne 40, 3) := by decide +kernel
theorem st_170_30 : Sd 170 30 3 (i_cne 70) := sd_icmp_ne dd_170_30 (by decide)
theorem dd_170_33 : decode (mi 170).2.1 33 = .ok (.aload_n 0, 1) := by decide +kernel
theorem st_170_33 : Sd 170 33 1 (i_ldR 0) := sd_aload_n (j := 0) dd_170_33 rfl
theorem dd_170_34 : decode (mi 170).2.1 34 = .ok (.getfield 72, 3) := by decide +kernel
theorem st_170_34 : Sd 170 34 3 (i_gR 28 [2]) := sd_gR (ref := "ContractDeskModel") (decl := "ContractDeskModel") (name := "stepRow") (desc := "[I") dd_170_34 (by rw [mc_170]; exact tw_1288) (Or.inl rfl) (by decide +kernel)
theorem dd_170_37 : decode (mi 170).2.1 37 = .ok (.aload_n 0, 1) := by decide +kernel
theorem st_170_37 : Sd 170 37 1 (i_ldR 0) := sd_aload_n (j := 0) dd_170_37 rfl
theorem dd_170_38 : decode (mi 170).2.1 38 = .ok (.getfield 180, 3) := by decide +kernel
theorem st_170_38 : Sd 170 38 3 (i_gI 27 [2]) := sd_gI (ref := "ContractDeskModel") (decl := "ContractDeskModel") (name := "steps") (desc := "I") dd_170_38 (by rw [mc_170]; exact tw_1287) (Or.inl rfl) (by decide +kernel)
theorem dd_170_41 : decode (mi 170).2.1 41 = .ok (.aload_n 0, 1) := by decide +kernel
theorem st_170_41 : Sd 170 41 1 (i_ldR 0) := sd_aload_n (j := 0) dd_170_41 rfl
theorem dd_170_42 : decode (mi 170).2.1 42 = .ok (.iload_n 1, 1) := by decide +kernel
theorem st_170_42 : Sd 170 42 1 (i_ldI 1) := sd_iload_n (j := 1) dd_170_42 rfl
theorem dd_170_43 : decode (mi 170).2.1 43 = .ok (.iconst 1, 1) := by decide +kernel
theorem st_170_43 : Sd 170 43 1 (i_ic 1) := sd_iconst dd_170_43
theorem dd_170_44 : decode (mi 170).2.1 44 = .ok (.iadd, 1) := by decide +kernel
theorem st_170_44 : Sd 170 44 1 (i_iadd) := sd_iadd dd_170_44
theorem dd_170_45 : decode (mi 170).2.1 45 = .ok (.invokevirtual 103, 3) := by decide +kernel
theorem st_170_45 : Sd 170 45 3 (i_cV [(2, 129)] 2 5 []) := sd_virt ⟨"ContractDeskModel", "at", "(I)C"⟩ dd_170_45 (by rw [mc_170]; exact tw_1388) (fun t j h => by simp only [List.mem_cons, List.not_mem_nil, or_false, Prod.mk.injEq] at h; obtain ⟨rfl, rfl⟩ := h; exact mn_129) (fun t j h => by simp only [List.mem_cons, List.not_mem_nil, or_false, Prod.mk.injEq] at h; obtain ⟨rfl, rfl⟩ := h; exact ⟨by rw [mn_129]; exact tw_30, by rw [mn_129]; exact tw_1390, mt_129, by decide, by decide⟩) (by unfold prm; decide +kernel) ml_170 (HsOk.nil (by decide +kernel))
theorem dd_170_48 : decode (mi 170).2.1 48 = .ok (.iastore, 1) := by decide +kernel
theorem st_170_48 : Sd 170 48 1 (i_sI [20] 0) := sd_iastore dd_170_48 (by decide)
theorem dd_170_49 : decode (mi 170).2.1 49 = .ok (.aload_n 0, 1) := by decide +kernel
theorem st_170_49 : Sd 170 49 1 (i_ldR 0) := sd_aload_n (j := 0) dd_170_49 rfl
theorem dd_170_50 : decode (mi 170).2.1 50 = .ok (.iload_n 1, 1) := by decide +kernel
theorem st_170_50 : Sd 170 50 1 (i_ldI 1) := sd_iload_n (j := 1) dd_170_50 rfl
theorem dd_170_51 : decode (mi 170).2.1 51 = .ok (.iconst 1, 1) := by decide +kernel
theorem st_170_51 : Sd 170 51 1 (i_ic 1) := sd_iconst dd_170_51
theorem dd_170_52 : decode (mi 170).2.1 52 = .ok (.iadd, 1) := by decide +kernel
theorem st_170_52 : Sd 170 52 1 (i_iadd) := sd_iadd dd_170_52
theorem dd_170_53 : decode (mi 170).2.1 53 = .ok (.invokevirtual 103, 3) := by decide +kernel
theorem st_170_53 : Sd 170 53 3 (i_cV [(2, 129)] 2 5 []) := sd_virt ⟨"ContractDeskModel", "at", "(I)C"⟩ dd_170_53 (by rw [mc_170]; exact tw_1388) (fun t j h => by simp only [List.mem_cons, List.not_mem_nil, or_false, Prod.mk.injEq] at h; obtain ⟨rfl, rfl⟩ := h; exact mn_129) (fun t j h => by simp only [List.mem_cons, List.not_mem_nil, or_false, Prod.mk.injEq] at h; obtain ⟨rfl, rfl⟩ := h; exact ⟨by rw [mn_129]; exact tw_30, by rw [mn_129]; exact tw_1390, mt_129, by decide, by decide⟩) (by unfold prm; decide +kernel) ml_170 (HsOk.nil (by decide +kernel))
theorem dd_170_56 : decode (mi 170).2.1 56 = .ok (.invokestatic 111, 3) := by decide +kernel
theorem st_170_56 : Sd 170 56 3 (i_cS 148 1 5 []) := sd_static dd_170_56 (by rw [mc_170, mn_148]; exact tw_1392) (by rw [mn_148]; exact tw_1393) mt_148 pm_148 ml_170 (HsOk.nil (by decide +kernel))
theorem dd_170_59 : decode (mi 170).2.1 59 = .ok (.ifCond .ne 5, 3) := by decide +kernel
theorem st_170_59 : Sd 170 59 3 (i_zne 64) := sd_if_ne dd_170_59 (by decide)
theorem dd_170_62 : decode (mi 170).2.1 62 = .ok (.iconst 0, 1) := by decide +kernel
theorem st_170_62 : Sd 170 62 1 (i_ic 0) := sd_iconst dd_170_62
theorem dd_170_63 : decode (mi 170).2.1 63 = .ok (.ireturn, 1) := by decide +kernel
theorem st_170_63 : Sd 170 63 1 (i_rI 2) := sd_ireturn dd_170_63 (by decide) mr_170
def bk_170_18 : Tr := sq (i_ldI 1) (sq (i_ldI 2) (sq (i_cge 195) (sq (i_ldR 0) (sq (i_ldI 1) (sq (i_cV [(2, 129)] 2 5 []) (sq (i_ic 46) (sq (i_cne 70) (sq (i_ldR 0) (sq (i_gR 28 [2]) (sq (i_ldR 0) (sq (i_gI 27 [2]) (sq (i_ldR 0) (sq (i_ldI 1) (sq (i_ic 1) (sq (i_iadd) (sq (i_cV [(2, 129)] 2 5 []) (sq (i_sI [20] 0) (sq (i_ldR 0) (sq (i_ldI 1) (sq (i_ic 1) (sq (i_iadd) (sq (i_cV [(2, 129)] 2 5 []) (sq (i_cS 148 1 5 []) (sq (i_zne 64) (sq (i_ic 0) (i_rI 2))))))))))))))))))))))))))
theorem sb_170_18 : Sd 170 18 46 bk_170_18 := Sd.sq st_170_18 (Sd.sq st_170_19 (Sd.sq st_170_20 (Sd.sq st_170_23 (Sd.sq st_170_24 (Sd.sq st_170_25 (Sd.sq st_170_28 (Sd.sq st_170_30 (Sd.sq st_170_33 (Sd.sq st_170_34 (Sd.sq st_170_37 (Sd.sq st_170_38 (Sd.sq st_170_41 (Sd.sq st_170_42 (Sd.sq st_170_43 (Sd.sq st_170_44 (Sd.sq st_170_45 (Sd.sq st_170_48 (Sd.sq st_170_49 (Sd.sq st_170_50 (Sd.sq st_170_51 (Sd.sq st_170_52 (Sd.sq st_170_53 (Sd.sq st_170_56 (Sd.sq st_170_59 (Sd.sq st_170_62 (st_170_63))))))))))))))))))))))))))
theorem dd_170_64 : decode (mi 170).2.1 64 = .ok (.iinc 1 2, 3) := by decide +kernel
theorem st_170_64 : Sd 170 64 3 (i_inc 1 2) := sd_iinc dd_170_64
theorem dd_170_67 : decode (mi 170).2.1 67 = .ok (.goto 115, 3) := by decide +kernel
theorem st_170_67 : Sd 170 67 3 (i_goto 182) := sd_goto dd_170_67 (by decide)
def bk_170_64 : Tr := sq (i_inc 1 2) (i_goto 182)
theorem sb_170_64 : Sd 170 64 6 bk_170_64 := Sd.sq st_170_64 (st_170_67)
theorem dd_170_70 : decode (mi 170).2.1 70 = .ok (.iload_n 1, 1) := by decide +kernel
theorem st_170_70 : Sd 170 70 1 (i_ldI 1) := sd_iload_n (j := 1) dd_170_70 rfl
theorem dd_170_71 : decode (mi 170).2.1 71 = .ok (.iconst 1, 1) := by decide +kernel
theorem st_170_71 : Sd 170 71 1 (i_ic 1) := sd_iconst dd_170_71
theorem dd_170_72 : decode (mi 170).2.1 72 = .ok (.iadd, 1) := by decide +kernel
theorem st_170_72 : Sd 170 72 1 (i_iadd) := sd_iadd dd_170_72
theorem dd_170_73 : decode (mi 170).2.1 73 = .ok (.istore_n 3, 1) := by decide +kernel
theorem st_170_73 : Sd 170 73 1 (i_stI 3) := sd_istore_n (j := 3) dd_170_73 rfl
theorem dd_170_74 : decode (mi 170).2.1 74 = .ok (.iconst 0, 1) := by decide +kernel
theorem st_170_74 : Sd 170 74 1 (i_ic 0) := sd_iconst dd_170_74
theorem dd_170_75 : decode (mi 170).2.1 75 = .ok (.istore 4, 2) := by decide +kernel
theorem st_170_75 : Sd 170 75 2 (i_stI 4) := sd_istore dd_170_75
def bk_170_70 : Tr := sq (i_ldI 1) (sq (i_ic 1) (sq (i_iadd) (sq (i_stI 3) (sq (i_ic 0) (sq (i_stI 4) (i_fall 77))))))
theorem sb_170_70 : Sd 170 70 7 bk_170_70 := Sd.sq st_170_70 (Sd.sq st_170_71 (Sd.sq st_170_72 (Sd.sq st_170_73 (Sd.sq st_170_74 (Sd.sq st_170_75 (sd_fall rfl))))))
theorem dd_170_77 : decode (mi 170).2.1 77 = .ok (.aload_n 0, 1) := by decide +kernel
theorem st_170_77 : Sd 170 77 1 (i_ldR 0) := sd_aload_n (j := 0) dd_170_77 rfl
theorem dd_170_78 : decode (mi 170).2.1 78 = .ok (.iload_n 3, 1) := by decide +kernel
theorem st_170_78 : Sd 170 78 1 (i_ldI 3) := sd_iload_n (j := 3) dd_170_78 rfl
theorem dd_170_79 : decode (mi 170).2.1 79 = .ok (.invokevirtual 103, 3) := by decide +kernel
theorem st_170_79 : Sd 170 79 3 (i_cV [(2, 129)] 2 5 []) := sd_virt ⟨"ContractDeskModel", "at", "(I)C"⟩ dd_170_79 (by rw [mc_170]; exact tw_1388) (fun t j h => by simp only [List.mem_cons, List.not_mem_nil, or_false, Prod.mk.injEq] at h; obtain ⟨rfl, rfl⟩ := h; exact mn_129) (fun t j h => by simp only [List.mem_cons, List.not_mem_nil, or_false, Prod.mk.injEq] at h; obtain ⟨rfl, rfl⟩ := h; exact ⟨by rw [mn_129]; exact tw_30, by rw [mn_129]; exact tw_1390, mt_129, by decide, by decide⟩) (by unfold prm; decide +kernel) ml_170 (HsOk.nil (by decide +kernel))
theorem dd_170_82 : decode (mi 170).2.1 82 = .ok (.invokestatic 115, 3) := by decide +kernel
theorem st_170_82 : Sd 170 82 3 (i_cS 137 1 5 []) := sd_static dd_170_82 (by rw [mc_170, mn_137]; exact tw_1403) (by rw [mn_137]; exact tw_1404) mt_137 pm_137 ml_170 (HsOk.nil (by decide +kernel))
theorem dd_170_85 : decode (mi 170).2.1 85 = .ok (.ifCond .eq 32, 3) := by decide +kernel
theorem st_170_85 : Sd 170 85 3 (i_zeq 117) := sd_if_eq dd_170_85 (by decide)
theorem dd_170_88 : decode (mi 170).2.1 88 = .ok (.iload_n 3, 1) := by decide +kernel
theorem st_170_88 : Sd 170 88 1 (i_ldI 3) := sd_iload_n (j := 3) dd_170_88 rfl
theorem dd_170_89 : decode (mi 170).2.1 89 = .ok (.iload_n 1, 1) := by decide +kernel
theorem st_170_89 : Sd 170 89 1 (i_ldI 1) := sd_iload_n (j := 1) dd_170_89 rfl
theorem dd_170_90 : decode (mi 170).2.1 90 = .ok (.iconst 3, 1) := by decide +kernel
theorem st_170_90 : Sd 170 90 1 (i_ic 3) := sd_iconst dd_170_90
theorem dd_170_91 : decode (mi 170).2.1 91 = .ok (.iadd, 1) := by decide +kernel
theorem st_170_91 : Sd 170 91 1 (i_iadd) := sd_iadd dd_170_91
theorem dd_170_92 : decode (mi 170).2.1 92 = .ok (.if_icmp .ge 25, 3) := by decide +kernel
theorem st_170_92 : Sd 170 92 3 (i_cge 117) := sd_icmp_ge dd_170_92 (by decide)
theorem dd_170_95 : decode (mi 170).2.1 95 = .ok (.bipush 10, 2) := by decide +kernel
theorem st_170_95 : Sd 170 95 2 (i_ic 10) := sd_bipush dd_170_95 (by decide)
theorem dd_170_97 : decode (mi 170).2.1 97 = .ok (.iload 4, 2) := by decide +kernel
theorem st_170_97 : Sd 170 97 2 (i_ldI 4) := sd_iload dd_170_97
theorem dd_170_99 : decode (mi 170).2.1 99 = .ok (.imul, 1) := by decide +kernel
theorem st_170_99 : Sd 170 99 1 (i_imul) := sd_imul dd_170_99
theorem dd_170_100 : decode (mi 170).2.1 100 = .ok (.aload_n 0, 1) := by decide +kernel
theorem st_170_100 : Sd 170 100 1 (i_ldR 0) := sd_aload_n (j := 0) dd_170_100 rfl
theorem dd_170_101 : decode (mi 170).2.1 101 = .ok (.iload_n 3, 1) := by decide +kernel
theorem st_170_101 : Sd 170 101 1 (i_ldI 3) := sd_iload_n (j := 3) dd_170_101 rfl
theorem dd_170_102 : decode (mi 170).2.1 102 = .ok (.invokevirtual 103, 3) := by decide +kernel
theorem st_170_102 : Sd 170 102 3 (i_cV [(2, 129)] 2 5 []) := sd_virt ⟨"ContractDeskModel", "at", "(I)C"⟩ dd_170_102 (by rw [mc_170]; exact tw_1388) (fun t j h => by simp only [List.mem_cons, List.not_mem_nil, or_false, Prod.mk.injEq] at h; obtain ⟨rfl, rfl⟩ := h; exact mn_129) (fun t j h => by simp only [List.mem_cons, List.not_mem_nil, or_false, Prod.mk.injEq] at h; obtain ⟨rfl, rfl⟩ := h; exact ⟨by rw [mn_129]; exact tw_30, by rw [mn_129]; exact tw_1390, mt_129, by decide, by decide⟩) (by unfold prm; decide +kernel) ml_170 (HsOk.nil (by decide +kernel))
theorem dd_170_105 : decode (mi 170).2.1 105 = .ok (.iadd, 1) := by decide +kernel
theorem st_170_105 : Sd 170 105 1 (i_iadd) := sd_iadd dd_170_105
theorem dd_170_106 : decode (mi 170).2.1 106 = .ok (.bipush 48, 2) := by decide +kernel
theorem st_170_106 : Sd 170 106 2 (i_ic 48) := sd_bipush dd_170_106 (by decide)
theorem dd_170_108 : decode (mi 170).2.1 108 = .ok (.isub, 1) := by decide +kernel
theorem st_170_108 : Sd 170 108 1 (i_isub) := sd_isub dd_170_108
theorem dd_170_109 : decode (mi 170).2.1 109 = .ok (.istore 4, 2) := by decide +kernel
theorem st_170_109 : Sd 170 109 2 (i_stI 4) := sd_istore dd_170_109
theorem dd_170_111 : decode (mi 170).2.1 111 = .ok (.iinc 3 1, 3) := by decide +kernel
theorem st_170_111 : Sd 170 111 3 (i_inc 3 1) := sd_iinc dd_170_111
theorem dd_170_114 : decode (mi 170).2.1 114 = .ok (.goto (-37), 3) := by decide +kernel
theorem st_170_114 : Sd 170 114 3 (i_goto 77) := sd_goto dd_170_114 (by decide)
def bk_170_77 : Tr := sq (i_ldR 0) (sq (i_ldI 3) (sq (i_cV [(2, 129)] 2 5 []) (sq (i_cS 137 1 5 []) (sq (i_zeq 117) (sq (i_ldI 3) (sq (i_ldI 1) (sq (i_ic 3) (sq (i_iadd) (sq (i_cge 117) (sq (i_ic 10) (sq (i_ldI 4) (sq (i_imul) (sq (i_ldR 0) (sq (i_ldI 3) (sq (i_cV [(2, 129)] 2 5 []) (sq (i_iadd) (sq (i_ic 48) (sq (i_isub) (sq (i_stI 4) (sq (i_inc 3 1) (i_goto 77)))))))))))))))))))))
theorem sb_170_77 : Sd 170 77 40 bk_170_77 := Sd.sq st_170_77 (Sd.sq st_170_78 (Sd.sq st_170_79 (Sd.sq st_170_82 (Sd.sq st_170_85 (Sd.sq st_170_88 (Sd.sq st_170_89 (Sd.sq st_170_90 (Sd.sq st_170_91 (Sd.sq st_170_92 (Sd.sq st_170_95 (Sd.sq st_170_97 (Sd.sq st_170_99 (Sd.sq st_170_100 (Sd.sq st_170_101 (Sd.sq st_170_102 (Sd.sq st_170_105 (Sd.sq st_170_106 (Sd.sq st_170_108 (Sd.sq st_170_109 (Sd.sq st_170_111 (st_170_114)))))))))))))))))))))
theorem dd_170_117 : decode (mi 170).2.1 117 = .ok (.aload_n 0, 1) := by decide +kernel
theorem st_170_117 : Sd 170 117 1 (i_ldR 0) := sd_aload_n (j := 0) dd_170_117 rfl
theorem dd_170_118 : decode (mi 170).2.1 118 = .ok (.iload_n 1, 1) := by decide +kernel
theorem st_170_118 : Sd 170 118 1 (i_ldI 1) := sd_iload_n (j := 1) dd_170_118 rfl
theorem dd_170_119 : decode (mi 170).2.1 119 = .ok (.invokevirtual 103, 3) := by decide +kernel
theorem st_170_119 : Sd 170 119 3 (i_cV [(2, 129)] 2 5 []) := sd_virt ⟨"ContractDeskModel", "at", "(I)C"⟩ dd_170_119 (by rw [mc_170]; exact tw_1388) (fun t j h => by simp only [List.mem_cons, List.not_mem_nil, or_false, Prod.mk.injEq] at h; obtain ⟨rfl, rfl⟩ := h; exact mn_129) (fun t j h => by simp only [List.mem_cons, List.not_mem_nil, or_false, Prod.mk.injEq] at h; obtain ⟨rfl, rfl⟩ := h; exact ⟨by rw [mn_129]; exact tw_30, by rw [mn_129]; exact tw_1390, mt_129, by decide, by decide⟩) (by unfold prm; decide +kernel) ml_170 (HsOk.nil (by decide +kernel))
theorem dd_170_122 : decode (mi 170).2.1 122 = .ok (.bipush 91, 2) := by decide +kernel
theorem st_170_122 : Sd 170 122 2 (i_ic 91) := sd_bipush dd_170_122 (by decide)
theorem dd_170_124 : decode (mi 170).2.1 124 = .ok (.if_icmp .ne 39, 3) := by decide +kernel
theorem st_170_124 : Sd 170 124 3 (i_cne 163) := sd_icmp_ne dd_170_124 (by decide)
theorem dd_170_127 : decode (mi 170).2.1 127 = .ok (.iload_n 3, 1) := by decide +kernel
theorem st_170_127 : Sd 170 127 1 (i_ldI 3) := sd_iload_n (j := 3) dd_170_127 rfl
theorem dd_170_128 : decode (mi 170).2.1 128 = .ok (.iload_n 1, 1) := by decide +kernel
theorem st_170_128 : Sd 170 128 1 (i_ldI 1) := sd_iload_n (j := 1) dd_170_128 rfl
theorem dd_170_129 : decode (mi 170).2.1 129 = .ok (.iconst 1, 1) := by decide +kernel
theorem st_170_129 : Sd 170 129 1 (i_ic 1) := sd_iconst dd_170_129
theorem dd_170_130 : decode (mi 170).2.1 130 = .ok (.iadd, 1) := by decide +kernel
theorem st_170_130 : Sd 170 130 1 (i_iadd) := sd_iadd dd_170_130
theorem dd_170_131 : decode (mi 170).2.1 131 = .ok (.if_icmp .eq 32, 3) := by decide +kernel
theorem st_170_131 : Sd 170 131 3 (i_ceq 163) := sd_icmp_eq dd_170_131 (by decide)
theorem dd_170_134 : decode (mi 170).2.1 134 = .ok (.aload_n 0, 1) := by decide +kernel
theorem st_170_134 : Sd 170 134 1 (i_ldR 0) := sd_aload_n (j := 0) dd_170_134 rfl
theorem dd_170_135 : decode (mi 170).2.1 135 = .ok (.iload_n 3, 1) := by decide +kernel
theorem st_170_135 : Sd 170 135 1 (i_ldI 3) := sd_iload_n (j := 3) dd_170_135 rfl
theorem dd_170_136 : decode (mi 170).2.1 136 = .ok (.invokevirtual 103, 3) := by decide +kernel
theorem st_170_136 : Sd 170 136 3 (i_cV [(2, 129)] 2 5 []) := sd_virt ⟨"ContractDeskModel", "at", "(I)C"⟩ dd_170_136 (by rw [mc_170]; exact tw_1388) (fun t j h => by simp only [List.mem_cons, List.not_mem_nil, or_false, Prod.mk.injEq] at h; obtain ⟨rfl, rfl⟩ := h; exact mn_129) (fun t j h => by simp only [List.mem_cons, List.not_mem_nil, or_false, Prod.mk.injEq] at h; obtain ⟨rfl, rfl⟩ := h; exact ⟨by rw [mn_129]; exact tw_30, by rw [mn_129]; exact tw_1390, mt_129, by decide, by decide⟩) (by unfold prm; decide +kernel) ml_170 (HsOk.nil (by decide +kernel))
theorem dd_170_139 : decode (mi 170).2.1 139 = .ok (.bipush 93, 2) := by decide +kernel
theorem st_170_139 : Sd 170 139 2 (i_ic 93) := sd_bipush dd_170_139 (by decide)
theorem dd_170_141 : decode (mi 170).2.1 141 = .ok (.if_icmp .ne 22, 3) := by decide +kernel
theorem st_170_141 : Sd 170 141 3 (i_cne 163) := sd_icmp_ne dd_170_141 (by decide)
theorem dd_170_144 : decode (mi 170).2.1 144 = .ok (.iload_n 3, 1) := by decide +kernel
theorem st_170_144 : Sd 170 144 1 (i_ldI 3) := sd_iload_n (j := 3) dd_170_144 rfl
theorem dd_170_145 : decode (mi 170).2.1 145 = .ok (.iload_n 1, 1) := by decide +kernel
theorem st_170_145 : Sd 170 145 1 (i_ldI 1) := sd_iload_n (j := 1) dd_170_145 rfl
theorem dd_170_146 : decode (mi 170).2.1 146 = .ok (.iconst 3, 1) := by decide +kernel
theorem st_170_146 : Sd 170 146 1 (i_ic 3) := sd_iconst dd_170_146
theorem dd_170_147 : decode (mi 170).2.1 147 = .ok (.iadd, 1) := by decide +kernel
theorem st_170_147 : Sd 170 147 1 (i_iadd) := sd_iadd dd_170_147
theorem dd_170_148 : decode (mi 170).2.1 148 = .ok (.if_icmp .ne 17, 3) := by decide +kernel
theorem st_170_148 : Sd 170 148 3 (i_cne 165) := sd_icmp_ne dd_170_148 (by decide)
theorem dd_170_151 : decode (mi 170).2.1 151 = .ok (.aload_n 0, 1) := by decide +kernel
theorem st_170_151 : Sd 170 151 1 (i_ldR 0) := sd_aload_n (j := 0) dd_170_151 rfl
theorem dd_170_152 : decode (mi 170).2.1 152 = .ok (.iload_n 1, 1) := by decide +kernel
theorem st_170_152 : Sd 170 152 1 (i_ldI 1) := sd_iload_n (j := 1) dd_170_152 rfl
theorem dd_170_153 : decode (mi 170).2.1 153 = .ok (.iconst 1, 1) := by decide +kernel
theorem st_170_153 : Sd 170 153 1 (i_ic 1) := sd_iconst dd_170_153
theorem dd_170_154 : decode (mi 170).2.1 154 = .ok (.iadd, 1) := by decide +kernel
theorem st_170_154 : Sd 170 154 1 (i_iadd) := sd_iadd dd_170_154
theorem dd_170_155 : decode (mi 170).2.1 155 = .ok (.invokevirtual 103, 3) := by decide +kernel
theorem st_170_155 : Sd 170 155 3 (i_cV [(2, 129)] 2 5 []) := sd_virt ⟨"ContractDeskModel", "at", "(I)C"⟩ dd_170_155 (by rw [mc_170]; exact tw_1388) (fun t j h => by simp only [List.mem_cons, List.not_mem_nil, or_false, Prod.mk.injEq] at h; obtain ⟨rfl, rfl⟩ := h; exact mn_129) (fun t j h => by simp only [List.mem_cons, List.not_mem_nil, or_false, Prod.mk.injEq] at h; obtain ⟨rfl, rfl⟩ := h; exact ⟨by rw [mn_129]; exact tw_30, by rw [mn_129]; exact tw_1390, mt_129, by decide, by decide⟩) (by unfold prm; decide +kernel) ml_170 (HsOk.nil (by decide +kernel))
theorem dd_170_158 : decode (mi 170).2.1 158 = .ok (.bipush 48, 2) := by decide +kernel
theorem st_170_158 : Sd 170 158 2 (i_ic 48) := sd_bipush dd_170_158 (by decide)
theorem dd_170_160 : decode (mi 170).2.1 160 = .ok (.if_icmp .ne 5, 3) := by decide +kernel
theorem st_170_160 : Sd 170 160 3 (i_cne 165) := sd_icmp_ne dd_170_160 (by decide)
def bk_170_117 : Tr := sq (i_ldR 0) (sq (i_ldI 1) (sq (i_cV [(2, 129)] 2 5 []) (sq (i_ic 91) (sq (i_cne 163) (sq (i_ldI 3) (sq (i_ldI 1) (sq (i_ic 1) (sq (i_iadd) (sq (i_ceq 163) (sq (i_ldR 0) (sq (i_ldI 3) (sq (i_cV [(2, 129)] 2 5 []) (sq (i_ic 93) (sq (i_cne 163) (sq (i_ldI 3) (sq (i_ldI 1) (sq (i_ic 3) (sq (i_iadd) (sq (i_cne 165) (sq (i_ldR 0) (sq (i_ldI 1) (sq (i_ic 1) (sq (i_iadd) (sq (i_cV [(2, 129)] 2 5 []) (sq (i_ic 48) (sq (i_cne 165) (i_fall 163)))))))))))))))))))))))))))
theorem sb_170_117 : Sd 170 117 46 bk_170_117 := Sd.sq st_170_117 (Sd.sq st_170_118 (Sd.sq st_170_119 (Sd.sq st_170_122 (Sd.sq st_170_124 (Sd.sq st_170_127 (Sd.sq st_170_128 (Sd.sq st_170_129 (Sd.sq st_170_130 (Sd.sq st_170_131 (Sd.sq st_170_134 (Sd.sq st_170_135 (Sd.sq st_170_136 (Sd.sq st_170_139 (Sd.sq st_170_141 (Sd.sq st_170_144 (Sd.sq st_170_145 (Sd.sq st_170_146 (Sd.sq st_170_147 (Sd.sq st_170_148 (Sd.sq st_170_151 (Sd.sq st_170_152 (Sd.sq st_170_153 (Sd.sq st_170_154 (Sd.sq st_170_155 (Sd.sq st_170_158 (Sd.sq st_170_160 (sd_fall rfl)))))))))))))))))))))))))))
theorem dd_170_163 : decode (mi 170).2.1 163 = .ok (.iconst 0, 1) := by decide +kernel
theorem st_170_163 : Sd 170 163 1 (i_ic 0) := sd_iconst dd_170_163
theorem dd_170_164 : decode (mi 170).2.1 164 = .ok (.ireturn, 1) := by decide +kernel
theorem st_170_164 : Sd 170 164 1 (i_rI 2) := sd_ireturn dd_170_164 (by decide) mr_170
def bk_170_163 : Tr := sq (i_ic 0) (i_rI 2)
theorem sb_170_163 : Sd 170 163 2 bk_170_163 := Sd.sq st_170_163 (st_170_164)
theorem dd_170_165 : decode (mi 170).2.1 165 = .ok (.aload_n 0, 1) := by decide +kernel
theorem st_170_165 : Sd 170 165 1 (i_ldR 0) := sd_aload_n (j := 0) dd_170_165 rfl
theorem dd_170_166 : decode (mi 170).2.1 166 = .ok (.getfield 72, 3) := by decide +kernel
theorem st_170_166 : Sd 170 166 3 (i_gR 28 [2]) := sd_gR (ref := "ContractDeskModel") (decl := "ContractDeskModel") (name := "stepRow") (desc := "[I") dd_170_166 (by rw [mc_170]; exact tw_1288) (Or.inl rfl) (by decide +kernel)
theorem dd_170_169 : decode (mi 170).2.1 169 = .ok (.aload_n 0, 1) := by decide +kernel
theorem st_170_169 : Sd 170 169 1 (i_ldR 0) := sd_aload_n (j := 0) dd_170_169 rfl
theorem dd_170_170 : decode (mi 170).2.1 170 = .ok (.getfield 180, 3) := by decide +kernel
theorem st_170_170 : Sd 170 170 3 (i_gI 27 [2]) := sd_gI (ref := "ContractDeskModel") (decl := "ContractDeskModel") (name := "steps") (desc := "I") dd_170_170 (by rw [mc_170]; exact tw_1287) (Or.inl rfl) (by decide +kernel)
theorem dd_170_173 : decode (mi 170).2.1 173 = .ok (.iconst (-1), 1) := by decide +kernel
theorem st_170_173 : Sd 170 173 1 (i_ic (-1)) := sd_iconst dd_170_173
theorem dd_170_174 : decode (mi 170).2.1 174 = .ok (.iload 4, 2) := by decide +kernel
theorem st_170_174 : Sd 170 174 2 (i_ldI 4) := sd_iload dd_170_174
theorem dd_170_176 : decode (mi 170).2.1 176 = .ok (.isub, 1) := by decide +kernel
theorem st_170_176 : Sd 170 176 1 (i_isub) := sd_isub dd_170_176
theorem dd_170_177 : decode (mi 170).2.1 177 = .ok (.iastore, 1) := by decide +kernel
theorem st_170_177 : Sd 170 177 1 (i_sI [20] 0) := sd_iastore dd_170_177 (by decide)
theorem dd_170_178 : decode (mi 170).2.1 178 = .ok (.iload_n 3, 1) := by decide +kernel
theorem st_170_178 : Sd 170 178 1 (i_ldI 3) := sd_iload_n (j := 3) dd_170_178 rfl
theorem dd_170_179 : decode (mi 170).2.1 179 = .ok (.iconst 1, 1) := by decide +kernel
theorem st_170_179 : Sd 170 179 1 (i_ic 1) := sd_iconst dd_170_179
theorem dd_170_180 : decode (mi 170).2.1 180 = .ok (.iadd, 1) := by decide +kernel
theorem st_170_180 : Sd 170 180 1 (i_iadd) := sd_iadd dd_170_180
theorem dd_170_181 : decode (mi 170).2.1 181 = .ok (.istore_n 1, 1) := by decide +kernel
theorem st_170_181 : Sd 170 181 1 (i_stI 1) := sd_istore_n (j := 1) dd_170_181 rfl
def bk_170_165 : Tr := sq (i_ldR 0) (sq (i_gR 28 [2]) (sq (i_ldR 0) (sq (i_gI 27 [2]) (sq (i_ic (-1)) (sq (i_ldI 4) (sq (i_isub) (sq (i_sI [20] 0) (sq (i_ldI 3) (sq (i_ic 1) (sq (i_iadd) (sq (i_stI 1) (i_fall 182))))))))))))
theorem sb_170_165 : Sd 170 165 17 bk_170_165 := Sd.sq st_170_165 (Sd.sq st_170_166 (Sd.sq st_170_169 (Sd.sq st_170_170 (Sd.sq st_170_173 (Sd.sq st_170_174 (Sd.sq st_170_176 (Sd.sq st_170_177 (Sd.sq st_170_178 (Sd.sq st_170_179 (Sd.sq st_170_180 (Sd.sq st_170_181 (sd_fall rfl))))))))))))
theorem dd_170_182 : decode (mi 170).2.1 182 = .ok (.aload_n 0, 1) := by decide +kernel
theorem st_170_182 : Sd 170 182 1 (i_ldR 0) := sd_aload_n (j := 0) dd_170_182 rfl
theorem dd_170_183 : decode (mi 170).2.1 183 = .ok (.dup, 1) := by decide +kernel
theorem st_170_183 : Sd 170 183 1 (i_dup) := sd_dup dd_170_183
theorem dd_170_184 : decode (mi 170).2.1 184 = .ok (.getfield 180, 3) := by decide +kernel
theorem st_170_184 : Sd 170 184 3 (i_gI 27 [2]) := sd_gI (ref := "ContractDeskModel") (decl := "ContractDeskModel") (name := "steps") (desc := "I") dd_170_184 (by rw [mc_170]; exact tw_1287) (Or.inl rfl) (by decide +kernel)
theorem dd_170_187 : decode (mi 170).2.1 187 = .ok (.iconst 1, 1) := by decide +kernel
theorem st_170_187 : Sd 170 187 1 (i_ic 1) := sd_iconst dd_170_187
theorem dd_170_188 : decode (mi 170).2.1 188 = .ok (.iadd, 1) := by decide +kernel
theorem st_170_188 : Sd 170 188 1 (i_iadd) := sd_iadd dd_170_188
theorem dd_170_189 : decode (mi 170).2.1 189 = .ok (.putfield 180, 3) := by decide +kernel
theorem st_170_189 : Sd 170 189 3 (i_pI 27 [2] 0) := sd_pI (ref := "ContractDeskModel") (decl := "ContractDeskModel") (name := "steps") (desc := "I") dd_170_189 (by rw [mc_170]; exact tw_1287) (Or.inl rfl) (by decide +kernel) (by decide +kernel) (by decide)
theorem dd_170_192 : decode (mi 170).2.1 192 = .ok (.goto (-174), 3) := by decide +kernel
theorem st_170_192 : Sd 170 192 3 (i_goto 18) := sd_goto dd_170_192 (by decide)
def bk_170_182 : Tr := sq (i_ldR 0) (sq (i_dup) (sq (i_gI 27 [2]) (sq (i_ic 1) (sq (i_iadd) (sq (i_pI 27 [2] 0) (i_goto 18))))))
theorem sb_170_182 : Sd 170 182 13 bk_170_182 := Sd.sq st_170_182 (Sd.sq st_170_183 (Sd.sq st_170_184 (Sd.sq st_170_187 (Sd.sq st_170_188 (Sd.sq st_170_189 (st_170_192))))))
theorem dd_170_195 : decode (mi 170).2.1 195 = .ok (.aload_n 0, 1) := by decide +kernel
theorem st_170_195 : Sd 170 195 1 (i_ldR 0) := sd_aload_n (j := 0) dd_170_195 rfl
theorem dd_170_196 : decode (mi 170).2.1 196 = .ok (.sipush 400, 3) := by decide +kernel
theorem st_170_196 : Sd 170 196 3 (i_ic 400) := sd_sipush dd_170_196 (by decide)
theorem dd_170_199 : decode (mi 170).2.1 199 = .ok (.invokevirtual 103, 3) := by decide +kernel
theorem st_170_199 : Sd 170 199 3 (i_cV [(2, 129)] 2 5 []) := sd_virt ⟨"ContractDeskModel", "at", "(I)C"⟩ dd_170_199 (by rw [mc_170]; exact tw_1388) (fun t j h => by simp only [List.mem_cons, List.not_mem_nil, or_false, Prod.mk.injEq] at h; obtain ⟨rfl, rfl⟩ := h; exact mn_129) (fun t j h => by simp only [List.mem_cons, List.not_mem_nil, or_false, Prod.mk.injEq] at h; obtain ⟨rfl, rfl⟩ := h; exact ⟨by rw [mn_129]; exact tw_30, by rw [mn_129]; exact tw_1390, mt_129, by decide, by decide⟩) (by unfold prm; decide +kernel) ml_170 (HsOk.nil (by decide +kernel))
theorem dd_170_202 : decode (mi 170).2.1 202 = .ok (.bipush 36, 2) := by decide +kernel
theorem st_170_202 : Sd 170 202 2 (i_ic 36) := sd_bipush dd_170_202 (by decide)
theorem dd_170_204 : decode (mi 170).2.1 204 = .ok (.if_icmp .ne 7, 3) := by decide +kernel
theorem st_170_204 : Sd 170 204 3 (i_cne 211) := sd_icmp_ne dd_170_204 (by decide)
theorem dd_170_207 : decode (mi 170).2.1 207 = .ok (.iconst 1, 1) := by decide +kernel
theorem st_170_207 : Sd 170 207 1 (i_ic 1) := sd_iconst dd_170_207
theorem dd_170_208 : decode (mi 170).2.1 208 = .ok (.goto 4, 3) := by decide +kernel
theorem st_170_208 : Sd 170 208 3 (i_goto 212) := sd_goto dd_170_208 (by decide)
def bk_170_195 : Tr := sq (i_ldR 0) (sq (i_ic 400) (sq (i_cV [(2, 129)] 2 5 []) (sq (i_ic 36) (sq (i_cne 211) (sq (i_ic 1) (i_goto 212))))))
theorem sb_170_195 : Sd 170 195 16 bk_170_195 := Sd.sq st_170_195 (Sd.sq st_170_196 (Sd.sq st_170_199 (Sd.sq st_170_202 (Sd.sq st_170_204 (Sd.sq st_170_207 (st_170_208))))))
theorem dd_170_211 : decode (mi 170).2.1 211 = .ok (.iconst 0, 1) := by decide +kernel
theorem st_170_211 : Sd 170 211 1 (i_ic 0) := sd_iconst dd_170_211
def bk_170_211 : Tr := sq (i_ic 0) (i_fall 212)
theorem sb_170_211 : Sd 170 211 1 bk_170_211 := Sd.sq st_170_211 (sd_fall rfl)
theorem dd_170_212 : decode (mi 170).2.1 212 = .ok (.ireturn, 1) := by decide +kernel
theorem st_170_212 : Sd 170 212 1 (i_rI 2) := sd_ireturn dd_170_212 (by decide) mr_170
def bk_170_212 : Tr := i_rI 2
theorem sb_170_212 : Sd 170 212 1 bk_170_212 := st_170_212
theorem dd_171_0 : decode (mi 171).2.1 0 = .ok (.aload_n 0, 1) := by decide +kernel
theorem st_171_0 : Sd 171 0 1 (i_ldR 0) := sd_aload_n (j := 0) dd_171_0 rfl
theorem dd_171_1 : decode (mi 171).2.1 1 = .ok (.invokevirtual 173, 3) := by decide +kernel
theorem st_171_1 : Sd 171 1 3 (i_cV [(2, 149)] 1 5 []) := sd_virt ⟨"ContractDeskModel", "isRule", "()Z"⟩ dd_171_1 (by rw [mc_171]; exact tw_1461) (fun t j h => by simp only [List.mem_cons, List.not_mem_nil, or_false, Prod.mk.injEq] at h; obtain ⟨rfl, rfl⟩ := h; exact mn_149) (fun t j h => by simp only [List.mem_cons, List.not_mem_nil, or_false, Prod.mk.injEq] at h; obtain ⟨rfl, rfl⟩ := h; exact ⟨by rw [mn_149]; exact tw_43, by rw [mn_149]; exact tw_1463, mt_149, by decide, by decide⟩) (by unfold prm; decide +kernel) ml_171 (HsOk.nil (by decide +kernel))
theorem dd_171_4 : decode (mi 171).2.1 4 = .ok (.ifCond .eq 15, 3) := by decide +kernel
theorem st_171_4 : Sd 171 4 3 (i_zeq 19) := sd_if_eq dd_171_4 (by decide)
theorem dd_171_7 : decode (mi 171).2.1 7 = .ok (.aload_n 0, 1) := by decide +kernel
theorem st_171_7 : Sd 171 7 1 (i_ldR 0) := sd_aload_n (j := 0) dd_171_7 rfl
theorem dd_171_8 : decode (mi 171).2.1 8 = .ok (.iload_n 1, 1) := by decide +kernel
theorem st_171_8 : Sd 171 8 1 (i_ldI 1) := sd_iload_n (j := 1) dd_171_8 rfl
theorem dd_171_9 : decode (mi 171).2.1 9 = .ok (.invokevirtual 153, 3) := by decide +kernel
theorem st_171_9 : Sd 171 9 3 (i_cV [(2, 147)] 2 5 []) := sd_virt ⟨"ContractDeskModel", "isInteraction", "(I)Z"⟩ dd_171_9 (by rw [mc_171]; exact tw_1410) (fun t j h => by simp only [List.mem_cons, List.not_mem_nil, or_false, Prod.mk.injEq] at h; obtain ⟨rfl, rfl⟩ := h; exact mn_147) (fun t j h => by simp only [List.mem_cons, List.not_mem_nil, or_false, Prod.mk.injEq] at h; obtain ⟨rfl, rfl⟩ := h; exact ⟨by rw [mn_147]; exact tw_34, by rw [mn_147]; exact tw_1412, mt_147, by decide, by decide⟩) (by unfold prm; decide +kernel) ml_171 (HsOk.nil (by decide +kernel))
theorem dd_171_12 : decode (mi 171).2.1 12 = .ok (.ifCond .eq 7, 3) := by decide +kernel
theorem st_171_12 : Sd 171 12 3 (i_zeq 19) := sd_if_eq dd_171_12 (by decide)
theorem dd_171_15 : decode (mi 171).2.1 15 = .ok (.iconst 1, 1) := by decide +kernel
theorem st_171_15 : Sd 171 15 1 (i_ic 1) := sd_iconst dd_171_15
theorem dd_171_16 : decode (mi 171).2.1 16 = .ok (.goto 4, 3) := by decide +kernel
theorem st_171_16 : Sd 171 16 3 (i_goto 20) := sd_goto dd_171_16 (by decide)
def bk_171_0 : Tr := sq (i_ldR 0) (sq (i_cV [(2, 149)] 1 5 []) (sq (i_zeq 19) (sq (i_ldR 0) (sq (i_ldI 1) (sq (i_cV [(2, 147)] 2 5 []) (sq (i_zeq 19) (sq (i_ic 1) (i_goto 20))))))))
theorem sb_171_0 : Sd 171 0 19 bk_171_0 := Sd.sq st_171_0 (Sd.sq st_171_1 (Sd.sq st_171_4 (Sd.sq st_171_7 (Sd.sq st_171_8 (Sd.sq st_171_9 (Sd.sq st_171_12 (Sd.sq st_171_15 (st_171_16))))))))
theorem dd_171_19 : decode (mi 171).2.1 19 = .ok (.iconst 0, 1) := by decide +kernel
theorem st_171_19 : Sd 171 19 1 (i_ic 0) := sd_iconst dd_171_19
def bk_171_19 : Tr := sq (i_ic 0) (i_fall 20)
theorem sb_171_19 : Sd 171 19 1 bk_171_19 := Sd.sq st_171_19 (sd_fall rfl)
theorem dd_171_20 : decode (mi 171).2.1 20 = .ok (.istore_n 2, 1) := by decide +kernel
theorem st_171_20 : Sd 171 20 1 (i_stI 2) := sd_istore_n (j := 2) dd_171_20 rfl
theorem dd_171_21 : decode (mi 171).2.1 21 = .ok (.aload_n 0, 1) := by decide +kernel
theorem st_171_21 : Sd 171 21 1 (i_ldR 0) := sd_aload_n (j := 0) dd_171_21 rfl
theorem dd_171_22 : decode (mi 171).2.1 22 = .ok (.iload_n 2, 1) := by decide +kernel
theorem st_171_22 : Sd 171 22 1 (i_ldI 2) := sd_iload_n (j := 2) dd_171_22 rfl
theorem dd_171_23 : decode (mi 171).2.1 23 = .ok (.ifCond .ne 7, 3) := by decide +kernel
theorem st_171_23 : Sd 171 23 3 (i_zne 30) := sd_if_ne dd_171_23 (by decide)
theorem dd_171_26 : decode (mi 171).2.1 26 = .ok (.iconst 1, 1) := by decide +kernel
theorem st_171_26 : Sd 171 26 1 (i_ic 1) := sd_iconst dd_171_26
theorem dd_171_27 : decode (mi 171).2.1 27 = .ok (.goto 19, 3) := by decide +kernel
theorem st_171_27 : Sd 171 27 3 (i_goto 46) := sd_goto dd_171_27 (by decide)
def bk_171_20 : Tr := sq (i_stI 2) (sq (i_ldR 0) (sq (i_ldI 2) (sq (i_zne 30) (sq (i_ic 1) (i_goto 46)))))
theorem sb_171_20 : Sd 171 20 10 bk_171_20 := Sd.sq st_171_20 (Sd.sq st_171_21 (Sd.sq st_171_22 (Sd.sq st_171_23 (Sd.sq st_171_26 (st_171_27)))))
theorem dd_171_30 : decode (mi 171).2.1 30 = .ok (.aload_n 0, 1) := by decide +kernel
theorem st_171_30 : Sd 171 30 1 (i_ldR 0) := sd_aload_n (j := 0) dd_171_30 rfl
theorem dd_171_31 : decode (mi 171).2.1 31 = .ok (.getfield 21, 3) := by decide +kernel
theorem st_171_31 : Sd 171 31 3 (i_gR 6 [2]) := sd_gR (ref := "ContractDeskModel") (decl := "ContractDeskModel") (name := "rules") (desc := "[I") dd_171_31 (by rw [mc_171]; exact tw_1266) (Or.inl rfl) (by decide +kernel)
theorem dd_171_34 : decode (mi 171).2.1 34 = .ok (.iload_n 1, 1) := by decide +kernel
theorem st_171_34 : Sd 171 34 1 (i_ldI 1) := sd_iload_n (j := 1) dd_171_34 rfl
theorem dd_171_35 : decode (mi 171).2.1 35 = .ok (.iaload, 1) := by decide +kernel
theorem st_171_35 : Sd 171 35 1 (i_aI [20]) := sd_iaload dd_171_35 (by decide)
theorem dd_171_36 : decode (mi 171).2.1 36 = .ok (.bipush 8, 2) := by decide +kernel
theorem st_171_36 : Sd 171 36 2 (i_ic 8) := sd_bipush dd_171_36 (by decide)
theorem dd_171_38 : decode (mi 171).2.1 38 = .ok (.if_icmp .ne 7, 3) := by decide +kernel
theorem st_171_38 : Sd 171 38 3 (i_cne 45) := sd_icmp_ne dd_171_38 (by decide)
theorem dd_171_41 : decode (mi 171).2.1 41 = .ok (.iconst 2, 1) := by decide +kernel
theorem st_171_41 : Sd 171 41 1 (i_ic 2) := sd_iconst dd_171_41
theorem dd_171_42 : decode (mi 171).2.1 42 = .ok (.goto 4, 3) := by decide +kernel
theorem st_171_42 : Sd 171 42 3 (i_goto 46) := sd_goto dd_171_42 (by decide)
def bk_171_30 : Tr := sq (i_ldR 0) (sq (i_gR 6 [2]) (sq (i_ldI 1) (sq (i_aI [20]) (sq (i_ic 8) (sq (i_cne 45) (sq (i_ic 2) (i_goto 46)))))))
theorem sb_171_30 : Sd 171 30 15 bk_171_30 := Sd.sq st_171_30 (Sd.sq st_171_31 (Sd.sq st_171_34 (Sd.sq st_171_35 (Sd.sq st_171_36 (Sd.sq st_171_38 (Sd.sq st_171_41 (st_171_42)))))))
theorem dd_171_45 : decode (mi 171).2.1 45 = .ok (.iconst 0, 1) := by decide +kernel
theorem st_171_45 : Sd 171 45 1 (i_ic 0) := sd_iconst dd_171_45
def bk_171_45 : Tr := sq (i_ic 0) (i_fall 46)
theorem sb_171_45 : Sd 171 45 1 bk_171_45 := Sd.sq st_171_45 (sd_fall rfl)
theorem dd_171_46 : decode (mi 171).2.1 46 = .ok (.putfield 93, 3) := by decide +kernel
theorem st_171_46 : Sd 171 46 3 (i_pI 0 [2] 0) := sd_pI (ref := "ContractDeskModel") (decl := "ContractDeskModel") (name := "thrown") (desc := "I") dd_171_46 (by rw [mc_171]; exact tw_1260) (Or.inl rfl) (by decide +kernel) (by decide +kernel) (by decide)
theorem dd_171_49 : decode (mi 171).2.1 49 = .ok (.iconst 0, 1) := by decide +kernel
theorem st_171_49 : Sd 171 49 1 (i_ic 0) := sd_iconst dd_171_49
theorem dd_171_50 : decode (mi 171).2.1 50 = .ok (.istore_n 3, 1) := by decide +kernel
theorem st_171_50 : Sd 171 50 1 (i_stI 3) := sd_istore_n (j := 3) dd_171_50 rfl
theorem dd_171_51 : decode (mi 171).2.1 51 = .ok (.aload_n 0, 1) := by decide +kernel
theorem st_171_51 : Sd 171 51 1 (i_ldR 0) := sd_aload_n (j := 0) dd_171_51 rfl
theorem dd_171_52 : decode (mi 171).2.1 52 = .ok (.getfield 93, 3) := by decide +kernel
theorem st_171_52 : Sd 171 52 3 (i_gI 0 [2]) := sd_gI (ref := "ContractDeskModel") (decl := "ContractDeskModel") (name := "thrown") (desc := "I") dd_171_52 (by rw [mc_171]; exact tw_1260) (Or.inl rfl) (by decide +kernel)
theorem dd_171_55 : decode (mi 171).2.1 55 = .ok (.ifCond .ne 57, 3) := by decide +kernel
theorem st_171_55 : Sd 171 55 3 (i_zne 112) := sd_if_ne dd_171_55 (by decide)
theorem dd_171_58 : decode (mi 171).2.1 58 = .ok (.bipush 8, 2) := by decide +kernel
theorem st_171_58 : Sd 171 58 2 (i_ic 8) := sd_bipush dd_171_58 (by decide)
theorem dd_171_60 : decode (mi 171).2.1 60 = .ok (.iload_n 1, 1) := by decide +kernel
theorem st_171_60 : Sd 171 60 1 (i_ldI 1) := sd_iload_n (j := 1) dd_171_60 rfl
theorem dd_171_61 : decode (mi 171).2.1 61 = .ok (.imul, 1) := by decide +kernel
theorem st_171_61 : Sd 171 61 1 (i_imul) := sd_imul dd_171_61
theorem dd_171_62 : decode (mi 171).2.1 62 = .ok (.aload_n 0, 1) := by decide +kernel
theorem st_171_62 : Sd 171 62 1 (i_ldR 0) := sd_aload_n (j := 0) dd_171_62 rfl
theorem dd_171_63 : decode (mi 171).2.1 63 = .ok (.getfield 21, 3) := by decide +kernel
theorem st_171_63 : Sd 171 63 3 (i_gR 6 [2]) := sd_gR (ref := "ContractDeskModel") (decl := "ContractDeskModel") (name := "rules") (desc := "[I") dd_171_63 (by rw [mc_171]; exact tw_1266) (Or.inl rfl) (by decide +kernel)
theorem dd_171_66 : decode (mi 171).2.1 66 = .ok (.iload_n 1, 1) := by decide +kernel
theorem st_171_66 : Sd 171 66 1 (i_ldI 1) := sd_iload_n (j := 1) dd_171_66 rfl
theorem dd_171_67 : decode (mi 171).2.1 67 = .ok (.iaload, 1) := by decide +kernel
theorem st_171_67 : Sd 171 67 1 (i_aI [20]) := sd_iaload dd_171_67 (by decide)
theorem dd_171_68 : decode (mi 171).2.1 68 = .ok (.iadd, 1) := by decide +kernel
theorem st_171_68 : Sd 171 68 1 (i_iadd) := sd_iadd dd_171_68
theorem dd_171_69 : decode (mi 171).2.1 69 = .ok (.istore 4, 2) := by decide +kernel
theorem st_171_69 : Sd 171 69 2 (i_stI 4) := sd_istore dd_171_69
theorem dd_171_71 : decode (mi 171).2.1 71 = .ok (.aload_n 0, 1) := by decide +kernel
theorem st_171_71 : Sd 171 71 1 (i_ldR 0) := sd_aload_n (j := 0) dd_171_71 rfl
theorem dd_171_72 : decode (mi 171).2.1 72 = .ok (.sipush 510, 3) := by decide +kernel
theorem st_171_72 : Sd 171 72 3 (i_ic 510) := sd_sipush dd_171_72 (by decide)
theorem dd_171_75 : decode (mi 171).2.1 75 = .ok (.bipush 100, 2) := by decide +kernel
theorem st_171_75 : Sd 171 75 2 (i_ic 100) := sd_bipush dd_171_75 (by decide)
theorem dd_171_77 : decode (mi 171).2.1 77 = .ok (.iload 4, 2) := by decide +kernel
theorem st_171_77 : Sd 171 77 2 (i_ldI 4) := sd_iload dd_171_77
theorem dd_171_79 : decode (mi 171).2.1 79 = .ok (.imul, 1) := by decide +kernel
theorem st_171_79 : Sd 171 79 1 (i_imul) := sd_imul dd_171_79
theorem dd_171_80 : decode (mi 171).2.1 80 = .ok (.iadd, 1) := by decide +kernel
theorem st_171_80 : Sd 171 80 1 (i_iadd) := sd_iadd dd_171_80
theorem dd_171_81 : decode (mi 171).2.1 81 = .ok (.invokevirtual 160, 3) := by decide +kernel
theorem st_171_81 : Sd 171 81 3 (i_cV [(2, 151)] 2 5 []) := sd_virt ⟨"ContractDeskModel", "keep", "(I)V"⟩ dd_171_81 (by rw [mc_171]; exact tw_1445) (fun t j h => by simp only [List.mem_cons, List.not_mem_nil, or_false, Prod.mk.injEq] at h; obtain ⟨rfl, rfl⟩ := h; exact mn_151) (fun t j h => by simp only [List.mem_cons, List.not_mem_nil, or_false, Prod.mk.injEq] at h; obtain ⟨rfl, rfl⟩ := h; exact ⟨by rw [mn_151]; exact tw_42, by rw [mn_151]; exact tw_1447, mt_151, by decide, by decide⟩) (by unfold prm; decide +kernel) ml_171 (HsOk.nil (by decide +kernel))
theorem dd_171_84 : decode (mi 171).2.1 84 = .ok (.aload_n 0, 1) := by decide +kernel
theorem st_171_84 : Sd 171 84 1 (i_ldR 0) := sd_aload_n (j := 0) dd_171_84 rfl
theorem dd_171_85 : decode (mi 171).2.1 85 = .ok (.getfield 24, 3) := by decide +kernel
theorem st_171_85 : Sd 171 85 3 (i_gR 7 [2]) := sd_gR (ref := "ContractDeskModel") (decl := "ContractDeskModel") (name := "ruleLength") (desc := "[I") dd_171_85 (by rw [mc_171]; exact tw_1267) (Or.inl rfl) (by decide +kernel)
theorem dd_171_88 : decode (mi 171).2.1 88 = .ok (.iload 4, 2) := by decide +kernel
theorem st_171_88 : Sd 171 88 2 (i_ldI 4) := sd_iload dd_171_88
theorem dd_171_90 : decode (mi 171).2.1 90 = .ok (.aload_n 0, 1) := by decide +kernel
theorem st_171_90 : Sd 171 90 1 (i_ldR 0) := sd_aload_n (j := 0) dd_171_90 rfl
theorem dd_171_91 : decode (mi 171).2.1 91 = .ok (.getfield 97, 3) := by decide +kernel
theorem st_171_91 : Sd 171 91 3 (i_gI 2 [2]) := sd_gI (ref := "ContractDeskModel") (decl := "ContractDeskModel") (name := "typed") (desc := "I") dd_171_91 (by rw [mc_171]; exact tw_1262) (Or.inl rfl) (by decide +kernel)
theorem dd_171_94 : decode (mi 171).2.1 94 = .ok (.iastore, 1) := by decide +kernel
theorem st_171_94 : Sd 171 94 1 (i_sI [20] 0) := sd_iastore dd_171_94 (by decide)
theorem dd_171_95 : decode (mi 171).2.1 95 = .ok (.aload_n 0, 1) := by decide +kernel
theorem st_171_95 : Sd 171 95 1 (i_ldR 0) := sd_aload_n (j := 0) dd_171_95 rfl
theorem dd_171_96 : decode (mi 171).2.1 96 = .ok (.getfield 21, 3) := by decide +kernel
theorem st_171_96 : Sd 171 96 3 (i_gR 6 [2]) := sd_gR (ref := "ContractDeskModel") (decl := "ContractDeskModel") (name := "rules") (desc := "[I") dd_171_96 (by rw [mc_171]; exact tw_1266) (Or.inl rfl) (by decide +kernel)
theorem dd_171_99 : decode (mi 171).2.1 99 = .ok (.iload_n 1, 1) := by decide +kernel
theorem st_171_99 : Sd 171 99 1 (i_ldI 1) := sd_iload_n (j := 1) dd_171_99 rfl
theorem dd_171_100 : decode (mi 171).2.1 100 = .ok (.iaload, 1) := by decide +kernel
theorem st_171_100 : Sd 171 100 1 (i_aI [20]) := sd_iaload dd_171_100 (by decide)
theorem dd_171_101 : decode (mi 171).2.1 101 = .ok (.istore_n 3, 1) := by decide +kernel
theorem st_171_101 : Sd 171 101 1 (i_stI 3) := sd_istore_n (j := 3) dd_171_101 rfl
theorem dd_171_102 : decode (mi 171).2.1 102 = .ok (.aload_n 0, 1) := by decide +kernel
theorem st_171_102 : Sd 171 102 1 (i_ldR 0) := sd_aload_n (j := 0) dd_171_102 rfl
theorem dd_171_103 : decode (mi 171).2.1 103 = .ok (.getfield 21, 3) := by decide +kernel
theorem st_171_103 : Sd 171 103 3 (i_gR 6 [2]) := sd_gR (ref := "ContractDeskModel") (decl := "ContractDeskModel") (name := "rules") (desc := "[I") dd_171_103 (by rw [mc_171]; exact tw_1266) (Or.inl rfl) (by decide +kernel)
theorem dd_171_106 : decode (mi 171).2.1 106 = .ok (.iload_n 1, 1) := by decide +kernel
theorem st_171_106 : Sd 171 106 1 (i_ldI 1) := sd_iload_n (j := 1) dd_171_106 rfl
theorem dd_171_107 : decode (mi 171).2.1 107 = .ok (.dup2, 1) := by decide +kernel
theorem st_171_107 : Sd 171 107 1 (i_dup2) := sd_dup2 dd_171_107
theorem dd_171_108 : decode (mi 171).2.1 108 = .ok (.iaload, 1) := by decide +kernel
theorem st_171_108 : Sd 171 108 1 (i_aI [20]) := sd_iaload dd_171_108 (by decide)
theorem dd_171_109 : decode (mi 171).2.1 109 = .ok (.iconst 1, 1) := by decide +kernel
theorem st_171_109 : Sd 171 109 1 (i_ic 1) := sd_iconst dd_171_109
theorem dd_171_110 : decode (mi 171).2.1 110 = .ok (.iadd, 1) := by decide +kernel
theorem st_171_110 : Sd 171 110 1 (i_iadd) := sd_iadd dd_171_110
theorem dd_171_111 : decode (mi 171).2.1 111 = .ok (.iastore, 1) := by decide +kernel
theorem st_171_111 : Sd 171 111 1 (i_sI [20] 0) := sd_iastore dd_171_111 (by decide)
def bk_171_46 : Tr := sq (i_pI 0 [2] 0) (sq (i_ic 0) (sq (i_stI 3) (sq (i_ldR 0) (sq (i_gI 0 [2]) (sq (i_zne 112) (sq (i_ic 8) (sq (i_ldI 1) (sq (i_imul) (sq (i_ldR 0) (sq (i_gR 6 [2]) (sq (i_ldI 1) (sq (i_aI [20]) (sq (i_iadd) (sq (i_stI 4) (sq (i_ldR 0) (sq (i_ic 510) (sq (i_ic 100) (sq (i_ldI 4) (sq (i_imul) (sq (i_iadd) (sq (i_cV [(2, 151)] 2 5 []) (sq (i_ldR 0) (sq (i_gR 7 [2]) (sq (i_ldI 4) (sq (i_ldR 0) (sq (i_gI 2 [2]) (sq (i_sI [20] 0) (sq (i_ldR 0) (sq (i_gR 6 [2]) (sq (i_ldI 1) (sq (i_aI [20]) (sq (i_stI 3) (sq (i_ldR 0) (sq (i_gR 6 [2]) (sq (i_ldI 1) (sq (i_dup2) (sq (i_aI [20]) (sq (i_ic 1) (sq (i_iadd) (sq (i_sI [20] 0) (i_fall 112)))))))))))))))))))))))))))))))))))))))))
theorem sb_171_46 : Sd 171 46 66 bk_171_46 := Sd.sq st_171_46 (Sd.sq st_171_49 (Sd.sq st_171_50 (Sd.sq st_171_51 (Sd.sq st_171_52 (Sd.sq st_171_55 (Sd.sq st_171_58 (Sd.sq st_171_60 (Sd.sq st_171_61 (Sd.sq st_171_62 (Sd.sq st_171_63 (Sd.sq st_171_66 (Sd.sq st_171_67 (Sd.sq st_171_68 (Sd.sq st_171_69 (Sd.sq st_171_71 (Sd.sq st_171_72 (Sd.sq st_171_75 (Sd.sq st_171_77 (Sd.sq st_171_79 (Sd.sq st_171_80 (Sd.sq st_171_81 (Sd.sq st_171_84 (Sd.sq st_171_85 (Sd.sq st_171_88 (Sd.sq st_171_90 (Sd.sq st_171_91 (Sd.sq st_171_94 (Sd.sq st_171_95 (Sd.sq st_171_96 (Sd.sq st_171_99 (Sd.sq st_171_100 (Sd.sq st_171_101 (Sd.sq st_171_102 (Sd.sq st_171_103 (Sd.sq st_171_106 (Sd.sq st_171_107 (Sd.sq st_171_108 (Sd.sq st_171_109 (Sd.sq st_171_110 (Sd.sq st_171_111 (sd_fall rfl)))))))))))))))))))))))))))))))))))))))))
theorem dd_171_112 : decode (mi 171).2.1 112 = .ok (.aload_n 0, 1) := by decide +kernel
theorem st_171_112 : Sd 171 112 1 (i_ldR 0) := sd_aload_n (j := 0) dd_171_112 rfl
theorem dd_171_113 : decode (mi 171).2.1 113 = .ok (.iconst 0, 1) := by decide +kernel
theorem st_171_113 : Sd 171 113 1 (i_ic 0) := sd_iconst dd_171_113
theorem dd_171_114 : decode (mi 171).2.1 114 = .ok (.putfield 97, 3) := by decide +kernel
theorem st_171_114 : Sd 171 114 3 (i_pI 2 [2] 0) := sd_pI (ref := "ContractDeskModel") (decl := "ContractDeskModel") (name := "typed") (desc := "I") dd_171_114 (by rw [mc_171]; exact tw_1262) (Or.inl rfl) (by decide +kernel) (by decide +kernel) (by decide)
theorem dd_171_117 : decode (mi 171).2.1 117 = .ok (.iload_n 3, 1) := by decide +kernel
theorem st_171_117 : Sd 171 117 1 (i_ldI 3) := sd_iload_n (j := 3) dd_171_117 rfl
theorem dd_171_118 : decode (mi 171).2.1 118 = .ok (.ireturn, 1) := by decide +kernel
theorem st_171_118 : Sd 171 118 1 (i_rI 0) := sd_ireturn dd_171_118 (by decide) mr_171
def bk_171_112 : Tr := sq (i_ldR 0) (sq (i_ic 0) (sq (i_pI 2 [2] 0) (sq (i_ldI 3) (i_rI 0))))
theorem sb_171_112 : Sd 171 112 7 bk_171_112 := Sd.sq st_171_112 (Sd.sq st_171_113 (Sd.sq st_171_114 (Sd.sq st_171_117 (st_171_118))))
