theorem dd_172_0 : decode (mi 172).2.1 0 = .ok (.aload_n 0, 1) := by decide +kernel
theorem st_172_0 : Sd 172 0 1 (i_ldR 0) := sd_aload_n (j := 0) dd_172_0 rfl
theorem dd_172_1 : decode (mi 172).2.1 1 = .ok (.iload_n 1, 1) := by decide +kernel
theorem st_172_1 : Sd 172 1 1 (i_ldI 1) := sd_iload_n (j := 1) dd_172_1 rfl
theorem dd_172_2 : decode (mi 172).2.1 2 = .ok (.invokevirtual 128, 3) := by decide +kernel
theorem st_172_2 : Sd 172 2 3 (i_cV [(2, 139)] 2 6 []) := sd_virt ⟨"ContractDeskModel", "end", "(I)I"⟩ dd_172_2 (by rw [mc_172]; exact tw_1426) (fun t j h => by simp only [List.mem_cons, List.not_mem_nil, or_false, Prod.mk.injEq] at h; obtain ⟨rfl, rfl⟩ := h; exact mn_139) (fun t j h => by simp only [List.mem_cons, List.not_mem_nil, or_false, Prod.mk.injEq] at h; obtain ⟨rfl, rfl⟩ := h; exact ⟨by rw [mn_139]; exact tw_38, by rw [mn_139]; exact tw_1428, mt_139, by decide, by decide⟩) (by unfold prm; decide +kernel) ml_172 (HsOk.nil (by decide +kernel))
theorem dd_172_5 : decode (mi 172).2.1 5 = .ok (.iload_n 1, 1) := by decide +kernel
theorem st_172_5 : Sd 172 5 1 (i_ldI 1) := sd_iload_n (j := 1) dd_172_5 rfl
theorem dd_172_6 : decode (mi 172).2.1 6 = .ok (.isub, 1) := by decide +kernel
theorem st_172_6 : Sd 172 6 1 (i_isub) := sd_isub dd_172_6
theorem dd_172_7 : decode (mi 172).2.1 7 = .ok (.istore_n 3, 1) := by decide +kernel
theorem st_172_7 : Sd 172 7 1 (i_stI 3) := sd_istore_n (j := 3) dd_172_7 rfl
theorem dd_172_8 : decode (mi 172).2.1 8 = .ok (.iload_n 3, 1) := by decide +kernel
theorem st_172_8 : Sd 172 8 1 (i_ldI 3) := sd_iload_n (j := 3) dd_172_8 rfl
theorem dd_172_9 : decode (mi 172).2.1 9 = .ok (.aload_n 0, 1) := by decide +kernel
theorem st_172_9 : Sd 172 9 1 (i_ldR 0) := sd_aload_n (j := 0) dd_172_9 rfl
theorem dd_172_10 : decode (mi 172).2.1 10 = .ok (.iload_n 2, 1) := by decide +kernel
theorem st_172_10 : Sd 172 10 1 (i_ldI 2) := sd_iload_n (j := 2) dd_172_10 rfl
theorem dd_172_11 : decode (mi 172).2.1 11 = .ok (.invokevirtual 128, 3) := by decide +kernel
theorem st_172_11 : Sd 172 11 3 (i_cV [(2, 139)] 2 6 []) := sd_virt ⟨"ContractDeskModel", "end", "(I)I"⟩ dd_172_11 (by rw [mc_172]; exact tw_1426) (fun t j h => by simp only [List.mem_cons, List.not_mem_nil, or_false, Prod.mk.injEq] at h; obtain ⟨rfl, rfl⟩ := h; exact mn_139) (fun t j h => by simp only [List.mem_cons, List.not_mem_nil, or_false, Prod.mk.injEq] at h; obtain ⟨rfl, rfl⟩ := h; exact ⟨by rw [mn_139]; exact tw_38, by rw [mn_139]; exact tw_1428, mt_139, by decide, by decide⟩) (by unfold prm; decide +kernel) ml_172 (HsOk.nil (by decide +kernel))
theorem dd_172_14 : decode (mi 172).2.1 14 = .ok (.iload_n 2, 1) := by decide +kernel
theorem st_172_14 : Sd 172 14 1 (i_ldI 2) := sd_iload_n (j := 2) dd_172_14 rfl
theorem dd_172_15 : decode (mi 172).2.1 15 = .ok (.isub, 1) := by decide +kernel
theorem st_172_15 : Sd 172 15 1 (i_isub) := sd_isub dd_172_15
theorem dd_172_16 : decode (mi 172).2.1 16 = .ok (.if_icmp .ne 7, 3) := by decide +kernel
theorem st_172_16 : Sd 172 16 3 (i_cne 23) := sd_icmp_ne dd_172_16 (by decide)
theorem dd_172_19 : decode (mi 172).2.1 19 = .ok (.iconst 1, 1) := by decide +kernel
theorem st_172_19 : Sd 172 19 1 (i_ic 1) := sd_iconst dd_172_19
theorem dd_172_20 : decode (mi 172).2.1 20 = .ok (.goto 4, 3) := by decide +kernel
theorem st_172_20 : Sd 172 20 3 (i_goto 24) := sd_goto dd_172_20 (by decide)
def bk_172_0 : Tr := sq (i_ldR 0) (sq (i_ldI 1) (sq (i_cV [(2, 139)] 2 6 []) (sq (i_ldI 1) (sq (i_isub) (sq (i_stI 3) (sq (i_ldI 3) (sq (i_ldR 0) (sq (i_ldI 2) (sq (i_cV [(2, 139)] 2 6 []) (sq (i_ldI 2) (sq (i_isub) (sq (i_cne 23) (sq (i_ic 1) (i_goto 24))))))))))))))
theorem sb_172_0 : Sd 172 0 23 bk_172_0 := Sd.sq st_172_0 (Sd.sq st_172_1 (Sd.sq st_172_2 (Sd.sq st_172_5 (Sd.sq st_172_6 (Sd.sq st_172_7 (Sd.sq st_172_8 (Sd.sq st_172_9 (Sd.sq st_172_10 (Sd.sq st_172_11 (Sd.sq st_172_14 (Sd.sq st_172_15 (Sd.sq st_172_16 (Sd.sq st_172_19 (st_172_20))))))))))))))
theorem dd_172_23 : decode (mi 172).2.1 23 = .ok (.iconst 0, 1) := by decide +kernel
theorem st_172_23 : Sd 172 23 1 (i_ic 0) := sd_iconst dd_172_23
def bk_172_23 : Tr := sq (i_ic 0) (i_fall 24)
theorem sb_172_23 : Sd 172 23 1 bk_172_23 := Sd.sq st_172_23 (sd_fall rfl)
theorem dd_172_24 : decode (mi 172).2.1 24 = .ok (.istore 4, 2) := by decide +kernel
theorem st_172_24 : Sd 172 24 2 (i_stI 4) := sd_istore dd_172_24
theorem dd_172_26 : decode (mi 172).2.1 26 = .ok (.iconst 0, 1) := by decide +kernel
theorem st_172_26 : Sd 172 26 1 (i_ic 0) := sd_iconst dd_172_26
theorem dd_172_27 : decode (mi 172).2.1 27 = .ok (.istore 5, 2) := by decide +kernel
theorem st_172_27 : Sd 172 27 2 (i_stI 5) := sd_istore dd_172_27
def bk_172_24 : Tr := sq (i_stI 4) (sq (i_ic 0) (sq (i_stI 5) (i_fall 29)))
theorem sb_172_24 : Sd 172 24 5 bk_172_24 := Sd.sq st_172_24 (Sd.sq st_172_26 (Sd.sq st_172_27 (sd_fall rfl)))
theorem dd_172_29 : decode (mi 172).2.1 29 = .ok (.iload 5, 2) := by decide +kernel
theorem st_172_29 : Sd 172 29 2 (i_ldI 5) := sd_iload dd_172_29
theorem dd_172_31 : decode (mi 172).2.1 31 = .ok (.iload_n 3, 1) := by decide +kernel
theorem st_172_31 : Sd 172 31 1 (i_ldI 3) := sd_iload_n (j := 3) dd_172_31 rfl
theorem dd_172_32 : decode (mi 172).2.1 32 = .ok (.if_icmp .ge 42, 3) := by decide +kernel
theorem st_172_32 : Sd 172 32 3 (i_cge 74) := sd_icmp_ge dd_172_32 (by decide)
theorem dd_172_35 : decode (mi 172).2.1 35 = .ok (.iload 4, 2) := by decide +kernel
theorem st_172_35 : Sd 172 35 2 (i_ldI 4) := sd_iload dd_172_35
theorem dd_172_37 : decode (mi 172).2.1 37 = .ok (.ifCond .eq 37, 3) := by decide +kernel
theorem st_172_37 : Sd 172 37 3 (i_zeq 74) := sd_if_eq dd_172_37 (by decide)
theorem dd_172_40 : decode (mi 172).2.1 40 = .ok (.aload_n 0, 1) := by decide +kernel
theorem st_172_40 : Sd 172 40 1 (i_ldR 0) := sd_aload_n (j := 0) dd_172_40 rfl
theorem dd_172_41 : decode (mi 172).2.1 41 = .ok (.getfield 7, 3) := by decide +kernel
theorem st_172_41 : Sd 172 41 3 (i_gR 1 [2]) := sd_gR (ref := "ContractDeskModel") (decl := "ContractDeskModel") (name := "all") (desc := "[C") dd_172_41 (by rw [mc_172]; exact tw_1261) (Or.inl rfl) (by decide +kernel)
theorem dd_172_44 : decode (mi 172).2.1 44 = .ok (.iload_n 1, 1) := by decide +kernel
theorem st_172_44 : Sd 172 44 1 (i_ldI 1) := sd_iload_n (j := 1) dd_172_44 rfl
theorem dd_172_45 : decode (mi 172).2.1 45 = .ok (.iload 5, 2) := by decide +kernel
theorem st_172_45 : Sd 172 45 2 (i_ldI 5) := sd_iload dd_172_45
theorem dd_172_47 : decode (mi 172).2.1 47 = .ok (.iadd, 1) := by decide +kernel
theorem st_172_47 : Sd 172 47 1 (i_iadd) := sd_iadd dd_172_47
theorem dd_172_48 : decode (mi 172).2.1 48 = .ok (.caload, 1) := by decide +kernel
theorem st_172_48 : Sd 172 48 1 (i_aI [21]) := sd_caload dd_172_48 (by decide)
theorem dd_172_49 : decode (mi 172).2.1 49 = .ok (.aload_n 0, 1) := by decide +kernel
theorem st_172_49 : Sd 172 49 1 (i_ldR 0) := sd_aload_n (j := 0) dd_172_49 rfl
theorem dd_172_50 : decode (mi 172).2.1 50 = .ok (.getfield 7, 3) := by decide +kernel
theorem st_172_50 : Sd 172 50 3 (i_gR 1 [2]) := sd_gR (ref := "ContractDeskModel") (decl := "ContractDeskModel") (name := "all") (desc := "[C") dd_172_50 (by rw [mc_172]; exact tw_1261) (Or.inl rfl) (by decide +kernel)
theorem dd_172_53 : decode (mi 172).2.1 53 = .ok (.iload_n 2, 1) := by decide +kernel
theorem st_172_53 : Sd 172 53 1 (i_ldI 2) := sd_iload_n (j := 2) dd_172_53 rfl
theorem dd_172_54 : decode (mi 172).2.1 54 = .ok (.iload 5, 2) := by decide +kernel
theorem st_172_54 : Sd 172 54 2 (i_ldI 5) := sd_iload dd_172_54
theorem dd_172_56 : decode (mi 172).2.1 56 = .ok (.iadd, 1) := by decide +kernel
theorem st_172_56 : Sd 172 56 1 (i_iadd) := sd_iadd dd_172_56
theorem dd_172_57 : decode (mi 172).2.1 57 = .ok (.caload, 1) := by decide +kernel
theorem st_172_57 : Sd 172 57 1 (i_aI [21]) := sd_caload dd_172_57 (by decide)
theorem dd_172_58 : decode (mi 172).2.1 58 = .ok (.if_icmp .ne 7, 3) := by decide +kernel
theorem st_172_58 : Sd 172 58 3 (i_cne 65) := sd_icmp_ne dd_172_58 (by decide)
theorem dd_172_61 : decode (mi 172).2.1 61 = .ok (.iconst 1, 1) := by decide +kernel
theorem st_172_61 : Sd 172 61 1 (i_ic 1) := sd_iconst dd_172_61
theorem dd_172_62 : decode (mi 172).2.1 62 = .ok (.goto 4, 3) := by decide +kernel
theorem st_172_62 : Sd 172 62 3 (i_goto 66) := sd_goto dd_172_62 (by decide)
def bk_172_29 : Tr := sq (i_ldI 5) (sq (i_ldI 3) (sq (i_cge 74) (sq (i_ldI 4) (sq (i_zeq 74) (sq (i_ldR 0) (sq (i_gR 1 [2]) (sq (i_ldI 1) (sq (i_ldI 5) (sq (i_iadd) (sq (i_aI [21]) (sq (i_ldR 0) (sq (i_gR 1 [2]) (sq (i_ldI 2) (sq (i_ldI 5) (sq (i_iadd) (sq (i_aI [21]) (sq (i_cne 65) (sq (i_ic 1) (i_goto 66)))))))))))))))))))
theorem sb_172_29 : Sd 172 29 36 bk_172_29 := Sd.sq st_172_29 (Sd.sq st_172_31 (Sd.sq st_172_32 (Sd.sq st_172_35 (Sd.sq st_172_37 (Sd.sq st_172_40 (Sd.sq st_172_41 (Sd.sq st_172_44 (Sd.sq st_172_45 (Sd.sq st_172_47 (Sd.sq st_172_48 (Sd.sq st_172_49 (Sd.sq st_172_50 (Sd.sq st_172_53 (Sd.sq st_172_54 (Sd.sq st_172_56 (Sd.sq st_172_57 (Sd.sq st_172_58 (Sd.sq st_172_61 (st_172_62)))))))))))))))))))
theorem dd_172_65 : decode (mi 172).2.1 65 = .ok (.iconst 0, 1) := by decide +kernel
theorem st_172_65 : Sd 172 65 1 (i_ic 0) := sd_iconst dd_172_65
def bk_172_65 : Tr := sq (i_ic 0) (i_fall 66)
theorem sb_172_65 : Sd 172 65 1 bk_172_65 := Sd.sq st_172_65 (sd_fall rfl)
theorem dd_172_66 : decode (mi 172).2.1 66 = .ok (.istore 4, 2) := by decide +kernel
theorem st_172_66 : Sd 172 66 2 (i_stI 4) := sd_istore dd_172_66
theorem dd_172_68 : decode (mi 172).2.1 68 = .ok (.iinc 5 1, 3) := by decide +kernel
theorem st_172_68 : Sd 172 68 3 (i_inc 5 1) := sd_iinc dd_172_68
theorem dd_172_71 : decode (mi 172).2.1 71 = .ok (.goto (-42), 3) := by decide +kernel
theorem st_172_71 : Sd 172 71 3 (i_goto 29) := sd_goto dd_172_71 (by decide)
def bk_172_66 : Tr := sq (i_stI 4) (sq (i_inc 5 1) (i_goto 29))
theorem sb_172_66 : Sd 172 66 8 bk_172_66 := Sd.sq st_172_66 (Sd.sq st_172_68 (st_172_71))
theorem dd_172_74 : decode (mi 172).2.1 74 = .ok (.iload 4, 2) := by decide +kernel
theorem st_172_74 : Sd 172 74 2 (i_ldI 4) := sd_iload dd_172_74
theorem dd_172_76 : decode (mi 172).2.1 76 = .ok (.ireturn, 1) := by decide +kernel
theorem st_172_76 : Sd 172 76 1 (i_rI 2) := sd_ireturn dd_172_76 (by decide) mr_172
def bk_172_74 : Tr := sq (i_ldI 4) (i_rI 2)
theorem sb_172_74 : Sd 172 74 3 bk_172_74 := Sd.sq st_172_74 (st_172_76)
theorem dd_173_0 : decode (mi 173).2.1 0 = .ok (.aload_n 0, 1) := by decide +kernel
theorem st_173_0 : Sd 173 0 1 (i_ldR 0) := sd_aload_n (j := 0) dd_173_0 rfl
theorem dd_173_1 : decode (mi 173).2.1 1 = .ok (.iconst 0, 1) := by decide +kernel
theorem st_173_1 : Sd 173 1 1 (i_ic 0) := sd_iconst dd_173_1
theorem dd_173_2 : decode (mi 173).2.1 2 = .ok (.putfield 93, 3) := by decide +kernel
theorem st_173_2 : Sd 173 2 3 (i_pI 0 [2] 0) := sd_pI (ref := "ContractDeskModel") (decl := "ContractDeskModel") (name := "thrown") (desc := "I") dd_173_2 (by rw [mc_173]; exact tw_1260) (Or.inl rfl) (by decide +kernel) (by decide +kernel) (by decide)
theorem dd_173_5 : decode (mi 173).2.1 5 = .ok (.aload_n 0, 1) := by decide +kernel
theorem st_173_5 : Sd 173 5 1 (i_ldR 0) := sd_aload_n (j := 0) dd_173_5 rfl
theorem dd_173_6 : decode (mi 173).2.1 6 = .ok (.invokevirtual 186, 3) := by decide +kernel
theorem st_173_6 : Sd 173 6 3 (i_cV [(2, 170)] 1 3 []) := sd_virt ⟨"ContractDeskModel", "readPlace", "()Z"⟩ dd_173_6 (by rw [mc_173]; exact tw_1481) (fun t j h => by simp only [List.mem_cons, List.not_mem_nil, or_false, Prod.mk.injEq] at h; obtain ⟨rfl, rfl⟩ := h; exact mn_170) (fun t j h => by simp only [List.mem_cons, List.not_mem_nil, or_false, Prod.mk.injEq] at h; obtain ⟨rfl, rfl⟩ := h; exact ⟨by rw [mn_170]; exact tw_47, by rw [mn_170]; exact tw_1483, mt_170, by decide, by decide⟩) (by unfold prm; decide +kernel) ml_173 (HsOk.nil (by decide +kernel))
theorem dd_173_9 : decode (mi 173).2.1 9 = .ok (.istore_n 2, 1) := by decide +kernel
theorem st_173_9 : Sd 173 9 1 (i_stI 2) := sd_istore_n (j := 2) dd_173_9 rfl
theorem dd_173_10 : decode (mi 173).2.1 10 = .ok (.aload_n 0, 1) := by decide +kernel
theorem st_173_10 : Sd 173 10 1 (i_ldR 0) := sd_aload_n (j := 0) dd_173_10 rfl
theorem dd_173_11 : decode (mi 173).2.1 11 = .ok (.iconst 0, 1) := by decide +kernel
theorem st_173_11 : Sd 173 11 1 (i_ic 0) := sd_iconst dd_173_11
theorem dd_173_12 : decode (mi 173).2.1 12 = .ok (.putfield 97, 3) := by decide +kernel
theorem st_173_12 : Sd 173 12 3 (i_pI 2 [2] 0) := sd_pI (ref := "ContractDeskModel") (decl := "ContractDeskModel") (name := "typed") (desc := "I") dd_173_12 (by rw [mc_173]; exact tw_1262) (Or.inl rfl) (by decide +kernel) (by decide +kernel) (by decide)
theorem dd_173_15 : decode (mi 173).2.1 15 = .ok (.iload_n 2, 1) := by decide +kernel
theorem st_173_15 : Sd 173 15 1 (i_ldI 2) := sd_iload_n (j := 2) dd_173_15 rfl
theorem dd_173_16 : decode (mi 173).2.1 16 = .ok (.ifCond .eq 19, 3) := by decide +kernel
theorem st_173_16 : Sd 173 16 3 (i_zeq 35) := sd_if_eq dd_173_16 (by decide)
theorem dd_173_19 : decode (mi 173).2.1 19 = .ok (.aload_n 0, 1) := by decide +kernel
theorem st_173_19 : Sd 173 19 1 (i_ldR 0) := sd_aload_n (j := 0) dd_173_19 rfl
theorem dd_173_20 : decode (mi 173).2.1 20 = .ok (.iload_n 1, 1) := by decide +kernel
theorem st_173_20 : Sd 173 20 1 (i_ldI 1) := sd_iload_n (j := 1) dd_173_20 rfl
theorem dd_173_21 : decode (mi 173).2.1 21 = .ok (.invokevirtual 153, 3) := by decide +kernel
theorem st_173_21 : Sd 173 21 3 (i_cV [(2, 147)] 2 3 []) := sd_virt ⟨"ContractDeskModel", "isInteraction", "(I)Z"⟩ dd_173_21 (by rw [mc_173]; exact tw_1410) (fun t j h => by simp only [List.mem_cons, List.not_mem_nil, or_false, Prod.mk.injEq] at h; obtain ⟨rfl, rfl⟩ := h; exact mn_147) (fun t j h => by simp only [List.mem_cons, List.not_mem_nil, or_false, Prod.mk.injEq] at h; obtain ⟨rfl, rfl⟩ := h; exact ⟨by rw [mn_147]; exact tw_34, by rw [mn_147]; exact tw_1412, mt_147, by decide, by decide⟩) (by unfold prm; decide +kernel) ml_173 (HsOk.nil (by decide +kernel))
theorem dd_173_24 : decode (mi 173).2.1 24 = .ok (.ifCond .eq 11, 3) := by decide +kernel
theorem st_173_24 : Sd 173 24 3 (i_zeq 35) := sd_if_eq dd_173_24 (by decide)
theorem dd_173_27 : decode (mi 173).2.1 27 = .ok (.aload_n 0, 1) := by decide +kernel
theorem st_173_27 : Sd 173 27 1 (i_ldR 0) := sd_aload_n (j := 0) dd_173_27 rfl
theorem dd_173_28 : decode (mi 173).2.1 28 = .ok (.iload_n 1, 1) := by decide +kernel
theorem st_173_28 : Sd 173 28 1 (i_ldI 1) := sd_iload_n (j := 1) dd_173_28 rfl
theorem dd_173_29 : decode (mi 173).2.1 29 = .ok (.invokevirtual 189, 3) := by decide +kernel
theorem st_173_29 : Sd 173 29 3 (i_cV [(2, 174)] 2 3 []) := sd_virt ⟨"ContractDeskModel", "selected", "(I)I"⟩ dd_173_29 (by rw [mc_173]; exact tw_1485) (fun t j h => by simp only [List.mem_cons, List.not_mem_nil, or_false, Prod.mk.injEq] at h; obtain ⟨rfl, rfl⟩ := h; exact mn_174) (fun t j h => by simp only [List.mem_cons, List.not_mem_nil, or_false, Prod.mk.injEq] at h; obtain ⟨rfl, rfl⟩ := h; exact ⟨by rw [mn_174]; exact tw_48, by rw [mn_174]; exact tw_1487, mt_174, by decide, by decide⟩) (by unfold prm; decide +kernel) ml_173 (HsOk.nil (by decide +kernel))
theorem dd_173_32 : decode (mi 173).2.1 32 = .ok (.goto 4, 3) := by decide +kernel
theorem st_173_32 : Sd 173 32 3 (i_goto 36) := sd_goto dd_173_32 (by decide)
def bk_173_0 : Tr := sq (i_ldR 0) (sq (i_ic 0) (sq (i_pI 0 [2] 0) (sq (i_ldR 0) (sq (i_cV [(2, 170)] 1 3 []) (sq (i_stI 2) (sq (i_ldR 0) (sq (i_ic 0) (sq (i_pI 2 [2] 0) (sq (i_ldI 2) (sq (i_zeq 35) (sq (i_ldR 0) (sq (i_ldI 1) (sq (i_cV [(2, 147)] 2 3 []) (sq (i_zeq 35) (sq (i_ldR 0) (sq (i_ldI 1) (sq (i_cV [(2, 174)] 2 3 []) (i_goto 36))))))))))))))))))
theorem sb_173_0 : Sd 173 0 35 bk_173_0 := Sd.sq st_173_0 (Sd.sq st_173_1 (Sd.sq st_173_2 (Sd.sq st_173_5 (Sd.sq st_173_6 (Sd.sq st_173_9 (Sd.sq st_173_10 (Sd.sq st_173_11 (Sd.sq st_173_12 (Sd.sq st_173_15 (Sd.sq st_173_16 (Sd.sq st_173_19 (Sd.sq st_173_20 (Sd.sq st_173_21 (Sd.sq st_173_24 (Sd.sq st_173_27 (Sd.sq st_173_28 (Sd.sq st_173_29 (st_173_32))))))))))))))))))
theorem dd_173_35 : decode (mi 173).2.1 35 = .ok (.iconst (-1), 1) := by decide +kernel
theorem st_173_35 : Sd 173 35 1 (i_ic (-1)) := sd_iconst dd_173_35
def bk_173_35 : Tr := sq (i_ic (-1)) (i_fall 36)
theorem sb_173_35 : Sd 173 35 1 bk_173_35 := Sd.sq st_173_35 (sd_fall rfl)
theorem dd_173_36 : decode (mi 173).2.1 36 = .ok (.ireturn, 1) := by decide +kernel
theorem st_173_36 : Sd 173 36 1 (i_rI 0) := sd_ireturn dd_173_36 (by decide) mr_173
def bk_173_36 : Tr := i_rI 0
theorem sb_173_36 : Sd 173 36 1 bk_173_36 := st_173_36
theorem dd_174_0 : decode (mi 174).2.1 0 = .ok (.iconst (-1), 1) := by decide +kernel
theorem st_174_0 : Sd 174 0 1 (i_ic (-1)) := sd_iconst dd_174_0
theorem dd_174_1 : decode (mi 174).2.1 1 = .ok (.istore_n 2, 1) := by decide +kernel
theorem st_174_1 : Sd 174 1 1 (i_stI 2) := sd_istore_n (j := 2) dd_174_1 rfl
theorem dd_174_2 : decode (mi 174).2.1 2 = .ok (.iconst 0, 1) := by decide +kernel
theorem st_174_2 : Sd 174 2 1 (i_ic 0) := sd_iconst dd_174_2
theorem dd_174_3 : decode (mi 174).2.1 3 = .ok (.istore_n 3, 1) := by decide +kernel
theorem st_174_3 : Sd 174 3 1 (i_stI 3) := sd_istore_n (j := 3) dd_174_3 rfl
theorem dd_174_4 : decode (mi 174).2.1 4 = .ok (.iconst 0, 1) := by decide +kernel
theorem st_174_4 : Sd 174 4 1 (i_ic 0) := sd_iconst dd_174_4
theorem dd_174_5 : decode (mi 174).2.1 5 = .ok (.istore 4, 2) := by decide +kernel
theorem st_174_5 : Sd 174 5 2 (i_stI 4) := sd_istore dd_174_5
def bk_174_0 : Tr := sq (i_ic (-1)) (sq (i_stI 2) (sq (i_ic 0) (sq (i_stI 3) (sq (i_ic 0) (sq (i_stI 4) (i_fall 7))))))
theorem sb_174_0 : Sd 174 0 7 bk_174_0 := Sd.sq st_174_0 (Sd.sq st_174_1 (Sd.sq st_174_2 (Sd.sq st_174_3 (Sd.sq st_174_4 (Sd.sq st_174_5 (sd_fall rfl))))))
theorem dd_174_7 : decode (mi 174).2.1 7 = .ok (.iload 4, 2) := by decide +kernel
theorem st_174_7 : Sd 174 7 2 (i_ldI 4) := sd_iload dd_174_7
theorem dd_174_9 : decode (mi 174).2.1 9 = .ok (.aload_n 0, 1) := by decide +kernel
theorem st_174_9 : Sd 174 9 1 (i_ldR 0) := sd_aload_n (j := 0) dd_174_9 rfl
theorem dd_174_10 : decode (mi 174).2.1 10 = .ok (.getfield 21, 3) := by decide +kernel
theorem st_174_10 : Sd 174 10 3 (i_gR 6 [2]) := sd_gR (ref := "ContractDeskModel") (decl := "ContractDeskModel") (name := "rules") (desc := "[I") dd_174_10 (by rw [mc_174]; exact tw_1266) (Or.inl rfl) (by decide +kernel)
theorem dd_174_13 : decode (mi 174).2.1 13 = .ok (.iload_n 1, 1) := by decide +kernel
theorem st_174_13 : Sd 174 13 1 (i_ldI 1) := sd_iload_n (j := 1) dd_174_13 rfl
theorem dd_174_14 : decode (mi 174).2.1 14 = .ok (.iaload, 1) := by decide +kernel
theorem st_174_14 : Sd 174 14 1 (i_aI [20]) := sd_iaload dd_174_14 (by decide)
theorem dd_174_15 : decode (mi 174).2.1 15 = .ok (.if_icmp .ge 34, 3) := by decide +kernel
theorem st_174_15 : Sd 174 15 3 (i_cge 49) := sd_icmp_ge dd_174_15 (by decide)
theorem dd_174_18 : decode (mi 174).2.1 18 = .ok (.aload_n 0, 1) := by decide +kernel
theorem st_174_18 : Sd 174 18 1 (i_ldR 0) := sd_aload_n (j := 0) dd_174_18 rfl
theorem dd_174_19 : decode (mi 174).2.1 19 = .ok (.bipush 8, 2) := by decide +kernel
theorem st_174_19 : Sd 174 19 2 (i_ic 8) := sd_bipush dd_174_19 (by decide)
theorem dd_174_21 : decode (mi 174).2.1 21 = .ok (.iload_n 1, 1) := by decide +kernel
theorem st_174_21 : Sd 174 21 1 (i_ldI 1) := sd_iload_n (j := 1) dd_174_21 rfl
theorem dd_174_22 : decode (mi 174).2.1 22 = .ok (.imul, 1) := by decide +kernel
theorem st_174_22 : Sd 174 22 1 (i_imul) := sd_imul dd_174_22
theorem dd_174_23 : decode (mi 174).2.1 23 = .ok (.iload 4, 2) := by decide +kernel
theorem st_174_23 : Sd 174 23 2 (i_ldI 4) := sd_iload dd_174_23
theorem dd_174_25 : decode (mi 174).2.1 25 = .ok (.iadd, 1) := by decide +kernel
theorem st_174_25 : Sd 174 25 1 (i_iadd) := sd_iadd dd_174_25
theorem dd_174_26 : decode (mi 174).2.1 26 = .ok (.invokevirtual 183, 3) := by decide +kernel
theorem st_174_26 : Sd 174 26 3 (i_cV [(2, 142)] 2 6 []) := sd_virt ⟨"ContractDeskModel", "fits", "(I)I"⟩ dd_174_26 (by rw [mc_174]; exact tw_1489) (fun t j h => by simp only [List.mem_cons, List.not_mem_nil, or_false, Prod.mk.injEq] at h; obtain ⟨rfl, rfl⟩ := h; exact mn_142) (fun t j h => by simp only [List.mem_cons, List.not_mem_nil, or_false, Prod.mk.injEq] at h; obtain ⟨rfl, rfl⟩ := h; exact ⟨by rw [mn_142]; exact tw_49, by rw [mn_142]; exact tw_1491, mt_142, by decide, by decide⟩) (by unfold prm; decide +kernel) ml_174 (HsOk.nil (by decide +kernel))
theorem dd_174_29 : decode (mi 174).2.1 29 = .ok (.istore 5, 2) := by decide +kernel
theorem st_174_29 : Sd 174 29 2 (i_stI 5) := sd_istore dd_174_29
theorem dd_174_31 : decode (mi 174).2.1 31 = .ok (.iload 5, 2) := by decide +kernel
theorem st_174_31 : Sd 174 31 2 (i_ldI 5) := sd_iload dd_174_31
theorem dd_174_33 : decode (mi 174).2.1 33 = .ok (.iload_n 3, 1) := by decide +kernel
theorem st_174_33 : Sd 174 33 1 (i_ldI 3) := sd_iload_n (j := 3) dd_174_33 rfl
theorem dd_174_34 : decode (mi 174).2.1 34 = .ok (.if_icmp .le 9, 3) := by decide +kernel
theorem st_174_34 : Sd 174 34 3 (i_cle 43) := sd_icmp_le dd_174_34 (by decide)
theorem dd_174_37 : decode (mi 174).2.1 37 = .ok (.iload 5, 2) := by decide +kernel
theorem st_174_37 : Sd 174 37 2 (i_ldI 5) := sd_iload dd_174_37
theorem dd_174_39 : decode (mi 174).2.1 39 = .ok (.istore_n 3, 1) := by decide +kernel
theorem st_174_39 : Sd 174 39 1 (i_stI 3) := sd_istore_n (j := 3) dd_174_39 rfl
theorem dd_174_40 : decode (mi 174).2.1 40 = .ok (.iload 4, 2) := by decide +kernel
theorem st_174_40 : Sd 174 40 2 (i_ldI 4) := sd_iload dd_174_40
theorem dd_174_42 : decode (mi 174).2.1 42 = .ok (.istore_n 2, 1) := by decide +kernel
theorem st_174_42 : Sd 174 42 1 (i_stI 2) := sd_istore_n (j := 2) dd_174_42 rfl
def bk_174_7 : Tr := sq (i_ldI 4) (sq (i_ldR 0) (sq (i_gR 6 [2]) (sq (i_ldI 1) (sq (i_aI [20]) (sq (i_cge 49) (sq (i_ldR 0) (sq (i_ic 8) (sq (i_ldI 1) (sq (i_imul) (sq (i_ldI 4) (sq (i_iadd) (sq (i_cV [(2, 142)] 2 6 []) (sq (i_stI 5) (sq (i_ldI 5) (sq (i_ldI 3) (sq (i_cle 43) (sq (i_ldI 5) (sq (i_stI 3) (sq (i_ldI 4) (sq (i_stI 2) (i_fall 43)))))))))))))))))))))
theorem sb_174_7 : Sd 174 7 36 bk_174_7 := Sd.sq st_174_7 (Sd.sq st_174_9 (Sd.sq st_174_10 (Sd.sq st_174_13 (Sd.sq st_174_14 (Sd.sq st_174_15 (Sd.sq st_174_18 (Sd.sq st_174_19 (Sd.sq st_174_21 (Sd.sq st_174_22 (Sd.sq st_174_23 (Sd.sq st_174_25 (Sd.sq st_174_26 (Sd.sq st_174_29 (Sd.sq st_174_31 (Sd.sq st_174_33 (Sd.sq st_174_34 (Sd.sq st_174_37 (Sd.sq st_174_39 (Sd.sq st_174_40 (Sd.sq st_174_42 (sd_fall rfl)))))))))))))))))))))
theorem dd_174_43 : decode (mi 174).2.1 43 = .ok (.iinc 4 1, 3) := by decide +kernel
theorem st_174_43 : Sd 174 43 3 (i_inc 4 1) := sd_iinc dd_174_43
theorem dd_174_46 : decode (mi 174).2.1 46 = .ok (.goto (-39), 3) := by decide +kernel
theorem st_174_46 : Sd 174 46 3 (i_goto 7) := sd_goto dd_174_46 (by decide)
def bk_174_43 : Tr := sq (i_inc 4 1) (i_goto 7)
theorem sb_174_43 : Sd 174 43 6 bk_174_43 := Sd.sq st_174_43 (st_174_46)
theorem dd_174_49 : decode (mi 174).2.1 49 = .ok (.iload_n 2, 1) := by decide +kernel
theorem st_174_49 : Sd 174 49 1 (i_ldI 2) := sd_iload_n (j := 2) dd_174_49 rfl
theorem dd_174_50 : decode (mi 174).2.1 50 = .ok (.ireturn, 1) := by decide +kernel
theorem st_174_50 : Sd 174 50 1 (i_rI 0) := sd_ireturn dd_174_50 (by decide) mr_174
def bk_174_49 : Tr := sq (i_ldI 2) (i_rI 0)
theorem sb_174_49 : Sd 174 49 2 bk_174_49 := Sd.sq st_174_49 (st_174_50)
theorem dd_175_0 : decode (mi 175).2.1 0 = .ok (.iconst 0, 1) := by decide +kernel
theorem st_175_0 : Sd 175 0 1 (i_ic 0) := sd_iconst dd_175_0
theorem dd_175_1 : decode (mi 175).2.1 1 = .ok (.istore_n 2, 1) := by decide +kernel
theorem st_175_1 : Sd 175 1 1 (i_stI 2) := sd_istore_n (j := 2) dd_175_1 rfl
def bk_175_0 : Tr := sq (i_ic 0) (sq (i_stI 2) (i_fall 2))
theorem sb_175_0 : Sd 175 0 2 bk_175_0 := Sd.sq st_175_0 (Sd.sq st_175_1 (sd_fall rfl))
theorem dd_175_2 : decode (mi 175).2.1 2 = .ok (.iload_n 2, 1) := by decide +kernel
theorem st_175_2 : Sd 175 2 1 (i_ldI 2) := sd_iload_n (j := 2) dd_175_2 rfl
theorem dd_175_3 : decode (mi 175).2.1 3 = .ok (.iload_n 1, 1) := by decide +kernel
theorem st_175_3 : Sd 175 3 1 (i_ldI 1) := sd_iload_n (j := 1) dd_175_3 rfl
theorem dd_175_4 : decode (mi 175).2.1 4 = .ok (.if_icmp .ge 53, 3) := by decide +kernel
theorem st_175_4 : Sd 175 4 3 (i_cge 57) := sd_icmp_ge dd_175_4 (by decide)
theorem dd_175_7 : decode (mi 175).2.1 7 = .ok (.aload_n 0, 1) := by decide +kernel
theorem st_175_7 : Sd 175 7 1 (i_ldR 0) := sd_aload_n (j := 0) dd_175_7 rfl
theorem dd_175_8 : decode (mi 175).2.1 8 = .ok (.getfield 75, 3) := by decide +kernel
theorem st_175_8 : Sd 175 8 3 (i_gR 29 [2]) := sd_gR (ref := "ContractDeskModel") (decl := "ContractDeskModel") (name := "here") (desc := "[Z") dd_175_8 (by rw [mc_175]; exact tw_1289) (Or.inl rfl) (by decide +kernel)
theorem dd_175_11 : decode (mi 175).2.1 11 = .ok (.iload_n 2, 1) := by decide +kernel
theorem st_175_11 : Sd 175 11 1 (i_ldI 2) := sd_iload_n (j := 2) dd_175_11 rfl
theorem dd_175_12 : decode (mi 175).2.1 12 = .ok (.iconst 1, 1) := by decide +kernel
theorem st_175_12 : Sd 175 12 1 (i_ic 1) := sd_iconst dd_175_12
theorem dd_175_13 : decode (mi 175).2.1 13 = .ok (.iadd, 1) := by decide +kernel
theorem st_175_13 : Sd 175 13 1 (i_iadd) := sd_iadd dd_175_13
theorem dd_175_14 : decode (mi 175).2.1 14 = .ok (.aload_n 0, 1) := by decide +kernel
theorem st_175_14 : Sd 175 14 1 (i_ldR 0) := sd_aload_n (j := 0) dd_175_14 rfl
theorem dd_175_15 : decode (mi 175).2.1 15 = .ok (.getfield 75, 3) := by decide +kernel
theorem st_175_15 : Sd 175 15 3 (i_gR 29 [2]) := sd_gR (ref := "ContractDeskModel") (decl := "ContractDeskModel") (name := "here") (desc := "[Z") dd_175_15 (by rw [mc_175]; exact tw_1289) (Or.inl rfl) (by decide +kernel)
theorem dd_175_18 : decode (mi 175).2.1 18 = .ok (.iload_n 2, 1) := by decide +kernel
theorem st_175_18 : Sd 175 18 1 (i_ldI 2) := sd_iload_n (j := 2) dd_175_18 rfl
theorem dd_175_19 : decode (mi 175).2.1 19 = .ok (.iconst 1, 1) := by decide +kernel
theorem st_175_19 : Sd 175 19 1 (i_ic 1) := sd_iconst dd_175_19
theorem dd_175_20 : decode (mi 175).2.1 20 = .ok (.iadd, 1) := by decide +kernel
theorem st_175_20 : Sd 175 20 1 (i_iadd) := sd_iadd dd_175_20
theorem dd_175_21 : decode (mi 175).2.1 21 = .ok (.baload, 1) := by decide +kernel
theorem st_175_21 : Sd 175 21 1 (i_aI [22]) := sd_baloadZ dd_175_21 (by decide)
theorem dd_175_22 : decode (mi 175).2.1 22 = .ok (.ifCond .ne 23, 3) := by decide +kernel
theorem st_175_22 : Sd 175 22 3 (i_zne 45) := sd_if_ne dd_175_22 (by decide)
theorem dd_175_25 : decode (mi 175).2.1 25 = .ok (.aload_n 0, 1) := by decide +kernel
theorem st_175_25 : Sd 175 25 1 (i_ldR 0) := sd_aload_n (j := 0) dd_175_25 rfl
theorem dd_175_26 : decode (mi 175).2.1 26 = .ok (.getfield 75, 3) := by decide +kernel
theorem st_175_26 : Sd 175 26 3 (i_gR 29 [2]) := sd_gR (ref := "ContractDeskModel") (decl := "ContractDeskModel") (name := "here") (desc := "[Z") dd_175_26 (by rw [mc_175]; exact tw_1289) (Or.inl rfl) (by decide +kernel)
theorem dd_175_29 : decode (mi 175).2.1 29 = .ok (.iload_n 2, 1) := by decide +kernel
theorem st_175_29 : Sd 175 29 1 (i_ldI 2) := sd_iload_n (j := 2) dd_175_29 rfl
theorem dd_175_30 : decode (mi 175).2.1 30 = .ok (.baload, 1) := by decide +kernel
theorem st_175_30 : Sd 175 30 1 (i_aI [22]) := sd_baloadZ dd_175_30 (by decide)
theorem dd_175_31 : decode (mi 175).2.1 31 = .ok (.ifCond .eq 18, 3) := by decide +kernel
theorem st_175_31 : Sd 175 31 3 (i_zeq 49) := sd_if_eq dd_175_31 (by decide)
theorem dd_175_34 : decode (mi 175).2.1 34 = .ok (.aload_n 0, 1) := by decide +kernel
theorem st_175_34 : Sd 175 34 1 (i_ldR 0) := sd_aload_n (j := 0) dd_175_34 rfl
theorem dd_175_35 : decode (mi 175).2.1 35 = .ok (.getfield 84, 3) := by decide +kernel
theorem st_175_35 : Sd 175 35 3 (i_gR 32 [2]) := sd_gR (ref := "ContractDeskModel") (decl := "ContractDeskModel") (name := "often") (desc := "[C") dd_175_35 (by rw [mc_175]; exact tw_1292) (Or.inl rfl) (by decide +kernel)
theorem dd_175_38 : decode (mi 175).2.1 38 = .ok (.iload_n 2, 1) := by decide +kernel
theorem st_175_38 : Sd 175 38 1 (i_ldI 2) := sd_iload_n (j := 2) dd_175_38 rfl
theorem dd_175_39 : decode (mi 175).2.1 39 = .ok (.caload, 1) := by decide +kernel
theorem st_175_39 : Sd 175 39 1 (i_aI [21]) := sd_caload dd_175_39 (by decide)
theorem dd_175_40 : decode (mi 175).2.1 40 = .ok (.bipush 42, 2) := by decide +kernel
theorem st_175_40 : Sd 175 40 2 (i_ic 42) := sd_bipush dd_175_40 (by decide)
theorem dd_175_42 : decode (mi 175).2.1 42 = .ok (.if_icmp .ne 7, 3) := by decide +kernel
theorem st_175_42 : Sd 175 42 3 (i_cne 49) := sd_icmp_ne dd_175_42 (by decide)
def bk_175_2 : Tr := sq (i_ldI 2) (sq (i_ldI 1) (sq (i_cge 57) (sq (i_ldR 0) (sq (i_gR 29 [2]) (sq (i_ldI 2) (sq (i_ic 1) (sq (i_iadd) (sq (i_ldR 0) (sq (i_gR 29 [2]) (sq (i_ldI 2) (sq (i_ic 1) (sq (i_iadd) (sq (i_aI [22]) (sq (i_zne 45) (sq (i_ldR 0) (sq (i_gR 29 [2]) (sq (i_ldI 2) (sq (i_aI [22]) (sq (i_zeq 49) (sq (i_ldR 0) (sq (i_gR 32 [2]) (sq (i_ldI 2) (sq (i_aI [21]) (sq (i_ic 42) (sq (i_cne 49) (i_fall 45))))))))))))))))))))))))))
theorem sb_175_2 : Sd 175 2 43 bk_175_2 := Sd.sq st_175_2 (Sd.sq st_175_3 (Sd.sq st_175_4 (Sd.sq st_175_7 (Sd.sq st_175_8 (Sd.sq st_175_11 (Sd.sq st_175_12 (Sd.sq st_175_13 (Sd.sq st_175_14 (Sd.sq st_175_15 (Sd.sq st_175_18 (Sd.sq st_175_19 (Sd.sq st_175_20 (Sd.sq st_175_21 (Sd.sq st_175_22 (Sd.sq st_175_25 (Sd.sq st_175_26 (Sd.sq st_175_29 (Sd.sq st_175_30 (Sd.sq st_175_31 (Sd.sq st_175_34 (Sd.sq st_175_35 (Sd.sq st_175_38 (Sd.sq st_175_39 (Sd.sq st_175_40 (Sd.sq st_175_42 (sd_fall rfl))))))))))))))))))))))))))
theorem dd_175_45 : decode (mi 175).2.1 45 = .ok (.iconst 1, 1) := by decide +kernel
theorem st_175_45 : Sd 175 45 1 (i_ic 1) := sd_iconst dd_175_45
theorem dd_175_46 : decode (mi 175).2.1 46 = .ok (.goto 4, 3) := by decide +kernel
theorem st_175_46 : Sd 175 46 3 (i_goto 50) := sd_goto dd_175_46 (by decide)
def bk_175_45 : Tr := sq (i_ic 1) (i_goto 50)
theorem sb_175_45 : Sd 175 45 4 bk_175_45 := Sd.sq st_175_45 (st_175_46)
theorem dd_175_49 : decode (mi 175).2.1 49 = .ok (.iconst 0, 1) := by decide +kernel
theorem st_175_49 : Sd 175 49 1 (i_ic 0) := sd_iconst dd_175_49
def bk_175_49 : Tr := sq (i_ic 0) (i_fall 50)
theorem sb_175_49 : Sd 175 49 1 bk_175_49 := Sd.sq st_175_49 (sd_fall rfl)
theorem dd_175_50 : decode (mi 175).2.1 50 = .ok (.bastore, 1) := by decide +kernel
theorem st_175_50 : Sd 175 50 1 (i_sI [22] 2) := sd_bastoreZ dd_175_50 (by decide)
theorem dd_175_51 : decode (mi 175).2.1 51 = .ok (.iinc 2 1, 3) := by decide +kernel
theorem st_175_51 : Sd 175 51 3 (i_inc 2 1) := sd_iinc dd_175_51
theorem dd_175_54 : decode (mi 175).2.1 54 = .ok (.goto (-52), 3) := by decide +kernel
theorem st_175_54 : Sd 175 54 3 (i_goto 2) := sd_goto dd_175_54 (by decide)
def bk_175_50 : Tr := sq (i_sI [22] 2) (sq (i_inc 2 1) (i_goto 2))
theorem sb_175_50 : Sd 175 50 7 bk_175_50 := Sd.sq st_175_50 (Sd.sq st_175_51 (st_175_54))
theorem dd_175_57 : decode (mi 175).2.1 57 = .ok (.return_, 1) := by decide +kernel
theorem st_175_57 : Sd 175 57 1 (i_ret) := sd_ret dd_175_57 mr_175
def bk_175_57 : Tr := i_ret
theorem sb_175_57 : Sd 175 57 1 bk_175_57 := st_175_57
theorem dd_176_0 : decode (mi 176).2.1 0 = .ok (.aload_n 0, 1) := by decide +kernel
theorem st_176_0 : Sd 176 0 1 (i_ldR 0) := sd_aload_n (j := 0) dd_176_0 rfl
theorem dd_176_1 : decode (mi 176).2.1 1 = .ok (.iload_n 1, 1) := by decide +kernel
theorem st_176_1 : Sd 176 1 1 (i_ldI 1) := sd_iload_n (j := 1) dd_176_1 rfl
theorem dd_176_2 : decode (mi 176).2.1 2 = .ok (.invokevirtual 103, 3) := by decide +kernel
theorem st_176_2 : Sd 176 2 3 (i_cV [(2, 129)] 2 2 []) := sd_virt ⟨"ContractDeskModel", "at", "(I)C"⟩ dd_176_2 (by rw [mc_176]; exact tw_1388) (fun t j h => by simp only [List.mem_cons, List.not_mem_nil, or_false, Prod.mk.injEq] at h; obtain ⟨rfl, rfl⟩ := h; exact mn_129) (fun t j h => by simp only [List.mem_cons, List.not_mem_nil, or_false, Prod.mk.injEq] at h; obtain ⟨rfl, rfl⟩ := h; exact ⟨by rw [mn_129]; exact tw_30, by rw [mn_129]; exact tw_1390, mt_129, by decide, by decide⟩) (by unfold prm; decide +kernel) ml_176 (HsOk.nil (by decide +kernel))
theorem dd_176_5 : decode (mi 176).2.1 5 = .ok (.bipush 46, 2) := by decide +kernel
theorem st_176_5 : Sd 176 5 2 (i_ic 46) := sd_bipush dd_176_5 (by decide)
theorem dd_176_7 : decode (mi 176).2.1 7 = .ok (.if_icmp .ne 36, 3) := by decide +kernel
theorem st_176_7 : Sd 176 7 3 (i_cne 43) := sd_icmp_ne dd_176_7 (by decide)
theorem dd_176_10 : decode (mi 176).2.1 10 = .ok (.aload_n 0, 1) := by decide +kernel
theorem st_176_10 : Sd 176 10 1 (i_ldR 0) := sd_aload_n (j := 0) dd_176_10 rfl
theorem dd_176_11 : decode (mi 176).2.1 11 = .ok (.iload_n 1, 1) := by decide +kernel
theorem st_176_11 : Sd 176 11 1 (i_ldI 1) := sd_iload_n (j := 1) dd_176_11 rfl
theorem dd_176_12 : decode (mi 176).2.1 12 = .ok (.iconst 1, 1) := by decide +kernel
theorem st_176_12 : Sd 176 12 1 (i_ic 1) := sd_iconst dd_176_12
theorem dd_176_13 : decode (mi 176).2.1 13 = .ok (.iadd, 1) := by decide +kernel
theorem st_176_13 : Sd 176 13 1 (i_iadd) := sd_iadd dd_176_13
theorem dd_176_14 : decode (mi 176).2.1 14 = .ok (.invokevirtual 103, 3) := by decide +kernel
theorem st_176_14 : Sd 176 14 3 (i_cV [(2, 129)] 2 2 []) := sd_virt ⟨"ContractDeskModel", "at", "(I)C"⟩ dd_176_14 (by rw [mc_176]; exact tw_1388) (fun t j h => by simp only [List.mem_cons, List.not_mem_nil, or_false, Prod.mk.injEq] at h; obtain ⟨rfl, rfl⟩ := h; exact mn_129) (fun t j h => by simp only [List.mem_cons, List.not_mem_nil, or_false, Prod.mk.injEq] at h; obtain ⟨rfl, rfl⟩ := h; exact ⟨by rw [mn_129]; exact tw_30, by rw [mn_129]; exact tw_1390, mt_129, by decide, by decide⟩) (by unfold prm; decide +kernel) ml_176 (HsOk.nil (by decide +kernel))
theorem dd_176_17 : decode (mi 176).2.1 17 = .ok (.invokestatic 111, 3) := by decide +kernel
theorem st_176_17 : Sd 176 17 3 (i_cS 148 1 2 []) := sd_static dd_176_17 (by rw [mc_176, mn_148]; exact tw_1392) (by rw [mn_148]; exact tw_1393) mt_148 pm_148 ml_176 (HsOk.nil (by decide +kernel))
theorem dd_176_20 : decode (mi 176).2.1 20 = .ok (.ifCond .ne 15, 3) := by decide +kernel
theorem st_176_20 : Sd 176 20 3 (i_zne 35) := sd_if_ne dd_176_20 (by decide)
theorem dd_176_23 : decode (mi 176).2.1 23 = .ok (.aload_n 0, 1) := by decide +kernel
theorem st_176_23 : Sd 176 23 1 (i_ldR 0) := sd_aload_n (j := 0) dd_176_23 rfl
theorem dd_176_24 : decode (mi 176).2.1 24 = .ok (.iload_n 1, 1) := by decide +kernel
theorem st_176_24 : Sd 176 24 1 (i_ldI 1) := sd_iload_n (j := 1) dd_176_24 rfl
theorem dd_176_25 : decode (mi 176).2.1 25 = .ok (.iconst 1, 1) := by decide +kernel
theorem st_176_25 : Sd 176 25 1 (i_ic 1) := sd_iconst dd_176_25
theorem dd_176_26 : decode (mi 176).2.1 26 = .ok (.iadd, 1) := by decide +kernel
theorem st_176_26 : Sd 176 26 1 (i_iadd) := sd_iadd dd_176_26
theorem dd_176_27 : decode (mi 176).2.1 27 = .ok (.invokevirtual 103, 3) := by decide +kernel
theorem st_176_27 : Sd 176 27 3 (i_cV [(2, 129)] 2 2 []) := sd_virt ⟨"ContractDeskModel", "at", "(I)C"⟩ dd_176_27 (by rw [mc_176]; exact tw_1388) (fun t j h => by simp only [List.mem_cons, List.not_mem_nil, or_false, Prod.mk.injEq] at h; obtain ⟨rfl, rfl⟩ := h; exact mn_129) (fun t j h => by simp only [List.mem_cons, List.not_mem_nil, or_false, Prod.mk.injEq] at h; obtain ⟨rfl, rfl⟩ := h; exact ⟨by rw [mn_129]; exact tw_30, by rw [mn_129]; exact tw_1390, mt_129, by decide, by decide⟩) (by unfold prm; decide +kernel) ml_176 (HsOk.nil (by decide +kernel))
theorem dd_176_30 : decode (mi 176).2.1 30 = .ok (.bipush 42, 2) := by decide +kernel
theorem st_176_30 : Sd 176 30 2 (i_ic 42) := sd_bipush dd_176_30 (by decide)
theorem dd_176_32 : decode (mi 176).2.1 32 = .ok (.if_icmp .ne 9, 3) := by decide +kernel
theorem st_176_32 : Sd 176 32 3 (i_cne 41) := sd_icmp_ne dd_176_32 (by decide)
def bk_176_0 : Tr := sq (i_ldR 0) (sq (i_ldI 1) (sq (i_cV [(2, 129)] 2 2 []) (sq (i_ic 46) (sq (i_cne 43) (sq (i_ldR 0) (sq (i_ldI 1) (sq (i_ic 1) (sq (i_iadd) (sq (i_cV [(2, 129)] 2 2 []) (sq (i_cS 148 1 2 []) (sq (i_zne 35) (sq (i_ldR 0) (sq (i_ldI 1) (sq (i_ic 1) (sq (i_iadd) (sq (i_cV [(2, 129)] 2 2 []) (sq (i_ic 42) (sq (i_cne 41) (i_fall 35)))))))))))))))))))
theorem sb_176_0 : Sd 176 0 35 bk_176_0 := Sd.sq st_176_0 (Sd.sq st_176_1 (Sd.sq st_176_2 (Sd.sq st_176_5 (Sd.sq st_176_7 (Sd.sq st_176_10 (Sd.sq st_176_11 (Sd.sq st_176_12 (Sd.sq st_176_13 (Sd.sq st_176_14 (Sd.sq st_176_17 (Sd.sq st_176_20 (Sd.sq st_176_23 (Sd.sq st_176_24 (Sd.sq st_176_25 (Sd.sq st_176_26 (Sd.sq st_176_27 (Sd.sq st_176_30 (Sd.sq st_176_32 (sd_fall rfl)))))))))))))))))))
theorem dd_176_35 : decode (mi 176).2.1 35 = .ok (.iload_n 1, 1) := by decide +kernel
theorem st_176_35 : Sd 176 35 1 (i_ldI 1) := sd_iload_n (j := 1) dd_176_35 rfl
theorem dd_176_36 : decode (mi 176).2.1 36 = .ok (.iconst 2, 1) := by decide +kernel
theorem st_176_36 : Sd 176 36 1 (i_ic 2) := sd_iconst dd_176_36
theorem dd_176_37 : decode (mi 176).2.1 37 = .ok (.iadd, 1) := by decide +kernel
theorem st_176_37 : Sd 176 37 1 (i_iadd) := sd_iadd dd_176_37
theorem dd_176_38 : decode (mi 176).2.1 38 = .ok (.goto 4, 3) := by decide +kernel
theorem st_176_38 : Sd 176 38 3 (i_goto 42) := sd_goto dd_176_38 (by decide)
def bk_176_35 : Tr := sq (i_ldI 1) (sq (i_ic 2) (sq (i_iadd) (i_goto 42)))
theorem sb_176_35 : Sd 176 35 6 bk_176_35 := Sd.sq st_176_35 (Sd.sq st_176_36 (Sd.sq st_176_37 (st_176_38)))
theorem dd_176_41 : decode (mi 176).2.1 41 = .ok (.iconst (-1), 1) := by decide +kernel
theorem st_176_41 : Sd 176 41 1 (i_ic (-1)) := sd_iconst dd_176_41
def bk_176_41 : Tr := sq (i_ic (-1)) (i_fall 42)
theorem sb_176_41 : Sd 176 41 1 bk_176_41 := Sd.sq st_176_41 (sd_fall rfl)
theorem dd_176_42 : decode (mi 176).2.1 42 = .ok (.ireturn, 1) := by decide +kernel
theorem st_176_42 : Sd 176 42 1 (i_rI 0) := sd_ireturn dd_176_42 (by decide) mr_176
def bk_176_42 : Tr := i_rI 0
theorem sb_176_42 : Sd 176 42 1 bk_176_42 := st_176_42
theorem dd_176_43 : decode (mi 176).2.1 43 = .ok (.aload_n 0, 1) := by decide +kernel
theorem st_176_43 : Sd 176 43 1 (i_ldR 0) := sd_aload_n (j := 0) dd_176_43 rfl
theorem dd_176_44 : decode (mi 176).2.1 44 = .ok (.iload_n 1, 1) := by decide +kernel
theorem st_176_44 : Sd 176 44 1 (i_ldI 1) := sd_iload_n (j := 1) dd_176_44 rfl
theorem dd_176_45 : decode (mi 176).2.1 45 = .ok (.invokevirtual 103, 3) := by decide +kernel
theorem st_176_45 : Sd 176 45 3 (i_cV [(2, 129)] 2 2 []) := sd_virt ⟨"ContractDeskModel", "at", "(I)C"⟩ dd_176_45 (by rw [mc_176]; exact tw_1388) (fun t j h => by simp only [List.mem_cons, List.not_mem_nil, or_false, Prod.mk.injEq] at h; obtain ⟨rfl, rfl⟩ := h; exact mn_129) (fun t j h => by simp only [List.mem_cons, List.not_mem_nil, or_false, Prod.mk.injEq] at h; obtain ⟨rfl, rfl⟩ := h; exact ⟨by rw [mn_129]; exact tw_30, by rw [mn_129]; exact tw_1390, mt_129, by decide, by decide⟩) (by unfold prm; decide +kernel) ml_176 (HsOk.nil (by decide +kernel))
theorem dd_176_48 : decode (mi 176).2.1 48 = .ok (.bipush 91, 2) := by decide +kernel
theorem st_176_48 : Sd 176 48 2 (i_ic 91) := sd_bipush dd_176_48 (by decide)
theorem dd_176_50 : decode (mi 176).2.1 50 = .ok (.if_icmp .ne 46, 3) := by decide +kernel
theorem st_176_50 : Sd 176 50 3 (i_cne 96) := sd_icmp_ne dd_176_50 (by decide)
theorem dd_176_53 : decode (mi 176).2.1 53 = .ok (.aload_n 0, 1) := by decide +kernel
theorem st_176_53 : Sd 176 53 1 (i_ldR 0) := sd_aload_n (j := 0) dd_176_53 rfl
theorem dd_176_54 : decode (mi 176).2.1 54 = .ok (.iload_n 1, 1) := by decide +kernel
theorem st_176_54 : Sd 176 54 1 (i_ldI 1) := sd_iload_n (j := 1) dd_176_54 rfl
theorem dd_176_55 : decode (mi 176).2.1 55 = .ok (.iconst 1, 1) := by decide +kernel
theorem st_176_55 : Sd 176 55 1 (i_ic 1) := sd_iconst dd_176_55
theorem dd_176_56 : decode (mi 176).2.1 56 = .ok (.iadd, 1) := by decide +kernel
theorem st_176_56 : Sd 176 56 1 (i_iadd) := sd_iadd dd_176_56
theorem dd_176_57 : decode (mi 176).2.1 57 = .ok (.invokevirtual 103, 3) := by decide +kernel
theorem st_176_57 : Sd 176 57 3 (i_cV [(2, 129)] 2 2 []) := sd_virt ⟨"ContractDeskModel", "at", "(I)C"⟩ dd_176_57 (by rw [mc_176]; exact tw_1388) (fun t j h => by simp only [List.mem_cons, List.not_mem_nil, or_false, Prod.mk.injEq] at h; obtain ⟨rfl, rfl⟩ := h; exact mn_129) (fun t j h => by simp only [List.mem_cons, List.not_mem_nil, or_false, Prod.mk.injEq] at h; obtain ⟨rfl, rfl⟩ := h; exact ⟨by rw [mn_129]; exact tw_30, by rw [mn_129]; exact tw_1390, mt_129, by decide, by decide⟩) (by unfold prm; decide +kernel) ml_176 (HsOk.nil (by decide +kernel))
theorem dd_176_60 : decode (mi 176).2.1 60 = .ok (.invokestatic 115, 3) := by decide +kernel
theorem st_176_60 : Sd 176 60 3 (i_cS 137 1 2 []) := sd_static dd_176_60 (by rw [mc_176, mn_137]; exact tw_1403) (by rw [mn_137]; exact tw_1404) mt_137 pm_137 ml_176 (HsOk.nil (by decide +kernel))
theorem dd_176_63 : decode (mi 176).2.1 63 = .ok (.ifCond .ne 15, 3) := by decide +kernel
theorem st_176_63 : Sd 176 63 3 (i_zne 78) := sd_if_ne dd_176_63 (by decide)
theorem dd_176_66 : decode (mi 176).2.1 66 = .ok (.aload_n 0, 1) := by decide +kernel
theorem st_176_66 : Sd 176 66 1 (i_ldR 0) := sd_aload_n (j := 0) dd_176_66 rfl
theorem dd_176_67 : decode (mi 176).2.1 67 = .ok (.iload_n 1, 1) := by decide +kernel
theorem st_176_67 : Sd 176 67 1 (i_ldI 1) := sd_iload_n (j := 1) dd_176_67 rfl
theorem dd_176_68 : decode (mi 176).2.1 68 = .ok (.iconst 1, 1) := by decide +kernel
theorem st_176_68 : Sd 176 68 1 (i_ic 1) := sd_iconst dd_176_68
theorem dd_176_69 : decode (mi 176).2.1 69 = .ok (.iadd, 1) := by decide +kernel
theorem st_176_69 : Sd 176 69 1 (i_iadd) := sd_iadd dd_176_69
theorem dd_176_70 : decode (mi 176).2.1 70 = .ok (.invokevirtual 103, 3) := by decide +kernel
theorem st_176_70 : Sd 176 70 3 (i_cV [(2, 129)] 2 2 []) := sd_virt ⟨"ContractDeskModel", "at", "(I)C"⟩ dd_176_70 (by rw [mc_176]; exact tw_1388) (fun t j h => by simp only [List.mem_cons, List.not_mem_nil, or_false, Prod.mk.injEq] at h; obtain ⟨rfl, rfl⟩ := h; exact mn_129) (fun t j h => by simp only [List.mem_cons, List.not_mem_nil, or_false, Prod.mk.injEq] at h; obtain ⟨rfl, rfl⟩ := h; exact ⟨by rw [mn_129]; exact tw_30, by rw [mn_129]; exact tw_1390, mt_129, by decide, by decide⟩) (by unfold prm; decide +kernel) ml_176 (HsOk.nil (by decide +kernel))
theorem dd_176_73 : decode (mi 176).2.1 73 = .ok (.bipush 42, 2) := by decide +kernel
theorem st_176_73 : Sd 176 73 2 (i_ic 42) := sd_bipush dd_176_73 (by decide)
theorem dd_176_75 : decode (mi 176).2.1 75 = .ok (.if_icmp .ne 21, 3) := by decide +kernel
theorem st_176_75 : Sd 176 75 3 (i_cne 96) := sd_icmp_ne dd_176_75 (by decide)
def bk_176_43 : Tr := sq (i_ldR 0) (sq (i_ldI 1) (sq (i_cV [(2, 129)] 2 2 []) (sq (i_ic 91) (sq (i_cne 96) (sq (i_ldR 0) (sq (i_ldI 1) (sq (i_ic 1) (sq (i_iadd) (sq (i_cV [(2, 129)] 2 2 []) (sq (i_cS 137 1 2 []) (sq (i_zne 78) (sq (i_ldR 0) (sq (i_ldI 1) (sq (i_ic 1) (sq (i_iadd) (sq (i_cV [(2, 129)] 2 2 []) (sq (i_ic 42) (sq (i_cne 96) (i_fall 78)))))))))))))))))))
theorem sb_176_43 : Sd 176 43 35 bk_176_43 := Sd.sq st_176_43 (Sd.sq st_176_44 (Sd.sq st_176_45 (Sd.sq st_176_48 (Sd.sq st_176_50 (Sd.sq st_176_53 (Sd.sq st_176_54 (Sd.sq st_176_55 (Sd.sq st_176_56 (Sd.sq st_176_57 (Sd.sq st_176_60 (Sd.sq st_176_63 (Sd.sq st_176_66 (Sd.sq st_176_67 (Sd.sq st_176_68 (Sd.sq st_176_69 (Sd.sq st_176_70 (Sd.sq st_176_73 (Sd.sq st_176_75 (sd_fall rfl)))))))))))))))))))
theorem dd_176_78 : decode (mi 176).2.1 78 = .ok (.aload_n 0, 1) := by decide +kernel
theorem st_176_78 : Sd 176 78 1 (i_ldR 0) := sd_aload_n (j := 0) dd_176_78 rfl
theorem dd_176_79 : decode (mi 176).2.1 79 = .ok (.iload_n 1, 1) := by decide +kernel
theorem st_176_79 : Sd 176 79 1 (i_ldI 1) := sd_iload_n (j := 1) dd_176_79 rfl
theorem dd_176_80 : decode (mi 176).2.1 80 = .ok (.iconst 2, 1) := by decide +kernel
theorem st_176_80 : Sd 176 80 1 (i_ic 2) := sd_iconst dd_176_80
theorem dd_176_81 : decode (mi 176).2.1 81 = .ok (.iadd, 1) := by decide +kernel
theorem st_176_81 : Sd 176 81 1 (i_iadd) := sd_iadd dd_176_81
theorem dd_176_82 : decode (mi 176).2.1 82 = .ok (.invokevirtual 103, 3) := by decide +kernel
theorem st_176_82 : Sd 176 82 3 (i_cV [(2, 129)] 2 2 []) := sd_virt ⟨"ContractDeskModel", "at", "(I)C"⟩ dd_176_82 (by rw [mc_176]; exact tw_1388) (fun t j h => by simp only [List.mem_cons, List.not_mem_nil, or_false, Prod.mk.injEq] at h; obtain ⟨rfl, rfl⟩ := h; exact mn_129) (fun t j h => by simp only [List.mem_cons, List.not_mem_nil, or_false, Prod.mk.injEq] at h; obtain ⟨rfl, rfl⟩ := h; exact ⟨by rw [mn_129]; exact tw_30, by rw [mn_129]; exact tw_1390, mt_129, by decide, by decide⟩) (by unfold prm; decide +kernel) ml_176 (HsOk.nil (by decide +kernel))
theorem dd_176_85 : decode (mi 176).2.1 85 = .ok (.bipush 93, 2) := by decide +kernel
theorem st_176_85 : Sd 176 85 2 (i_ic 93) := sd_bipush dd_176_85 (by decide)
theorem dd_176_87 : decode (mi 176).2.1 87 = .ok (.if_icmp .ne 9, 3) := by decide +kernel
theorem st_176_87 : Sd 176 87 3 (i_cne 96) := sd_icmp_ne dd_176_87 (by decide)
theorem dd_176_90 : decode (mi 176).2.1 90 = .ok (.iload_n 1, 1) := by decide +kernel
theorem st_176_90 : Sd 176 90 1 (i_ldI 1) := sd_iload_n (j := 1) dd_176_90 rfl
theorem dd_176_91 : decode (mi 176).2.1 91 = .ok (.iconst 3, 1) := by decide +kernel
theorem st_176_91 : Sd 176 91 1 (i_ic 3) := sd_iconst dd_176_91
theorem dd_176_92 : decode (mi 176).2.1 92 = .ok (.iadd, 1) := by decide +kernel
theorem st_176_92 : Sd 176 92 1 (i_iadd) := sd_iadd dd_176_92
theorem dd_176_93 : decode (mi 176).2.1 93 = .ok (.goto 4, 3) := by decide +kernel
theorem st_176_93 : Sd 176 93 3 (i_goto 97) := sd_goto dd_176_93 (by decide)
def bk_176_78 : Tr := sq (i_ldR 0) (sq (i_ldI 1) (sq (i_ic 2) (sq (i_iadd) (sq (i_cV [(2, 129)] 2 2 []) (sq (i_ic 93) (sq (i_cne 96) (sq (i_ldI 1) (sq (i_ic 3) (sq (i_iadd) (i_goto 97))))))))))
theorem sb_176_78 : Sd 176 78 18 bk_176_78 := Sd.sq st_176_78 (Sd.sq st_176_79 (Sd.sq st_176_80 (Sd.sq st_176_81 (Sd.sq st_176_82 (Sd.sq st_176_85 (Sd.sq st_176_87 (Sd.sq st_176_90 (Sd.sq st_176_91 (Sd.sq st_176_92 (st_176_93))))))))))
theorem dd_176_96 : decode (mi 176).2.1 96 = .ok (.iconst (-1), 1) := by decide +kernel
theorem st_176_96 : Sd 176 96 1 (i_ic (-1)) := sd_iconst dd_176_96
def bk_176_96 : Tr := sq (i_ic (-1)) (i_fall 97)
theorem sb_176_96 : Sd 176 96 1 bk_176_96 := Sd.sq st_176_96 (sd_fall rfl)
theorem dd_176_97 : decode (mi 176).2.1 97 = .ok (.ireturn, 1) := by decide +kernel
theorem st_176_97 : Sd 176 97 1 (i_rI 0) := sd_ireturn dd_176_97 (by decide) mr_176
def bk_176_97 : Tr := i_rI 0
theorem sb_176_97 : Sd 176 97 1 bk_176_97 := st_176_97
theorem dd_177_0 : decode (mi 177).2.1 0 = .ok (.iload_n 0, 1) := by decide +kernel
theorem st_177_0 : Sd 177 0 1 (i_ldI 0) := sd_iload_n (j := 0) dd_177_0 rfl
theorem dd_177_1 : decode (mi 177).2.1 1 = .ok (.bipush 44, 2) := by decide +kernel
theorem st_177_1 : Sd 177 1 2 (i_ic 44) := sd_bipush dd_177_1 (by decide)
theorem dd_177_3 : decode (mi 177).2.1 3 = .ok (.if_icmp .eq 19, 3) := by decide +kernel
theorem st_177_3 : Sd 177 3 3 (i_ceq 22) := sd_icmp_eq dd_177_3 (by decide)
theorem dd_177_6 : decode (mi 177).2.1 6 = .ok (.iload_n 0, 1) := by decide +kernel
theorem st_177_6 : Sd 177 6 1 (i_ldI 0) := sd_iload_n (j := 0) dd_177_6 rfl
theorem dd_177_7 : decode (mi 177).2.1 7 = .ok (.bipush 93, 2) := by decide +kernel
theorem st_177_7 : Sd 177 7 2 (i_ic 93) := sd_bipush dd_177_7 (by decide)
theorem dd_177_9 : decode (mi 177).2.1 9 = .ok (.if_icmp .eq 13, 3) := by decide +kernel
theorem st_177_9 : Sd 177 9 3 (i_ceq 22) := sd_icmp_eq dd_177_9 (by decide)
theorem dd_177_12 : decode (mi 177).2.1 12 = .ok (.iload_n 0, 1) := by decide +kernel
theorem st_177_12 : Sd 177 12 1 (i_ldI 0) := sd_iload_n (j := 0) dd_177_12 rfl
theorem dd_177_13 : decode (mi 177).2.1 13 = .ok (.bipush 125, 2) := by decide +kernel
theorem st_177_13 : Sd 177 13 2 (i_ic 125) := sd_bipush dd_177_13 (by decide)
theorem dd_177_15 : decode (mi 177).2.1 15 = .ok (.if_icmp .eq 7, 3) := by decide +kernel
theorem st_177_15 : Sd 177 15 3 (i_ceq 22) := sd_icmp_eq dd_177_15 (by decide)
theorem dd_177_18 : decode (mi 177).2.1 18 = .ok (.iload_n 0, 1) := by decide +kernel
theorem st_177_18 : Sd 177 18 1 (i_ldI 0) := sd_iload_n (j := 0) dd_177_18 rfl
theorem dd_177_19 : decode (mi 177).2.1 19 = .ok (.ifCond .ne 7, 3) := by decide +kernel
theorem st_177_19 : Sd 177 19 3 (i_zne 26) := sd_if_ne dd_177_19 (by decide)
def bk_177_0 : Tr := sq (i_ldI 0) (sq (i_ic 44) (sq (i_ceq 22) (sq (i_ldI 0) (sq (i_ic 93) (sq (i_ceq 22) (sq (i_ldI 0) (sq (i_ic 125) (sq (i_ceq 22) (sq (i_ldI 0) (sq (i_zne 26) (i_fall 22)))))))))))
theorem sb_177_0 : Sd 177 0 22 bk_177_0 := Sd.sq st_177_0 (Sd.sq st_177_1 (Sd.sq st_177_3 (Sd.sq st_177_6 (Sd.sq st_177_7 (Sd.sq st_177_9 (Sd.sq st_177_12 (Sd.sq st_177_13 (Sd.sq st_177_15 (Sd.sq st_177_18 (Sd.sq st_177_19 (sd_fall rfl)))))))))))
theorem dd_177_22 : decode (mi 177).2.1 22 = .ok (.iconst 1, 1) := by decide +kernel
theorem st_177_22 : Sd 177 22 1 (i_ic 1) := sd_iconst dd_177_22
theorem dd_177_23 : decode (mi 177).2.1 23 = .ok (.goto 4, 3) := by decide +kernel
theorem st_177_23 : Sd 177 23 3 (i_goto 27) := sd_goto dd_177_23 (by decide)
def bk_177_22 : Tr := sq (i_ic 1) (i_goto 27)
theorem sb_177_22 : Sd 177 22 4 bk_177_22 := Sd.sq st_177_22 (st_177_23)
theorem dd_177_26 : decode (mi 177).2.1 26 = .ok (.iconst 0, 1) := by decide +kernel
theorem st_177_26 : Sd 177 26 1 (i_ic 0) := sd_iconst dd_177_26
def bk_177_26 : Tr := sq (i_ic 0) (i_fall 27)
theorem sb_177_26 : Sd 177 26 1 bk_177_26 := Sd.sq st_177_26 (sd_fall rfl)
theorem dd_177_27 : decode (mi 177).2.1 27 = .ok (.ireturn, 1) := by decide +kernel
theorem st_177_27 : Sd 177 27 1 (i_rI 2) := sd_ireturn dd_177_27 (by decide) mr_177
def bk_177_27 : Tr := i_rI 2
theorem sb_177_27 : Sd 177 27 1 bk_177_27 := st_177_27
theorem dd_178_0 : decode (mi 178).2.1 0 = .ok (.iload_n 2, 1) := by decide +kernel
theorem st_178_0 : Sd 178 0 1 (i_ldI 2) := sd_iload_n (j := 2) dd_178_0 rfl
theorem dd_178_1 : decode (mi 178).2.1 1 = .ok (.iconst 1, 1) := by decide +kernel
theorem st_178_1 : Sd 178 1 1 (i_ic 1) := sd_iconst dd_178_1
theorem dd_178_2 : decode (mi 178).2.1 2 = .ok (.isub, 1) := by decide +kernel
theorem st_178_2 : Sd 178 2 1 (i_isub) := sd_isub dd_178_2
theorem dd_178_3 : decode (mi 178).2.1 3 = .ok (.istore_n 3, 1) := by decide +kernel
theorem st_178_3 : Sd 178 3 1 (i_stI 3) := sd_istore_n (j := 3) dd_178_3 rfl
def bk_178_0 : Tr := sq (i_ldI 2) (sq (i_ic 1) (sq (i_isub) (sq (i_stI 3) (i_fall 4))))
theorem sb_178_0 : Sd 178 0 4 bk_178_0 := Sd.sq st_178_0 (Sd.sq st_178_1 (Sd.sq st_178_2 (Sd.sq st_178_3 (sd_fall rfl))))
theorem dd_178_4 : decode (mi 178).2.1 4 = .ok (.iload_n 3, 1) := by decide +kernel
theorem st_178_4 : Sd 178 4 1 (i_ldI 3) := sd_iload_n (j := 3) dd_178_4 rfl
theorem dd_178_5 : decode (mi 178).2.1 5 = .ok (.ifCond .lt 43, 3) := by decide +kernel
theorem st_178_5 : Sd 178 5 3 (i_zlt 48) := sd_if_lt dd_178_5 (by decide)
theorem dd_178_8 : decode (mi 178).2.1 8 = .ok (.aload_n 0, 1) := by decide +kernel
theorem st_178_8 : Sd 178 8 1 (i_ldR 0) := sd_aload_n (j := 0) dd_178_8 rfl
theorem dd_178_9 : decode (mi 178).2.1 9 = .ok (.getfield 30, 3) := by decide +kernel
theorem st_178_9 : Sd 178 9 3 (i_gR 9 [2]) := sd_gR (ref := "ContractDeskModel") (decl := "ContractDeskModel") (name := "need") (desc := "[I") dd_178_9 (by rw [mc_178]; exact tw_1269) (Or.inl rfl) (by decide +kernel)
theorem dd_178_12 : decode (mi 178).2.1 12 = .ok (.iconst 3, 1) := by decide +kernel
theorem st_178_12 : Sd 178 12 1 (i_ic 3) := sd_iconst dd_178_12
theorem dd_178_13 : decode (mi 178).2.1 13 = .ok (.iload_n 1, 1) := by decide +kernel
theorem st_178_13 : Sd 178 13 1 (i_ldI 1) := sd_iload_n (j := 1) dd_178_13 rfl
theorem dd_178_14 : decode (mi 178).2.1 14 = .ok (.imul, 1) := by decide +kernel
theorem st_178_14 : Sd 178 14 1 (i_imul) := sd_imul dd_178_14
theorem dd_178_15 : decode (mi 178).2.1 15 = .ok (.iload_n 3, 1) := by decide +kernel
theorem st_178_15 : Sd 178 15 1 (i_ldI 3) := sd_iload_n (j := 3) dd_178_15 rfl
theorem dd_178_16 : decode (mi 178).2.1 16 = .ok (.iadd, 1) := by decide +kernel
theorem st_178_16 : Sd 178 16 1 (i_iadd) := sd_iadd dd_178_16
theorem dd_178_17 : decode (mi 178).2.1 17 = .ok (.iaload, 1) := by decide +kernel
theorem st_178_17 : Sd 178 17 1 (i_aI [20]) := sd_iaload dd_178_17 (by decide)
theorem dd_178_18 : decode (mi 178).2.1 18 = .ok (.istore 4, 2) := by decide +kernel
theorem st_178_18 : Sd 178 18 2 (i_stI 4) := sd_istore dd_178_18
theorem dd_178_20 : decode (mi 178).2.1 20 = .ok (.aload_n 0, 1) := by decide +kernel
theorem st_178_20 : Sd 178 20 1 (i_ldR 0) := sd_aload_n (j := 0) dd_178_20 rfl
theorem dd_178_21 : decode (mi 178).2.1 21 = .ok (.iload 4, 2) := by decide +kernel
theorem st_178_21 : Sd 178 21 2 (i_ldI 4) := sd_iload dd_178_21
theorem dd_178_23 : decode (mi 178).2.1 23 = .ok (.aload_n 0, 1) := by decide +kernel
theorem st_178_23 : Sd 178 23 1 (i_ldR 0) := sd_aload_n (j := 0) dd_178_23 rfl
theorem dd_178_24 : decode (mi 178).2.1 24 = .ok (.getfield 33, 3) := by decide +kernel
theorem st_178_24 : Sd 178 24 3 (i_gR 10 [2]) := sd_gR (ref := "ContractDeskModel") (decl := "ContractDeskModel") (name := "handlers") (desc := "[I") dd_178_24 (by rw [mc_178]; exact tw_1270) (Or.inl rfl) (by decide +kernel)
theorem dd_178_27 : decode (mi 178).2.1 27 = .ok (.iload 4, 2) := by decide +kernel
theorem st_178_27 : Sd 178 27 2 (i_ldI 4) := sd_iload dd_178_27
theorem dd_178_29 : decode (mi 178).2.1 29 = .ok (.iaload, 1) := by decide +kernel
theorem st_178_29 : Sd 178 29 1 (i_aI [20]) := sd_iaload dd_178_29 (by decide)
theorem dd_178_30 : decode (mi 178).2.1 30 = .ok (.iconst 3, 1) := by decide +kernel
theorem st_178_30 : Sd 178 30 1 (i_ic 3) := sd_iconst dd_178_30
theorem dd_178_31 : decode (mi 178).2.1 31 = .ok (.if_icmp .ne 7, 3) := by decide +kernel
theorem st_178_31 : Sd 178 31 3 (i_cne 38) := sd_icmp_ne dd_178_31 (by decide)
theorem dd_178_34 : decode (mi 178).2.1 34 = .ok (.iconst 3, 1) := by decide +kernel
theorem st_178_34 : Sd 178 34 1 (i_ic 3) := sd_iconst dd_178_34
theorem dd_178_35 : decode (mi 178).2.1 35 = .ok (.goto 4, 3) := by decide +kernel
theorem st_178_35 : Sd 178 35 3 (i_goto 39) := sd_goto dd_178_35 (by decide)
def bk_178_4 : Tr := sq (i_ldI 3) (sq (i_zlt 48) (sq (i_ldR 0) (sq (i_gR 9 [2]) (sq (i_ic 3) (sq (i_ldI 1) (sq (i_imul) (sq (i_ldI 3) (sq (i_iadd) (sq (i_aI [20]) (sq (i_stI 4) (sq (i_ldR 0) (sq (i_ldI 4) (sq (i_ldR 0) (sq (i_gR 10 [2]) (sq (i_ldI 4) (sq (i_aI [20]) (sq (i_ic 3) (sq (i_cne 38) (sq (i_ic 3) (i_goto 39))))))))))))))))))))
theorem sb_178_4 : Sd 178 4 34 bk_178_4 := Sd.sq st_178_4 (Sd.sq st_178_5 (Sd.sq st_178_8 (Sd.sq st_178_9 (Sd.sq st_178_12 (Sd.sq st_178_13 (Sd.sq st_178_14 (Sd.sq st_178_15 (Sd.sq st_178_16 (Sd.sq st_178_17 (Sd.sq st_178_18 (Sd.sq st_178_20 (Sd.sq st_178_21 (Sd.sq st_178_23 (Sd.sq st_178_24 (Sd.sq st_178_27 (Sd.sq st_178_29 (Sd.sq st_178_30 (Sd.sq st_178_31 (Sd.sq st_178_34 (st_178_35))))))))))))))))))))
theorem dd_178_38 : decode (mi 178).2.1 38 = .ok (.iconst 1, 1) := by decide +kernel
theorem st_178_38 : Sd 178 38 1 (i_ic 1) := sd_iconst dd_178_38
def bk_178_38 : Tr := sq (i_ic 1) (i_fall 39)
theorem sb_178_38 : Sd 178 38 1 bk_178_38 := Sd.sq st_178_38 (sd_fall rfl)
theorem dd_178_39 : decode (mi 178).2.1 39 = .ok (.invokevirtual 250, 3) := by decide +kernel
theorem st_178_39 : Sd 178 39 3 (i_cV [(2, 144)] 3 5 []) := sd_virt ⟨"ContractDeskModel", "happen", "(II)V"⟩ dd_178_39 (by rw [mc_178]; exact tw_1505) (fun t j h => by simp only [List.mem_cons, List.not_mem_nil, or_false, Prod.mk.injEq] at h; obtain ⟨rfl, rfl⟩ := h; exact mn_144) (fun t j h => by simp only [List.mem_cons, List.not_mem_nil, or_false, Prod.mk.injEq] at h; obtain ⟨rfl, rfl⟩ := h; exact ⟨by rw [mn_144]; exact tw_52, by rw [mn_144]; exact tw_1507, mt_144, by decide, by decide⟩) (by unfold prm; decide +kernel) ml_178 (HsOk.nil (by decide +kernel))
theorem dd_178_42 : decode (mi 178).2.1 42 = .ok (.iinc 3 (-1), 3) := by decide +kernel
theorem st_178_42 : Sd 178 42 3 (i_inc 3 (-1)) := sd_iinc dd_178_42
theorem dd_178_45 : decode (mi 178).2.1 45 = .ok (.goto (-41), 3) := by decide +kernel
theorem st_178_45 : Sd 178 45 3 (i_goto 4) := sd_goto dd_178_45 (by decide)
def bk_178_39 : Tr := sq (i_cV [(2, 144)] 3 5 []) (sq (i_inc 3 (-1)) (i_goto 4))
theorem sb_178_39 : Sd 178 39 9 bk_178_39 := Sd.sq st_178_39 (Sd.sq st_178_42 (st_178_45))
theorem dd_178_48 : decode (mi 178).2.1 48 = .ok (.return_, 1) := by decide +kernel
theorem st_178_48 : Sd 178 48 1 (i_ret) := sd_ret dd_178_48 mr_178
def bk_178_48 : Tr := i_ret
theorem sb_178_48 : Sd 178 48 1 bk_178_48 := st_178_48
theorem dd_179_0 : decode (mi 179).2.1 0 = .ok (.aload_n 0, 1) := by decide +kernel
theorem st_179_0 : Sd 179 0 1 (i_ldR 0) := sd_aload_n (j := 0) dd_179_0 rfl
theorem dd_179_1 : decode (mi 179).2.1 1 = .ok (.getfield 93, 3) := by decide +kernel
theorem st_179_1 : Sd 179 1 3 (i_gI 0 [2]) := sd_gI (ref := "ContractDeskModel") (decl := "ContractDeskModel") (name := "thrown") (desc := "I") dd_179_1 (by rw [mc_179]; exact tw_1260) (Or.inl rfl) (by decide +kernel)
theorem dd_179_4 : decode (mi 179).2.1 4 = .ok (.ireturn, 1) := by decide +kernel
theorem st_179_4 : Sd 179 4 1 (i_rI 0) := sd_ireturn dd_179_4 (by decide) mr_179
def bk_179_0 : Tr := sq (i_ldR 0) (sq (i_gI 0 [2]) (i_rI 0))
theorem sb_179_0 : Sd 179 0 5 bk_179_0 := Sd.sq st_179_0 (Sd.sq st_179_1 (st_179_4))
theorem dd_180_0 : decode (mi 180).2.1 0 = .ok (.iconst 0, 1) := by decide +kernel
theorem st_180_0 : Sd 180 0 1 (i_ic 0) := sd_iconst dd_180_0
theorem dd_180_1 : decode (mi 180).2.1 1 = .ok (.istore_n 1, 1) := by decide +kernel
theorem st_180_1 : Sd 180 1 1 (i_stI 1) := sd_istore_n (j := 1) dd_180_1 rfl
theorem dd_180_2 : decode (mi 180).2.1 2 = .ok (.iconst 0, 1) := by decide +kernel
theorem st_180_2 : Sd 180 2 1 (i_ic 0) := sd_iconst dd_180_2
theorem dd_180_3 : decode (mi 180).2.1 3 = .ok (.istore_n 2, 1) := by decide +kernel
theorem st_180_3 : Sd 180 3 1 (i_stI 2) := sd_istore_n (j := 2) dd_180_3 rfl
theorem dd_180_4 : decode (mi 180).2.1 4 = .ok (.iconst 0, 1) := by decide +kernel
theorem st_180_4 : Sd 180 4 1 (i_ic 0) := sd_iconst dd_180_4
theorem dd_180_5 : decode (mi 180).2.1 5 = .ok (.istore_n 3, 1) := by decide +kernel
theorem st_180_5 : Sd 180 5 1 (i_stI 3) := sd_istore_n (j := 3) dd_180_5 rfl
theorem dd_180_6 : decode (mi 180).2.1 6 = .ok (.sipush 400, 3) := by decide +kernel
theorem st_180_6 : Sd 180 6 3 (i_ic 400) := sd_sipush dd_180_6 (by decide)
theorem dd_180_9 : decode (mi 180).2.1 9 = .ok (.istore 4, 2) := by decide +kernel
theorem st_180_9 : Sd 180 9 2 (i_stI 4) := sd_istore dd_180_9
theorem dd_180_11 : decode (mi 180).2.1 11 = .ok (.sipush 400, 3) := by decide +kernel
theorem st_180_11 : Sd 180 11 3 (i_ic 400) := sd_sipush dd_180_11 (by decide)
theorem dd_180_14 : decode (mi 180).2.1 14 = .ok (.aload_n 0, 1) := by decide +kernel
theorem st_180_14 : Sd 180 14 1 (i_ldR 0) := sd_aload_n (j := 0) dd_180_14 rfl
theorem dd_180_15 : decode (mi 180).2.1 15 = .ok (.getfield 97, 3) := by decide +kernel
theorem st_180_15 : Sd 180 15 3 (i_gI 2 [2]) := sd_gI (ref := "ContractDeskModel") (decl := "ContractDeskModel") (name := "typed") (desc := "I") dd_180_15 (by rw [mc_180]; exact tw_1262) (Or.inl rfl) (by decide +kernel)
theorem dd_180_18 : decode (mi 180).2.1 18 = .ok (.iadd, 1) := by decide +kernel
theorem st_180_18 : Sd 180 18 1 (i_iadd) := sd_iadd dd_180_18
theorem dd_180_19 : decode (mi 180).2.1 19 = .ok (.istore 5, 2) := by decide +kernel
theorem st_180_19 : Sd 180 19 2 (i_stI 5) := sd_istore dd_180_19
def bk_180_0 : Tr := sq (i_ic 0) (sq (i_stI 1) (sq (i_ic 0) (sq (i_stI 2) (sq (i_ic 0) (sq (i_stI 3) (sq (i_ic 400) (sq (i_stI 4) (sq (i_ic 400) (sq (i_ldR 0) (sq (i_gI 2 [2]) (sq (i_iadd) (sq (i_stI 5) (i_fall 21)))))))))))))
theorem sb_180_0 : Sd 180 0 21 bk_180_0 := Sd.sq st_180_0 (Sd.sq st_180_1 (Sd.sq st_180_2 (Sd.sq st_180_3 (Sd.sq st_180_4 (Sd.sq st_180_5 (Sd.sq st_180_6 (Sd.sq st_180_9 (Sd.sq st_180_11 (Sd.sq st_180_14 (Sd.sq st_180_15 (Sd.sq st_180_18 (Sd.sq st_180_19 (sd_fall rfl)))))))))))))
theorem dd_180_21 : decode (mi 180).2.1 21 = .ok (.iload 4, 2) := by decide +kernel
theorem st_180_21 : Sd 180 21 2 (i_ldI 4) := sd_iload dd_180_21
theorem dd_180_23 : decode (mi 180).2.1 23 = .ok (.iload 5, 2) := by decide +kernel
theorem st_180_23 : Sd 180 23 2 (i_ldI 5) := sd_iload dd_180_23
theorem dd_180_25 : decode (mi 180).2.1 25 = .ok (.if_icmp .ge 324, 3) := by decide +kernel
theorem st_180_25 : Sd 180 25 3 (i_cge 349) := sd_icmp_ge dd_180_25 (by decide)
theorem dd_180_28 : decode (mi 180).2.1 28 = .ok (.aload_n 0, 1) := by decide +kernel
theorem st_180_28 : Sd 180 28 1 (i_ldR 0) := sd_aload_n (j := 0) dd_180_28 rfl
theorem dd_180_29 : decode (mi 180).2.1 29 = .ok (.iload 4, 2) := by decide +kernel
theorem st_180_29 : Sd 180 29 2 (i_ldI 4) := sd_iload dd_180_29
theorem dd_180_31 : decode (mi 180).2.1 31 = .ok (.invokevirtual 103, 3) := by decide +kernel
theorem st_180_31 : Sd 180 31 3 (i_cV [(2, 129)] 2 8 []) := sd_virt ⟨"ContractDeskModel", "at", "(I)C"⟩ dd_180_31 (by rw [mc_180]; exact tw_1388) (fun t j h => by simp only [List.mem_cons, List.not_mem_nil, or_false, Prod.mk.injEq] at h; obtain ⟨rfl, rfl⟩ := h; exact mn_129) (fun t j h => by simp only [List.mem_cons, List.not_mem_nil, or_false, Prod.mk.injEq] at h; obtain ⟨rfl, rfl⟩ := h; exact ⟨by rw [mn_129]; exact tw_30, by rw [mn_129]; exact tw_1390, mt_129, by decide, by decide⟩) (by unfold prm; decide +kernel) ml_180 (HsOk.nil (by decide +kernel))
theorem dd_180_34 : decode (mi 180).2.1 34 = .ok (.istore 6, 2) := by decide +kernel
theorem st_180_34 : Sd 180 34 2 (i_stI 6) := sd_istore dd_180_34
theorem dd_180_36 : decode (mi 180).2.1 36 = .ok (.iload 6, 2) := by decide +kernel
theorem st_180_36 : Sd 180 36 2 (i_ldI 6) := sd_iload dd_180_36
theorem dd_180_38 : decode (mi 180).2.1 38 = .ok (.bipush 93, 2) := by decide +kernel
theorem st_180_38 : Sd 180 38 2 (i_ic 93) := sd_bipush dd_180_38 (by decide)
theorem dd_180_40 : decode (mi 180).2.1 40 = .ok (.if_icmp .ne 13, 3) := by decide +kernel
theorem st_180_40 : Sd 180 40 3 (i_cne 53) := sd_icmp_ne dd_180_40 (by decide)
theorem dd_180_43 : decode (mi 180).2.1 43 = .ok (.iload_n 2, 1) := by decide +kernel
theorem st_180_43 : Sd 180 43 1 (i_ldI 2) := sd_iload_n (j := 2) dd_180_43 rfl
theorem dd_180_44 : decode (mi 180).2.1 44 = .ok (.iconst 1, 1) := by decide +kernel
theorem st_180_44 : Sd 180 44 1 (i_ic 1) := sd_iconst dd_180_44
theorem dd_180_45 : decode (mi 180).2.1 45 = .ok (.if_icmp .eq 25, 3) := by decide +kernel
theorem st_180_45 : Sd 180 45 3 (i_ceq 70) := sd_icmp_eq dd_180_45 (by decide)
theorem dd_180_48 : decode (mi 180).2.1 48 = .ok (.iload_n 2, 1) := by decide +kernel
theorem st_180_48 : Sd 180 48 1 (i_ldI 2) := sd_iload_n (j := 2) dd_180_48 rfl
theorem dd_180_49 : decode (mi 180).2.1 49 = .ok (.iconst 2, 1) := by decide +kernel
theorem st_180_49 : Sd 180 49 1 (i_ic 2) := sd_iconst dd_180_49
theorem dd_180_50 : decode (mi 180).2.1 50 = .ok (.if_icmp .eq 20, 3) := by decide +kernel
theorem st_180_50 : Sd 180 50 3 (i_ceq 70) := sd_icmp_eq dd_180_50 (by decide)
def bk_180_21 : Tr := sq (i_ldI 4) (sq (i_ldI 5) (sq (i_cge 349) (sq (i_ldR 0) (sq (i_ldI 4) (sq (i_cV [(2, 129)] 2 8 []) (sq (i_stI 6) (sq (i_ldI 6) (sq (i_ic 93) (sq (i_cne 53) (sq (i_ldI 2) (sq (i_ic 1) (sq (i_ceq 70) (sq (i_ldI 2) (sq (i_ic 2) (sq (i_ceq 70) (i_fall 53))))))))))))))))
theorem sb_180_21 : Sd 180 21 32 bk_180_21 := Sd.sq st_180_21 (Sd.sq st_180_23 (Sd.sq st_180_25 (Sd.sq st_180_28 (Sd.sq st_180_29 (Sd.sq st_180_31 (Sd.sq st_180_34 (Sd.sq st_180_36 (Sd.sq st_180_38 (Sd.sq st_180_40 (Sd.sq st_180_43 (Sd.sq st_180_44 (Sd.sq st_180_45 (Sd.sq st_180_48 (Sd.sq st_180_49 (Sd.sq st_180_50 (sd_fall rfl))))))))))))))))
theorem dd_180_53 : decode (mi 180).2.1 53 = .ok (.iload 6, 2) := by decide +kernel
theorem st_180_53 : Sd 180 53 2 (i_ldI 6) := sd_iload dd_180_53
theorem dd_180_55 : decode (mi 180).2.1 55 = .ok (.bipush 125, 2) := by decide +kernel
theorem st_180_55 : Sd 180 55 2 (i_ic 125) := sd_bipush dd_180_55 (by decide)
theorem dd_180_57 : decode (mi 180).2.1 57 = .ok (.if_icmp .ne 55, 3) := by decide +kernel
theorem st_180_57 : Sd 180 57 3 (i_cne 112) := sd_icmp_ne dd_180_57 (by decide)
theorem dd_180_60 : decode (mi 180).2.1 60 = .ok (.iload_n 2, 1) := by decide +kernel
theorem st_180_60 : Sd 180 60 1 (i_ldI 2) := sd_iload_n (j := 2) dd_180_60 rfl
theorem dd_180_61 : decode (mi 180).2.1 61 = .ok (.iconst 1, 1) := by decide +kernel
theorem st_180_61 : Sd 180 61 1 (i_ic 1) := sd_iconst dd_180_61
theorem dd_180_62 : decode (mi 180).2.1 62 = .ok (.if_icmp .eq 8, 3) := by decide +kernel
theorem st_180_62 : Sd 180 62 3 (i_ceq 70) := sd_icmp_eq dd_180_62 (by decide)
theorem dd_180_65 : decode (mi 180).2.1 65 = .ok (.iload_n 2, 1) := by decide +kernel
theorem st_180_65 : Sd 180 65 1 (i_ldI 2) := sd_iload_n (j := 2) dd_180_65 rfl
theorem dd_180_66 : decode (mi 180).2.1 66 = .ok (.iconst 3, 1) := by decide +kernel
theorem st_180_66 : Sd 180 66 1 (i_ic 3) := sd_iconst dd_180_66
theorem dd_180_67 : decode (mi 180).2.1 67 = .ok (.if_icmp .ne 45, 3) := by decide +kernel
theorem st_180_67 : Sd 180 67 3 (i_cne 112) := sd_icmp_ne dd_180_67 (by decide)
def bk_180_53 : Tr := sq (i_ldI 6) (sq (i_ic 125) (sq (i_cne 112) (sq (i_ldI 2) (sq (i_ic 1) (sq (i_ceq 70) (sq (i_ldI 2) (sq (i_ic 3) (sq (i_cne 112) (i_fall 70)))))))))
theorem sb_180_53 : Sd 180 53 17 bk_180_53 := Sd.sq st_180_53 (Sd.sq st_180_55 (Sd.sq st_180_57 (Sd.sq st_180_60 (Sd.sq st_180_61 (Sd.sq st_180_62 (Sd.sq st_180_65 (Sd.sq st_180_66 (Sd.sq st_180_67 (sd_fall rfl)))))))))
theorem dd_180_70 : decode (mi 180).2.1 70 = .ok (.iload_n 1, 1) := by decide +kernel
theorem st_180_70 : Sd 180 70 1 (i_ldI 1) := sd_iload_n (j := 1) dd_180_70 rfl
theorem dd_180_71 : decode (mi 180).2.1 71 = .ok (.ifCond .eq 28, 3) := by decide +kernel
theorem st_180_71 : Sd 180 71 3 (i_zeq 99) := sd_if_eq dd_180_71 (by decide)
theorem dd_180_74 : decode (mi 180).2.1 74 = .ok (.aload_n 0, 1) := by decide +kernel
theorem st_180_74 : Sd 180 74 1 (i_ldR 0) := sd_aload_n (j := 0) dd_180_74 rfl
theorem dd_180_75 : decode (mi 180).2.1 75 = .ok (.getfield 48, 3) := by decide +kernel
theorem st_180_75 : Sd 180 75 3 (i_gR 17 [2]) := sd_gR (ref := "ContractDeskModel") (decl := "ContractDeskModel") (name := "open") (desc := "[C") dd_180_75 (by rw [mc_180]; exact tw_1277) (Or.inl rfl) (by decide +kernel)
theorem dd_180_78 : decode (mi 180).2.1 78 = .ok (.iload_n 1, 1) := by decide +kernel
theorem st_180_78 : Sd 180 78 1 (i_ldI 1) := sd_iload_n (j := 1) dd_180_78 rfl
theorem dd_180_79 : decode (mi 180).2.1 79 = .ok (.iconst 1, 1) := by decide +kernel
theorem st_180_79 : Sd 180 79 1 (i_ic 1) := sd_iconst dd_180_79
theorem dd_180_80 : decode (mi 180).2.1 80 = .ok (.isub, 1) := by decide +kernel
theorem st_180_80 : Sd 180 80 1 (i_isub) := sd_isub dd_180_80
theorem dd_180_81 : decode (mi 180).2.1 81 = .ok (.caload, 1) := by decide +kernel
theorem st_180_81 : Sd 180 81 1 (i_aI [21]) := sd_caload dd_180_81 (by decide)
theorem dd_180_82 : decode (mi 180).2.1 82 = .ok (.iload 6, 2) := by decide +kernel
theorem st_180_82 : Sd 180 82 2 (i_ldI 6) := sd_iload dd_180_82
theorem dd_180_84 : decode (mi 180).2.1 84 = .ok (.bipush 93, 2) := by decide +kernel
theorem st_180_84 : Sd 180 84 2 (i_ic 93) := sd_bipush dd_180_84 (by decide)
theorem dd_180_86 : decode (mi 180).2.1 86 = .ok (.if_icmp .ne 8, 3) := by decide +kernel
theorem st_180_86 : Sd 180 86 3 (i_cne 94) := sd_icmp_ne dd_180_86 (by decide)
theorem dd_180_89 : decode (mi 180).2.1 89 = .ok (.bipush 91, 2) := by decide +kernel
theorem st_180_89 : Sd 180 89 2 (i_ic 91) := sd_bipush dd_180_89 (by decide)
theorem dd_180_91 : decode (mi 180).2.1 91 = .ok (.goto 5, 3) := by decide +kernel
theorem st_180_91 : Sd 180 91 3 (i_goto 96) := sd_goto dd_180_91 (by decide)
def bk_180_70 : Tr := sq (i_ldI 1) (sq (i_zeq 99) (sq (i_ldR 0) (sq (i_gR 17 [2]) (sq (i_ldI 1) (sq (i_ic 1) (sq (i_isub) (sq (i_aI [21]) (sq (i_ldI 6) (sq (i_ic 93) (sq (i_cne 94) (sq (i_ic 91) (i_goto 96))))))))))))
theorem sb_180_70 : Sd 180 70 24 bk_180_70 := Sd.sq st_180_70 (Sd.sq st_180_71 (Sd.sq st_180_74 (Sd.sq st_180_75 (Sd.sq st_180_78 (Sd.sq st_180_79 (Sd.sq st_180_80 (Sd.sq st_180_81 (Sd.sq st_180_82 (Sd.sq st_180_84 (Sd.sq st_180_86 (Sd.sq st_180_89 (st_180_91))))))))))))
theorem dd_180_94 : decode (mi 180).2.1 94 = .ok (.bipush 123, 2) := by decide +kernel
theorem st_180_94 : Sd 180 94 2 (i_ic 123) := sd_bipush dd_180_94 (by decide)
def bk_180_94 : Tr := sq (i_ic 123) (i_fall 96)
theorem sb_180_94 : Sd 180 94 2 bk_180_94 := Sd.sq st_180_94 (sd_fall rfl)
theorem dd_180_96 : decode (mi 180).2.1 96 = .ok (.if_icmp .eq 5, 3) := by decide +kernel
theorem st_180_96 : Sd 180 96 3 (i_ceq 101) := sd_icmp_eq dd_180_96 (by decide)
def bk_180_96 : Tr := sq (i_ceq 101) (i_fall 99)
theorem sb_180_96 : Sd 180 96 3 bk_180_96 := Sd.sq st_180_96 (sd_fall rfl)
theorem dd_180_99 : decode (mi 180).2.1 99 = .ok (.iconst (-1), 1) := by decide +kernel
theorem st_180_99 : Sd 180 99 1 (i_ic (-1)) := sd_iconst dd_180_99
theorem dd_180_100 : decode (mi 180).2.1 100 = .ok (.ireturn, 1) := by decide +kernel
theorem st_180_100 : Sd 180 100 1 (i_rI 0) := sd_ireturn dd_180_100 (by decide) mr_180
def bk_180_99 : Tr := sq (i_ic (-1)) (i_rI 0)
theorem sb_180_99 : Sd 180 99 2 bk_180_99 := Sd.sq st_180_99 (st_180_100)
theorem dd_180_101 : decode (mi 180).2.1 101 = .ok (.iinc 1 (-1), 3) := by decide +kernel
theorem st_180_101 : Sd 180 101 3 (i_inc 1 (-1)) := sd_iinc dd_180_101
theorem dd_180_104 : decode (mi 180).2.1 104 = .ok (.iconst 1, 1) := by decide +kernel
theorem st_180_104 : Sd 180 104 1 (i_ic 1) := sd_iconst dd_180_104
theorem dd_180_105 : decode (mi 180).2.1 105 = .ok (.istore_n 2, 1) := by decide +kernel
theorem st_180_105 : Sd 180 105 1 (i_stI 2) := sd_istore_n (j := 2) dd_180_105 rfl
theorem dd_180_106 : decode (mi 180).2.1 106 = .ok (.iinc 4 1, 3) := by decide +kernel
theorem st_180_106 : Sd 180 106 3 (i_inc 4 1) := sd_iinc dd_180_106
theorem dd_180_109 : decode (mi 180).2.1 109 = .ok (.goto 237, 3) := by decide +kernel
theorem st_180_109 : Sd 180 109 3 (i_goto 346) := sd_goto dd_180_109 (by decide)
def bk_180_101 : Tr := sq (i_inc 1 (-1)) (sq (i_ic 1) (sq (i_stI 2) (sq (i_inc 4 1) (i_goto 346))))
theorem sb_180_101 : Sd 180 101 11 bk_180_101 := Sd.sq st_180_101 (Sd.sq st_180_104 (Sd.sq st_180_105 (Sd.sq st_180_106 (st_180_109))))
theorem dd_180_112 : decode (mi 180).2.1 112 = .ok (.iload_n 2, 1) := by decide +kernel
theorem st_180_112 : Sd 180 112 1 (i_ldI 2) := sd_iload_n (j := 2) dd_180_112 rfl
theorem dd_180_113 : decode (mi 180).2.1 113 = .ok (.iconst 1, 1) := by decide +kernel
theorem st_180_113 : Sd 180 113 1 (i_ic 1) := sd_iconst dd_180_113
theorem dd_180_114 : decode (mi 180).2.1 114 = .ok (.if_icmp .ne 41, 3) := by decide +kernel
theorem st_180_114 : Sd 180 114 3 (i_cne 155) := sd_icmp_ne dd_180_114 (by decide)
theorem dd_180_117 : decode (mi 180).2.1 117 = .ok (.iload 6, 2) := by decide +kernel
theorem st_180_117 : Sd 180 117 2 (i_ldI 6) := sd_iload dd_180_117
theorem dd_180_119 : decode (mi 180).2.1 119 = .ok (.bipush 44, 2) := by decide +kernel
theorem st_180_119 : Sd 180 119 2 (i_ic 44) := sd_bipush dd_180_119 (by decide)
theorem dd_180_121 : decode (mi 180).2.1 121 = .ok (.if_icmp .ne 7, 3) := by decide +kernel
theorem st_180_121 : Sd 180 121 3 (i_cne 128) := sd_icmp_ne dd_180_121 (by decide)
theorem dd_180_124 : decode (mi 180).2.1 124 = .ok (.iload_n 1, 1) := by decide +kernel
theorem st_180_124 : Sd 180 124 1 (i_ldI 1) := sd_iload_n (j := 1) dd_180_124 rfl
theorem dd_180_125 : decode (mi 180).2.1 125 = .ok (.ifCond .ne 5, 3) := by decide +kernel
theorem st_180_125 : Sd 180 125 3 (i_zne 130) := sd_if_ne dd_180_125 (by decide)
def bk_180_112 : Tr := sq (i_ldI 2) (sq (i_ic 1) (sq (i_cne 155) (sq (i_ldI 6) (sq (i_ic 44) (sq (i_cne 128) (sq (i_ldI 1) (sq (i_zne 130) (i_fall 128))))))))
theorem sb_180_112 : Sd 180 112 16 bk_180_112 := Sd.sq st_180_112 (Sd.sq st_180_113 (Sd.sq st_180_114 (Sd.sq st_180_117 (Sd.sq st_180_119 (Sd.sq st_180_121 (Sd.sq st_180_124 (Sd.sq st_180_125 (sd_fall rfl))))))))
theorem dd_180_128 : decode (mi 180).2.1 128 = .ok (.iconst (-1), 1) := by decide +kernel
theorem st_180_128 : Sd 180 128 1 (i_ic (-1)) := sd_iconst dd_180_128
theorem dd_180_129 : decode (mi 180).2.1 129 = .ok (.ireturn, 1) := by decide +kernel
theorem st_180_129 : Sd 180 129 1 (i_rI 0) := sd_ireturn dd_180_129 (by decide) mr_180
def bk_180_128 : Tr := sq (i_ic (-1)) (i_rI 0)
theorem sb_180_128 : Sd 180 128 2 bk_180_128 := Sd.sq st_180_128 (st_180_129)
theorem dd_180_130 : decode (mi 180).2.1 130 = .ok (.aload_n 0, 1) := by decide +kernel
theorem st_180_130 : Sd 180 130 1 (i_ldR 0) := sd_aload_n (j := 0) dd_180_130 rfl
theorem dd_180_131 : decode (mi 180).2.1 131 = .ok (.getfield 48, 3) := by decide +kernel
theorem st_180_131 : Sd 180 131 3 (i_gR 17 [2]) := sd_gR (ref := "ContractDeskModel") (decl := "ContractDeskModel") (name := "open") (desc := "[C") dd_180_131 (by rw [mc_180]; exact tw_1277) (Or.inl rfl) (by decide +kernel)
theorem dd_180_134 : decode (mi 180).2.1 134 = .ok (.iload_n 1, 1) := by decide +kernel
theorem st_180_134 : Sd 180 134 1 (i_ldI 1) := sd_iload_n (j := 1) dd_180_134 rfl
theorem dd_180_135 : decode (mi 180).2.1 135 = .ok (.iconst 1, 1) := by decide +kernel
theorem st_180_135 : Sd 180 135 1 (i_ic 1) := sd_iconst dd_180_135
theorem dd_180_136 : decode (mi 180).2.1 136 = .ok (.isub, 1) := by decide +kernel
theorem st_180_136 : Sd 180 136 1 (i_isub) := sd_isub dd_180_136
theorem dd_180_137 : decode (mi 180).2.1 137 = .ok (.caload, 1) := by decide +kernel
theorem st_180_137 : Sd 180 137 1 (i_aI [21]) := sd_caload dd_180_137 (by decide)
theorem dd_180_138 : decode (mi 180).2.1 138 = .ok (.bipush 123, 2) := by decide +kernel
theorem st_180_138 : Sd 180 138 2 (i_ic 123) := sd_bipush dd_180_138 (by decide)
theorem dd_180_140 : decode (mi 180).2.1 140 = .ok (.if_icmp .ne 7, 3) := by decide +kernel
theorem st_180_140 : Sd 180 140 3 (i_cne 147) := sd_icmp_ne dd_180_140 (by decide)
theorem dd_180_143 : decode (mi 180).2.1 143 = .ok (.iconst 4, 1) := by decide +kernel
theorem st_180_143 : Sd 180 143 1 (i_ic 4) := sd_iconst dd_180_143
theorem dd_180_144 : decode (mi 180).2.1 144 = .ok (.goto 4, 3) := by decide +kernel
theorem st_180_144 : Sd 180 144 3 (i_goto 148) := sd_goto dd_180_144 (by decide)
def bk_180_130 : Tr := sq (i_ldR 0) (sq (i_gR 17 [2]) (sq (i_ldI 1) (sq (i_ic 1) (sq (i_isub) (sq (i_aI [21]) (sq (i_ic 123) (sq (i_cne 147) (sq (i_ic 4) (i_goto 148)))))))))
theorem sb_180_130 : Sd 180 130 17 bk_180_130 := Sd.sq st_180_130 (Sd.sq st_180_131 (Sd.sq st_180_134 (Sd.sq st_180_135 (Sd.sq st_180_136 (Sd.sq st_180_137 (Sd.sq st_180_138 (Sd.sq st_180_140 (Sd.sq st_180_143 (st_180_144)))))))))
theorem dd_180_147 : decode (mi 180).2.1 147 = .ok (.iconst 0, 1) := by decide +kernel
theorem st_180_147 : Sd 180 147 1 (i_ic 0) := sd_iconst dd_180_147
def bk_180_147 : Tr := sq (i_ic 0) (i_fall 148)
theorem sb_180_147 : Sd 180 147 1 bk_180_147 := Sd.sq st_180_147 (sd_fall rfl)
theorem dd_180_148 : decode (mi 180).2.1 148 = .ok (.istore_n 2, 1) := by decide +kernel
theorem st_180_148 : Sd 180 148 1 (i_stI 2) := sd_istore_n (j := 2) dd_180_148 rfl
theorem dd_180_149 : decode (mi 180).2.1 149 = .ok (.iinc 4 1, 3) := by decide +kernel
theorem st_180_149 : Sd 180 149 3 (i_inc 4 1) := sd_iinc dd_180_149
theorem dd_180_152 : decode (mi 180).2.1 152 = .ok (.goto 194, 3) := by decide +kernel
theorem st_180_152 : Sd 180 152 3 (i_goto 346) := sd_goto dd_180_152 (by decide)
def bk_180_148 : Tr := sq (i_stI 2) (sq (i_inc 4 1) (i_goto 346))
theorem sb_180_148 : Sd 180 148 7 bk_180_148 := Sd.sq st_180_148 (Sd.sq st_180_149 (st_180_152))
theorem dd_180_155 : decode (mi 180).2.1 155 = .ok (.iload_n 2, 1) := by decide +kernel
theorem st_180_155 : Sd 180 155 1 (i_ldI 2) := sd_iload_n (j := 2) dd_180_155 rfl
theorem dd_180_156 : decode (mi 180).2.1 156 = .ok (.iconst 2, 1) := by decide +kernel
theorem st_180_156 : Sd 180 156 1 (i_ic 2) := sd_iconst dd_180_156
theorem dd_180_157 : decode (mi 180).2.1 157 = .ok (.if_icmp .le 108, 3) := by decide +kernel
theorem st_180_157 : Sd 180 157 3 (i_cle 265) := sd_icmp_le dd_180_157 (by decide)
theorem dd_180_160 : decode (mi 180).2.1 160 = .ok (.aload_n 0, 1) := by decide +kernel
theorem st_180_160 : Sd 180 160 1 (i_ldR 0) := sd_aload_n (j := 0) dd_180_160 rfl
theorem dd_180_161 : decode (mi 180).2.1 161 = .ok (.iload 4, 2) := by decide +kernel
theorem st_180_161 : Sd 180 161 2 (i_ldI 4) := sd_iload dd_180_161
theorem dd_180_163 : decode (mi 180).2.1 163 = .ok (.iconst 1, 1) := by decide +kernel
theorem st_180_163 : Sd 180 163 1 (i_ic 1) := sd_iconst dd_180_163
theorem dd_180_164 : decode (mi 180).2.1 164 = .ok (.iadd, 1) := by decide +kernel
theorem st_180_164 : Sd 180 164 1 (i_iadd) := sd_iadd dd_180_164
theorem dd_180_165 : decode (mi 180).2.1 165 = .ok (.invokevirtual 103, 3) := by decide +kernel
theorem st_180_165 : Sd 180 165 3 (i_cV [(2, 129)] 2 8 []) := sd_virt ⟨"ContractDeskModel", "at", "(I)C"⟩ dd_180_165 (by rw [mc_180]; exact tw_1388) (fun t j h => by simp only [List.mem_cons, List.not_mem_nil, or_false, Prod.mk.injEq] at h; obtain ⟨rfl, rfl⟩ := h; exact mn_129) (fun t j h => by simp only [List.mem_cons, List.not_mem_nil, or_false, Prod.mk.injEq] at h; obtain ⟨rfl, rfl⟩ := h; exact ⟨by rw [mn_129]; exact tw_30, by rw [mn_129]; exact tw_1390, mt_129, by decide, by decide⟩) (by unfold prm; decide +kernel) ml_180 (HsOk.nil (by decide +kernel))
theorem dd_180_168 : decode (mi 180).2.1 168 = .ok (.istore 7, 2) := by decide +kernel
theorem st_180_168 : Sd 180 168 2 (i_stI 7) := sd_istore dd_180_168
theorem dd_180_170 : decode (mi 180).2.1 170 = .ok (.iload 6, 2) := by decide +kernel
theorem st_180_170 : Sd 180 170 2 (i_ldI 6) := sd_iload dd_180_170
theorem dd_180_172 : decode (mi 180).2.1 172 = .ok (.bipush 34, 2) := by decide +kernel
theorem st_180_172 : Sd 180 172 2 (i_ic 34) := sd_bipush dd_180_172 (by decide)
theorem dd_180_174 : decode (mi 180).2.1 174 = .ok (.if_icmp .ne 57, 3) := by decide +kernel
theorem st_180_174 : Sd 180 174 3 (i_cne 231) := sd_icmp_ne dd_180_174 (by decide)
theorem dd_180_177 : decode (mi 180).2.1 177 = .ok (.iload 7, 2) := by decide +kernel
theorem st_180_177 : Sd 180 177 2 (i_ldI 7) := sd_iload dd_180_177
theorem dd_180_179 : decode (mi 180).2.1 179 = .ok (.invokestatic 111, 3) := by decide +kernel
theorem st_180_179 : Sd 180 179 3 (i_cS 148 1 8 []) := sd_static dd_180_179 (by rw [mc_180, mn_148]; exact tw_1392) (by rw [mn_148]; exact tw_1393) mt_148 pm_148 ml_180 (HsOk.nil (by decide +kernel))
theorem dd_180_182 : decode (mi 180).2.1 182 = .ok (.ifCond .eq 49, 3) := by decide +kernel
theorem st_180_182 : Sd 180 182 3 (i_zeq 231) := sd_if_eq dd_180_182 (by decide)
theorem dd_180_185 : decode (mi 180).2.1 185 = .ok (.aload_n 0, 1) := by decide +kernel
theorem st_180_185 : Sd 180 185 1 (i_ldR 0) := sd_aload_n (j := 0) dd_180_185 rfl
theorem dd_180_186 : decode (mi 180).2.1 186 = .ok (.iload 4, 2) := by decide +kernel
theorem st_180_186 : Sd 180 186 2 (i_ldI 4) := sd_iload dd_180_186
theorem dd_180_188 : decode (mi 180).2.1 188 = .ok (.iconst 2, 1) := by decide +kernel
theorem st_180_188 : Sd 180 188 1 (i_ic 2) := sd_iconst dd_180_188
theorem dd_180_189 : decode (mi 180).2.1 189 = .ok (.iadd, 1) := by decide +kernel
theorem st_180_189 : Sd 180 189 1 (i_iadd) := sd_iadd dd_180_189
theorem dd_180_190 : decode (mi 180).2.1 190 = .ok (.invokevirtual 103, 3) := by decide +kernel
theorem st_180_190 : Sd 180 190 3 (i_cV [(2, 129)] 2 8 []) := sd_virt ⟨"ContractDeskModel", "at", "(I)C"⟩ dd_180_190 (by rw [mc_180]; exact tw_1388) (fun t j h => by simp only [List.mem_cons, List.not_mem_nil, or_false, Prod.mk.injEq] at h; obtain ⟨rfl, rfl⟩ := h; exact mn_129) (fun t j h => by simp only [List.mem_cons, List.not_mem_nil, or_false, Prod.mk.injEq] at h; obtain ⟨rfl, rfl⟩ := h; exact ⟨by rw [mn_129]; exact tw_30, by rw [mn_129]; exact tw_1390, mt_129, by decide, by decide⟩) (by unfold prm; decide +kernel) ml_180 (HsOk.nil (by decide +kernel))
theorem dd_180_193 : decode (mi 180).2.1 193 = .ok (.bipush 34, 2) := by decide +kernel
theorem st_180_193 : Sd 180 193 2 (i_ic 34) := sd_bipush dd_180_193 (by decide)
theorem dd_180_195 : decode (mi 180).2.1 195 = .ok (.if_icmp .ne 36, 3) := by decide +kernel
theorem st_180_195 : Sd 180 195 3 (i_cne 231) := sd_icmp_ne dd_180_195 (by decide)
theorem dd_180_198 : decode (mi 180).2.1 198 = .ok (.aload_n 0, 1) := by decide +kernel
theorem st_180_198 : Sd 180 198 1 (i_ldR 0) := sd_aload_n (j := 0) dd_180_198 rfl
theorem dd_180_199 : decode (mi 180).2.1 199 = .ok (.iload 4, 2) := by decide +kernel
theorem st_180_199 : Sd 180 199 2 (i_ldI 4) := sd_iload dd_180_199
theorem dd_180_201 : decode (mi 180).2.1 201 = .ok (.iconst 3, 1) := by decide +kernel
theorem st_180_201 : Sd 180 201 1 (i_ic 3) := sd_iconst dd_180_201
theorem dd_180_202 : decode (mi 180).2.1 202 = .ok (.iadd, 1) := by decide +kernel
theorem st_180_202 : Sd 180 202 1 (i_iadd) := sd_iadd dd_180_202
theorem dd_180_203 : decode (mi 180).2.1 203 = .ok (.invokevirtual 103, 3) := by decide +kernel
theorem st_180_203 : Sd 180 203 3 (i_cV [(2, 129)] 2 8 []) := sd_virt ⟨"ContractDeskModel", "at", "(I)C"⟩ dd_180_203 (by rw [mc_180]; exact tw_1388) (fun t j h => by simp only [List.mem_cons, List.not_mem_nil, or_false, Prod.mk.injEq] at h; obtain ⟨rfl, rfl⟩ := h; exact mn_129) (fun t j h => by simp only [List.mem_cons, List.not_mem_nil, or_false, Prod.mk.injEq] at h; obtain ⟨rfl, rfl⟩ := h; exact ⟨by rw [mn_129]; exact tw_30, by rw [mn_129]; exact tw_1390, mt_129, by decide, by decide⟩) (by unfold prm; decide +kernel) ml_180 (HsOk.nil (by decide +kernel))
theorem dd_180_206 : decode (mi 180).2.1 206 = .ok (.bipush 58, 2) := by decide +kernel
theorem st_180_206 : Sd 180 206 2 (i_ic 58) := sd_bipush dd_180_206 (by decide)
theorem dd_180_208 : decode (mi 180).2.1 208 = .ok (.if_icmp .ne 23, 3) := by decide +kernel
theorem st_180_208 : Sd 180 208 3 (i_cne 231) := sd_icmp_ne dd_180_208 (by decide)
theorem dd_180_211 : decode (mi 180).2.1 211 = .ok (.aload_n 0, 1) := by decide +kernel
theorem st_180_211 : Sd 180 211 1 (i_ldR 0) := sd_aload_n (j := 0) dd_180_211 rfl
theorem dd_180_212 : decode (mi 180).2.1 212 = .ok (.getfield 51, 3) := by decide +kernel
theorem st_180_212 : Sd 180 212 3 (i_gR 18 [2]) := sd_gR (ref := "ContractDeskModel") (decl := "ContractDeskModel") (name := "keys") (desc := "[I") dd_180_212 (by rw [mc_180]; exact tw_1278) (Or.inl rfl) (by decide +kernel)
theorem dd_180_215 : decode (mi 180).2.1 215 = .ok (.iload_n 1, 1) := by decide +kernel
theorem st_180_215 : Sd 180 215 1 (i_ldI 1) := sd_iload_n (j := 1) dd_180_215 rfl
theorem dd_180_216 : decode (mi 180).2.1 216 = .ok (.iconst 1, 1) := by decide +kernel
theorem st_180_216 : Sd 180 216 1 (i_ic 1) := sd_iconst dd_180_216
theorem dd_180_217 : decode (mi 180).2.1 217 = .ok (.isub, 1) := by decide +kernel
theorem st_180_217 : Sd 180 217 1 (i_isub) := sd_isub dd_180_217
theorem dd_180_218 : decode (mi 180).2.1 218 = .ok (.iaload, 1) := by decide +kernel
theorem st_180_218 : Sd 180 218 1 (i_aI [20]) := sd_iaload dd_180_218 (by decide)
theorem dd_180_219 : decode (mi 180).2.1 219 = .ok (.iload 7, 2) := by decide +kernel
theorem st_180_219 : Sd 180 219 2 (i_ldI 7) := sd_iload dd_180_219
theorem dd_180_221 : decode (mi 180).2.1 221 = .ok (.bipush 97, 2) := by decide +kernel
theorem st_180_221 : Sd 180 221 2 (i_ic 97) := sd_bipush dd_180_221 (by decide)
theorem dd_180_223 : decode (mi 180).2.1 223 = .ok (.isub, 1) := by decide +kernel
theorem st_180_223 : Sd 180 223 1 (i_isub) := sd_isub dd_180_223
theorem dd_180_224 : decode (mi 180).2.1 224 = .ok (.ishr, 1) := by decide +kernel
theorem st_180_224 : Sd 180 224 1 (i_ishr) := sd_ishr dd_180_224
theorem dd_180_225 : decode (mi 180).2.1 225 = .ok (.iconst 1, 1) := by decide +kernel
theorem st_180_225 : Sd 180 225 1 (i_ic 1) := sd_iconst dd_180_225
theorem dd_180_226 : decode (mi 180).2.1 226 = .ok (.iand, 1) := by decide +kernel
theorem st_180_226 : Sd 180 226 1 (i_iand) := sd_iand dd_180_226
theorem dd_180_227 : decode (mi 180).2.1 227 = .ok (.iconst 1, 1) := by decide +kernel
theorem st_180_227 : Sd 180 227 1 (i_ic 1) := sd_iconst dd_180_227
theorem dd_180_228 : decode (mi 180).2.1 228 = .ok (.if_icmp .ne 5, 3) := by decide +kernel
theorem st_180_228 : Sd 180 228 3 (i_cne 233) := sd_icmp_ne dd_180_228 (by decide)
def bk_180_155 : Tr := sq (i_ldI 2) (sq (i_ic 2) (sq (i_cle 265) (sq (i_ldR 0) (sq (i_ldI 4) (sq (i_ic 1) (sq (i_iadd) (sq (i_cV [(2, 129)] 2 8 []) (sq (i_stI 7) (sq (i_ldI 6) (sq (i_ic 34) (sq (i_cne 231) (sq (i_ldI 7) (sq (i_cS 148 1 8 []) (sq (i_zeq 231) (sq (i_ldR 0) (sq (i_ldI 4) (sq (i_ic 2) (sq (i_iadd) (sq (i_cV [(2, 129)] 2 8 []) (sq (i_ic 34) (sq (i_cne 231) (sq (i_ldR 0) (sq (i_ldI 4) (sq (i_ic 3) (sq (i_iadd) (sq (i_cV [(2, 129)] 2 8 []) (sq (i_ic 58) (sq (i_cne 231) (sq (i_ldR 0) (sq (i_gR 18 [2]) (sq (i_ldI 1) (sq (i_ic 1) (sq (i_isub) (sq (i_aI [20]) (sq (i_ldI 7) (sq (i_ic 97) (sq (i_isub) (sq (i_ishr) (sq (i_ic 1) (sq (i_iand) (sq (i_ic 1) (sq (i_cne 233) (i_fall 231)))))))))))))))))))))))))))))))))))))))))))
theorem sb_180_155 : Sd 180 155 76 bk_180_155 := Sd.sq st_180_155 (Sd.sq st_180_156 (Sd.sq st_180_157 (Sd.sq st_180_160 (Sd.sq st_180_161 (Sd.sq st_180_163 (Sd.sq st_180_164 (Sd.sq st_180_165 (Sd.sq st_180_168 (Sd.sq st_180_170 (Sd.sq st_180_172 (Sd.sq st_180_174 (Sd.sq st_180_177 (Sd.sq st_180_179 (Sd.sq st_180_182 (Sd.sq st_180_185 (Sd.sq st_180_186 (Sd.sq st_180_188 (Sd.sq st_180_189 (Sd.sq st_180_190 (Sd.sq st_180_193 (Sd.sq st_180_195 (Sd.sq st_180_198 (Sd.sq st_180_199 (Sd.sq st_180_201 (Sd.sq st_180_202 (Sd.sq st_180_203 (Sd.sq st_180_206 (Sd.sq st_180_208 (Sd.sq st_180_211 (Sd.sq st_180_212 (Sd.sq st_180_215 (Sd.sq st_180_216 (Sd.sq st_180_217 (Sd.sq st_180_218 (Sd.sq st_180_219 (Sd.sq st_180_221 (Sd.sq st_180_223 (Sd.sq st_180_224 (Sd.sq st_180_225 (Sd.sq st_180_226 (Sd.sq st_180_227 (Sd.sq st_180_228 (sd_fall rfl)))))))))))))))))))))))))))))))))))))))))))
theorem dd_180_231 : decode (mi 180).2.1 231 = .ok (.iconst (-1), 1) := by decide +kernel
theorem st_180_231 : Sd 180 231 1 (i_ic (-1)) := sd_iconst dd_180_231
theorem dd_180_232 : decode (mi 180).2.1 232 = .ok (.ireturn, 1) := by decide +kernel
theorem st_180_232 : Sd 180 232 1 (i_rI 0) := sd_ireturn dd_180_232 (by decide) mr_180
def bk_180_231 : Tr := sq (i_ic (-1)) (i_rI 0)
theorem sb_180_231 : Sd 180 231 2 bk_180_231 := Sd.sq st_180_231 (st_180_232)
theorem dd_180_233 : decode (mi 180).2.1 233 = .ok (.aload_n 0, 1) := by decide +kernel
theorem st_180_233 : Sd 180 233 1 (i_ldR 0) := sd_aload_n (j := 0) dd_180_233 rfl
theorem dd_180_234 : decode (mi 180).2.1 234 = .ok (.getfield 51, 3) := by decide +kernel
theorem st_180_234 : Sd 180 234 3 (i_gR 18 [2]) := sd_gR (ref := "ContractDeskModel") (decl := "ContractDeskModel") (name := "keys") (desc := "[I") dd_180_234 (by rw [mc_180]; exact tw_1278) (Or.inl rfl) (by decide +kernel)
theorem dd_180_237 : decode (mi 180).2.1 237 = .ok (.iload_n 1, 1) := by decide +kernel
theorem st_180_237 : Sd 180 237 1 (i_ldI 1) := sd_iload_n (j := 1) dd_180_237 rfl
theorem dd_180_238 : decode (mi 180).2.1 238 = .ok (.iconst 1, 1) := by decide +kernel
theorem st_180_238 : Sd 180 238 1 (i_ic 1) := sd_iconst dd_180_238
theorem dd_180_239 : decode (mi 180).2.1 239 = .ok (.isub, 1) := by decide +kernel
theorem st_180_239 : Sd 180 239 1 (i_isub) := sd_isub dd_180_239
theorem dd_180_240 : decode (mi 180).2.1 240 = .ok (.aload_n 0, 1) := by decide +kernel
theorem st_180_240 : Sd 180 240 1 (i_ldR 0) := sd_aload_n (j := 0) dd_180_240 rfl
theorem dd_180_241 : decode (mi 180).2.1 241 = .ok (.getfield 51, 3) := by decide +kernel
theorem st_180_241 : Sd 180 241 3 (i_gR 18 [2]) := sd_gR (ref := "ContractDeskModel") (decl := "ContractDeskModel") (name := "keys") (desc := "[I") dd_180_241 (by rw [mc_180]; exact tw_1278) (Or.inl rfl) (by decide +kernel)
theorem dd_180_244 : decode (mi 180).2.1 244 = .ok (.iload_n 1, 1) := by decide +kernel
theorem st_180_244 : Sd 180 244 1 (i_ldI 1) := sd_iload_n (j := 1) dd_180_244 rfl
theorem dd_180_245 : decode (mi 180).2.1 245 = .ok (.iconst 1, 1) := by decide +kernel
theorem st_180_245 : Sd 180 245 1 (i_ic 1) := sd_iconst dd_180_245
theorem dd_180_246 : decode (mi 180).2.1 246 = .ok (.isub, 1) := by decide +kernel
theorem st_180_246 : Sd 180 246 1 (i_isub) := sd_isub dd_180_246
theorem dd_180_247 : decode (mi 180).2.1 247 = .ok (.iaload, 1) := by decide +kernel
theorem st_180_247 : Sd 180 247 1 (i_aI [20]) := sd_iaload dd_180_247 (by decide)
theorem dd_180_248 : decode (mi 180).2.1 248 = .ok (.iconst 1, 1) := by decide +kernel
theorem st_180_248 : Sd 180 248 1 (i_ic 1) := sd_iconst dd_180_248
theorem dd_180_249 : decode (mi 180).2.1 249 = .ok (.iload 7, 2) := by decide +kernel
theorem st_180_249 : Sd 180 249 2 (i_ldI 7) := sd_iload dd_180_249
theorem dd_180_251 : decode (mi 180).2.1 251 = .ok (.bipush 97, 2) := by decide +kernel
theorem st_180_251 : Sd 180 251 2 (i_ic 97) := sd_bipush dd_180_251 (by decide)
theorem dd_180_253 : decode (mi 180).2.1 253 = .ok (.isub, 1) := by decide +kernel
theorem st_180_253 : Sd 180 253 1 (i_isub) := sd_isub dd_180_253
theorem dd_180_254 : decode (mi 180).2.1 254 = .ok (.ishl, 1) := by decide +kernel
theorem st_180_254 : Sd 180 254 1 (i_ishl) := sd_ishl dd_180_254
theorem dd_180_255 : decode (mi 180).2.1 255 = .ok (.ior, 1) := by decide +kernel
theorem st_180_255 : Sd 180 255 1 (i_ior) := sd_ior dd_180_255
theorem dd_180_256 : decode (mi 180).2.1 256 = .ok (.iastore, 1) := by decide +kernel
theorem st_180_256 : Sd 180 256 1 (i_sI [20] 0) := sd_iastore dd_180_256 (by decide)
theorem dd_180_257 : decode (mi 180).2.1 257 = .ok (.iconst 0, 1) := by decide +kernel
theorem st_180_257 : Sd 180 257 1 (i_ic 0) := sd_iconst dd_180_257
theorem dd_180_258 : decode (mi 180).2.1 258 = .ok (.istore_n 2, 1) := by decide +kernel
theorem st_180_258 : Sd 180 258 1 (i_stI 2) := sd_istore_n (j := 2) dd_180_258 rfl
theorem dd_180_259 : decode (mi 180).2.1 259 = .ok (.iinc 4 4, 3) := by decide +kernel
theorem st_180_259 : Sd 180 259 3 (i_inc 4 4) := sd_iinc dd_180_259
theorem dd_180_262 : decode (mi 180).2.1 262 = .ok (.goto 84, 3) := by decide +kernel
theorem st_180_262 : Sd 180 262 3 (i_goto 346) := sd_goto dd_180_262 (by decide)
def bk_180_233 : Tr := sq (i_ldR 0) (sq (i_gR 18 [2]) (sq (i_ldI 1) (sq (i_ic 1) (sq (i_isub) (sq (i_ldR 0) (sq (i_gR 18 [2]) (sq (i_ldI 1) (sq (i_ic 1) (sq (i_isub) (sq (i_aI [20]) (sq (i_ic 1) (sq (i_ldI 7) (sq (i_ic 97) (sq (i_isub) (sq (i_ishl) (sq (i_ior) (sq (i_sI [20] 0) (sq (i_ic 0) (sq (i_stI 2) (sq (i_inc 4 4) (i_goto 346)))))))))))))))))))))
theorem sb_180_233 : Sd 180 233 32 bk_180_233 := Sd.sq st_180_233 (Sd.sq st_180_234 (Sd.sq st_180_237 (Sd.sq st_180_238 (Sd.sq st_180_239 (Sd.sq st_180_240 (Sd.sq st_180_241 (Sd.sq st_180_244 (Sd.sq st_180_245 (Sd.sq st_180_246 (Sd.sq st_180_247 (Sd.sq st_180_248 (Sd.sq st_180_249 (Sd.sq st_180_251 (Sd.sq st_180_253 (Sd.sq st_180_254 (Sd.sq st_180_255 (Sd.sq st_180_256 (Sd.sq st_180_257 (Sd.sq st_180_258 (Sd.sq st_180_259 (st_180_262)))))))))))))))))))))
theorem dd_180_265 : decode (mi 180).2.1 265 = .ok (.iload 6, 2) := by decide +kernel
theorem st_180_265 : Sd 180 265 2 (i_ldI 6) := sd_iload dd_180_265
theorem dd_180_267 : decode (mi 180).2.1 267 = .ok (.bipush 91, 2) := by decide +kernel
theorem st_180_267 : Sd 180 267 2 (i_ic 91) := sd_bipush dd_180_267 (by decide)
theorem dd_180_269 : decode (mi 180).2.1 269 = .ok (.if_icmp .eq 10, 3) := by decide +kernel
theorem st_180_269 : Sd 180 269 3 (i_ceq 279) := sd_icmp_eq dd_180_269 (by decide)
theorem dd_180_272 : decode (mi 180).2.1 272 = .ok (.iload 6, 2) := by decide +kernel
theorem st_180_272 : Sd 180 272 2 (i_ldI 6) := sd_iload dd_180_272
theorem dd_180_274 : decode (mi 180).2.1 274 = .ok (.bipush 123, 2) := by decide +kernel
theorem st_180_274 : Sd 180 274 2 (i_ic 123) := sd_bipush dd_180_274 (by decide)
theorem dd_180_276 : decode (mi 180).2.1 276 = .ok (.if_icmp .ne 50, 3) := by decide +kernel
theorem st_180_276 : Sd 180 276 3 (i_cne 326) := sd_icmp_ne dd_180_276 (by decide)
def bk_180_265 : Tr := sq (i_ldI 6) (sq (i_ic 91) (sq (i_ceq 279) (sq (i_ldI 6) (sq (i_ic 123) (sq (i_cne 326) (i_fall 279))))))
theorem sb_180_265 : Sd 180 265 14 bk_180_265 := Sd.sq st_180_265 (Sd.sq st_180_267 (Sd.sq st_180_269 (Sd.sq st_180_272 (Sd.sq st_180_274 (Sd.sq st_180_276 (sd_fall rfl))))))
theorem dd_180_279 : decode (mi 180).2.1 279 = .ok (.iload_n 1, 1) := by decide +kernel
theorem st_180_279 : Sd 180 279 1 (i_ldI 1) := sd_iload_n (j := 1) dd_180_279 rfl
theorem dd_180_280 : decode (mi 180).2.1 280 = .ok (.iconst 5, 1) := by decide +kernel
theorem st_180_280 : Sd 180 280 1 (i_ic 5) := sd_iconst dd_180_280
theorem dd_180_281 : decode (mi 180).2.1 281 = .ok (.if_icmp .ne 5, 3) := by decide +kernel
theorem st_180_281 : Sd 180 281 3 (i_cne 286) := sd_icmp_ne dd_180_281 (by decide)
theorem dd_180_284 : decode (mi 180).2.1 284 = .ok (.iconst (-1), 1) := by decide +kernel
theorem st_180_284 : Sd 180 284 1 (i_ic (-1)) := sd_iconst dd_180_284
theorem dd_180_285 : decode (mi 180).2.1 285 = .ok (.ireturn, 1) := by decide +kernel
theorem st_180_285 : Sd 180 285 1 (i_rI 0) := sd_ireturn dd_180_285 (by decide) mr_180
def bk_180_279 : Tr := sq (i_ldI 1) (sq (i_ic 5) (sq (i_cne 286) (sq (i_ic (-1)) (i_rI 0))))
theorem sb_180_279 : Sd 180 279 7 bk_180_279 := Sd.sq st_180_279 (Sd.sq st_180_280 (Sd.sq st_180_281 (Sd.sq st_180_284 (st_180_285))))
theorem dd_180_286 : decode (mi 180).2.1 286 = .ok (.aload_n 0, 1) := by decide +kernel
theorem st_180_286 : Sd 180 286 1 (i_ldR 0) := sd_aload_n (j := 0) dd_180_286 rfl
theorem dd_180_287 : decode (mi 180).2.1 287 = .ok (.getfield 48, 3) := by decide +kernel
theorem st_180_287 : Sd 180 287 3 (i_gR 17 [2]) := sd_gR (ref := "ContractDeskModel") (decl := "ContractDeskModel") (name := "open") (desc := "[C") dd_180_287 (by rw [mc_180]; exact tw_1277) (Or.inl rfl) (by decide +kernel)
theorem dd_180_290 : decode (mi 180).2.1 290 = .ok (.iload_n 1, 1) := by decide +kernel
theorem st_180_290 : Sd 180 290 1 (i_ldI 1) := sd_iload_n (j := 1) dd_180_290 rfl
theorem dd_180_291 : decode (mi 180).2.1 291 = .ok (.iload 6, 2) := by decide +kernel
theorem st_180_291 : Sd 180 291 2 (i_ldI 6) := sd_iload dd_180_291
theorem dd_180_293 : decode (mi 180).2.1 293 = .ok (.castore, 1) := by decide +kernel
theorem st_180_293 : Sd 180 293 1 (i_sI [21] 1) := sd_castore dd_180_293 (by decide)
theorem dd_180_294 : decode (mi 180).2.1 294 = .ok (.aload_n 0, 1) := by decide +kernel
theorem st_180_294 : Sd 180 294 1 (i_ldR 0) := sd_aload_n (j := 0) dd_180_294 rfl
theorem dd_180_295 : decode (mi 180).2.1 295 = .ok (.getfield 51, 3) := by decide +kernel
theorem st_180_295 : Sd 180 295 3 (i_gR 18 [2]) := sd_gR (ref := "ContractDeskModel") (decl := "ContractDeskModel") (name := "keys") (desc := "[I") dd_180_295 (by rw [mc_180]; exact tw_1278) (Or.inl rfl) (by decide +kernel)
theorem dd_180_298 : decode (mi 180).2.1 298 = .ok (.iload_n 1, 1) := by decide +kernel
theorem st_180_298 : Sd 180 298 1 (i_ldI 1) := sd_iload_n (j := 1) dd_180_298 rfl
theorem dd_180_299 : decode (mi 180).2.1 299 = .ok (.iconst 0, 1) := by decide +kernel
theorem st_180_299 : Sd 180 299 1 (i_ic 0) := sd_iconst dd_180_299
theorem dd_180_300 : decode (mi 180).2.1 300 = .ok (.iastore, 1) := by decide +kernel
theorem st_180_300 : Sd 180 300 1 (i_sI [20] 0) := sd_iastore dd_180_300 (by decide)
theorem dd_180_301 : decode (mi 180).2.1 301 = .ok (.iinc 1 1, 3) := by decide +kernel
theorem st_180_301 : Sd 180 301 3 (i_inc 1 1) := sd_iinc dd_180_301
theorem dd_180_304 : decode (mi 180).2.1 304 = .ok (.iinc 3 1, 3) := by decide +kernel
theorem st_180_304 : Sd 180 304 3 (i_inc 3 1) := sd_iinc dd_180_304
theorem dd_180_307 : decode (mi 180).2.1 307 = .ok (.iload 6, 2) := by decide +kernel
theorem st_180_307 : Sd 180 307 2 (i_ldI 6) := sd_iload dd_180_307
theorem dd_180_309 : decode (mi 180).2.1 309 = .ok (.bipush 91, 2) := by decide +kernel
theorem st_180_309 : Sd 180 309 2 (i_ic 91) := sd_bipush dd_180_309 (by decide)
theorem dd_180_311 : decode (mi 180).2.1 311 = .ok (.if_icmp .ne 7, 3) := by decide +kernel
theorem st_180_311 : Sd 180 311 3 (i_cne 318) := sd_icmp_ne dd_180_311 (by decide)
theorem dd_180_314 : decode (mi 180).2.1 314 = .ok (.iconst 2, 1) := by decide +kernel
theorem st_180_314 : Sd 180 314 1 (i_ic 2) := sd_iconst dd_180_314
theorem dd_180_315 : decode (mi 180).2.1 315 = .ok (.goto 4, 3) := by decide +kernel
theorem st_180_315 : Sd 180 315 3 (i_goto 319) := sd_goto dd_180_315 (by decide)
def bk_180_286 : Tr := sq (i_ldR 0) (sq (i_gR 17 [2]) (sq (i_ldI 1) (sq (i_ldI 6) (sq (i_sI [21] 1) (sq (i_ldR 0) (sq (i_gR 18 [2]) (sq (i_ldI 1) (sq (i_ic 0) (sq (i_sI [20] 0) (sq (i_inc 1 1) (sq (i_inc 3 1) (sq (i_ldI 6) (sq (i_ic 91) (sq (i_cne 318) (sq (i_ic 2) (i_goto 319))))))))))))))))
theorem sb_180_286 : Sd 180 286 32 bk_180_286 := Sd.sq st_180_286 (Sd.sq st_180_287 (Sd.sq st_180_290 (Sd.sq st_180_291 (Sd.sq st_180_293 (Sd.sq st_180_294 (Sd.sq st_180_295 (Sd.sq st_180_298 (Sd.sq st_180_299 (Sd.sq st_180_300 (Sd.sq st_180_301 (Sd.sq st_180_304 (Sd.sq st_180_307 (Sd.sq st_180_309 (Sd.sq st_180_311 (Sd.sq st_180_314 (st_180_315))))))))))))))))
theorem dd_180_318 : decode (mi 180).2.1 318 = .ok (.iconst 3, 1) := by decide +kernel
theorem st_180_318 : Sd 180 318 1 (i_ic 3) := sd_iconst dd_180_318
def bk_180_318 : Tr := sq (i_ic 3) (i_fall 319)
theorem sb_180_318 : Sd 180 318 1 bk_180_318 := Sd.sq st_180_318 (sd_fall rfl)
theorem dd_180_319 : decode (mi 180).2.1 319 = .ok (.istore_n 2, 1) := by decide +kernel
theorem st_180_319 : Sd 180 319 1 (i_stI 2) := sd_istore_n (j := 2) dd_180_319 rfl
theorem dd_180_320 : decode (mi 180).2.1 320 = .ok (.iinc 4 1, 3) := by decide +kernel
theorem st_180_320 : Sd 180 320 3 (i_inc 4 1) := sd_iinc dd_180_320
theorem dd_180_323 : decode (mi 180).2.1 323 = .ok (.goto 23, 3) := by decide +kernel
theorem st_180_323 : Sd 180 323 3 (i_goto 346) := sd_goto dd_180_323 (by decide)
def bk_180_319 : Tr := sq (i_stI 2) (sq (i_inc 4 1) (i_goto 346))
theorem sb_180_319 : Sd 180 319 7 bk_180_319 := Sd.sq st_180_319 (Sd.sq st_180_320 (st_180_323))
theorem dd_180_326 : decode (mi 180).2.1 326 = .ok (.aload_n 0, 1) := by decide +kernel
theorem st_180_326 : Sd 180 326 1 (i_ldR 0) := sd_aload_n (j := 0) dd_180_326 rfl
theorem dd_180_327 : decode (mi 180).2.1 327 = .ok (.iload 4, 2) := by decide +kernel
theorem st_180_327 : Sd 180 327 2 (i_ldI 4) := sd_iload dd_180_327
theorem dd_180_329 : decode (mi 180).2.1 329 = .ok (.invokevirtual 118, 3) := by decide +kernel
theorem st_180_329 : Sd 180 329 3 (i_cV [(2, 167)] 2 8 []) := sd_virt ⟨"ContractDeskModel", "plainEnd", "(I)I"⟩ dd_180_329 (by rw [mc_180]; exact tw_1395) (fun t j h => by simp only [List.mem_cons, List.not_mem_nil, or_false, Prod.mk.injEq] at h; obtain ⟨rfl, rfl⟩ := h; exact mn_167) (fun t j h => by simp only [List.mem_cons, List.not_mem_nil, or_false, Prod.mk.injEq] at h; obtain ⟨rfl, rfl⟩ := h; exact ⟨by rw [mn_167]; exact tw_31, by rw [mn_167]; exact tw_1397, mt_167, by decide, by decide⟩) (by unfold prm; decide +kernel) ml_180 (HsOk.nil (by decide +kernel))
theorem dd_180_332 : decode (mi 180).2.1 332 = .ok (.istore 4, 2) := by decide +kernel
theorem st_180_332 : Sd 180 332 2 (i_stI 4) := sd_istore dd_180_332
theorem dd_180_334 : decode (mi 180).2.1 334 = .ok (.iload 4, 2) := by decide +kernel
theorem st_180_334 : Sd 180 334 2 (i_ldI 4) := sd_iload dd_180_334
theorem dd_180_336 : decode (mi 180).2.1 336 = .ok (.ifCond .ge 5, 3) := by decide +kernel
theorem st_180_336 : Sd 180 336 3 (i_zge 341) := sd_if_ge dd_180_336 (by decide)
theorem dd_180_339 : decode (mi 180).2.1 339 = .ok (.iconst (-1), 1) := by decide +kernel
theorem st_180_339 : Sd 180 339 1 (i_ic (-1)) := sd_iconst dd_180_339
theorem dd_180_340 : decode (mi 180).2.1 340 = .ok (.ireturn, 1) := by decide +kernel
theorem st_180_340 : Sd 180 340 1 (i_rI 0) := sd_ireturn dd_180_340 (by decide) mr_180
def bk_180_326 : Tr := sq (i_ldR 0) (sq (i_ldI 4) (sq (i_cV [(2, 167)] 2 8 []) (sq (i_stI 4) (sq (i_ldI 4) (sq (i_zge 341) (sq (i_ic (-1)) (i_rI 0)))))))
theorem sb_180_326 : Sd 180 326 15 bk_180_326 := Sd.sq st_180_326 (Sd.sq st_180_327 (Sd.sq st_180_329 (Sd.sq st_180_332 (Sd.sq st_180_334 (Sd.sq st_180_336 (Sd.sq st_180_339 (st_180_340)))))))
theorem dd_180_341 : decode (mi 180).2.1 341 = .ok (.iinc 3 1, 3) := by decide +kernel
theorem st_180_341 : Sd 180 341 3 (i_inc 3 1) := sd_iinc dd_180_341
theorem dd_180_344 : decode (mi 180).2.1 344 = .ok (.iconst 1, 1) := by decide +kernel
theorem st_180_344 : Sd 180 344 1 (i_ic 1) := sd_iconst dd_180_344
theorem dd_180_345 : decode (mi 180).2.1 345 = .ok (.istore_n 2, 1) := by decide +kernel
theorem st_180_345 : Sd 180 345 1 (i_stI 2) := sd_istore_n (j := 2) dd_180_345 rfl
def bk_180_341 : Tr := sq (i_inc 3 1) (sq (i_ic 1) (sq (i_stI 2) (i_fall 346)))
theorem sb_180_341 : Sd 180 341 5 bk_180_341 := Sd.sq st_180_341 (Sd.sq st_180_344 (Sd.sq st_180_345 (sd_fall rfl)))
theorem dd_180_346 : decode (mi 180).2.1 346 = .ok (.goto (-325), 3) := by decide +kernel
theorem st_180_346 : Sd 180 346 3 (i_goto 21) := sd_goto dd_180_346 (by decide)
def bk_180_346 : Tr := i_goto 21
theorem sb_180_346 : Sd 180 346 3 bk_180_346 := st_180_346
theorem dd_180_349 : decode (mi 180).2.1 349 = .ok (.iload_n 1, 1) := by decide +kernel
theorem st_180_349 : Sd 180 349 1 (i_ldI 1) := sd_iload_n (j := 1) dd_180_349 rfl
theorem dd_180_350 : decode (mi 180).2.1 350 = .ok (.ifCond .ne 12, 3) := by decide +kernel
theorem st_180_350 : Sd 180 350 3 (i_zne 362) := sd_if_ne dd_180_350 (by decide)
theorem dd_180_353 : decode (mi 180).2.1 353 = .ok (.iload_n 2, 1) := by decide +kernel
theorem st_180_353 : Sd 180 353 1 (i_ldI 2) := sd_iload_n (j := 2) dd_180_353 rfl
theorem dd_180_354 : decode (mi 180).2.1 354 = .ok (.iconst 1, 1) := by decide +kernel
theorem st_180_354 : Sd 180 354 1 (i_ic 1) := sd_iconst dd_180_354
theorem dd_180_355 : decode (mi 180).2.1 355 = .ok (.if_icmp .ne 7, 3) := by decide +kernel
theorem st_180_355 : Sd 180 355 3 (i_cne 362) := sd_icmp_ne dd_180_355 (by decide)
theorem dd_180_358 : decode (mi 180).2.1 358 = .ok (.iload_n 3, 1) := by decide +kernel
theorem st_180_358 : Sd 180 358 1 (i_ldI 3) := sd_iload_n (j := 3) dd_180_358 rfl
theorem dd_180_359 : decode (mi 180).2.1 359 = .ok (.goto 4, 3) := by decide +kernel
theorem st_180_359 : Sd 180 359 3 (i_goto 363) := sd_goto dd_180_359 (by decide)
def bk_180_349 : Tr := sq (i_ldI 1) (sq (i_zne 362) (sq (i_ldI 2) (sq (i_ic 1) (sq (i_cne 362) (sq (i_ldI 3) (i_goto 363))))))
theorem sb_180_349 : Sd 180 349 13 bk_180_349 := Sd.sq st_180_349 (Sd.sq st_180_350 (Sd.sq st_180_353 (Sd.sq st_180_354 (Sd.sq st_180_355 (Sd.sq st_180_358 (st_180_359))))))
theorem dd_180_362 : decode (mi 180).2.1 362 = .ok (.iconst (-1), 1) := by decide +kernel
theorem st_180_362 : Sd 180 362 1 (i_ic (-1)) := sd_iconst dd_180_362
def bk_180_362 : Tr := sq (i_ic (-1)) (i_fall 363)
theorem sb_180_362 : Sd 180 362 1 bk_180_362 := Sd.sq st_180_362 (sd_fall rfl)
theorem dd_180_363 : decode (mi 180).2.1 363 = .ok (.ireturn, 1) := by decide +kernel
theorem st_180_363 : Sd 180 363 1 (i_rI 0) := sd_ireturn dd_180_363 (by decide) mr_180
def bk_180_363 : Tr := i_rI 0
theorem sb_180_363 : Sd 180 363 1 bk_180_363 := st_180_363
theorem dd_181_0 : decode (mi 181).2.1 0 = .ok (.iconst 0, 1) := by decide +kernel
theorem st_181_0 : Sd 181 0 1 (i_ic 0) := sd_iconst dd_181_0
theorem dd_181_1 : decode (mi 181).2.1 1 = .ok (.istore_n 2, 1) := by decide +kernel
theorem st_181_1 : Sd 181 1 1 (i_stI 2) := sd_istore_n (j := 2) dd_181_1 rfl
theorem dd_181_2 : decode (mi 181).2.1 2 = .ok (.iconst 0, 1) := by decide +kernel
theorem st_181_2 : Sd 181 2 1 (i_ic 0) := sd_iconst dd_181_2
theorem dd_181_3 : decode (mi 181).2.1 3 = .ok (.istore_n 3, 1) := by decide +kernel
theorem st_181_3 : Sd 181 3 1 (i_stI 3) := sd_istore_n (j := 3) dd_181_3 rfl
def bk_181_0 : Tr := sq (i_ic 0) (sq (i_stI 2) (sq (i_ic 0) (sq (i_stI 3) (i_fall 4))))
theorem sb_181_0 : Sd 181 0 4 bk_181_0 := Sd.sq st_181_0 (Sd.sq st_181_1 (Sd.sq st_181_2 (Sd.sq st_181_3 (sd_fall rfl))))
theorem dd_181_4 : decode (mi 181).2.1 4 = .ok (.iload_n 2, 1) := by decide +kernel
theorem st_181_4 : Sd 181 4 1 (i_ldI 2) := sd_iload_n (j := 2) dd_181_4 rfl
theorem dd_181_5 : decode (mi 181).2.1 5 = .ok (.aload_n 0, 1) := by decide +kernel
theorem st_181_5 : Sd 181 5 1 (i_ldR 0) := sd_aload_n (j := 0) dd_181_5 rfl
theorem dd_181_6 : decode (mi 181).2.1 6 = .ok (.getfield 27, 3) := by decide +kernel
theorem st_181_6 : Sd 181 6 3 (i_gR 8 [2]) := sd_gR (ref := "ContractDeskModel") (decl := "ContractDeskModel") (name := "needCount") (desc := "[I") dd_181_6 (by rw [mc_181]; exact tw_1268) (Or.inl rfl) (by decide +kernel)
theorem dd_181_9 : decode (mi 181).2.1 9 = .ok (.iload_n 1, 1) := by decide +kernel
theorem st_181_9 : Sd 181 9 1 (i_ldI 1) := sd_iload_n (j := 1) dd_181_9 rfl
theorem dd_181_10 : decode (mi 181).2.1 10 = .ok (.iaload, 1) := by decide +kernel
theorem st_181_10 : Sd 181 10 1 (i_aI [20]) := sd_iaload dd_181_10 (by decide)
theorem dd_181_11 : decode (mi 181).2.1 11 = .ok (.if_icmp .ge 76, 3) := by decide +kernel
theorem st_181_11 : Sd 181 11 3 (i_cge 87) := sd_icmp_ge dd_181_11 (by decide)
theorem dd_181_14 : decode (mi 181).2.1 14 = .ok (.iload_n 3, 1) := by decide +kernel
theorem st_181_14 : Sd 181 14 1 (i_ldI 3) := sd_iload_n (j := 3) dd_181_14 rfl
theorem dd_181_15 : decode (mi 181).2.1 15 = .ok (.ifCond .ne 72, 3) := by decide +kernel
theorem st_181_15 : Sd 181 15 3 (i_zne 87) := sd_if_ne dd_181_15 (by decide)
theorem dd_181_18 : decode (mi 181).2.1 18 = .ok (.aload_n 0, 1) := by decide +kernel
theorem st_181_18 : Sd 181 18 1 (i_ldR 0) := sd_aload_n (j := 0) dd_181_18 rfl
theorem dd_181_19 : decode (mi 181).2.1 19 = .ok (.getfield 30, 3) := by decide +kernel
theorem st_181_19 : Sd 181 19 3 (i_gR 9 [2]) := sd_gR (ref := "ContractDeskModel") (decl := "ContractDeskModel") (name := "need") (desc := "[I") dd_181_19 (by rw [mc_181]; exact tw_1269) (Or.inl rfl) (by decide +kernel)
theorem dd_181_22 : decode (mi 181).2.1 22 = .ok (.iconst 3, 1) := by decide +kernel
theorem st_181_22 : Sd 181 22 1 (i_ic 3) := sd_iconst dd_181_22
theorem dd_181_23 : decode (mi 181).2.1 23 = .ok (.iload_n 1, 1) := by decide +kernel
theorem st_181_23 : Sd 181 23 1 (i_ldI 1) := sd_iload_n (j := 1) dd_181_23 rfl
theorem dd_181_24 : decode (mi 181).2.1 24 = .ok (.imul, 1) := by decide +kernel
theorem st_181_24 : Sd 181 24 1 (i_imul) := sd_imul dd_181_24
theorem dd_181_25 : decode (mi 181).2.1 25 = .ok (.iload_n 2, 1) := by decide +kernel
theorem st_181_25 : Sd 181 25 1 (i_ldI 2) := sd_iload_n (j := 2) dd_181_25 rfl
theorem dd_181_26 : decode (mi 181).2.1 26 = .ok (.iadd, 1) := by decide +kernel
theorem st_181_26 : Sd 181 26 1 (i_iadd) := sd_iadd dd_181_26
theorem dd_181_27 : decode (mi 181).2.1 27 = .ok (.iaload, 1) := by decide +kernel
theorem st_181_27 : Sd 181 27 1 (i_aI [20]) := sd_iaload dd_181_27 (by decide)
theorem dd_181_28 : decode (mi 181).2.1 28 = .ok (.istore 4, 2) := by decide +kernel
theorem st_181_28 : Sd 181 28 2 (i_stI 4) := sd_istore dd_181_28
theorem dd_181_30 : decode (mi 181).2.1 30 = .ok (.aload_n 0, 1) := by decide +kernel
theorem st_181_30 : Sd 181 30 1 (i_ldR 0) := sd_aload_n (j := 0) dd_181_30 rfl
theorem dd_181_31 : decode (mi 181).2.1 31 = .ok (.getfield 33, 3) := by decide +kernel
theorem st_181_31 : Sd 181 31 3 (i_gR 10 [2]) := sd_gR (ref := "ContractDeskModel") (decl := "ContractDeskModel") (name := "handlers") (desc := "[I") dd_181_31 (by rw [mc_181]; exact tw_1270) (Or.inl rfl) (by decide +kernel)
theorem dd_181_34 : decode (mi 181).2.1 34 = .ok (.iload 4, 2) := by decide +kernel
theorem st_181_34 : Sd 181 34 2 (i_ldI 4) := sd_iload dd_181_34
theorem dd_181_36 : decode (mi 181).2.1 36 = .ok (.iaload, 1) := by decide +kernel
theorem st_181_36 : Sd 181 36 1 (i_aI [20]) := sd_iaload dd_181_36 (by decide)
theorem dd_181_37 : decode (mi 181).2.1 37 = .ok (.ifCond .eq 14, 3) := by decide +kernel
theorem st_181_37 : Sd 181 37 3 (i_zeq 51) := sd_if_eq dd_181_37 (by decide)
theorem dd_181_40 : decode (mi 181).2.1 40 = .ok (.aload_n 0, 1) := by decide +kernel
theorem st_181_40 : Sd 181 40 1 (i_ldR 0) := sd_aload_n (j := 0) dd_181_40 rfl
theorem dd_181_41 : decode (mi 181).2.1 41 = .ok (.getfield 33, 3) := by decide +kernel
theorem st_181_41 : Sd 181 41 3 (i_gR 10 [2]) := sd_gR (ref := "ContractDeskModel") (decl := "ContractDeskModel") (name := "handlers") (desc := "[I") dd_181_41 (by rw [mc_181]; exact tw_1270) (Or.inl rfl) (by decide +kernel)
theorem dd_181_44 : decode (mi 181).2.1 44 = .ok (.iload 4, 2) := by decide +kernel
theorem st_181_44 : Sd 181 44 2 (i_ldI 4) := sd_iload dd_181_44
theorem dd_181_46 : decode (mi 181).2.1 46 = .ok (.iaload, 1) := by decide +kernel
theorem st_181_46 : Sd 181 46 1 (i_aI [20]) := sd_iaload dd_181_46 (by decide)
theorem dd_181_47 : decode (mi 181).2.1 47 = .ok (.iconst 2, 1) := by decide +kernel
theorem st_181_47 : Sd 181 47 1 (i_ic 2) := sd_iconst dd_181_47
theorem dd_181_48 : decode (mi 181).2.1 48 = .ok (.if_icmp .ne 7, 3) := by decide +kernel
theorem st_181_48 : Sd 181 48 3 (i_cne 55) := sd_icmp_ne dd_181_48 (by decide)
def bk_181_4 : Tr := sq (i_ldI 2) (sq (i_ldR 0) (sq (i_gR 8 [2]) (sq (i_ldI 1) (sq (i_aI [20]) (sq (i_cge 87) (sq (i_ldI 3) (sq (i_zne 87) (sq (i_ldR 0) (sq (i_gR 9 [2]) (sq (i_ic 3) (sq (i_ldI 1) (sq (i_imul) (sq (i_ldI 2) (sq (i_iadd) (sq (i_aI [20]) (sq (i_stI 4) (sq (i_ldR 0) (sq (i_gR 10 [2]) (sq (i_ldI 4) (sq (i_aI [20]) (sq (i_zeq 51) (sq (i_ldR 0) (sq (i_gR 10 [2]) (sq (i_ldI 4) (sq (i_aI [20]) (sq (i_ic 2) (sq (i_cne 55) (i_fall 51))))))))))))))))))))))))))))
theorem sb_181_4 : Sd 181 4 47 bk_181_4 := Sd.sq st_181_4 (Sd.sq st_181_5 (Sd.sq st_181_6 (Sd.sq st_181_9 (Sd.sq st_181_10 (Sd.sq st_181_11 (Sd.sq st_181_14 (Sd.sq st_181_15 (Sd.sq st_181_18 (Sd.sq st_181_19 (Sd.sq st_181_22 (Sd.sq st_181_23 (Sd.sq st_181_24 (Sd.sq st_181_25 (Sd.sq st_181_26 (Sd.sq st_181_27 (Sd.sq st_181_28 (Sd.sq st_181_30 (Sd.sq st_181_31 (Sd.sq st_181_34 (Sd.sq st_181_36 (Sd.sq st_181_37 (Sd.sq st_181_40 (Sd.sq st_181_41 (Sd.sq st_181_44 (Sd.sq st_181_46 (Sd.sq st_181_47 (Sd.sq st_181_48 (sd_fall rfl))))))))))))))))))))))))))))
theorem dd_181_51 : decode (mi 181).2.1 51 = .ok (.iconst 1, 1) := by decide +kernel
theorem st_181_51 : Sd 181 51 1 (i_ic 1) := sd_iconst dd_181_51
theorem dd_181_52 : decode (mi 181).2.1 52 = .ok (.goto 4, 3) := by decide +kernel
theorem st_181_52 : Sd 181 52 3 (i_goto 56) := sd_goto dd_181_52 (by decide)
def bk_181_51 : Tr := sq (i_ic 1) (i_goto 56)
theorem sb_181_51 : Sd 181 51 4 bk_181_51 := Sd.sq st_181_51 (st_181_52)
theorem dd_181_55 : decode (mi 181).2.1 55 = .ok (.iconst 0, 1) := by decide +kernel
theorem st_181_55 : Sd 181 55 1 (i_ic 0) := sd_iconst dd_181_55
def bk_181_55 : Tr := sq (i_ic 0) (i_fall 56)
theorem sb_181_55 : Sd 181 55 1 bk_181_55 := Sd.sq st_181_55 (sd_fall rfl)
theorem dd_181_56 : decode (mi 181).2.1 56 = .ok (.istore_n 3, 1) := by decide +kernel
theorem st_181_56 : Sd 181 56 1 (i_stI 3) := sd_istore_n (j := 3) dd_181_56 rfl
theorem dd_181_57 : decode (mi 181).2.1 57 = .ok (.aload_n 0, 1) := by decide +kernel
theorem st_181_57 : Sd 181 57 1 (i_ldR 0) := sd_aload_n (j := 0) dd_181_57 rfl
theorem dd_181_58 : decode (mi 181).2.1 58 = .ok (.iload 4, 2) := by decide +kernel
theorem st_181_58 : Sd 181 58 2 (i_ldI 4) := sd_iload dd_181_58
theorem dd_181_60 : decode (mi 181).2.1 60 = .ok (.iload_n 3, 1) := by decide +kernel
theorem st_181_60 : Sd 181 60 1 (i_ldI 3) := sd_iload_n (j := 3) dd_181_60 rfl
theorem dd_181_61 : decode (mi 181).2.1 61 = .ok (.ifCond .eq 7, 3) := by decide +kernel
theorem st_181_61 : Sd 181 61 3 (i_zeq 68) := sd_if_eq dd_181_61 (by decide)
theorem dd_181_64 : decode (mi 181).2.1 64 = .ok (.iconst 2, 1) := by decide +kernel
theorem st_181_64 : Sd 181 64 1 (i_ic 2) := sd_iconst dd_181_64
theorem dd_181_65 : decode (mi 181).2.1 65 = .ok (.goto 4, 3) := by decide +kernel
theorem st_181_65 : Sd 181 65 3 (i_goto 69) := sd_goto dd_181_65 (by decide)
def bk_181_56 : Tr := sq (i_stI 3) (sq (i_ldR 0) (sq (i_ldI 4) (sq (i_ldI 3) (sq (i_zeq 68) (sq (i_ic 2) (i_goto 69))))))
theorem sb_181_56 : Sd 181 56 12 bk_181_56 := Sd.sq st_181_56 (Sd.sq st_181_57 (Sd.sq st_181_58 (Sd.sq st_181_60 (Sd.sq st_181_61 (Sd.sq st_181_64 (st_181_65))))))
theorem dd_181_68 : decode (mi 181).2.1 68 = .ok (.iconst 0, 1) := by decide +kernel
theorem st_181_68 : Sd 181 68 1 (i_ic 0) := sd_iconst dd_181_68
def bk_181_68 : Tr := sq (i_ic 0) (i_fall 69)
theorem sb_181_68 : Sd 181 68 1 bk_181_68 := Sd.sq st_181_68 (sd_fall rfl)
theorem dd_181_69 : decode (mi 181).2.1 69 = .ok (.invokevirtual 250, 3) := by decide +kernel
theorem st_181_69 : Sd 181 69 3 (i_cV [(2, 144)] 3 5 []) := sd_virt ⟨"ContractDeskModel", "happen", "(II)V"⟩ dd_181_69 (by rw [mc_181]; exact tw_1505) (fun t j h => by simp only [List.mem_cons, List.not_mem_nil, or_false, Prod.mk.injEq] at h; obtain ⟨rfl, rfl⟩ := h; exact mn_144) (fun t j h => by simp only [List.mem_cons, List.not_mem_nil, or_false, Prod.mk.injEq] at h; obtain ⟨rfl, rfl⟩ := h; exact ⟨by rw [mn_144]; exact tw_52, by rw [mn_144]; exact tw_1507, mt_144, by decide, by decide⟩) (by unfold prm; decide +kernel) ml_181 (HsOk.nil (by decide +kernel))
theorem dd_181_72 : decode (mi 181).2.1 72 = .ok (.iload_n 3, 1) := by decide +kernel
theorem st_181_72 : Sd 181 72 1 (i_ldI 3) := sd_iload_n (j := 3) dd_181_72 rfl
theorem dd_181_73 : decode (mi 181).2.1 73 = .ok (.ifCond .eq 7, 3) := by decide +kernel
theorem st_181_73 : Sd 181 73 3 (i_zeq 80) := sd_if_eq dd_181_73 (by decide)
theorem dd_181_76 : decode (mi 181).2.1 76 = .ok (.iload_n 2, 1) := by decide +kernel
theorem st_181_76 : Sd 181 76 1 (i_ldI 2) := sd_iload_n (j := 2) dd_181_76 rfl
theorem dd_181_77 : decode (mi 181).2.1 77 = .ok (.goto 6, 3) := by decide +kernel
theorem st_181_77 : Sd 181 77 3 (i_goto 83) := sd_goto dd_181_77 (by decide)
def bk_181_69 : Tr := sq (i_cV [(2, 144)] 3 5 []) (sq (i_ldI 3) (sq (i_zeq 80) (sq (i_ldI 2) (i_goto 83))))
theorem sb_181_69 : Sd 181 69 11 bk_181_69 := Sd.sq st_181_69 (Sd.sq st_181_72 (Sd.sq st_181_73 (Sd.sq st_181_76 (st_181_77))))
theorem dd_181_80 : decode (mi 181).2.1 80 = .ok (.iload_n 2, 1) := by decide +kernel
theorem st_181_80 : Sd 181 80 1 (i_ldI 2) := sd_iload_n (j := 2) dd_181_80 rfl
theorem dd_181_81 : decode (mi 181).2.1 81 = .ok (.iconst 1, 1) := by decide +kernel
theorem st_181_81 : Sd 181 81 1 (i_ic 1) := sd_iconst dd_181_81
theorem dd_181_82 : decode (mi 181).2.1 82 = .ok (.iadd, 1) := by decide +kernel
theorem st_181_82 : Sd 181 82 1 (i_iadd) := sd_iadd dd_181_82
def bk_181_80 : Tr := sq (i_ldI 2) (sq (i_ic 1) (sq (i_iadd) (i_fall 83)))
theorem sb_181_80 : Sd 181 80 3 bk_181_80 := Sd.sq st_181_80 (Sd.sq st_181_81 (Sd.sq st_181_82 (sd_fall rfl)))
theorem dd_181_83 : decode (mi 181).2.1 83 = .ok (.istore_n 2, 1) := by decide +kernel
theorem st_181_83 : Sd 181 83 1 (i_stI 2) := sd_istore_n (j := 2) dd_181_83 rfl
theorem dd_181_84 : decode (mi 181).2.1 84 = .ok (.goto (-80), 3) := by decide +kernel
theorem st_181_84 : Sd 181 84 3 (i_goto 4) := sd_goto dd_181_84 (by decide)
def bk_181_83 : Tr := sq (i_stI 2) (i_goto 4)
theorem sb_181_83 : Sd 181 83 4 bk_181_83 := Sd.sq st_181_83 (st_181_84)
theorem dd_181_87 : decode (mi 181).2.1 87 = .ok (.iload_n 3, 1) := by decide +kernel
theorem st_181_87 : Sd 181 87 1 (i_ldI 3) := sd_iload_n (j := 3) dd_181_87 rfl
theorem dd_181_88 : decode (mi 181).2.1 88 = .ok (.ifCond .eq 8, 3) := by decide +kernel
theorem st_181_88 : Sd 181 88 3 (i_zeq 96) := sd_if_eq dd_181_88 (by decide)
theorem dd_181_91 : decode (mi 181).2.1 91 = .ok (.bipush (-3), 2) := by decide +kernel
theorem st_181_91 : Sd 181 91 2 (i_ic (-3)) := sd_bipush dd_181_91 (by decide)
theorem dd_181_93 : decode (mi 181).2.1 93 = .ok (.goto 8, 3) := by decide +kernel
theorem st_181_93 : Sd 181 93 3 (i_goto 101) := sd_goto dd_181_93 (by decide)
def bk_181_87 : Tr := sq (i_ldI 3) (sq (i_zeq 96) (sq (i_ic (-3)) (i_goto 101)))
theorem sb_181_87 : Sd 181 87 9 bk_181_87 := Sd.sq st_181_87 (Sd.sq st_181_88 (Sd.sq st_181_91 (st_181_93)))
theorem dd_181_96 : decode (mi 181).2.1 96 = .ok (.aload_n 0, 1) := by decide +kernel
theorem st_181_96 : Sd 181 96 1 (i_ldR 0) := sd_aload_n (j := 0) dd_181_96 rfl
theorem dd_181_97 : decode (mi 181).2.1 97 = .ok (.iload_n 1, 1) := by decide +kernel
theorem st_181_97 : Sd 181 97 1 (i_ldI 1) := sd_iload_n (j := 1) dd_181_97 rfl
theorem dd_181_98 : decode (mi 181).2.1 98 = .ok (.invokevirtual 259, 3) := by decide +kernel
theorem st_181_98 : Sd 181 98 3 (i_cV [(2, 134)] 2 5 []) := sd_virt ⟨"ContractDeskModel", "compareAll", "(I)I"⟩ dd_181_98 (by rw [mc_181]; exact tw_1509) (fun t j h => by simp only [List.mem_cons, List.not_mem_nil, or_false, Prod.mk.injEq] at h; obtain ⟨rfl, rfl⟩ := h; exact mn_134) (fun t j h => by simp only [List.mem_cons, List.not_mem_nil, or_false, Prod.mk.injEq] at h; obtain ⟨rfl, rfl⟩ := h; exact ⟨by rw [mn_134]; exact tw_53, by rw [mn_134]; exact tw_1511, mt_134, by decide, by decide⟩) (by unfold prm; decide +kernel) ml_181 (HsOk.nil (by decide +kernel))
def bk_181_96 : Tr := sq (i_ldR 0) (sq (i_ldI 1) (sq (i_cV [(2, 134)] 2 5 []) (i_fall 101)))
theorem sb_181_96 : Sd 181 96 5 bk_181_96 := Sd.sq st_181_96 (Sd.sq st_181_97 (Sd.sq st_181_98 (sd_fall rfl)))
theorem dd_181_101 : decode (mi 181).2.1 101 = .ok (.istore 4, 2) := by decide +kernel
theorem st_181_101 : Sd 181 101 2 (i_stI 4) := sd_istore dd_181_101
theorem dd_181_103 : decode (mi 181).2.1 103 = .ok (.aload_n 0, 1) := by decide +kernel
theorem st_181_103 : Sd 181 103 1 (i_ldR 0) := sd_aload_n (j := 0) dd_181_103 rfl
theorem dd_181_104 : decode (mi 181).2.1 104 = .ok (.iload_n 1, 1) := by decide +kernel
theorem st_181_104 : Sd 181 104 1 (i_ldI 1) := sd_iload_n (j := 1) dd_181_104 rfl
theorem dd_181_105 : decode (mi 181).2.1 105 = .ok (.iload_n 2, 1) := by decide +kernel
theorem st_181_105 : Sd 181 105 1 (i_ldI 2) := sd_iload_n (j := 2) dd_181_105 rfl
theorem dd_181_106 : decode (mi 181).2.1 106 = .ok (.invokevirtual 262, 3) := by decide +kernel
theorem st_181_106 : Sd 181 106 3 (i_cV [(2, 178)] 3 5 []) := sd_virt ⟨"ContractDeskModel", "tear", "(II)V"⟩ dd_181_106 (by rw [mc_181]; exact tw_1569) (fun t j h => by simp only [List.mem_cons, List.not_mem_nil, or_false, Prod.mk.injEq] at h; obtain ⟨rfl, rfl⟩ := h; exact mn_178) (fun t j h => by simp only [List.mem_cons, List.not_mem_nil, or_false, Prod.mk.injEq] at h; obtain ⟨rfl, rfl⟩ := h; exact ⟨by rw [mn_178]; exact tw_68, by rw [mn_178]; exact tw_1571, mt_178, by decide, by decide⟩) (by unfold prm; decide +kernel) ml_181 (HsOk.nil (by decide +kernel))
theorem dd_181_109 : decode (mi 181).2.1 109 = .ok (.iload 4, 2) := by decide +kernel
theorem st_181_109 : Sd 181 109 2 (i_ldI 4) := sd_iload dd_181_109
theorem dd_181_111 : decode (mi 181).2.1 111 = .ok (.ireturn, 1) := by decide +kernel
theorem st_181_111 : Sd 181 111 1 (i_rI 0) := sd_ireturn dd_181_111 (by decide) mr_181
def bk_181_101 : Tr := sq (i_stI 4) (sq (i_ldR 0) (sq (i_ldI 1) (sq (i_ldI 2) (sq (i_cV [(2, 178)] 3 5 []) (sq (i_ldI 4) (i_rI 0))))))
theorem sb_181_101 : Sd 181 101 11 bk_181_101 := Sd.sq st_181_101 (Sd.sq st_181_103 (Sd.sq st_181_104 (Sd.sq st_181_105 (Sd.sq st_181_106 (Sd.sq st_181_109 (st_181_111))))))
theorem dd_182_0 : decode (mi 182).2.1 0 = .ok (.aload_n 0, 1) := by decide +kernel
theorem st_182_0 : Sd 182 0 1 (i_ldR 0) := sd_aload_n (j := 0) dd_182_0 rfl
theorem dd_182_1 : decode (mi 182).2.1 1 = .ok (.invokevirtual 146, 3) := by decide +kernel
theorem st_182_1 : Sd 182 1 3 (i_cV [(2, 180)] 1 5 []) := sd_virt ⟨"ContractDeskModel", "values", "()I"⟩ dd_182_1 (by rw [mc_182]; exact tw_1384) (fun t j h => by simp only [List.mem_cons, List.not_mem_nil, or_false, Prod.mk.injEq] at h; obtain ⟨rfl, rfl⟩ := h; exact mn_180) (fun t j h => by simp only [List.mem_cons, List.not_mem_nil, or_false, Prod.mk.injEq] at h; obtain ⟨rfl, rfl⟩ := h; exact ⟨by rw [mn_180]; exact tw_29, by rw [mn_180]; exact tw_1386, mt_180, by decide, by decide⟩) (by unfold prm; decide +kernel) ml_182 (HsOk.nil (by decide +kernel))
theorem dd_182_4 : decode (mi 182).2.1 4 = .ok (.istore_n 2, 1) := by decide +kernel
theorem st_182_4 : Sd 182 4 1 (i_stI 2) := sd_istore_n (j := 2) dd_182_4 rfl
theorem dd_182_5 : decode (mi 182).2.1 5 = .ok (.aload_n 0, 1) := by decide +kernel
theorem st_182_5 : Sd 182 5 1 (i_ldR 0) := sd_aload_n (j := 0) dd_182_5 rfl
theorem dd_182_6 : decode (mi 182).2.1 6 = .ok (.invokevirtual 150, 3) := by decide +kernel
theorem st_182_6 : Sd 182 6 3 (i_cV [(2, 132)] 1 5 []) := sd_virt ⟨"ContractDeskModel", "close", "()V"⟩ dd_182_6 (by rw [mc_182]; exact tw_1406) (fun t j h => by simp only [List.mem_cons, List.not_mem_nil, or_false, Prod.mk.injEq] at h; obtain ⟨rfl, rfl⟩ := h; exact mn_132) (fun t j h => by simp only [List.mem_cons, List.not_mem_nil, or_false, Prod.mk.injEq] at h; obtain ⟨rfl, rfl⟩ := h; exact ⟨by rw [mn_132]; exact tw_33, by rw [mn_132]; exact tw_1408, mt_132, by decide, by decide⟩) (by unfold prm; decide +kernel) ml_182 (HsOk.nil (by decide +kernel))
theorem dd_182_9 : decode (mi 182).2.1 9 = .ok (.aload_n 0, 1) := by decide +kernel
theorem st_182_9 : Sd 182 9 1 (i_ldR 0) := sd_aload_n (j := 0) dd_182_9 rfl
theorem dd_182_10 : decode (mi 182).2.1 10 = .ok (.iload_n 1, 1) := by decide +kernel
theorem st_182_10 : Sd 182 10 1 (i_ldI 1) := sd_iload_n (j := 1) dd_182_10 rfl
theorem dd_182_11 : decode (mi 182).2.1 11 = .ok (.invokevirtual 153, 3) := by decide +kernel
theorem st_182_11 : Sd 182 11 3 (i_cV [(2, 147)] 2 5 []) := sd_virt ⟨"ContractDeskModel", "isInteraction", "(I)Z"⟩ dd_182_11 (by rw [mc_182]; exact tw_1410) (fun t j h => by simp only [List.mem_cons, List.not_mem_nil, or_false, Prod.mk.injEq] at h; obtain ⟨rfl, rfl⟩ := h; exact mn_147) (fun t j h => by simp only [List.mem_cons, List.not_mem_nil, or_false, Prod.mk.injEq] at h; obtain ⟨rfl, rfl⟩ := h; exact ⟨by rw [mn_147]; exact tw_34, by rw [mn_147]; exact tw_1412, mt_147, by decide, by decide⟩) (by unfold prm; decide +kernel) ml_182 (HsOk.nil (by decide +kernel))
theorem dd_182_14 : decode (mi 182).2.1 14 = .ok (.ifCond .eq 11, 3) := by decide +kernel
theorem st_182_14 : Sd 182 14 3 (i_zeq 25) := sd_if_eq dd_182_14 (by decide)
theorem dd_182_17 : decode (mi 182).2.1 17 = .ok (.iload_n 2, 1) := by decide +kernel
theorem st_182_17 : Sd 182 17 1 (i_ldI 2) := sd_iload_n (j := 2) dd_182_17 rfl
theorem dd_182_18 : decode (mi 182).2.1 18 = .ok (.ifCond .le 7, 3) := by decide +kernel
theorem st_182_18 : Sd 182 18 3 (i_zle 25) := sd_if_le dd_182_18 (by decide)
theorem dd_182_21 : decode (mi 182).2.1 21 = .ok (.iconst 1, 1) := by decide +kernel
theorem st_182_21 : Sd 182 21 1 (i_ic 1) := sd_iconst dd_182_21
theorem dd_182_22 : decode (mi 182).2.1 22 = .ok (.goto 4, 3) := by decide +kernel
theorem st_182_22 : Sd 182 22 3 (i_goto 26) := sd_goto dd_182_22 (by decide)
def bk_182_0 : Tr := sq (i_ldR 0) (sq (i_cV [(2, 180)] 1 5 []) (sq (i_stI 2) (sq (i_ldR 0) (sq (i_cV [(2, 132)] 1 5 []) (sq (i_ldR 0) (sq (i_ldI 1) (sq (i_cV [(2, 147)] 2 5 []) (sq (i_zeq 25) (sq (i_ldI 2) (sq (i_zle 25) (sq (i_ic 1) (i_goto 26))))))))))))
theorem sb_182_0 : Sd 182 0 25 bk_182_0 := Sd.sq st_182_0 (Sd.sq st_182_1 (Sd.sq st_182_4 (Sd.sq st_182_5 (Sd.sq st_182_6 (Sd.sq st_182_9 (Sd.sq st_182_10 (Sd.sq st_182_11 (Sd.sq st_182_14 (Sd.sq st_182_17 (Sd.sq st_182_18 (Sd.sq st_182_21 (st_182_22))))))))))))
theorem dd_182_25 : decode (mi 182).2.1 25 = .ok (.iconst 0, 1) := by decide +kernel
theorem st_182_25 : Sd 182 25 1 (i_ic 0) := sd_iconst dd_182_25
def bk_182_25 : Tr := sq (i_ic 0) (i_fall 26)
theorem sb_182_25 : Sd 182 25 1 bk_182_25 := Sd.sq st_182_25 (sd_fall rfl)
theorem dd_182_26 : decode (mi 182).2.1 26 = .ok (.istore_n 3, 1) := by decide +kernel
theorem st_182_26 : Sd 182 26 1 (i_stI 3) := sd_istore_n (j := 3) dd_182_26 rfl
theorem dd_182_27 : decode (mi 182).2.1 27 = .ok (.aload_n 0, 1) := by decide +kernel
theorem st_182_27 : Sd 182 27 1 (i_ldR 0) := sd_aload_n (j := 0) dd_182_27 rfl
theorem dd_182_28 : decode (mi 182).2.1 28 = .ok (.iload_n 3, 1) := by decide +kernel
theorem st_182_28 : Sd 182 28 1 (i_ldI 3) := sd_iload_n (j := 3) dd_182_28 rfl
theorem dd_182_29 : decode (mi 182).2.1 29 = .ok (.ifCond .ne 7, 3) := by decide +kernel
theorem st_182_29 : Sd 182 29 3 (i_zne 36) := sd_if_ne dd_182_29 (by decide)
theorem dd_182_32 : decode (mi 182).2.1 32 = .ok (.iconst 1, 1) := by decide +kernel
theorem st_182_32 : Sd 182 32 1 (i_ic 1) := sd_iconst dd_182_32
theorem dd_182_33 : decode (mi 182).2.1 33 = .ok (.goto 17, 3) := by decide +kernel
theorem st_182_33 : Sd 182 33 3 (i_goto 50) := sd_goto dd_182_33 (by decide)
def bk_182_26 : Tr := sq (i_stI 3) (sq (i_ldR 0) (sq (i_ldI 3) (sq (i_zne 36) (sq (i_ic 1) (i_goto 50)))))
theorem sb_182_26 : Sd 182 26 10 bk_182_26 := Sd.sq st_182_26 (Sd.sq st_182_27 (Sd.sq st_182_28 (Sd.sq st_182_29 (Sd.sq st_182_32 (st_182_33)))))
theorem dd_182_36 : decode (mi 182).2.1 36 = .ok (.aload_n 0, 1) := by decide +kernel
theorem st_182_36 : Sd 182 36 1 (i_ldR 0) := sd_aload_n (j := 0) dd_182_36 rfl
theorem dd_182_37 : decode (mi 182).2.1 37 = .ok (.getfield 17, 3) := by decide +kernel
theorem st_182_37 : Sd 182 37 3 (i_gR 5 [2]) := sd_gR (ref := "ContractDeskModel") (decl := "ContractDeskModel") (name := "bodyLength") (desc := "[I") dd_182_37 (by rw [mc_182]; exact tw_1265) (Or.inl rfl) (by decide +kernel)
theorem dd_182_40 : decode (mi 182).2.1 40 = .ok (.iload_n 1, 1) := by decide +kernel
theorem st_182_40 : Sd 182 40 1 (i_ldI 1) := sd_iload_n (j := 1) dd_182_40 rfl
theorem dd_182_41 : decode (mi 182).2.1 41 = .ok (.iaload, 1) := by decide +kernel
theorem st_182_41 : Sd 182 41 1 (i_aI [20]) := sd_iaload dd_182_41 (by decide)
theorem dd_182_42 : decode (mi 182).2.1 42 = .ok (.ifCond .ne 7, 3) := by decide +kernel
theorem st_182_42 : Sd 182 42 3 (i_zne 49) := sd_if_ne dd_182_42 (by decide)
theorem dd_182_45 : decode (mi 182).2.1 45 = .ok (.iconst 2, 1) := by decide +kernel
theorem st_182_45 : Sd 182 45 1 (i_ic 2) := sd_iconst dd_182_45
theorem dd_182_46 : decode (mi 182).2.1 46 = .ok (.goto 4, 3) := by decide +kernel
theorem st_182_46 : Sd 182 46 3 (i_goto 50) := sd_goto dd_182_46 (by decide)
def bk_182_36 : Tr := sq (i_ldR 0) (sq (i_gR 5 [2]) (sq (i_ldI 1) (sq (i_aI [20]) (sq (i_zne 49) (sq (i_ic 2) (i_goto 50))))))
theorem sb_182_36 : Sd 182 36 13 bk_182_36 := Sd.sq st_182_36 (Sd.sq st_182_37 (Sd.sq st_182_40 (Sd.sq st_182_41 (Sd.sq st_182_42 (Sd.sq st_182_45 (st_182_46))))))
theorem dd_182_49 : decode (mi 182).2.1 49 = .ok (.iconst 0, 1) := by decide +kernel
theorem st_182_49 : Sd 182 49 1 (i_ic 0) := sd_iconst dd_182_49
def bk_182_49 : Tr := sq (i_ic 0) (i_fall 50)
theorem sb_182_49 : Sd 182 49 1 bk_182_49 := Sd.sq st_182_49 (sd_fall rfl)
theorem dd_182_50 : decode (mi 182).2.1 50 = .ok (.putfield 93, 3) := by decide +kernel
theorem st_182_50 : Sd 182 50 3 (i_pI 0 [2] 0) := sd_pI (ref := "ContractDeskModel") (decl := "ContractDeskModel") (name := "thrown") (desc := "I") dd_182_50 (by rw [mc_182]; exact tw_1260) (Or.inl rfl) (by decide +kernel) (by decide +kernel) (by decide)
theorem dd_182_53 : decode (mi 182).2.1 53 = .ok (.aload_n 0, 1) := by decide +kernel
theorem st_182_53 : Sd 182 53 1 (i_ldR 0) := sd_aload_n (j := 0) dd_182_53 rfl
theorem dd_182_54 : decode (mi 182).2.1 54 = .ok (.getfield 93, 3) := by decide +kernel
theorem st_182_54 : Sd 182 54 3 (i_gI 0 [2]) := sd_gI (ref := "ContractDeskModel") (decl := "ContractDeskModel") (name := "thrown") (desc := "I") dd_182_54 (by rw [mc_182]; exact tw_1260) (Or.inl rfl) (by decide +kernel)
theorem dd_182_57 : decode (mi 182).2.1 57 = .ok (.ifCond .ne 11, 3) := by decide +kernel
theorem st_182_57 : Sd 182 57 3 (i_zne 68) := sd_if_ne dd_182_57 (by decide)
theorem dd_182_60 : decode (mi 182).2.1 60 = .ok (.aload_n 0, 1) := by decide +kernel
theorem st_182_60 : Sd 182 60 1 (i_ldR 0) := sd_aload_n (j := 0) dd_182_60 rfl
theorem dd_182_61 : decode (mi 182).2.1 61 = .ok (.iload_n 1, 1) := by decide +kernel
theorem st_182_61 : Sd 182 61 1 (i_ldI 1) := sd_iload_n (j := 1) dd_182_61 rfl
theorem dd_182_62 : decode (mi 182).2.1 62 = .ok (.invokevirtual 256, 3) := by decide +kernel
theorem st_182_62 : Sd 182 62 3 (i_cV [(2, 181)] 2 5 []) := sd_virt ⟨"ContractDeskModel", "verified", "(I)I"⟩ dd_182_62 (by rw [mc_182]; exact tw_1501) (fun t j h => by simp only [List.mem_cons, List.not_mem_nil, or_false, Prod.mk.injEq] at h; obtain ⟨rfl, rfl⟩ := h; exact mn_181) (fun t j h => by simp only [List.mem_cons, List.not_mem_nil, or_false, Prod.mk.injEq] at h; obtain ⟨rfl, rfl⟩ := h; exact ⟨by rw [mn_181]; exact tw_51, by rw [mn_181]; exact tw_1503, mt_181, by decide, by decide⟩) (by unfold prm; decide +kernel) ml_182 (HsOk.nil (by decide +kernel))
theorem dd_182_65 : decode (mi 182).2.1 65 = .ok (.goto 4, 3) := by decide +kernel
theorem st_182_65 : Sd 182 65 3 (i_goto 69) := sd_goto dd_182_65 (by decide)
def bk_182_50 : Tr := sq (i_pI 0 [2] 0) (sq (i_ldR 0) (sq (i_gI 0 [2]) (sq (i_zne 68) (sq (i_ldR 0) (sq (i_ldI 1) (sq (i_cV [(2, 181)] 2 5 []) (i_goto 69)))))))
theorem sb_182_50 : Sd 182 50 18 bk_182_50 := Sd.sq st_182_50 (Sd.sq st_182_53 (Sd.sq st_182_54 (Sd.sq st_182_57 (Sd.sq st_182_60 (Sd.sq st_182_61 (Sd.sq st_182_62 (st_182_65)))))))
theorem dd_182_68 : decode (mi 182).2.1 68 = .ok (.iconst 0, 1) := by decide +kernel
theorem st_182_68 : Sd 182 68 1 (i_ic 0) := sd_iconst dd_182_68
def bk_182_68 : Tr := sq (i_ic 0) (i_fall 69)
theorem sb_182_68 : Sd 182 68 1 bk_182_68 := Sd.sq st_182_68 (sd_fall rfl)
theorem dd_182_69 : decode (mi 182).2.1 69 = .ok (.istore 4, 2) := by decide +kernel
theorem st_182_69 : Sd 182 69 2 (i_stI 4) := sd_istore dd_182_69
theorem dd_182_71 : decode (mi 182).2.1 71 = .ok (.aload_n 0, 1) := by decide +kernel
theorem st_182_71 : Sd 182 71 1 (i_ldR 0) := sd_aload_n (j := 0) dd_182_71 rfl
theorem dd_182_72 : decode (mi 182).2.1 72 = .ok (.iconst 0, 1) := by decide +kernel
theorem st_182_72 : Sd 182 72 1 (i_ic 0) := sd_iconst dd_182_72
theorem dd_182_73 : decode (mi 182).2.1 73 = .ok (.putfield 97, 3) := by decide +kernel
theorem st_182_73 : Sd 182 73 3 (i_pI 2 [2] 0) := sd_pI (ref := "ContractDeskModel") (decl := "ContractDeskModel") (name := "typed") (desc := "I") dd_182_73 (by rw [mc_182]; exact tw_1262) (Or.inl rfl) (by decide +kernel) (by decide +kernel) (by decide)
theorem dd_182_76 : decode (mi 182).2.1 76 = .ok (.iload 4, 2) := by decide +kernel
theorem st_182_76 : Sd 182 76 2 (i_ldI 4) := sd_iload dd_182_76
theorem dd_182_78 : decode (mi 182).2.1 78 = .ok (.ireturn, 1) := by decide +kernel
theorem st_182_78 : Sd 182 78 1 (i_rI 0) := sd_ireturn dd_182_78 (by decide) mr_182
def bk_182_69 : Tr := sq (i_stI 4) (sq (i_ldR 0) (sq (i_ic 0) (sq (i_pI 2 [2] 0) (sq (i_ldI 4) (i_rI 0)))))
theorem sb_182_69 : Sd 182 69 10 bk_182_69 := Sd.sq st_182_69 (Sd.sq st_182_71 (Sd.sq st_182_72 (Sd.sq st_182_73 (Sd.sq st_182_76 (st_182_78)))))
theorem dd_183_0 : decode (mi 183).2.1 0 = .ok (.aload_n 0, 1) := by decide +kernel
theorem st_183_0 : Sd 183 0 1 (i_ldR 0) := sd_aload_n (j := 0) dd_183_0 rfl
theorem dd_183_1 : decode (mi 183).2.1 1 = .ok (.iload_n 1, 1) := by decide +kernel
theorem st_183_1 : Sd 183 1 1 (i_ldI 1) := sd_iload_n (j := 1) dd_183_1 rfl
theorem dd_183_2 : decode (mi 183).2.1 2 = .ok (.invokevirtual 103, 3) := by decide +kernel
theorem st_183_2 : Sd 183 2 3 (i_cV [(2, 129)] 2 6 []) := sd_virt ⟨"ContractDeskModel", "at", "(I)C"⟩ dd_183_2 (by rw [mc_183]; exact tw_1388) (fun t j h => by simp only [List.mem_cons, List.not_mem_nil, or_false, Prod.mk.injEq] at h; obtain ⟨rfl, rfl⟩ := h; exact mn_129) (fun t j h => by simp only [List.mem_cons, List.not_mem_nil, or_false, Prod.mk.injEq] at h; obtain ⟨rfl, rfl⟩ := h; exact ⟨by rw [mn_129]; exact tw_30, by rw [mn_129]; exact tw_1390, mt_129, by decide, by decide⟩) (by unfold prm; decide +kernel) ml_183 (HsOk.nil (by decide +kernel))
theorem dd_183_5 : decode (mi 183).2.1 5 = .ok (.iload_n 2, 1) := by decide +kernel
theorem st_183_5 : Sd 183 5 1 (i_ldI 2) := sd_iload_n (j := 2) dd_183_5 rfl
theorem dd_183_6 : decode (mi 183).2.1 6 = .ok (.if_icmp .ne 42, 3) := by decide +kernel
theorem st_183_6 : Sd 183 6 3 (i_cne 48) := sd_icmp_ne dd_183_6 (by decide)
theorem dd_183_9 : decode (mi 183).2.1 9 = .ok (.aload_n 0, 1) := by decide +kernel
theorem st_183_9 : Sd 183 9 1 (i_ldR 0) := sd_aload_n (j := 0) dd_183_9 rfl
theorem dd_183_10 : decode (mi 183).2.1 10 = .ok (.iload_n 1, 1) := by decide +kernel
theorem st_183_10 : Sd 183 10 1 (i_ldI 1) := sd_iload_n (j := 1) dd_183_10 rfl
theorem dd_183_11 : decode (mi 183).2.1 11 = .ok (.iconst 1, 1) := by decide +kernel
theorem st_183_11 : Sd 183 11 1 (i_ic 1) := sd_iconst dd_183_11
theorem dd_183_12 : decode (mi 183).2.1 12 = .ok (.iadd, 1) := by decide +kernel
theorem st_183_12 : Sd 183 12 1 (i_iadd) := sd_iadd dd_183_12
theorem dd_183_13 : decode (mi 183).2.1 13 = .ok (.invokevirtual 103, 3) := by decide +kernel
theorem st_183_13 : Sd 183 13 3 (i_cV [(2, 129)] 2 6 []) := sd_virt ⟨"ContractDeskModel", "at", "(I)C"⟩ dd_183_13 (by rw [mc_183]; exact tw_1388) (fun t j h => by simp only [List.mem_cons, List.not_mem_nil, or_false, Prod.mk.injEq] at h; obtain ⟨rfl, rfl⟩ := h; exact mn_129) (fun t j h => by simp only [List.mem_cons, List.not_mem_nil, or_false, Prod.mk.injEq] at h; obtain ⟨rfl, rfl⟩ := h; exact ⟨by rw [mn_129]; exact tw_30, by rw [mn_129]; exact tw_1390, mt_129, by decide, by decide⟩) (by unfold prm; decide +kernel) ml_183 (HsOk.nil (by decide +kernel))
theorem dd_183_16 : decode (mi 183).2.1 16 = .ok (.iload_n 3, 1) := by decide +kernel
theorem st_183_16 : Sd 183 16 1 (i_ldI 3) := sd_iload_n (j := 3) dd_183_16 rfl
theorem dd_183_17 : decode (mi 183).2.1 17 = .ok (.if_icmp .ne 31, 3) := by decide +kernel
theorem st_183_17 : Sd 183 17 3 (i_cne 48) := sd_icmp_ne dd_183_17 (by decide)
theorem dd_183_20 : decode (mi 183).2.1 20 = .ok (.aload_n 0, 1) := by decide +kernel
theorem st_183_20 : Sd 183 20 1 (i_ldR 0) := sd_aload_n (j := 0) dd_183_20 rfl
theorem dd_183_21 : decode (mi 183).2.1 21 = .ok (.iload_n 1, 1) := by decide +kernel
theorem st_183_21 : Sd 183 21 1 (i_ldI 1) := sd_iload_n (j := 1) dd_183_21 rfl
theorem dd_183_22 : decode (mi 183).2.1 22 = .ok (.iconst 2, 1) := by decide +kernel
theorem st_183_22 : Sd 183 22 1 (i_ic 2) := sd_iconst dd_183_22
theorem dd_183_23 : decode (mi 183).2.1 23 = .ok (.iadd, 1) := by decide +kernel
theorem st_183_23 : Sd 183 23 1 (i_iadd) := sd_iadd dd_183_23
theorem dd_183_24 : decode (mi 183).2.1 24 = .ok (.invokevirtual 103, 3) := by decide +kernel
theorem st_183_24 : Sd 183 24 3 (i_cV [(2, 129)] 2 6 []) := sd_virt ⟨"ContractDeskModel", "at", "(I)C"⟩ dd_183_24 (by rw [mc_183]; exact tw_1388) (fun t j h => by simp only [List.mem_cons, List.not_mem_nil, or_false, Prod.mk.injEq] at h; obtain ⟨rfl, rfl⟩ := h; exact mn_129) (fun t j h => by simp only [List.mem_cons, List.not_mem_nil, or_false, Prod.mk.injEq] at h; obtain ⟨rfl, rfl⟩ := h; exact ⟨by rw [mn_129]; exact tw_30, by rw [mn_129]; exact tw_1390, mt_129, by decide, by decide⟩) (by unfold prm; decide +kernel) ml_183 (HsOk.nil (by decide +kernel))
theorem dd_183_27 : decode (mi 183).2.1 27 = .ok (.iload 4, 2) := by decide +kernel
theorem st_183_27 : Sd 183 27 2 (i_ldI 4) := sd_iload dd_183_27
theorem dd_183_29 : decode (mi 183).2.1 29 = .ok (.if_icmp .ne 19, 3) := by decide +kernel
theorem st_183_29 : Sd 183 29 3 (i_cne 48) := sd_icmp_ne dd_183_29 (by decide)
theorem dd_183_32 : decode (mi 183).2.1 32 = .ok (.aload_n 0, 1) := by decide +kernel
theorem st_183_32 : Sd 183 32 1 (i_ldR 0) := sd_aload_n (j := 0) dd_183_32 rfl
theorem dd_183_33 : decode (mi 183).2.1 33 = .ok (.iload_n 1, 1) := by decide +kernel
theorem st_183_33 : Sd 183 33 1 (i_ldI 1) := sd_iload_n (j := 1) dd_183_33 rfl
theorem dd_183_34 : decode (mi 183).2.1 34 = .ok (.iconst 3, 1) := by decide +kernel
theorem st_183_34 : Sd 183 34 1 (i_ic 3) := sd_iconst dd_183_34
theorem dd_183_35 : decode (mi 183).2.1 35 = .ok (.iadd, 1) := by decide +kernel
theorem st_183_35 : Sd 183 35 1 (i_iadd) := sd_iadd dd_183_35
theorem dd_183_36 : decode (mi 183).2.1 36 = .ok (.invokevirtual 103, 3) := by decide +kernel
theorem st_183_36 : Sd 183 36 3 (i_cV [(2, 129)] 2 6 []) := sd_virt ⟨"ContractDeskModel", "at", "(I)C"⟩ dd_183_36 (by rw [mc_183]; exact tw_1388) (fun t j h => by simp only [List.mem_cons, List.not_mem_nil, or_false, Prod.mk.injEq] at h; obtain ⟨rfl, rfl⟩ := h; exact mn_129) (fun t j h => by simp only [List.mem_cons, List.not_mem_nil, or_false, Prod.mk.injEq] at h; obtain ⟨rfl, rfl⟩ := h; exact ⟨by rw [mn_129]; exact tw_30, by rw [mn_129]; exact tw_1390, mt_129, by decide, by decide⟩) (by unfold prm; decide +kernel) ml_183 (HsOk.nil (by decide +kernel))
theorem dd_183_39 : decode (mi 183).2.1 39 = .ok (.iload 5, 2) := by decide +kernel
theorem st_183_39 : Sd 183 39 2 (i_ldI 5) := sd_iload dd_183_39
theorem dd_183_41 : decode (mi 183).2.1 41 = .ok (.if_icmp .ne 7, 3) := by decide +kernel
theorem st_183_41 : Sd 183 41 3 (i_cne 48) := sd_icmp_ne dd_183_41 (by decide)
theorem dd_183_44 : decode (mi 183).2.1 44 = .ok (.iconst 1, 1) := by decide +kernel
theorem st_183_44 : Sd 183 44 1 (i_ic 1) := sd_iconst dd_183_44
theorem dd_183_45 : decode (mi 183).2.1 45 = .ok (.goto 4, 3) := by decide +kernel
theorem st_183_45 : Sd 183 45 3 (i_goto 49) := sd_goto dd_183_45 (by decide)
def bk_183_0 : Tr := sq (i_ldR 0) (sq (i_ldI 1) (sq (i_cV [(2, 129)] 2 6 []) (sq (i_ldI 2) (sq (i_cne 48) (sq (i_ldR 0) (sq (i_ldI 1) (sq (i_ic 1) (sq (i_iadd) (sq (i_cV [(2, 129)] 2 6 []) (sq (i_ldI 3) (sq (i_cne 48) (sq (i_ldR 0) (sq (i_ldI 1) (sq (i_ic 2) (sq (i_iadd) (sq (i_cV [(2, 129)] 2 6 []) (sq (i_ldI 4) (sq (i_cne 48) (sq (i_ldR 0) (sq (i_ldI 1) (sq (i_ic 3) (sq (i_iadd) (sq (i_cV [(2, 129)] 2 6 []) (sq (i_ldI 5) (sq (i_cne 48) (sq (i_ic 1) (i_goto 49)))))))))))))))))))))))))))
theorem sb_183_0 : Sd 183 0 48 bk_183_0 := Sd.sq st_183_0 (Sd.sq st_183_1 (Sd.sq st_183_2 (Sd.sq st_183_5 (Sd.sq st_183_6 (Sd.sq st_183_9 (Sd.sq st_183_10 (Sd.sq st_183_11 (Sd.sq st_183_12 (Sd.sq st_183_13 (Sd.sq st_183_16 (Sd.sq st_183_17 (Sd.sq st_183_20 (Sd.sq st_183_21 (Sd.sq st_183_22 (Sd.sq st_183_23 (Sd.sq st_183_24 (Sd.sq st_183_27 (Sd.sq st_183_29 (Sd.sq st_183_32 (Sd.sq st_183_33 (Sd.sq st_183_34 (Sd.sq st_183_35 (Sd.sq st_183_36 (Sd.sq st_183_39 (Sd.sq st_183_41 (Sd.sq st_183_44 (st_183_45)))))))))))))))))))))))))))
theorem dd_183_48 : decode (mi 183).2.1 48 = .ok (.iconst 0, 1) := by decide +kernel
theorem st_183_48 : Sd 183 48 1 (i_ic 0) := sd_iconst dd_183_48
def bk_183_48 : Tr := sq (i_ic 0) (i_fall 49)
theorem sb_183_48 : Sd 183 48 1 bk_183_48 := Sd.sq st_183_48 (sd_fall rfl)
theorem dd_183_49 : decode (mi 183).2.1 49 = .ok (.ireturn, 1) := by decide +kernel
theorem st_183_49 : Sd 183 49 1 (i_rI 2) := sd_ireturn dd_183_49 (by decide) mr_183
def bk_183_49 : Tr := i_rI 2
theorem sb_183_49 : Sd 183 49 1 bk_183_49 := st_183_49
theorem dd_184_0 : decode (mi 184).2.1 0 = .ok (.aload_n 0, 1) := by decide +kernel
theorem st_184_0 : Sd 184 0 1 (i_ldR 0) := sd_aload_n (j := 0) dd_184_0 rfl
theorem dd_184_1 : decode (mi 184).2.1 1 = .ok (.iconst 0, 1) := by decide +kernel
theorem st_184_1 : Sd 184 1 1 (i_ic 0) := sd_iconst dd_184_1
theorem dd_184_2 : decode (mi 184).2.1 2 = .ok (.putfield 93, 3) := by decide +kernel
theorem st_184_2 : Sd 184 2 3 (i_pI 0 [2] 0) := sd_pI (ref := "ContractDeskModel") (decl := "ContractDeskModel") (name := "thrown") (desc := "I") dd_184_2 (by rw [mc_184]; exact tw_1260) (Or.inl rfl) (by decide +kernel) (by decide +kernel) (by decide)
theorem dd_184_5 : decode (mi 184).2.1 5 = .ok (.iconst 0, 1) := by decide +kernel
theorem st_184_5 : Sd 184 5 1 (i_ic 0) := sd_iconst dd_184_5
theorem dd_184_6 : decode (mi 184).2.1 6 = .ok (.istore_n 3, 1) := by decide +kernel
theorem st_184_6 : Sd 184 6 1 (i_stI 3) := sd_istore_n (j := 3) dd_184_6 rfl
theorem dd_184_7 : decode (mi 184).2.1 7 = .ok (.bipush 7, 2) := by decide +kernel
theorem st_184_7 : Sd 184 7 2 (i_ic 7) := sd_bipush dd_184_7 (by decide)
theorem dd_184_9 : decode (mi 184).2.1 9 = .ok (.istore 4, 2) := by decide +kernel
theorem st_184_9 : Sd 184 9 2 (i_stI 4) := sd_istore dd_184_9
def bk_184_0 : Tr := sq (i_ldR 0) (sq (i_ic 0) (sq (i_pI 0 [2] 0) (sq (i_ic 0) (sq (i_stI 3) (sq (i_ic 7) (sq (i_stI 4) (i_fall 11)))))))
theorem sb_184_0 : Sd 184 0 11 bk_184_0 := Sd.sq st_184_0 (Sd.sq st_184_1 (Sd.sq st_184_2 (Sd.sq st_184_5 (Sd.sq st_184_6 (Sd.sq st_184_7 (Sd.sq st_184_9 (sd_fall rfl)))))))
theorem dd_184_11 : decode (mi 184).2.1 11 = .ok (.iload 4, 2) := by decide +kernel
theorem st_184_11 : Sd 184 11 2 (i_ldI 4) := sd_iload dd_184_11
theorem dd_184_13 : decode (mi 184).2.1 13 = .ok (.ifCond .lt 57, 3) := by decide +kernel
theorem st_184_13 : Sd 184 13 3 (i_zlt 70) := sd_if_lt dd_184_13 (by decide)
theorem dd_184_16 : decode (mi 184).2.1 16 = .ok (.lload_n 1, 1) := by decide +kernel
theorem st_184_16 : Sd 184 16 1 (i_ldL 1) := sd_lload_n (j := 1) dd_184_16 rfl
theorem dd_184_17 : decode (mi 184).2.1 17 = .ok (.bipush 8, 2) := by decide +kernel
theorem st_184_17 : Sd 184 17 2 (i_ic 8) := sd_bipush dd_184_17 (by decide)
theorem dd_184_19 : decode (mi 184).2.1 19 = .ok (.iload 4, 2) := by decide +kernel
theorem st_184_19 : Sd 184 19 2 (i_ldI 4) := sd_iload dd_184_19
theorem dd_184_21 : decode (mi 184).2.1 21 = .ok (.imul, 1) := by decide +kernel
theorem st_184_21 : Sd 184 21 1 (i_imul) := sd_imul dd_184_21
theorem dd_184_22 : decode (mi 184).2.1 22 = .ok (.lushr, 1) := by decide +kernel
theorem st_184_22 : Sd 184 22 1 (i_lushr) := sd_lushr dd_184_22
theorem dd_184_23 : decode (mi 184).2.1 23 = .ok (.l2i, 1) := by decide +kernel
theorem st_184_23 : Sd 184 23 1 (i_l2i) := sd_l2i dd_184_23
theorem dd_184_24 : decode (mi 184).2.1 24 = .ok (.sipush 255, 3) := by decide +kernel
theorem st_184_24 : Sd 184 24 3 (i_ic 255) := sd_sipush dd_184_24 (by decide)
theorem dd_184_27 : decode (mi 184).2.1 27 = .ok (.iand, 1) := by decide +kernel
theorem st_184_27 : Sd 184 27 1 (i_iand) := sd_iand dd_184_27
theorem dd_184_28 : decode (mi 184).2.1 28 = .ok (.istore 5, 2) := by decide +kernel
theorem st_184_28 : Sd 184 28 2 (i_stI 5) := sd_istore dd_184_28
theorem dd_184_30 : decode (mi 184).2.1 30 = .ok (.iload 5, 2) := by decide +kernel
theorem st_184_30 : Sd 184 30 2 (i_ldI 5) := sd_iload dd_184_30
theorem dd_184_32 : decode (mi 184).2.1 32 = .ok (.ifCond .eq 19, 3) := by decide +kernel
theorem st_184_32 : Sd 184 32 3 (i_zeq 51) := sd_if_eq dd_184_32 (by decide)
theorem dd_184_35 : decode (mi 184).2.1 35 = .ok (.iload 5, 2) := by decide +kernel
theorem st_184_35 : Sd 184 35 2 (i_ldI 5) := sd_iload dd_184_35
theorem dd_184_37 : decode (mi 184).2.1 37 = .ok (.bipush 32, 2) := by decide +kernel
theorem st_184_37 : Sd 184 37 2 (i_ic 32) := sd_bipush dd_184_37 (by decide)
theorem dd_184_39 : decode (mi 184).2.1 39 = .ok (.if_icmp .lt 10, 3) := by decide +kernel
theorem st_184_39 : Sd 184 39 3 (i_clt 49) := sd_icmp_lt dd_184_39 (by decide)
theorem dd_184_42 : decode (mi 184).2.1 42 = .ok (.iload 5, 2) := by decide +kernel
theorem st_184_42 : Sd 184 42 2 (i_ldI 5) := sd_iload dd_184_42
theorem dd_184_44 : decode (mi 184).2.1 44 = .ok (.bipush 126, 2) := by decide +kernel
theorem st_184_44 : Sd 184 44 2 (i_ic 126) := sd_bipush dd_184_44 (by decide)
theorem dd_184_46 : decode (mi 184).2.1 46 = .ok (.if_icmp .le 5, 3) := by decide +kernel
theorem st_184_46 : Sd 184 46 3 (i_cle 51) := sd_icmp_le dd_184_46 (by decide)
def bk_184_11 : Tr := sq (i_ldI 4) (sq (i_zlt 70) (sq (i_ldL 1) (sq (i_ic 8) (sq (i_ldI 4) (sq (i_imul) (sq (i_lushr) (sq (i_l2i) (sq (i_ic 255) (sq (i_iand) (sq (i_stI 5) (sq (i_ldI 5) (sq (i_zeq 51) (sq (i_ldI 5) (sq (i_ic 32) (sq (i_clt 49) (sq (i_ldI 5) (sq (i_ic 126) (sq (i_cle 51) (i_fall 49)))))))))))))))))))
theorem sb_184_11 : Sd 184 11 38 bk_184_11 := Sd.sq st_184_11 (Sd.sq st_184_13 (Sd.sq st_184_16 (Sd.sq st_184_17 (Sd.sq st_184_19 (Sd.sq st_184_21 (Sd.sq st_184_22 (Sd.sq st_184_23 (Sd.sq st_184_24 (Sd.sq st_184_27 (Sd.sq st_184_28 (Sd.sq st_184_30 (Sd.sq st_184_32 (Sd.sq st_184_35 (Sd.sq st_184_37 (Sd.sq st_184_39 (Sd.sq st_184_42 (Sd.sq st_184_44 (Sd.sq st_184_46 (sd_fall rfl)))))))))))))))))))
theorem dd_184_49 : decode (mi 184).2.1 49 = .ok (.iconst 0, 1) := by decide +kernel
theorem st_184_49 : Sd 184 49 1 (i_ic 0) := sd_iconst dd_184_49
theorem dd_184_50 : decode (mi 184).2.1 50 = .ok (.ireturn, 1) := by decide +kernel
theorem st_184_50 : Sd 184 50 1 (i_rI 2) := sd_ireturn dd_184_50 (by decide) mr_184
def bk_184_49 : Tr := sq (i_ic 0) (i_rI 2)
theorem sb_184_49 : Sd 184 49 2 bk_184_49 := Sd.sq st_184_49 (st_184_50)
theorem dd_184_51 : decode (mi 184).2.1 51 = .ok (.iload 5, 2) := by decide +kernel
theorem st_184_51 : Sd 184 51 2 (i_ldI 5) := sd_iload dd_184_51
theorem dd_184_53 : decode (mi 184).2.1 53 = .ok (.ifCond .eq 9, 3) := by decide +kernel
theorem st_184_53 : Sd 184 53 3 (i_zeq 62) := sd_if_eq dd_184_53 (by decide)
theorem dd_184_56 : decode (mi 184).2.1 56 = .ok (.iload_n 3, 1) := by decide +kernel
theorem st_184_56 : Sd 184 56 1 (i_ldI 3) := sd_iload_n (j := 3) dd_184_56 rfl
theorem dd_184_57 : decode (mi 184).2.1 57 = .ok (.iconst 1, 1) := by decide +kernel
theorem st_184_57 : Sd 184 57 1 (i_ic 1) := sd_iconst dd_184_57
theorem dd_184_58 : decode (mi 184).2.1 58 = .ok (.iadd, 1) := by decide +kernel
theorem st_184_58 : Sd 184 58 1 (i_iadd) := sd_iadd dd_184_58
theorem dd_184_59 : decode (mi 184).2.1 59 = .ok (.goto 4, 3) := by decide +kernel
theorem st_184_59 : Sd 184 59 3 (i_goto 63) := sd_goto dd_184_59 (by decide)
def bk_184_51 : Tr := sq (i_ldI 5) (sq (i_zeq 62) (sq (i_ldI 3) (sq (i_ic 1) (sq (i_iadd) (i_goto 63)))))
theorem sb_184_51 : Sd 184 51 11 bk_184_51 := Sd.sq st_184_51 (Sd.sq st_184_53 (Sd.sq st_184_56 (Sd.sq st_184_57 (Sd.sq st_184_58 (st_184_59)))))
theorem dd_184_62 : decode (mi 184).2.1 62 = .ok (.iload_n 3, 1) := by decide +kernel
theorem st_184_62 : Sd 184 62 1 (i_ldI 3) := sd_iload_n (j := 3) dd_184_62 rfl
def bk_184_62 : Tr := sq (i_ldI 3) (i_fall 63)
theorem sb_184_62 : Sd 184 62 1 bk_184_62 := Sd.sq st_184_62 (sd_fall rfl)
theorem dd_184_63 : decode (mi 184).2.1 63 = .ok (.istore_n 3, 1) := by decide +kernel
theorem st_184_63 : Sd 184 63 1 (i_stI 3) := sd_istore_n (j := 3) dd_184_63 rfl
theorem dd_184_64 : decode (mi 184).2.1 64 = .ok (.iinc 4 (-1), 3) := by decide +kernel
theorem st_184_64 : Sd 184 64 3 (i_inc 4 (-1)) := sd_iinc dd_184_64
theorem dd_184_67 : decode (mi 184).2.1 67 = .ok (.goto (-56), 3) := by decide +kernel
theorem st_184_67 : Sd 184 67 3 (i_goto 11) := sd_goto dd_184_67 (by decide)
def bk_184_63 : Tr := sq (i_stI 3) (sq (i_inc 4 (-1)) (i_goto 11))
theorem sb_184_63 : Sd 184 63 7 bk_184_63 := Sd.sq st_184_63 (Sd.sq st_184_64 (st_184_67))
theorem dd_184_70 : decode (mi 184).2.1 70 = .ok (.aload_n 0, 1) := by decide +kernel
theorem st_184_70 : Sd 184 70 1 (i_ldR 0) := sd_aload_n (j := 0) dd_184_70 rfl
theorem dd_184_71 : decode (mi 184).2.1 71 = .ok (.getfield 97, 3) := by decide +kernel
theorem st_184_71 : Sd 184 71 3 (i_gI 2 [2]) := sd_gI (ref := "ContractDeskModel") (decl := "ContractDeskModel") (name := "typed") (desc := "I") dd_184_71 (by rw [mc_184]; exact tw_1262) (Or.inl rfl) (by decide +kernel)
theorem dd_184_74 : decode (mi 184).2.1 74 = .ok (.iload_n 3, 1) := by decide +kernel
theorem st_184_74 : Sd 184 74 1 (i_ldI 3) := sd_iload_n (j := 3) dd_184_74 rfl
theorem dd_184_75 : decode (mi 184).2.1 75 = .ok (.iadd, 1) := by decide +kernel
theorem st_184_75 : Sd 184 75 1 (i_iadd) := sd_iadd dd_184_75
theorem dd_184_76 : decode (mi 184).2.1 76 = .ok (.bipush 100, 2) := by decide +kernel
theorem st_184_76 : Sd 184 76 2 (i_ic 100) := sd_bipush dd_184_76 (by decide)
theorem dd_184_78 : decode (mi 184).2.1 78 = .ok (.if_icmp .le 5, 3) := by decide +kernel
theorem st_184_78 : Sd 184 78 3 (i_cle 83) := sd_icmp_le dd_184_78 (by decide)
theorem dd_184_81 : decode (mi 184).2.1 81 = .ok (.iconst 0, 1) := by decide +kernel
theorem st_184_81 : Sd 184 81 1 (i_ic 0) := sd_iconst dd_184_81
theorem dd_184_82 : decode (mi 184).2.1 82 = .ok (.ireturn, 1) := by decide +kernel
theorem st_184_82 : Sd 184 82 1 (i_rI 2) := sd_ireturn dd_184_82 (by decide) mr_184
def bk_184_70 : Tr := sq (i_ldR 0) (sq (i_gI 2 [2]) (sq (i_ldI 3) (sq (i_iadd) (sq (i_ic 100) (sq (i_cle 83) (sq (i_ic 0) (i_rI 2)))))))
theorem sb_184_70 : Sd 184 70 13 bk_184_70 := Sd.sq st_184_70 (Sd.sq st_184_71 (Sd.sq st_184_74 (Sd.sq st_184_75 (Sd.sq st_184_76 (Sd.sq st_184_78 (Sd.sq st_184_81 (st_184_82)))))))
theorem dd_184_83 : decode (mi 184).2.1 83 = .ok (.bipush 7, 2) := by decide +kernel
theorem st_184_83 : Sd 184 83 2 (i_ic 7) := sd_bipush dd_184_83 (by decide)
theorem dd_184_85 : decode (mi 184).2.1 85 = .ok (.istore 4, 2) := by decide +kernel
theorem st_184_85 : Sd 184 85 2 (i_stI 4) := sd_istore dd_184_85
def bk_184_83 : Tr := sq (i_ic 7) (sq (i_stI 4) (i_fall 87))
theorem sb_184_83 : Sd 184 83 4 bk_184_83 := Sd.sq st_184_83 (Sd.sq st_184_85 (sd_fall rfl))
theorem dd_184_87 : decode (mi 184).2.1 87 = .ok (.iload 4, 2) := by decide +kernel
theorem st_184_87 : Sd 184 87 2 (i_ldI 4) := sd_iload dd_184_87
theorem dd_184_89 : decode (mi 184).2.1 89 = .ok (.ifCond .lt 54, 3) := by decide +kernel
theorem st_184_89 : Sd 184 89 3 (i_zlt 143) := sd_if_lt dd_184_89 (by decide)
theorem dd_184_92 : decode (mi 184).2.1 92 = .ok (.lload_n 1, 1) := by decide +kernel
theorem st_184_92 : Sd 184 92 1 (i_ldL 1) := sd_lload_n (j := 1) dd_184_92 rfl
theorem dd_184_93 : decode (mi 184).2.1 93 = .ok (.bipush 8, 2) := by decide +kernel
theorem st_184_93 : Sd 184 93 2 (i_ic 8) := sd_bipush dd_184_93 (by decide)
theorem dd_184_95 : decode (mi 184).2.1 95 = .ok (.iload 4, 2) := by decide +kernel
theorem st_184_95 : Sd 184 95 2 (i_ldI 4) := sd_iload dd_184_95
theorem dd_184_97 : decode (mi 184).2.1 97 = .ok (.imul, 1) := by decide +kernel
theorem st_184_97 : Sd 184 97 1 (i_imul) := sd_imul dd_184_97
theorem dd_184_98 : decode (mi 184).2.1 98 = .ok (.lushr, 1) := by decide +kernel
theorem st_184_98 : Sd 184 98 1 (i_lushr) := sd_lushr dd_184_98
theorem dd_184_99 : decode (mi 184).2.1 99 = .ok (.l2i, 1) := by decide +kernel
theorem st_184_99 : Sd 184 99 1 (i_l2i) := sd_l2i dd_184_99
theorem dd_184_100 : decode (mi 184).2.1 100 = .ok (.sipush 255, 3) := by decide +kernel
theorem st_184_100 : Sd 184 100 3 (i_ic 255) := sd_sipush dd_184_100 (by decide)
theorem dd_184_103 : decode (mi 184).2.1 103 = .ok (.iand, 1) := by decide +kernel
theorem st_184_103 : Sd 184 103 1 (i_iand) := sd_iand dd_184_103
theorem dd_184_104 : decode (mi 184).2.1 104 = .ok (.istore 5, 2) := by decide +kernel
theorem st_184_104 : Sd 184 104 2 (i_stI 5) := sd_istore dd_184_104
theorem dd_184_106 : decode (mi 184).2.1 106 = .ok (.iload 5, 2) := by decide +kernel
theorem st_184_106 : Sd 184 106 2 (i_ldI 5) := sd_iload dd_184_106
theorem dd_184_108 : decode (mi 184).2.1 108 = .ok (.ifCond .eq 29, 3) := by decide +kernel
theorem st_184_108 : Sd 184 108 3 (i_zeq 137) := sd_if_eq dd_184_108 (by decide)
theorem dd_184_111 : decode (mi 184).2.1 111 = .ok (.aload_n 0, 1) := by decide +kernel
theorem st_184_111 : Sd 184 111 1 (i_ldR 0) := sd_aload_n (j := 0) dd_184_111 rfl
theorem dd_184_112 : decode (mi 184).2.1 112 = .ok (.getfield 7, 3) := by decide +kernel
theorem st_184_112 : Sd 184 112 3 (i_gR 1 [2]) := sd_gR (ref := "ContractDeskModel") (decl := "ContractDeskModel") (name := "all") (desc := "[C") dd_184_112 (by rw [mc_184]; exact tw_1261) (Or.inl rfl) (by decide +kernel)
theorem dd_184_115 : decode (mi 184).2.1 115 = .ok (.sipush 400, 3) := by decide +kernel
theorem st_184_115 : Sd 184 115 3 (i_ic 400) := sd_sipush dd_184_115 (by decide)
theorem dd_184_118 : decode (mi 184).2.1 118 = .ok (.aload_n 0, 1) := by decide +kernel
theorem st_184_118 : Sd 184 118 1 (i_ldR 0) := sd_aload_n (j := 0) dd_184_118 rfl
theorem dd_184_119 : decode (mi 184).2.1 119 = .ok (.getfield 97, 3) := by decide +kernel
theorem st_184_119 : Sd 184 119 3 (i_gI 2 [2]) := sd_gI (ref := "ContractDeskModel") (decl := "ContractDeskModel") (name := "typed") (desc := "I") dd_184_119 (by rw [mc_184]; exact tw_1262) (Or.inl rfl) (by decide +kernel)
theorem dd_184_122 : decode (mi 184).2.1 122 = .ok (.iadd, 1) := by decide +kernel
theorem st_184_122 : Sd 184 122 1 (i_iadd) := sd_iadd dd_184_122
theorem dd_184_123 : decode (mi 184).2.1 123 = .ok (.iload 5, 2) := by decide +kernel
theorem st_184_123 : Sd 184 123 2 (i_ldI 5) := sd_iload dd_184_123
theorem dd_184_125 : decode (mi 184).2.1 125 = .ok (.i2c, 1) := by decide +kernel
theorem st_184_125 : Sd 184 125 1 (i_i2c) := sd_i2c dd_184_125
theorem dd_184_126 : decode (mi 184).2.1 126 = .ok (.castore, 1) := by decide +kernel
theorem st_184_126 : Sd 184 126 1 (i_sI [21] 1) := sd_castore dd_184_126 (by decide)
theorem dd_184_127 : decode (mi 184).2.1 127 = .ok (.aload_n 0, 1) := by decide +kernel
theorem st_184_127 : Sd 184 127 1 (i_ldR 0) := sd_aload_n (j := 0) dd_184_127 rfl
theorem dd_184_128 : decode (mi 184).2.1 128 = .ok (.dup, 1) := by decide +kernel
theorem st_184_128 : Sd 184 128 1 (i_dup) := sd_dup dd_184_128
theorem dd_184_129 : decode (mi 184).2.1 129 = .ok (.getfield 97, 3) := by decide +kernel
theorem st_184_129 : Sd 184 129 3 (i_gI 2 [2]) := sd_gI (ref := "ContractDeskModel") (decl := "ContractDeskModel") (name := "typed") (desc := "I") dd_184_129 (by rw [mc_184]; exact tw_1262) (Or.inl rfl) (by decide +kernel)
theorem dd_184_132 : decode (mi 184).2.1 132 = .ok (.iconst 1, 1) := by decide +kernel
theorem st_184_132 : Sd 184 132 1 (i_ic 1) := sd_iconst dd_184_132
theorem dd_184_133 : decode (mi 184).2.1 133 = .ok (.iadd, 1) := by decide +kernel
theorem st_184_133 : Sd 184 133 1 (i_iadd) := sd_iadd dd_184_133
theorem dd_184_134 : decode (mi 184).2.1 134 = .ok (.putfield 97, 3) := by decide +kernel
theorem st_184_134 : Sd 184 134 3 (i_pI 2 [2] 0) := sd_pI (ref := "ContractDeskModel") (decl := "ContractDeskModel") (name := "typed") (desc := "I") dd_184_134 (by rw [mc_184]; exact tw_1262) (Or.inl rfl) (by decide +kernel) (by decide +kernel) (by decide)
def bk_184_87 : Tr := sq (i_ldI 4) (sq (i_zlt 143) (sq (i_ldL 1) (sq (i_ic 8) (sq (i_ldI 4) (sq (i_imul) (sq (i_lushr) (sq (i_l2i) (sq (i_ic 255) (sq (i_iand) (sq (i_stI 5) (sq (i_ldI 5) (sq (i_zeq 137) (sq (i_ldR 0) (sq (i_gR 1 [2]) (sq (i_ic 400) (sq (i_ldR 0) (sq (i_gI 2 [2]) (sq (i_iadd) (sq (i_ldI 5) (sq (i_i2c) (sq (i_sI [21] 1) (sq (i_ldR 0) (sq (i_dup) (sq (i_gI 2 [2]) (sq (i_ic 1) (sq (i_iadd) (sq (i_pI 2 [2] 0) (i_fall 137))))))))))))))))))))))))))))
theorem sb_184_87 : Sd 184 87 50 bk_184_87 := Sd.sq st_184_87 (Sd.sq st_184_89 (Sd.sq st_184_92 (Sd.sq st_184_93 (Sd.sq st_184_95 (Sd.sq st_184_97 (Sd.sq st_184_98 (Sd.sq st_184_99 (Sd.sq st_184_100 (Sd.sq st_184_103 (Sd.sq st_184_104 (Sd.sq st_184_106 (Sd.sq st_184_108 (Sd.sq st_184_111 (Sd.sq st_184_112 (Sd.sq st_184_115 (Sd.sq st_184_118 (Sd.sq st_184_119 (Sd.sq st_184_122 (Sd.sq st_184_123 (Sd.sq st_184_125 (Sd.sq st_184_126 (Sd.sq st_184_127 (Sd.sq st_184_128 (Sd.sq st_184_129 (Sd.sq st_184_132 (Sd.sq st_184_133 (Sd.sq st_184_134 (sd_fall rfl))))))))))))))))))))))))))))
theorem dd_184_137 : decode (mi 184).2.1 137 = .ok (.iinc 4 (-1), 3) := by decide +kernel
theorem st_184_137 : Sd 184 137 3 (i_inc 4 (-1)) := sd_iinc dd_184_137
theorem dd_184_140 : decode (mi 184).2.1 140 = .ok (.goto (-53), 3) := by decide +kernel
theorem st_184_140 : Sd 184 140 3 (i_goto 87) := sd_goto dd_184_140 (by decide)
def bk_184_137 : Tr := sq (i_inc 4 (-1)) (i_goto 87)
theorem sb_184_137 : Sd 184 137 6 bk_184_137 := Sd.sq st_184_137 (st_184_140)
theorem dd_184_143 : decode (mi 184).2.1 143 = .ok (.iconst 1, 1) := by decide +kernel
theorem st_184_143 : Sd 184 143 1 (i_ic 1) := sd_iconst dd_184_143
theorem dd_184_144 : decode (mi 184).2.1 144 = .ok (.ireturn, 1) := by decide +kernel
theorem st_184_144 : Sd 184 144 1 (i_rI 2) := sd_ireturn dd_184_144 (by decide) mr_184
def bk_184_143 : Tr := sq (i_ic 1) (i_rI 2)
theorem sb_184_143 : Sd 184 143 2 bk_184_143 := Sd.sq st_184_143 (st_184_144)
