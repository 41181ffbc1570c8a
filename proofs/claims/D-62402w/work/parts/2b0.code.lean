theorem dd_59_0 : decode (mi 59).2.1 0 = .ok (.aload_n 0, 1) := by decide +kernel
theorem st_59_0 : Sd 59 0 1 (i_ldR 0) := sd_aload_n (j := 0) dd_59_0 rfl
theorem dd_59_1 : decode (mi 59).2.1 1 = .ok (.invokespecial 1, 3) := by decide +kernel
theorem st_59_1 : Sd 59 1 3 (i_cI 72 1 3 []) := sd_initN (host := "ContractDesk") dd_59_1 (by rw [mc_59, mn_72]; exact tw_1071) (by rw [mn_72]; exact tw_1056) mt_72 pm_72 (by rw [mn_72]) (by decide +kernel) ml_59 (HsOk.nil (by decide +kernel))
theorem dd_59_4 : decode (mi 59).2.1 4 = .ok (.aload_n 0, 1) := by decide +kernel
theorem st_59_4 : Sd 59 4 1 (i_ldR 0) := sd_aload_n (j := 0) dd_59_4 rfl
theorem dd_59_5 : decode (mi 59).2.1 5 = .ok (.iload_n 1, 1) := by decide +kernel
theorem st_59_5 : Sd 59 5 1 (i_ldI 1) := sd_iload_n (j := 1) dd_59_5 rfl
theorem dd_59_6 : decode (mi 59).2.1 6 = .ok (.putfield 7, 3) := by decide +kernel
theorem st_59_6 : Sd 59 6 3 (i_pI 1 [7] 2) := sd_pI (ref := "ContractDesk$Bound") (decl := "ContractDesk$Bound") (name := "most") (desc := "Z") dd_59_6 (by rw [mc_59]; exact tw_1072) (Or.inl rfl) (by decide +kernel) (by decide +kernel) (by decide)
theorem dd_59_9 : decode (mi 59).2.1 9 = .ok (.aload_n 0, 1) := by decide +kernel
theorem st_59_9 : Sd 59 9 1 (i_ldR 0) := sd_aload_n (j := 0) dd_59_9 rfl
theorem dd_59_10 : decode (mi 59).2.1 10 = .ok (.iload_n 2, 1) := by decide +kernel
theorem st_59_10 : Sd 59 10 1 (i_ldI 2) := sd_iload_n (j := 2) dd_59_10 rfl
theorem dd_59_11 : decode (mi 59).2.1 11 = .ok (.putfield 13, 3) := by decide +kernel
theorem st_59_11 : Sd 59 11 3 (i_pI 2 [7] 0) := sd_pI (ref := "ContractDesk$Bound") (decl := "ContractDesk$Bound") (name := "bound") (desc := "I") dd_59_11 (by rw [mc_59]; exact tw_1073) (Or.inl rfl) (by decide +kernel) (by decide +kernel) (by decide)
theorem dd_59_14 : decode (mi 59).2.1 14 = .ok (.return_, 1) := by decide +kernel
theorem st_59_14 : Sd 59 14 1 (i_ret) := sd_ret dd_59_14 mr_59
def bk_59_0 : Tr := sq (i_ldR 0) (sq (i_cI 72 1 3 []) (sq (i_ldR 0) (sq (i_ldI 1) (sq (i_pI 1 [7] 2) (sq (i_ldR 0) (sq (i_ldI 2) (sq (i_pI 2 [7] 0) (i_ret))))))))
theorem sb_59_0 : Sd 59 0 15 bk_59_0 := Sd.sq st_59_0 (Sd.sq st_59_1 (Sd.sq st_59_4 (Sd.sq st_59_5 (Sd.sq st_59_6 (Sd.sq st_59_9 (Sd.sq st_59_10 (Sd.sq st_59_11 (st_59_14))))))))
theorem dd_60_0 : decode (mi 60).2.1 0 = .ok (.aload_n 2, 1) := by decide +kernel
theorem st_60_0 : Sd 60 0 1 (i_ldR 2) := sd_aload_n (j := 2) dd_60_0 rfl
theorem dd_60_1 : decode (mi 60).2.1 1 = .ok (.instanceof 17, 3) := by decide +kernel
theorem st_60_1 : Sd 60 1 3 (i_inst [12] [10, 11]) := sd_instanceof (nm := "ContractDesk$Group") dd_60_1 (by rw [mc_60]; exact tw_1169) okc_0 oknc_0
theorem dd_60_4 : decode (mi 60).2.1 4 = .ok (.ifCond .eq 13, 3) := by decide +kernel
theorem st_60_4 : Sd 60 4 3 (i_zeq 17) := sd_if_eq dd_60_4 (by decide)
theorem dd_60_7 : decode (mi 60).2.1 7 = .ok (.aload_n 2, 1) := by decide +kernel
theorem st_60_7 : Sd 60 7 1 (i_ldR 2) := sd_aload_n (j := 2) dd_60_7 rfl
theorem dd_60_8 : decode (mi 60).2.1 8 = .ok (.invokevirtual 19, 3) := by decide +kernel
theorem st_60_8 : Sd 60 8 3 (i_cV [(10, 119), (11, 77), (12, 66)] 1 4 []) := sd_virtU ⟨"ContractDesk$Value", "kind", "()LContractDesk$Kind;"⟩ "ContractDesk$Value" dd_60_8 (by rw [mc_60]; exact tw_1170) (by exact tw_960) (Or.inl tw_959) (by decide) (fun t j h => by simp only [List.mem_cons, List.not_mem_nil, or_false, Prod.mk.injEq] at h; rcases h with ⟨rfl, rfl⟩ | ⟨rfl, rfl⟩ | ⟨rfl, rfl⟩; exact ⟨by rw [mn_119]; exact tw_967, by rw [mn_119]; exact tw_968, mt_119, by decide, by decide⟩; exact ⟨by rw [mn_77]; exact tw_964, by rw [mn_77]; exact tw_965, mt_77, by decide, by decide⟩; exact ⟨by rw [mn_66]; exact tw_961, by rw [mn_66]; exact tw_962, mt_66, by decide, by decide⟩) (by unfold prm; decide +kernel) ml_60 (HsOk.nil (by decide +kernel))
theorem dd_60_11 : decode (mi 60).2.1 11 = .ok (.getstatic 25, 3) := by decide +kernel
theorem st_60_11 : Sd 60 11 3 (i_gs 4) := sd_gs (n := 4) dd_60_11 (by rw [mc_60]; exact tw_1171) (by decide)
theorem dd_60_14 : decode (mi 60).2.1 14 = .ok (.if_acmp .eq 5, 3) := by decide +kernel
theorem st_60_14 : Sd 60 14 3 (i_aeq 19) := sd_acmp_eq dd_60_14 (by decide)
def bk_60_0 : Tr := sq (i_ldR 2) (sq (i_inst [12] [10, 11]) (sq (i_zeq 17) (sq (i_ldR 2) (sq (i_cV [(10, 119), (11, 77), (12, 66)] 1 4 []) (sq (i_gs 4) (sq (i_aeq 19) (i_fall 17)))))))
theorem sb_60_0 : Sd 60 0 17 bk_60_0 := Sd.sq st_60_0 (Sd.sq st_60_1 (Sd.sq st_60_4 (Sd.sq st_60_7 (Sd.sq st_60_8 (Sd.sq st_60_11 (Sd.sq st_60_14 (sd_fall rfl)))))))
theorem dd_60_17 : decode (mi 60).2.1 17 = .ok (.iconst 0, 1) := by decide +kernel
theorem st_60_17 : Sd 60 17 1 (i_ic 0) := sd_iconst dd_60_17
theorem dd_60_18 : decode (mi 60).2.1 18 = .ok (.ireturn, 1) := by decide +kernel
theorem st_60_18 : Sd 60 18 1 (i_rI 2) := sd_ireturn dd_60_18 (by decide) mr_60
def bk_60_17 : Tr := sq (i_ic 0) (i_rI 2)
theorem sb_60_17 : Sd 60 17 2 bk_60_17 := Sd.sq st_60_17 (st_60_18)
theorem dd_60_19 : decode (mi 60).2.1 19 = .ok (.aload_n 2, 1) := by decide +kernel
theorem st_60_19 : Sd 60 19 1 (i_ldR 2) := sd_aload_n (j := 2) dd_60_19 rfl
theorem dd_60_20 : decode (mi 60).2.1 20 = .ok (.checkcast 17, 3) := by decide +kernel
theorem st_60_20 : Sd 60 20 3 (i_cast [12]) := sd_checkcast (nm := "ContractDesk$Group") dd_60_20 (by rw [mc_60]; exact tw_1169) okc_0
theorem dd_60_23 : decode (mi 60).2.1 23 = .ok (.getfield 31, 3) := by decide +kernel
theorem st_60_23 : Sd 60 23 3 (i_gI 3 [12]) := sd_gI (ref := "ContractDesk$Group") (decl := "ContractDesk$Group") (name := "size") (desc := "I") dd_60_23 (by rw [mc_60]; exact tw_850) (Or.inl rfl) (by decide +kernel)
theorem dd_60_26 : decode (mi 60).2.1 26 = .ok (.istore_n 3, 1) := by decide +kernel
theorem st_60_26 : Sd 60 26 1 (i_stI 3) := sd_istore_n (j := 3) dd_60_26 rfl
theorem dd_60_27 : decode (mi 60).2.1 27 = .ok (.aload_n 0, 1) := by decide +kernel
theorem st_60_27 : Sd 60 27 1 (i_ldR 0) := sd_aload_n (j := 0) dd_60_27 rfl
theorem dd_60_28 : decode (mi 60).2.1 28 = .ok (.getfield 7, 3) := by decide +kernel
theorem st_60_28 : Sd 60 28 3 (i_gI 1 [7]) := sd_gI (ref := "ContractDesk$Bound") (decl := "ContractDesk$Bound") (name := "most") (desc := "Z") dd_60_28 (by rw [mc_60]; exact tw_1072) (Or.inl rfl) (by decide +kernel)
theorem dd_60_31 : decode (mi 60).2.1 31 = .ok (.ifCond .eq 19, 3) := by decide +kernel
theorem st_60_31 : Sd 60 31 3 (i_zeq 50) := sd_if_eq dd_60_31 (by decide)
theorem dd_60_34 : decode (mi 60).2.1 34 = .ok (.iload_n 3, 1) := by decide +kernel
theorem st_60_34 : Sd 60 34 1 (i_ldI 3) := sd_iload_n (j := 3) dd_60_34 rfl
theorem dd_60_35 : decode (mi 60).2.1 35 = .ok (.aload_n 0, 1) := by decide +kernel
theorem st_60_35 : Sd 60 35 1 (i_ldR 0) := sd_aload_n (j := 0) dd_60_35 rfl
theorem dd_60_36 : decode (mi 60).2.1 36 = .ok (.getfield 13, 3) := by decide +kernel
theorem st_60_36 : Sd 60 36 3 (i_gI 2 [7]) := sd_gI (ref := "ContractDesk$Bound") (decl := "ContractDesk$Bound") (name := "bound") (desc := "I") dd_60_36 (by rw [mc_60]; exact tw_1073) (Or.inl rfl) (by decide +kernel)
theorem dd_60_39 : decode (mi 60).2.1 39 = .ok (.if_icmp .gt 7, 3) := by decide +kernel
theorem st_60_39 : Sd 60 39 3 (i_cgt 46) := sd_icmp_gt dd_60_39 (by decide)
theorem dd_60_42 : decode (mi 60).2.1 42 = .ok (.iconst 1, 1) := by decide +kernel
theorem st_60_42 : Sd 60 42 1 (i_ic 1) := sd_iconst dd_60_42
theorem dd_60_43 : decode (mi 60).2.1 43 = .ok (.goto 20, 3) := by decide +kernel
theorem st_60_43 : Sd 60 43 3 (i_goto 63) := sd_goto dd_60_43 (by decide)
def bk_60_19 : Tr := sq (i_ldR 2) (sq (i_cast [12]) (sq (i_gI 3 [12]) (sq (i_stI 3) (sq (i_ldR 0) (sq (i_gI 1 [7]) (sq (i_zeq 50) (sq (i_ldI 3) (sq (i_ldR 0) (sq (i_gI 2 [7]) (sq (i_cgt 46) (sq (i_ic 1) (i_goto 63))))))))))))
theorem sb_60_19 : Sd 60 19 27 bk_60_19 := Sd.sq st_60_19 (Sd.sq st_60_20 (Sd.sq st_60_23 (Sd.sq st_60_26 (Sd.sq st_60_27 (Sd.sq st_60_28 (Sd.sq st_60_31 (Sd.sq st_60_34 (Sd.sq st_60_35 (Sd.sq st_60_36 (Sd.sq st_60_39 (Sd.sq st_60_42 (st_60_43))))))))))))
theorem dd_60_46 : decode (mi 60).2.1 46 = .ok (.iconst 0, 1) := by decide +kernel
theorem st_60_46 : Sd 60 46 1 (i_ic 0) := sd_iconst dd_60_46
theorem dd_60_47 : decode (mi 60).2.1 47 = .ok (.goto 16, 3) := by decide +kernel
theorem st_60_47 : Sd 60 47 3 (i_goto 63) := sd_goto dd_60_47 (by decide)
def bk_60_46 : Tr := sq (i_ic 0) (i_goto 63)
theorem sb_60_46 : Sd 60 46 4 bk_60_46 := Sd.sq st_60_46 (st_60_47)
theorem dd_60_50 : decode (mi 60).2.1 50 = .ok (.iload_n 3, 1) := by decide +kernel
theorem st_60_50 : Sd 60 50 1 (i_ldI 3) := sd_iload_n (j := 3) dd_60_50 rfl
theorem dd_60_51 : decode (mi 60).2.1 51 = .ok (.aload_n 0, 1) := by decide +kernel
theorem st_60_51 : Sd 60 51 1 (i_ldR 0) := sd_aload_n (j := 0) dd_60_51 rfl
theorem dd_60_52 : decode (mi 60).2.1 52 = .ok (.getfield 13, 3) := by decide +kernel
theorem st_60_52 : Sd 60 52 3 (i_gI 2 [7]) := sd_gI (ref := "ContractDesk$Bound") (decl := "ContractDesk$Bound") (name := "bound") (desc := "I") dd_60_52 (by rw [mc_60]; exact tw_1073) (Or.inl rfl) (by decide +kernel)
theorem dd_60_55 : decode (mi 60).2.1 55 = .ok (.if_icmp .lt 7, 3) := by decide +kernel
theorem st_60_55 : Sd 60 55 3 (i_clt 62) := sd_icmp_lt dd_60_55 (by decide)
theorem dd_60_58 : decode (mi 60).2.1 58 = .ok (.iconst 1, 1) := by decide +kernel
theorem st_60_58 : Sd 60 58 1 (i_ic 1) := sd_iconst dd_60_58
theorem dd_60_59 : decode (mi 60).2.1 59 = .ok (.goto 4, 3) := by decide +kernel
theorem st_60_59 : Sd 60 59 3 (i_goto 63) := sd_goto dd_60_59 (by decide)
def bk_60_50 : Tr := sq (i_ldI 3) (sq (i_ldR 0) (sq (i_gI 2 [7]) (sq (i_clt 62) (sq (i_ic 1) (i_goto 63)))))
theorem sb_60_50 : Sd 60 50 12 bk_60_50 := Sd.sq st_60_50 (Sd.sq st_60_51 (Sd.sq st_60_52 (Sd.sq st_60_55 (Sd.sq st_60_58 (st_60_59)))))
theorem dd_60_62 : decode (mi 60).2.1 62 = .ok (.iconst 0, 1) := by decide +kernel
theorem st_60_62 : Sd 60 62 1 (i_ic 0) := sd_iconst dd_60_62
def bk_60_62 : Tr := sq (i_ic 0) (i_fall 63)
theorem sb_60_62 : Sd 60 62 1 bk_60_62 := Sd.sq st_60_62 (sd_fall rfl)
theorem dd_60_63 : decode (mi 60).2.1 63 = .ok (.ireturn, 1) := by decide +kernel
theorem st_60_63 : Sd 60 63 1 (i_rI 2) := sd_ireturn dd_60_63 (by decide) mr_60
def bk_60_63 : Tr := i_rI 2
theorem sb_60_63 : Sd 60 63 1 bk_60_63 := st_60_63
theorem dd_61_0 : decode (mi 61).2.1 0 = .ok (.iconst 1, 1) := by decide +kernel
theorem st_61_0 : Sd 61 0 1 (i_ic 1) := sd_iconst dd_61_0
theorem dd_61_1 : decode (mi 61).2.1 1 = .ok (.ireturn, 1) := by decide +kernel
theorem st_61_1 : Sd 61 1 1 (i_rI 2) := sd_ireturn dd_61_1 (by decide) mr_61
def bk_61_0 : Tr := sq (i_ic 1) (i_rI 2)
theorem sb_61_0 : Sd 61 0 2 bk_61_0 := Sd.sq st_61_0 (st_61_1)
theorem dd_62_0 : decode (mi 62).2.1 0 = .ok (.aload_n 0, 1) := by decide +kernel
theorem st_62_0 : Sd 62 0 1 (i_ldR 0) := sd_aload_n (j := 0) dd_62_0 rfl
theorem dd_62_1 : decode (mi 62).2.1 1 = .ok (.invokespecial 1, 3) := by decide +kernel
theorem st_62_1 : Sd 62 1 3 (i_cI 121 1 2 []) := sd_initN (host := "ContractDesk") dd_62_1 (by rw [mc_62, mn_121]; exact tw_845) (by rw [mn_121]; exact tw_816) mt_121 pm_121 (by rw [mn_121]) (by decide +kernel) ml_62 (HsOk.nil (by decide +kernel))
theorem dd_62_4 : decode (mi 62).2.1 4 = .ok (.aload_n 0, 1) := by decide +kernel
theorem st_62_4 : Sd 62 4 1 (i_ldR 0) := sd_aload_n (j := 0) dd_62_4 rfl
theorem dd_62_5 : decode (mi 62).2.1 5 = .ok (.aload_n 1, 1) := by decide +kernel
theorem st_62_5 : Sd 62 5 1 (i_ldR 1) := sd_aload_n (j := 1) dd_62_5 rfl
theorem dd_62_6 : decode (mi 62).2.1 6 = .ok (.putfield 7, 3) := by decide +kernel
theorem st_62_6 : Sd 62 6 3 (i_pR 0 [12]) := sd_pR (ref := "ContractDesk$Group") (decl := "ContractDesk$Group") (name := "kind") (desc := "LContractDesk$Kind;") dd_62_6 (by rw [mc_62]; exact tw_846) (Or.inl rfl) (by decide +kernel) (by decide +kernel)
theorem dd_62_9 : decode (mi 62).2.1 9 = .ok (.return_, 1) := by decide +kernel
theorem st_62_9 : Sd 62 9 1 (i_ret) := sd_ret dd_62_9 mr_62
def bk_62_0 : Tr := sq (i_ldR 0) (sq (i_cI 121 1 2 []) (sq (i_ldR 0) (sq (i_ldR 1) (sq (i_pR 0 [12]) (i_ret)))))
theorem sb_62_0 : Sd 62 0 10 bk_62_0 := Sd.sq st_62_0 (Sd.sq st_62_1 (Sd.sq st_62_4 (Sd.sq st_62_5 (Sd.sq st_62_6 (st_62_9)))))
theorem dd_63_0 : decode (mi 63).2.1 0 = .ok (.aload_n 0, 1) := by decide +kernel
theorem st_63_0 : Sd 63 0 1 (i_ldR 0) := sd_aload_n (j := 0) dd_63_0 rfl
theorem dd_63_1 : decode (mi 63).2.1 1 = .ok (.getfield 13, 3) := by decide +kernel
theorem st_63_1 : Sd 63 1 3 (i_gR 2 [12]) := sd_gR (ref := "ContractDesk$Group") (decl := "ContractDesk$Group") (name := "last") (desc := "LContractDesk$Member;") dd_63_1 (by rw [mc_63]; exact tw_849) (Or.inl rfl) (by decide +kernel)
theorem dd_63_4 : decode (mi 63).2.1 4 = .ok (.ifnonnull 11, 3) := by decide +kernel
theorem st_63_4 : Sd 63 4 3 (i_nol 15) := sd_ifnonnull dd_63_4 (by decide)
theorem dd_63_7 : decode (mi 63).2.1 7 = .ok (.aload_n 0, 1) := by decide +kernel
theorem st_63_7 : Sd 63 7 1 (i_ldR 0) := sd_aload_n (j := 0) dd_63_7 rfl
theorem dd_63_8 : decode (mi 63).2.1 8 = .ok (.aload_n 1, 1) := by decide +kernel
theorem st_63_8 : Sd 63 8 1 (i_ldR 1) := sd_aload_n (j := 1) dd_63_8 rfl
theorem dd_63_9 : decode (mi 63).2.1 9 = .ok (.putfield 17, 3) := by decide +kernel
theorem st_63_9 : Sd 63 9 3 (i_pR 1 [12]) := sd_pR (ref := "ContractDesk$Group") (decl := "ContractDesk$Group") (name := "first") (desc := "LContractDesk$Member;") dd_63_9 (by rw [mc_63]; exact tw_847) (Or.inl rfl) (by decide +kernel) (by decide +kernel)
theorem dd_63_12 : decode (mi 63).2.1 12 = .ok (.goto 11, 3) := by decide +kernel
theorem st_63_12 : Sd 63 12 3 (i_goto 23) := sd_goto dd_63_12 (by decide)
def bk_63_0 : Tr := sq (i_ldR 0) (sq (i_gR 2 [12]) (sq (i_nol 15) (sq (i_ldR 0) (sq (i_ldR 1) (sq (i_pR 1 [12]) (i_goto 23))))))
theorem sb_63_0 : Sd 63 0 15 bk_63_0 := Sd.sq st_63_0 (Sd.sq st_63_1 (Sd.sq st_63_4 (Sd.sq st_63_7 (Sd.sq st_63_8 (Sd.sq st_63_9 (st_63_12))))))
theorem dd_63_15 : decode (mi 63).2.1 15 = .ok (.aload_n 0, 1) := by decide +kernel
theorem st_63_15 : Sd 63 15 1 (i_ldR 0) := sd_aload_n (j := 0) dd_63_15 rfl
theorem dd_63_16 : decode (mi 63).2.1 16 = .ok (.getfield 13, 3) := by decide +kernel
theorem st_63_16 : Sd 63 16 3 (i_gR 2 [12]) := sd_gR (ref := "ContractDesk$Group") (decl := "ContractDesk$Group") (name := "last") (desc := "LContractDesk$Member;") dd_63_16 (by rw [mc_63]; exact tw_849) (Or.inl rfl) (by decide +kernel)
theorem dd_63_19 : decode (mi 63).2.1 19 = .ok (.aload_n 1, 1) := by decide +kernel
theorem st_63_19 : Sd 63 19 1 (i_ldR 1) := sd_aload_n (j := 1) dd_63_19 rfl
theorem dd_63_20 : decode (mi 63).2.1 20 = .ok (.putfield 20, 3) := by decide +kernel
theorem st_63_20 : Sd 63 20 3 (i_pR 2 [13]) := sd_pR (ref := "ContractDesk$Member") (decl := "ContractDesk$Member") (name := "next") (desc := "LContractDesk$Member;") dd_63_20 (by rw [mc_63]; exact tw_882) (Or.inl rfl) (by decide +kernel) (by decide +kernel)
def bk_63_15 : Tr := sq (i_ldR 0) (sq (i_gR 2 [12]) (sq (i_ldR 1) (sq (i_pR 2 [13]) (i_fall 23))))
theorem sb_63_15 : Sd 63 15 8 bk_63_15 := Sd.sq st_63_15 (Sd.sq st_63_16 (Sd.sq st_63_19 (Sd.sq st_63_20 (sd_fall rfl))))
theorem dd_63_23 : decode (mi 63).2.1 23 = .ok (.aload_n 0, 1) := by decide +kernel
theorem st_63_23 : Sd 63 23 1 (i_ldR 0) := sd_aload_n (j := 0) dd_63_23 rfl
theorem dd_63_24 : decode (mi 63).2.1 24 = .ok (.aload_n 1, 1) := by decide +kernel
theorem st_63_24 : Sd 63 24 1 (i_ldR 1) := sd_aload_n (j := 1) dd_63_24 rfl
theorem dd_63_25 : decode (mi 63).2.1 25 = .ok (.putfield 13, 3) := by decide +kernel
theorem st_63_25 : Sd 63 25 3 (i_pR 2 [12]) := sd_pR (ref := "ContractDesk$Group") (decl := "ContractDesk$Group") (name := "last") (desc := "LContractDesk$Member;") dd_63_25 (by rw [mc_63]; exact tw_849) (Or.inl rfl) (by decide +kernel) (by decide +kernel)
theorem dd_63_28 : decode (mi 63).2.1 28 = .ok (.aload_n 0, 1) := by decide +kernel
theorem st_63_28 : Sd 63 28 1 (i_ldR 0) := sd_aload_n (j := 0) dd_63_28 rfl
theorem dd_63_29 : decode (mi 63).2.1 29 = .ok (.dup, 1) := by decide +kernel
theorem st_63_29 : Sd 63 29 1 (i_dup) := sd_dup dd_63_29
theorem dd_63_30 : decode (mi 63).2.1 30 = .ok (.getfield 25, 3) := by decide +kernel
theorem st_63_30 : Sd 63 30 3 (i_gI 3 [12]) := sd_gI (ref := "ContractDesk$Group") (decl := "ContractDesk$Group") (name := "size") (desc := "I") dd_63_30 (by rw [mc_63]; exact tw_851) (Or.inl rfl) (by decide +kernel)
theorem dd_63_33 : decode (mi 63).2.1 33 = .ok (.iconst 1, 1) := by decide +kernel
theorem st_63_33 : Sd 63 33 1 (i_ic 1) := sd_iconst dd_63_33
theorem dd_63_34 : decode (mi 63).2.1 34 = .ok (.iadd, 1) := by decide +kernel
theorem st_63_34 : Sd 63 34 1 (i_iadd) := sd_iadd dd_63_34
theorem dd_63_35 : decode (mi 63).2.1 35 = .ok (.putfield 25, 3) := by decide +kernel
theorem st_63_35 : Sd 63 35 3 (i_pI 3 [12] 0) := sd_pI (ref := "ContractDesk$Group") (decl := "ContractDesk$Group") (name := "size") (desc := "I") dd_63_35 (by rw [mc_63]; exact tw_851) (Or.inl rfl) (by decide +kernel) (by decide +kernel) (by decide)
theorem dd_63_38 : decode (mi 63).2.1 38 = .ok (.return_, 1) := by decide +kernel
theorem st_63_38 : Sd 63 38 1 (i_ret) := sd_ret dd_63_38 mr_63
def bk_63_23 : Tr := sq (i_ldR 0) (sq (i_ldR 1) (sq (i_pR 2 [12]) (sq (i_ldR 0) (sq (i_dup) (sq (i_gI 3 [12]) (sq (i_ic 1) (sq (i_iadd) (sq (i_pI 3 [12] 0) (i_ret)))))))))
theorem sb_63_23 : Sd 63 23 16 bk_63_23 := Sd.sq st_63_23 (Sd.sq st_63_24 (Sd.sq st_63_25 (Sd.sq st_63_28 (Sd.sq st_63_29 (Sd.sq st_63_30 (Sd.sq st_63_33 (Sd.sq st_63_34 (Sd.sq st_63_35 (st_63_38)))))))))
theorem dd_64_0 : decode (mi 64).2.1 0 = .ok (.iconst 1, 1) := by decide +kernel
theorem st_64_0 : Sd 64 0 1 (i_ic 1) := sd_iconst dd_64_0
theorem dd_64_1 : decode (mi 64).2.1 1 = .ok (.istore_n 1, 1) := by decide +kernel
theorem st_64_1 : Sd 64 1 1 (i_stI 1) := sd_istore_n (j := 1) dd_64_1 rfl
theorem dd_64_2 : decode (mi 64).2.1 2 = .ok (.aload_n 0, 1) := by decide +kernel
theorem st_64_2 : Sd 64 2 1 (i_ldR 0) := sd_aload_n (j := 0) dd_64_2 rfl
theorem dd_64_3 : decode (mi 64).2.1 3 = .ok (.getfield 17, 3) := by decide +kernel
theorem st_64_3 : Sd 64 3 3 (i_gR 1 [12]) := sd_gR (ref := "ContractDesk$Group") (decl := "ContractDesk$Group") (name := "first") (desc := "LContractDesk$Member;") dd_64_3 (by rw [mc_64]; exact tw_847) (Or.inl rfl) (by decide +kernel)
theorem dd_64_6 : decode (mi 64).2.1 6 = .ok (.astore_n 2, 1) := by decide +kernel
theorem st_64_6 : Sd 64 6 1 (i_stR 2) := sd_astore_n (j := 2) dd_64_6 rfl
def bk_64_0 : Tr := sq (i_ic 1) (sq (i_stI 1) (sq (i_ldR 0) (sq (i_gR 1 [12]) (sq (i_stR 2) (i_fall 7)))))
theorem sb_64_0 : Sd 64 0 7 bk_64_0 := Sd.sq st_64_0 (Sd.sq st_64_1 (Sd.sq st_64_2 (Sd.sq st_64_3 (Sd.sq st_64_6 (sd_fall rfl)))))
theorem dd_64_7 : decode (mi 64).2.1 7 = .ok (.aload_n 2, 1) := by decide +kernel
theorem st_64_7 : Sd 64 7 1 (i_ldR 2) := sd_aload_n (j := 2) dd_64_7 rfl
theorem dd_64_8 : decode (mi 64).2.1 8 = .ok (.ifnull 21, 3) := by decide +kernel
theorem st_64_8 : Sd 64 8 3 (i_nul 29) := sd_ifnull dd_64_8 (by decide)
theorem dd_64_11 : decode (mi 64).2.1 11 = .ok (.iload_n 1, 1) := by decide +kernel
theorem st_64_11 : Sd 64 11 1 (i_ldI 1) := sd_iload_n (j := 1) dd_64_11 rfl
theorem dd_64_12 : decode (mi 64).2.1 12 = .ok (.aload_n 2, 1) := by decide +kernel
theorem st_64_12 : Sd 64 12 1 (i_ldR 2) := sd_aload_n (j := 2) dd_64_12 rfl
theorem dd_64_13 : decode (mi 64).2.1 13 = .ok (.getfield 33, 3) := by decide +kernel
theorem st_64_13 : Sd 64 13 3 (i_gR 1 [13]) := sd_gR (ref := "ContractDesk$Member") (decl := "ContractDesk$Member") (name := "value") (desc := "LContractDesk$Value;") dd_64_13 (by rw [mc_64]; exact tw_880) (Or.inl rfl) (by decide +kernel)
theorem dd_64_16 : decode (mi 64).2.1 16 = .ok (.invokevirtual 37, 3) := by decide +kernel
theorem st_64_16 : Sd 64 16 3 (i_cV [(10, 122), (11, 122), (12, 64)] 1 3 []) := sd_virtU ⟨"ContractDesk$Value", "count", "()I"⟩ "ContractDesk$Value" dd_64_16 (by rw [mc_64]; exact tw_998) (by exact tw_994) (Or.inr ⟨122, mn_122, tw_993, mt_122.1⟩) (by decide) (fun t j h => by simp only [List.mem_cons, List.not_mem_nil, or_false, Prod.mk.injEq] at h; rcases h with ⟨rfl, rfl⟩ | ⟨rfl, rfl⟩ | ⟨rfl, rfl⟩; exact ⟨by rw [mn_122]; exact tw_1000, by rw [mn_122]; exact tw_993, mt_122, by decide, by decide⟩; exact ⟨by rw [mn_122]; exact tw_999, by rw [mn_122]; exact tw_993, mt_122, by decide, by decide⟩; exact ⟨by rw [mn_64]; exact tw_995, by rw [mn_64]; exact tw_996, mt_64, by decide, by decide⟩) (by unfold prm; decide +kernel) ml_64 (HsOk.nil (by decide +kernel))
theorem dd_64_19 : decode (mi 64).2.1 19 = .ok (.iadd, 1) := by decide +kernel
theorem st_64_19 : Sd 64 19 1 (i_iadd) := sd_iadd dd_64_19
theorem dd_64_20 : decode (mi 64).2.1 20 = .ok (.istore_n 1, 1) := by decide +kernel
theorem st_64_20 : Sd 64 20 1 (i_stI 1) := sd_istore_n (j := 1) dd_64_20 rfl
theorem dd_64_21 : decode (mi 64).2.1 21 = .ok (.aload_n 2, 1) := by decide +kernel
theorem st_64_21 : Sd 64 21 1 (i_ldR 2) := sd_aload_n (j := 2) dd_64_21 rfl
theorem dd_64_22 : decode (mi 64).2.1 22 = .ok (.getfield 20, 3) := by decide +kernel
theorem st_64_22 : Sd 64 22 3 (i_gR 2 [13]) := sd_gR (ref := "ContractDesk$Member") (decl := "ContractDesk$Member") (name := "next") (desc := "LContractDesk$Member;") dd_64_22 (by rw [mc_64]; exact tw_882) (Or.inl rfl) (by decide +kernel)
theorem dd_64_25 : decode (mi 64).2.1 25 = .ok (.astore_n 2, 1) := by decide +kernel
theorem st_64_25 : Sd 64 25 1 (i_stR 2) := sd_astore_n (j := 2) dd_64_25 rfl
theorem dd_64_26 : decode (mi 64).2.1 26 = .ok (.goto (-19), 3) := by decide +kernel
theorem st_64_26 : Sd 64 26 3 (i_goto 7) := sd_goto dd_64_26 (by decide)
def bk_64_7 : Tr := sq (i_ldR 2) (sq (i_nul 29) (sq (i_ldI 1) (sq (i_ldR 2) (sq (i_gR 1 [13]) (sq (i_cV [(10, 122), (11, 122), (12, 64)] 1 3 []) (sq (i_iadd) (sq (i_stI 1) (sq (i_ldR 2) (sq (i_gR 2 [13]) (sq (i_stR 2) (i_goto 7)))))))))))
theorem sb_64_7 : Sd 64 7 22 bk_64_7 := Sd.sq st_64_7 (Sd.sq st_64_8 (Sd.sq st_64_11 (Sd.sq st_64_12 (Sd.sq st_64_13 (Sd.sq st_64_16 (Sd.sq st_64_19 (Sd.sq st_64_20 (Sd.sq st_64_21 (Sd.sq st_64_22 (Sd.sq st_64_25 (st_64_26)))))))))))
theorem dd_64_29 : decode (mi 64).2.1 29 = .ok (.iload_n 1, 1) := by decide +kernel
theorem st_64_29 : Sd 64 29 1 (i_ldI 1) := sd_iload_n (j := 1) dd_64_29 rfl
theorem dd_64_30 : decode (mi 64).2.1 30 = .ok (.ireturn, 1) := by decide +kernel
theorem st_64_30 : Sd 64 30 1 (i_rI 0) := sd_ireturn dd_64_30 (by decide) mr_64
def bk_64_29 : Tr := sq (i_ldI 1) (i_rI 0)
theorem sb_64_29 : Sd 64 29 2 bk_64_29 := Sd.sq st_64_29 (st_64_30)
theorem dd_65_0 : decode (mi 65).2.1 0 = .ok (.aload_n 0, 1) := by decide +kernel
theorem st_65_0 : Sd 65 0 1 (i_ldR 0) := sd_aload_n (j := 0) dd_65_0 rfl
theorem dd_65_1 : decode (mi 65).2.1 1 = .ok (.getfield 17, 3) := by decide +kernel
theorem st_65_1 : Sd 65 1 3 (i_gR 1 [12]) := sd_gR (ref := "ContractDesk$Group") (decl := "ContractDesk$Group") (name := "first") (desc := "LContractDesk$Member;") dd_65_1 (by rw [mc_65]; exact tw_847) (Or.inl rfl) (by decide +kernel)
theorem dd_65_4 : decode (mi 65).2.1 4 = .ok (.astore_n 2, 1) := by decide +kernel
theorem st_65_4 : Sd 65 4 1 (i_stR 2) := sd_astore_n (j := 2) dd_65_4 rfl
def bk_65_0 : Tr := sq (i_ldR 0) (sq (i_gR 1 [12]) (sq (i_stR 2) (i_fall 5)))
theorem sb_65_0 : Sd 65 0 5 bk_65_0 := Sd.sq st_65_0 (Sd.sq st_65_1 (Sd.sq st_65_4 (sd_fall rfl)))
theorem dd_65_5 : decode (mi 65).2.1 5 = .ok (.aload_n 2, 1) := by decide +kernel
theorem st_65_5 : Sd 65 5 1 (i_ldR 2) := sd_aload_n (j := 2) dd_65_5 rfl
theorem dd_65_6 : decode (mi 65).2.1 6 = .ok (.ifnull 19, 3) := by decide +kernel
theorem st_65_6 : Sd 65 6 3 (i_nul 25) := sd_ifnull dd_65_6 (by decide)
theorem dd_65_9 : decode (mi 65).2.1 9 = .ok (.aload_n 2, 1) := by decide +kernel
theorem st_65_9 : Sd 65 9 1 (i_ldR 2) := sd_aload_n (j := 2) dd_65_9 rfl
theorem dd_65_10 : decode (mi 65).2.1 10 = .ok (.getfield 29, 3) := by decide +kernel
theorem st_65_10 : Sd 65 10 3 (i_gI 0 [13]) := sd_gI (ref := "ContractDesk$Member") (decl := "ContractDesk$Member") (name := "key") (desc := "C") dd_65_10 (by rw [mc_65]; exact tw_877) (Or.inl rfl) (by decide +kernel)
theorem dd_65_13 : decode (mi 65).2.1 13 = .ok (.iload_n 1, 1) := by decide +kernel
theorem st_65_13 : Sd 65 13 1 (i_ldI 1) := sd_iload_n (j := 1) dd_65_13 rfl
theorem dd_65_14 : decode (mi 65).2.1 14 = .ok (.if_icmp .eq 11, 3) := by decide +kernel
theorem st_65_14 : Sd 65 14 3 (i_ceq 25) := sd_icmp_eq dd_65_14 (by decide)
theorem dd_65_17 : decode (mi 65).2.1 17 = .ok (.aload_n 2, 1) := by decide +kernel
theorem st_65_17 : Sd 65 17 1 (i_ldR 2) := sd_aload_n (j := 2) dd_65_17 rfl
theorem dd_65_18 : decode (mi 65).2.1 18 = .ok (.getfield 20, 3) := by decide +kernel
theorem st_65_18 : Sd 65 18 3 (i_gR 2 [13]) := sd_gR (ref := "ContractDesk$Member") (decl := "ContractDesk$Member") (name := "next") (desc := "LContractDesk$Member;") dd_65_18 (by rw [mc_65]; exact tw_882) (Or.inl rfl) (by decide +kernel)
theorem dd_65_21 : decode (mi 65).2.1 21 = .ok (.astore_n 2, 1) := by decide +kernel
theorem st_65_21 : Sd 65 21 1 (i_stR 2) := sd_astore_n (j := 2) dd_65_21 rfl
theorem dd_65_22 : decode (mi 65).2.1 22 = .ok (.goto (-17), 3) := by decide +kernel
theorem st_65_22 : Sd 65 22 3 (i_goto 5) := sd_goto dd_65_22 (by decide)
def bk_65_5 : Tr := sq (i_ldR 2) (sq (i_nul 25) (sq (i_ldR 2) (sq (i_gI 0 [13]) (sq (i_ldI 1) (sq (i_ceq 25) (sq (i_ldR 2) (sq (i_gR 2 [13]) (sq (i_stR 2) (i_goto 5)))))))))
theorem sb_65_5 : Sd 65 5 20 bk_65_5 := Sd.sq st_65_5 (Sd.sq st_65_6 (Sd.sq st_65_9 (Sd.sq st_65_10 (Sd.sq st_65_13 (Sd.sq st_65_14 (Sd.sq st_65_17 (Sd.sq st_65_18 (Sd.sq st_65_21 (st_65_22)))))))))
theorem dd_65_25 : decode (mi 65).2.1 25 = .ok (.aload_n 2, 1) := by decide +kernel
theorem st_65_25 : Sd 65 25 1 (i_ldR 2) := sd_aload_n (j := 2) dd_65_25 rfl
theorem dd_65_26 : decode (mi 65).2.1 26 = .ok (.ifnonnull 7, 3) := by decide +kernel
theorem st_65_26 : Sd 65 26 3 (i_nol 33) := sd_ifnonnull dd_65_26 (by decide)
theorem dd_65_29 : decode (mi 65).2.1 29 = .ok (.aconst_null, 1) := by decide +kernel
theorem st_65_29 : Sd 65 29 1 (i_null) := sd_null dd_65_29
theorem dd_65_30 : decode (mi 65).2.1 30 = .ok (.goto 7, 3) := by decide +kernel
theorem st_65_30 : Sd 65 30 3 (i_goto 37) := sd_goto dd_65_30 (by decide)
def bk_65_25 : Tr := sq (i_ldR 2) (sq (i_nol 33) (sq (i_null) (i_goto 37)))
theorem sb_65_25 : Sd 65 25 8 bk_65_25 := Sd.sq st_65_25 (Sd.sq st_65_26 (Sd.sq st_65_29 (st_65_30)))
theorem dd_65_33 : decode (mi 65).2.1 33 = .ok (.aload_n 2, 1) := by decide +kernel
theorem st_65_33 : Sd 65 33 1 (i_ldR 2) := sd_aload_n (j := 2) dd_65_33 rfl
theorem dd_65_34 : decode (mi 65).2.1 34 = .ok (.getfield 33, 3) := by decide +kernel
theorem st_65_34 : Sd 65 34 3 (i_gR 1 [13]) := sd_gR (ref := "ContractDesk$Member") (decl := "ContractDesk$Member") (name := "value") (desc := "LContractDesk$Value;") dd_65_34 (by rw [mc_65]; exact tw_880) (Or.inl rfl) (by decide +kernel)
def bk_65_33 : Tr := sq (i_ldR 2) (sq (i_gR 1 [13]) (i_fall 37))
theorem sb_65_33 : Sd 65 33 4 bk_65_33 := Sd.sq st_65_33 (Sd.sq st_65_34 (sd_fall rfl))
theorem dd_65_37 : decode (mi 65).2.1 37 = .ok (.areturn, 1) := by decide +kernel
theorem st_65_37 : Sd 65 37 1 (i_rR) := sd_areturn dd_65_37 mr_65 (Or.inl ⟨_, rfl⟩)
def bk_65_37 : Tr := i_rR
theorem sb_65_37 : Sd 65 37 1 bk_65_37 := st_65_37
theorem dd_66_0 : decode (mi 66).2.1 0 = .ok (.aload_n 0, 1) := by decide +kernel
theorem st_66_0 : Sd 66 0 1 (i_ldR 0) := sd_aload_n (j := 0) dd_66_0 rfl
theorem dd_66_1 : decode (mi 66).2.1 1 = .ok (.getfield 7, 3) := by decide +kernel
theorem st_66_1 : Sd 66 1 3 (i_gR 0 [12]) := sd_gR (ref := "ContractDesk$Group") (decl := "ContractDesk$Group") (name := "kind") (desc := "LContractDesk$Kind;") dd_66_1 (by rw [mc_66]; exact tw_846) (Or.inl rfl) (by decide +kernel)
theorem dd_66_4 : decode (mi 66).2.1 4 = .ok (.areturn, 1) := by decide +kernel
theorem st_66_4 : Sd 66 4 1 (i_rR) := sd_areturn dd_66_4 mr_66 (Or.inl ⟨_, rfl⟩)
def bk_66_0 : Tr := sq (i_ldR 0) (sq (i_gR 0 [12]) (i_rR))
theorem sb_66_0 : Sd 66 0 5 bk_66_0 := Sd.sq st_66_0 (Sd.sq st_66_1 (st_66_4))
theorem dd_67_0 : decode (mi 67).2.1 0 = .ok (.aload_n 1, 1) := by decide +kernel
theorem st_67_0 : Sd 67 0 1 (i_ldR 1) := sd_aload_n (j := 1) dd_67_0 rfl
theorem dd_67_1 : decode (mi 67).2.1 1 = .ok (.instanceof 8, 3) := by decide +kernel
theorem st_67_1 : Sd 67 1 3 (i_inst [12] [10, 11]) := sd_instanceof (nm := "ContractDesk$Group") dd_67_1 (by rw [mc_67]; exact tw_951) okc_0 oknc_0
theorem dd_67_4 : decode (mi 67).2.1 4 = .ok (.ifCond .eq 11, 3) := by decide +kernel
theorem st_67_4 : Sd 67 4 3 (i_zeq 15) := sd_if_eq dd_67_4 (by decide)
theorem dd_67_7 : decode (mi 67).2.1 7 = .ok (.aload_n 0, 1) := by decide +kernel
theorem st_67_7 : Sd 67 7 1 (i_ldR 0) := sd_aload_n (j := 0) dd_67_7 rfl
theorem dd_67_8 : decode (mi 67).2.1 8 = .ok (.aload_n 1, 1) := by decide +kernel
theorem st_67_8 : Sd 67 8 1 (i_ldR 1) := sd_aload_n (j := 1) dd_67_8 rfl
theorem dd_67_9 : decode (mi 67).2.1 9 = .ok (.invokevirtual 41, 3) := by decide +kernel
theorem st_67_9 : Sd 67 9 3 (i_cV [(12, 123)] 2 6 []) := sd_virtU ⟨"ContractDesk$Group", "isLike", "(LContractDesk$Value;)Z"⟩ "ContractDesk$Value" dd_67_9 (by rw [mc_67]; exact tw_952) (by exact tw_953) (Or.inl tw_954) (by decide) (fun t j h => by simp only [List.mem_cons, List.not_mem_nil, or_false, Prod.mk.injEq] at h; obtain ⟨rfl, rfl⟩ := h; exact ⟨by rw [mn_123]; exact tw_955, by rw [mn_123]; exact tw_956, mt_123, by decide, by decide⟩) (by unfold prm; decide +kernel) ml_67 (HsOk.nil (by decide +kernel))
theorem dd_67_12 : decode (mi 67).2.1 12 = .ok (.ifCond .ne 5, 3) := by decide +kernel
theorem st_67_12 : Sd 67 12 3 (i_zne 17) := sd_if_ne dd_67_12 (by decide)
def bk_67_0 : Tr := sq (i_ldR 1) (sq (i_inst [12] [10, 11]) (sq (i_zeq 15) (sq (i_ldR 0) (sq (i_ldR 1) (sq (i_cV [(12, 123)] 2 6 []) (sq (i_zne 17) (i_fall 15)))))))
theorem sb_67_0 : Sd 67 0 15 bk_67_0 := Sd.sq st_67_0 (Sd.sq st_67_1 (Sd.sq st_67_4 (Sd.sq st_67_7 (Sd.sq st_67_8 (Sd.sq st_67_9 (Sd.sq st_67_12 (sd_fall rfl)))))))
theorem dd_67_15 : decode (mi 67).2.1 15 = .ok (.iconst 0, 1) := by decide +kernel
theorem st_67_15 : Sd 67 15 1 (i_ic 0) := sd_iconst dd_67_15
theorem dd_67_16 : decode (mi 67).2.1 16 = .ok (.ireturn, 1) := by decide +kernel
theorem st_67_16 : Sd 67 16 1 (i_rI 2) := sd_ireturn dd_67_16 (by decide) mr_67
def bk_67_15 : Tr := sq (i_ic 0) (i_rI 2)
theorem sb_67_15 : Sd 67 15 2 bk_67_15 := Sd.sq st_67_15 (st_67_16)
theorem dd_67_17 : decode (mi 67).2.1 17 = .ok (.aload_n 1, 1) := by decide +kernel
theorem st_67_17 : Sd 67 17 1 (i_ldR 1) := sd_aload_n (j := 1) dd_67_17 rfl
theorem dd_67_18 : decode (mi 67).2.1 18 = .ok (.checkcast 8, 3) := by decide +kernel
theorem st_67_18 : Sd 67 18 3 (i_cast [12]) := sd_checkcast (nm := "ContractDesk$Group") dd_67_18 (by rw [mc_67]; exact tw_951) okc_0
theorem dd_67_21 : decode (mi 67).2.1 21 = .ok (.astore_n 2, 1) := by decide +kernel
theorem st_67_21 : Sd 67 21 1 (i_stR 2) := sd_astore_n (j := 2) dd_67_21 rfl
theorem dd_67_22 : decode (mi 67).2.1 22 = .ok (.aload_n 2, 1) := by decide +kernel
theorem st_67_22 : Sd 67 22 1 (i_ldR 2) := sd_aload_n (j := 2) dd_67_22 rfl
theorem dd_67_23 : decode (mi 67).2.1 23 = .ok (.getfield 25, 3) := by decide +kernel
theorem st_67_23 : Sd 67 23 3 (i_gI 3 [12]) := sd_gI (ref := "ContractDesk$Group") (decl := "ContractDesk$Group") (name := "size") (desc := "I") dd_67_23 (by rw [mc_67]; exact tw_851) (Or.inl rfl) (by decide +kernel)
theorem dd_67_26 : decode (mi 67).2.1 26 = .ok (.aload_n 0, 1) := by decide +kernel
theorem st_67_26 : Sd 67 26 1 (i_ldR 0) := sd_aload_n (j := 0) dd_67_26 rfl
theorem dd_67_27 : decode (mi 67).2.1 27 = .ok (.getfield 25, 3) := by decide +kernel
theorem st_67_27 : Sd 67 27 3 (i_gI 3 [12]) := sd_gI (ref := "ContractDesk$Group") (decl := "ContractDesk$Group") (name := "size") (desc := "I") dd_67_27 (by rw [mc_67]; exact tw_851) (Or.inl rfl) (by decide +kernel)
theorem dd_67_30 : decode (mi 67).2.1 30 = .ok (.if_icmp .eq 5, 3) := by decide +kernel
theorem st_67_30 : Sd 67 30 3 (i_ceq 35) := sd_icmp_eq dd_67_30 (by decide)
theorem dd_67_33 : decode (mi 67).2.1 33 = .ok (.iconst 0, 1) := by decide +kernel
theorem st_67_33 : Sd 67 33 1 (i_ic 0) := sd_iconst dd_67_33
theorem dd_67_34 : decode (mi 67).2.1 34 = .ok (.ireturn, 1) := by decide +kernel
theorem st_67_34 : Sd 67 34 1 (i_rI 2) := sd_ireturn dd_67_34 (by decide) mr_67
def bk_67_17 : Tr := sq (i_ldR 1) (sq (i_cast [12]) (sq (i_stR 2) (sq (i_ldR 2) (sq (i_gI 3 [12]) (sq (i_ldR 0) (sq (i_gI 3 [12]) (sq (i_ceq 35) (sq (i_ic 0) (i_rI 2)))))))))
theorem sb_67_17 : Sd 67 17 18 bk_67_17 := Sd.sq st_67_17 (Sd.sq st_67_18 (Sd.sq st_67_21 (Sd.sq st_67_22 (Sd.sq st_67_23 (Sd.sq st_67_26 (Sd.sq st_67_27 (Sd.sq st_67_30 (Sd.sq st_67_33 (st_67_34)))))))))
theorem dd_67_35 : decode (mi 67).2.1 35 = .ok (.aload_n 2, 1) := by decide +kernel
theorem st_67_35 : Sd 67 35 1 (i_ldR 2) := sd_aload_n (j := 2) dd_67_35 rfl
theorem dd_67_36 : decode (mi 67).2.1 36 = .ok (.getfield 17, 3) := by decide +kernel
theorem st_67_36 : Sd 67 36 3 (i_gR 1 [12]) := sd_gR (ref := "ContractDesk$Group") (decl := "ContractDesk$Group") (name := "first") (desc := "LContractDesk$Member;") dd_67_36 (by rw [mc_67]; exact tw_847) (Or.inl rfl) (by decide +kernel)
theorem dd_67_39 : decode (mi 67).2.1 39 = .ok (.astore_n 3, 1) := by decide +kernel
theorem st_67_39 : Sd 67 39 1 (i_stR 3) := sd_astore_n (j := 3) dd_67_39 rfl
theorem dd_67_40 : decode (mi 67).2.1 40 = .ok (.aload_n 0, 1) := by decide +kernel
theorem st_67_40 : Sd 67 40 1 (i_ldR 0) := sd_aload_n (j := 0) dd_67_40 rfl
theorem dd_67_41 : decode (mi 67).2.1 41 = .ok (.getfield 17, 3) := by decide +kernel
theorem st_67_41 : Sd 67 41 3 (i_gR 1 [12]) := sd_gR (ref := "ContractDesk$Group") (decl := "ContractDesk$Group") (name := "first") (desc := "LContractDesk$Member;") dd_67_41 (by rw [mc_67]; exact tw_847) (Or.inl rfl) (by decide +kernel)
theorem dd_67_44 : decode (mi 67).2.1 44 = .ok (.astore 4, 2) := by decide +kernel
theorem st_67_44 : Sd 67 44 2 (i_stR 4) := sd_astore dd_67_44
def bk_67_35 : Tr := sq (i_ldR 2) (sq (i_gR 1 [12]) (sq (i_stR 3) (sq (i_ldR 0) (sq (i_gR 1 [12]) (sq (i_stR 4) (i_fall 46))))))
theorem sb_67_35 : Sd 67 35 11 bk_67_35 := Sd.sq st_67_35 (Sd.sq st_67_36 (Sd.sq st_67_39 (Sd.sq st_67_40 (Sd.sq st_67_41 (Sd.sq st_67_44 (sd_fall rfl))))))
theorem dd_67_46 : decode (mi 67).2.1 46 = .ok (.aload 4, 2) := by decide +kernel
theorem st_67_46 : Sd 67 46 2 (i_ldR 4) := sd_aload dd_67_46
theorem dd_67_48 : decode (mi 67).2.1 48 = .ok (.ifnull 82, 3) := by decide +kernel
theorem st_67_48 : Sd 67 48 3 (i_nul 130) := sd_ifnull dd_67_48 (by decide)
theorem dd_67_51 : decode (mi 67).2.1 51 = .ok (.aload_n 0, 1) := by decide +kernel
theorem st_67_51 : Sd 67 51 1 (i_ldR 0) := sd_aload_n (j := 0) dd_67_51 rfl
theorem dd_67_52 : decode (mi 67).2.1 52 = .ok (.getfield 7, 3) := by decide +kernel
theorem st_67_52 : Sd 67 52 3 (i_gR 0 [12]) := sd_gR (ref := "ContractDesk$Group") (decl := "ContractDesk$Group") (name := "kind") (desc := "LContractDesk$Kind;") dd_67_52 (by rw [mc_67]; exact tw_846) (Or.inl rfl) (by decide +kernel)
theorem dd_67_55 : decode (mi 67).2.1 55 = .ok (.getstatic 45, 3) := by decide +kernel
theorem st_67_55 : Sd 67 55 3 (i_gs 5) := sd_gs (n := 5) dd_67_55 (by rw [mc_67]; exact tw_972) (by decide)
theorem dd_67_58 : decode (mi 67).2.1 58 = .ok (.if_acmp .ne 15, 3) := by decide +kernel
theorem st_67_58 : Sd 67 58 3 (i_ane 73) := sd_acmp_ne dd_67_58 (by decide)
theorem dd_67_61 : decode (mi 67).2.1 61 = .ok (.aload_n 2, 1) := by decide +kernel
theorem st_67_61 : Sd 67 61 1 (i_ldR 2) := sd_aload_n (j := 2) dd_67_61 rfl
theorem dd_67_62 : decode (mi 67).2.1 62 = .ok (.aload 4, 2) := by decide +kernel
theorem st_67_62 : Sd 67 62 2 (i_ldR 4) := sd_aload dd_67_62
theorem dd_67_64 : decode (mi 67).2.1 64 = .ok (.getfield 29, 3) := by decide +kernel
theorem st_67_64 : Sd 67 64 3 (i_gI 0 [13]) := sd_gI (ref := "ContractDesk$Member") (decl := "ContractDesk$Member") (name := "key") (desc := "C") dd_67_64 (by rw [mc_67]; exact tw_877) (Or.inl rfl) (by decide +kernel)
theorem dd_67_67 : decode (mi 67).2.1 67 = .ok (.invokevirtual 50, 3) := by decide +kernel
theorem st_67_67 : Sd 67 67 3 (i_cV [(12, 65)] 2 6 []) := sd_virt ⟨"ContractDesk$Group", "find", "(C)LContractDesk$Value;"⟩ dd_67_67 (by rw [mc_67]; exact tw_973) (fun t j h => by simp only [List.mem_cons, List.not_mem_nil, or_false, Prod.mk.injEq] at h; obtain ⟨rfl, rfl⟩ := h; exact mn_65) (fun t j h => by simp only [List.mem_cons, List.not_mem_nil, or_false, Prod.mk.injEq] at h; obtain ⟨rfl, rfl⟩ := h; exact ⟨by rw [mn_65]; exact tw_868, by rw [mn_65]; exact tw_867, mt_65, by decide, by decide⟩) (by unfold prm; decide +kernel) ml_67 (HsOk.nil (by decide +kernel))
theorem dd_67_70 : decode (mi 67).2.1 70 = .ok (.goto 15, 3) := by decide +kernel
theorem st_67_70 : Sd 67 70 3 (i_goto 85) := sd_goto dd_67_70 (by decide)
def bk_67_46 : Tr := sq (i_ldR 4) (sq (i_nul 130) (sq (i_ldR 0) (sq (i_gR 0 [12]) (sq (i_gs 5) (sq (i_ane 73) (sq (i_ldR 2) (sq (i_ldR 4) (sq (i_gI 0 [13]) (sq (i_cV [(12, 65)] 2 6 []) (i_goto 85))))))))))
theorem sb_67_46 : Sd 67 46 27 bk_67_46 := Sd.sq st_67_46 (Sd.sq st_67_48 (Sd.sq st_67_51 (Sd.sq st_67_52 (Sd.sq st_67_55 (Sd.sq st_67_58 (Sd.sq st_67_61 (Sd.sq st_67_62 (Sd.sq st_67_64 (Sd.sq st_67_67 (st_67_70))))))))))
theorem dd_67_73 : decode (mi 67).2.1 73 = .ok (.aload_n 3, 1) := by decide +kernel
theorem st_67_73 : Sd 67 73 1 (i_ldR 3) := sd_aload_n (j := 3) dd_67_73 rfl
theorem dd_67_74 : decode (mi 67).2.1 74 = .ok (.ifnonnull 7, 3) := by decide +kernel
theorem st_67_74 : Sd 67 74 3 (i_nol 81) := sd_ifnonnull dd_67_74 (by decide)
theorem dd_67_77 : decode (mi 67).2.1 77 = .ok (.aconst_null, 1) := by decide +kernel
theorem st_67_77 : Sd 67 77 1 (i_null) := sd_null dd_67_77
theorem dd_67_78 : decode (mi 67).2.1 78 = .ok (.goto 7, 3) := by decide +kernel
theorem st_67_78 : Sd 67 78 3 (i_goto 85) := sd_goto dd_67_78 (by decide)
def bk_67_73 : Tr := sq (i_ldR 3) (sq (i_nol 81) (sq (i_null) (i_goto 85)))
theorem sb_67_73 : Sd 67 73 8 bk_67_73 := Sd.sq st_67_73 (Sd.sq st_67_74 (Sd.sq st_67_77 (st_67_78)))
theorem dd_67_81 : decode (mi 67).2.1 81 = .ok (.aload_n 3, 1) := by decide +kernel
theorem st_67_81 : Sd 67 81 1 (i_ldR 3) := sd_aload_n (j := 3) dd_67_81 rfl
theorem dd_67_82 : decode (mi 67).2.1 82 = .ok (.getfield 33, 3) := by decide +kernel
theorem st_67_82 : Sd 67 82 3 (i_gR 1 [13]) := sd_gR (ref := "ContractDesk$Member") (decl := "ContractDesk$Member") (name := "value") (desc := "LContractDesk$Value;") dd_67_82 (by rw [mc_67]; exact tw_880) (Or.inl rfl) (by decide +kernel)
def bk_67_81 : Tr := sq (i_ldR 3) (sq (i_gR 1 [13]) (i_fall 85))
theorem sb_67_81 : Sd 67 81 4 bk_67_81 := Sd.sq st_67_81 (Sd.sq st_67_82 (sd_fall rfl))
theorem dd_67_85 : decode (mi 67).2.1 85 = .ok (.astore 5, 2) := by decide +kernel
theorem st_67_85 : Sd 67 85 2 (i_stR 5) := sd_astore dd_67_85
theorem dd_67_87 : decode (mi 67).2.1 87 = .ok (.aload 5, 2) := by decide +kernel
theorem st_67_87 : Sd 67 87 2 (i_ldR 5) := sd_aload dd_67_87
theorem dd_67_89 : decode (mi 67).2.1 89 = .ok (.ifnull 16, 3) := by decide +kernel
theorem st_67_89 : Sd 67 89 3 (i_nul 105) := sd_ifnull dd_67_89 (by decide)
theorem dd_67_92 : decode (mi 67).2.1 92 = .ok (.aload 4, 2) := by decide +kernel
theorem st_67_92 : Sd 67 92 2 (i_ldR 4) := sd_aload dd_67_92
theorem dd_67_94 : decode (mi 67).2.1 94 = .ok (.getfield 33, 3) := by decide +kernel
theorem st_67_94 : Sd 67 94 3 (i_gR 1 [13]) := sd_gR (ref := "ContractDesk$Member") (decl := "ContractDesk$Member") (name := "value") (desc := "LContractDesk$Value;") dd_67_94 (by rw [mc_67]; exact tw_880) (Or.inl rfl) (by decide +kernel)
theorem dd_67_97 : decode (mi 67).2.1 97 = .ok (.aload 5, 2) := by decide +kernel
theorem st_67_97 : Sd 67 97 2 (i_ldR 5) := sd_aload dd_67_97
theorem dd_67_99 : decode (mi 67).2.1 99 = .ok (.invokevirtual 54, 3) := by decide +kernel
theorem st_67_99 : Sd 67 99 3 (i_cV [(10, 120), (11, 78), (12, 67)] 2 6 []) := sd_virtU ⟨"ContractDesk$Value", "same", "(LContractDesk$Value;)Z"⟩ "ContractDesk$Value" dd_67_99 (by rw [mc_67]; exact tw_974) (by exact tw_947) (Or.inl tw_946) (by decide) (fun t j h => by simp only [List.mem_cons, List.not_mem_nil, or_false, Prod.mk.injEq] at h; rcases h with ⟨rfl, rfl⟩ | ⟨rfl, rfl⟩ | ⟨rfl, rfl⟩; exact ⟨by rw [mn_120]; exact tw_991, by rw [mn_120]; exact tw_981, mt_120, by decide, by decide⟩; exact ⟨by rw [mn_78]; exact tw_990, by rw [mn_78]; exact tw_975, mt_78, by decide, by decide⟩; exact ⟨by rw [mn_67]; exact tw_948, by rw [mn_67]; exact tw_949, mt_67, by decide, by decide⟩) (by unfold prm; decide +kernel) ml_67 (HsOk.nil (by decide +kernel))
theorem dd_67_102 : decode (mi 67).2.1 102 = .ok (.ifCond .ne 5, 3) := by decide +kernel
theorem st_67_102 : Sd 67 102 3 (i_zne 107) := sd_if_ne dd_67_102 (by decide)
def bk_67_85 : Tr := sq (i_stR 5) (sq (i_ldR 5) (sq (i_nul 105) (sq (i_ldR 4) (sq (i_gR 1 [13]) (sq (i_ldR 5) (sq (i_cV [(10, 120), (11, 78), (12, 67)] 2 6 []) (sq (i_zne 107) (i_fall 105))))))))
theorem sb_67_85 : Sd 67 85 20 bk_67_85 := Sd.sq st_67_85 (Sd.sq st_67_87 (Sd.sq st_67_89 (Sd.sq st_67_92 (Sd.sq st_67_94 (Sd.sq st_67_97 (Sd.sq st_67_99 (Sd.sq st_67_102 (sd_fall rfl))))))))
theorem dd_67_105 : decode (mi 67).2.1 105 = .ok (.iconst 0, 1) := by decide +kernel
theorem st_67_105 : Sd 67 105 1 (i_ic 0) := sd_iconst dd_67_105
theorem dd_67_106 : decode (mi 67).2.1 106 = .ok (.ireturn, 1) := by decide +kernel
theorem st_67_106 : Sd 67 106 1 (i_rI 2) := sd_ireturn dd_67_106 (by decide) mr_67
def bk_67_105 : Tr := sq (i_ic 0) (i_rI 2)
theorem sb_67_105 : Sd 67 105 2 bk_67_105 := Sd.sq st_67_105 (st_67_106)
theorem dd_67_107 : decode (mi 67).2.1 107 = .ok (.aload_n 3, 1) := by decide +kernel
theorem st_67_107 : Sd 67 107 1 (i_ldR 3) := sd_aload_n (j := 3) dd_67_107 rfl
theorem dd_67_108 : decode (mi 67).2.1 108 = .ok (.ifnonnull 7, 3) := by decide +kernel
theorem st_67_108 : Sd 67 108 3 (i_nol 115) := sd_ifnonnull dd_67_108 (by decide)
theorem dd_67_111 : decode (mi 67).2.1 111 = .ok (.aconst_null, 1) := by decide +kernel
theorem st_67_111 : Sd 67 111 1 (i_null) := sd_null dd_67_111
theorem dd_67_112 : decode (mi 67).2.1 112 = .ok (.goto 7, 3) := by decide +kernel
theorem st_67_112 : Sd 67 112 3 (i_goto 119) := sd_goto dd_67_112 (by decide)
def bk_67_107 : Tr := sq (i_ldR 3) (sq (i_nol 115) (sq (i_null) (i_goto 119)))
theorem sb_67_107 : Sd 67 107 8 bk_67_107 := Sd.sq st_67_107 (Sd.sq st_67_108 (Sd.sq st_67_111 (st_67_112)))
theorem dd_67_115 : decode (mi 67).2.1 115 = .ok (.aload_n 3, 1) := by decide +kernel
theorem st_67_115 : Sd 67 115 1 (i_ldR 3) := sd_aload_n (j := 3) dd_67_115 rfl
theorem dd_67_116 : decode (mi 67).2.1 116 = .ok (.getfield 20, 3) := by decide +kernel
theorem st_67_116 : Sd 67 116 3 (i_gR 2 [13]) := sd_gR (ref := "ContractDesk$Member") (decl := "ContractDesk$Member") (name := "next") (desc := "LContractDesk$Member;") dd_67_116 (by rw [mc_67]; exact tw_882) (Or.inl rfl) (by decide +kernel)
def bk_67_115 : Tr := sq (i_ldR 3) (sq (i_gR 2 [13]) (i_fall 119))
theorem sb_67_115 : Sd 67 115 4 bk_67_115 := Sd.sq st_67_115 (Sd.sq st_67_116 (sd_fall rfl))
theorem dd_67_119 : decode (mi 67).2.1 119 = .ok (.astore_n 3, 1) := by decide +kernel
theorem st_67_119 : Sd 67 119 1 (i_stR 3) := sd_astore_n (j := 3) dd_67_119 rfl
theorem dd_67_120 : decode (mi 67).2.1 120 = .ok (.aload 4, 2) := by decide +kernel
theorem st_67_120 : Sd 67 120 2 (i_ldR 4) := sd_aload dd_67_120
theorem dd_67_122 : decode (mi 67).2.1 122 = .ok (.getfield 20, 3) := by decide +kernel
theorem st_67_122 : Sd 67 122 3 (i_gR 2 [13]) := sd_gR (ref := "ContractDesk$Member") (decl := "ContractDesk$Member") (name := "next") (desc := "LContractDesk$Member;") dd_67_122 (by rw [mc_67]; exact tw_882) (Or.inl rfl) (by decide +kernel)
theorem dd_67_125 : decode (mi 67).2.1 125 = .ok (.astore 4, 2) := by decide +kernel
theorem st_67_125 : Sd 67 125 2 (i_stR 4) := sd_astore dd_67_125
theorem dd_67_127 : decode (mi 67).2.1 127 = .ok (.goto (-81), 3) := by decide +kernel
theorem st_67_127 : Sd 67 127 3 (i_goto 46) := sd_goto dd_67_127 (by decide)
def bk_67_119 : Tr := sq (i_stR 3) (sq (i_ldR 4) (sq (i_gR 2 [13]) (sq (i_stR 4) (i_goto 46))))
theorem sb_67_119 : Sd 67 119 11 bk_67_119 := Sd.sq st_67_119 (Sd.sq st_67_120 (Sd.sq st_67_122 (Sd.sq st_67_125 (st_67_127))))
theorem dd_67_130 : decode (mi 67).2.1 130 = .ok (.iconst 1, 1) := by decide +kernel
theorem st_67_130 : Sd 67 130 1 (i_ic 1) := sd_iconst dd_67_130
theorem dd_67_131 : decode (mi 67).2.1 131 = .ok (.ireturn, 1) := by decide +kernel
theorem st_67_131 : Sd 67 131 1 (i_rI 2) := sd_ireturn dd_67_131 (by decide) mr_67
def bk_67_130 : Tr := sq (i_ic 1) (i_rI 2)
theorem sb_67_130 : Sd 67 130 2 bk_67_130 := Sd.sq st_67_130 (st_67_131)
theorem dd_68_0 : decode (mi 68).2.1 0 = .ok (.aload_n 0, 1) := by decide +kernel
theorem st_68_0 : Sd 68 0 1 (i_ldR 0) := sd_aload_n (j := 0) dd_68_0 rfl
theorem dd_68_1 : decode (mi 68).2.1 1 = .ok (.invokespecial 1, 3) := by decide +kernel
theorem st_68_1 : Sd 68 1 3 (i_cI 72 1 1 []) := sd_initN (host := "ContractDesk") dd_68_1 (by rw [mc_68, mn_72]; exact tw_1089) (by rw [mn_72]; exact tw_1056) mt_72 pm_72 (by rw [mn_72]) (by decide +kernel) ml_68 (HsOk.nil (by decide +kernel))
theorem dd_68_4 : decode (mi 68).2.1 4 = .ok (.aload_n 0, 1) := by decide +kernel
theorem st_68_4 : Sd 68 4 1 (i_ldR 0) := sd_aload_n (j := 0) dd_68_4 rfl
theorem dd_68_5 : decode (mi 68).2.1 5 = .ok (.new 7, 3) := by decide +kernel
theorem st_68_5 : Sd 68 5 3 (i_new 15) := sd_new dd_68_5 (by rw [mc_68]; exact tw_1090) (by exact tw_72) (by exact tw_117) (by decide) (by decide)
theorem dd_68_8 : decode (mi 68).2.1 8 = .ok (.dup, 1) := by decide +kernel
theorem st_68_8 : Sd 68 8 1 (i_dup) := sd_dup dd_68_8
theorem dd_68_9 : decode (mi 68).2.1 9 = .ok (.bipush 6, 2) := by decide +kernel
theorem st_68_9 : Sd 68 9 2 (i_ic 6) := sd_bipush dd_68_9 (by decide)
theorem dd_68_11 : decode (mi 68).2.1 11 = .ok (.invokespecial 9, 3) := by decide +kernel
theorem st_68_11 : Sd 68 11 3 (i_cI 0 2 1 []) := sd_init dd_68_11 (by rw [mc_68, mn_0]; exact tw_1091) (by rw [mn_0]; exact tw_119) mt_0 pm_0 (by rw [mn_0]) (by decide +kernel) ml_68 (HsOk.nil (by decide +kernel))
theorem dd_68_14 : decode (mi 68).2.1 14 = .ok (.putfield 12, 3) := by decide +kernel
theorem st_68_14 : Sd 68 14 3 (i_pR 1 [8]) := sd_pR (ref := "ContractDesk$Inside") (decl := "ContractDesk$Inside") (name := "letters") (desc := "Ljava/lang/StringBuilder;") dd_68_14 (by rw [mc_68]; exact tw_1092) (Or.inl rfl) (by decide +kernel) (by decide +kernel)
theorem dd_68_17 : decode (mi 68).2.1 17 = .ok (.return_, 1) := by decide +kernel
theorem st_68_17 : Sd 68 17 1 (i_ret) := sd_ret dd_68_17 mr_68
def bk_68_0 : Tr := sq (i_ldR 0) (sq (i_cI 72 1 1 []) (sq (i_ldR 0) (sq (i_new 15) (sq (i_dup) (sq (i_ic 6) (sq (i_cI 0 2 1 []) (sq (i_pR 1 [8]) (i_ret))))))))
theorem sb_68_0 : Sd 68 0 18 bk_68_0 := Sd.sq st_68_0 (Sd.sq st_68_1 (Sd.sq st_68_4 (Sd.sq st_68_5 (Sd.sq st_68_8 (Sd.sq st_68_9 (Sd.sq st_68_11 (Sd.sq st_68_14 (st_68_17))))))))
theorem dd_69_0 : decode (mi 69).2.1 0 = .ok (.aload_n 2, 1) := by decide +kernel
theorem st_69_0 : Sd 69 0 1 (i_ldR 2) := sd_aload_n (j := 2) dd_69_0 rfl
theorem dd_69_1 : decode (mi 69).2.1 1 = .ok (.instanceof 18, 3) := by decide +kernel
theorem st_69_1 : Sd 69 1 3 (i_inst [10] [11, 12]) := sd_instanceof (nm := "ContractDesk$Text") dd_69_1 (by rw [mc_69]; exact tw_1175) okc_1 oknc_1
theorem dd_69_4 : decode (mi 69).2.1 4 = .ok (.ifCond .ne 5, 3) := by decide +kernel
theorem st_69_4 : Sd 69 4 3 (i_zne 9) := sd_if_ne dd_69_4 (by decide)
theorem dd_69_7 : decode (mi 69).2.1 7 = .ok (.iconst 0, 1) := by decide +kernel
theorem st_69_7 : Sd 69 7 1 (i_ic 0) := sd_iconst dd_69_7
theorem dd_69_8 : decode (mi 69).2.1 8 = .ok (.ireturn, 1) := by decide +kernel
theorem st_69_8 : Sd 69 8 1 (i_rI 2) := sd_ireturn dd_69_8 (by decide) mr_69
def bk_69_0 : Tr := sq (i_ldR 2) (sq (i_inst [10] [11, 12]) (sq (i_zne 9) (sq (i_ic 0) (i_rI 2))))
theorem sb_69_0 : Sd 69 0 9 bk_69_0 := Sd.sq st_69_0 (Sd.sq st_69_1 (Sd.sq st_69_4 (Sd.sq st_69_7 (st_69_8))))
theorem dd_69_9 : decode (mi 69).2.1 9 = .ok (.aload_n 2, 1) := by decide +kernel
theorem st_69_9 : Sd 69 9 1 (i_ldR 2) := sd_aload_n (j := 2) dd_69_9 rfl
theorem dd_69_10 : decode (mi 69).2.1 10 = .ok (.checkcast 18, 3) := by decide +kernel
theorem st_69_10 : Sd 69 10 3 (i_cast [10]) := sd_checkcast (nm := "ContractDesk$Text") dd_69_10 (by rw [mc_69]; exact tw_1175) okc_1
theorem dd_69_13 : decode (mi 69).2.1 13 = .ok (.astore_n 3, 1) := by decide +kernel
theorem st_69_13 : Sd 69 13 1 (i_stR 3) := sd_astore_n (j := 3) dd_69_13 rfl
theorem dd_69_14 : decode (mi 69).2.1 14 = .ok (.iconst 0, 1) := by decide +kernel
theorem st_69_14 : Sd 69 14 1 (i_ic 0) := sd_iconst dd_69_14
theorem dd_69_15 : decode (mi 69).2.1 15 = .ok (.istore 4, 2) := by decide +kernel
theorem st_69_15 : Sd 69 15 2 (i_stI 4) := sd_istore dd_69_15
def bk_69_9 : Tr := sq (i_ldR 2) (sq (i_cast [10]) (sq (i_stR 3) (sq (i_ic 0) (sq (i_stI 4) (i_fall 17)))))
theorem sb_69_9 : Sd 69 9 8 bk_69_9 := Sd.sq st_69_9 (Sd.sq st_69_10 (Sd.sq st_69_13 (Sd.sq st_69_14 (Sd.sq st_69_15 (sd_fall rfl)))))
theorem dd_69_17 : decode (mi 69).2.1 17 = .ok (.iload 4, 2) := by decide +kernel
theorem st_69_17 : Sd 69 17 2 (i_ldI 4) := sd_iload dd_69_17
theorem dd_69_19 : decode (mi 69).2.1 19 = .ok (.aload_n 3, 1) := by decide +kernel
theorem st_69_19 : Sd 69 19 1 (i_ldR 3) := sd_aload_n (j := 3) dd_69_19 rfl
theorem dd_69_20 : decode (mi 69).2.1 20 = .ok (.getfield 20, 3) := by decide +kernel
theorem st_69_20 : Sd 69 20 3 (i_gR 0 [10]) := sd_gR (ref := "ContractDesk$Text") (decl := "ContractDesk$Text") (name := "letters") (desc := "Ljava/lang/StringBuilder;") dd_69_20 (by rw [mc_69]; exact tw_823) (Or.inl rfl) (by decide +kernel)
theorem dd_69_23 : decode (mi 69).2.1 23 = .ok (.invokevirtual 21, 3) := by decide +kernel
theorem st_69_23 : Sd 69 23 3 (i_cV [(15, 15)] 1 5 []) := sd_virt ⟨"java/lang/StringBuilder", "length", "()I"⟩ dd_69_23 (by rw [mc_69]; exact tw_1176) (fun t j h => by simp only [List.mem_cons, List.not_mem_nil, or_false, Prod.mk.injEq] at h; obtain ⟨rfl, rfl⟩ := h; exact mn_15) (fun t j h => by simp only [List.mem_cons, List.not_mem_nil, or_false, Prod.mk.injEq] at h; obtain ⟨rfl, rfl⟩ := h; exact ⟨by rw [mn_15]; exact tw_1600, by rw [mn_15]; exact tw_392, mt_15, by decide, by decide⟩) (by unfold prm; decide +kernel) ml_69 (HsOk.nil (by decide +kernel))
theorem dd_69_26 : decode (mi 69).2.1 26 = .ok (.if_icmp .ge 24, 3) := by decide +kernel
theorem st_69_26 : Sd 69 26 3 (i_cge 50) := sd_icmp_ge dd_69_26 (by decide)
theorem dd_69_29 : decode (mi 69).2.1 29 = .ok (.aload_n 3, 1) := by decide +kernel
theorem st_69_29 : Sd 69 29 1 (i_ldR 3) := sd_aload_n (j := 3) dd_69_29 rfl
theorem dd_69_30 : decode (mi 69).2.1 30 = .ok (.aload_n 0, 1) := by decide +kernel
theorem st_69_30 : Sd 69 30 1 (i_ldR 0) := sd_aload_n (j := 0) dd_69_30 rfl
theorem dd_69_31 : decode (mi 69).2.1 31 = .ok (.getfield 12, 3) := by decide +kernel
theorem st_69_31 : Sd 69 31 3 (i_gR 1 [8]) := sd_gR (ref := "ContractDesk$Inside") (decl := "ContractDesk$Inside") (name := "letters") (desc := "Ljava/lang/StringBuilder;") dd_69_31 (by rw [mc_69]; exact tw_1092) (Or.inl rfl) (by decide +kernel)
theorem dd_69_34 : decode (mi 69).2.1 34 = .ok (.iload 4, 2) := by decide +kernel
theorem st_69_34 : Sd 69 34 2 (i_ldI 4) := sd_iload dd_69_34
theorem dd_69_36 : decode (mi 69).2.1 36 = .ok (.invokevirtual 25, 3) := by decide +kernel
theorem st_69_36 : Sd 69 36 3 (i_cV [(10, 118)] 3 5 []) := sd_virt ⟨"ContractDesk$Text", "has", "(Ljava/lang/StringBuilder;I)Z"⟩ dd_69_36 (by rw [mc_69]; exact tw_1177) (fun t j h => by simp only [List.mem_cons, List.not_mem_nil, or_false, Prod.mk.injEq] at h; obtain ⟨rfl, rfl⟩ := h; exact mn_118) (fun t j h => by simp only [List.mem_cons, List.not_mem_nil, or_false, Prod.mk.injEq] at h; obtain ⟨rfl, rfl⟩ := h; exact ⟨by rw [mn_118]; exact tw_987, by rw [mn_118]; exact tw_986, mt_118, by decide, by decide⟩) (by unfold prm; decide +kernel) ml_69 (HsOk.nil (by decide +kernel))
theorem dd_69_39 : decode (mi 69).2.1 39 = .ok (.ifCond .eq 5, 3) := by decide +kernel
theorem st_69_39 : Sd 69 39 3 (i_zeq 44) := sd_if_eq dd_69_39 (by decide)
theorem dd_69_42 : decode (mi 69).2.1 42 = .ok (.iconst 1, 1) := by decide +kernel
theorem st_69_42 : Sd 69 42 1 (i_ic 1) := sd_iconst dd_69_42
theorem dd_69_43 : decode (mi 69).2.1 43 = .ok (.ireturn, 1) := by decide +kernel
theorem st_69_43 : Sd 69 43 1 (i_rI 2) := sd_ireturn dd_69_43 (by decide) mr_69
def bk_69_17 : Tr := sq (i_ldI 4) (sq (i_ldR 3) (sq (i_gR 0 [10]) (sq (i_cV [(15, 15)] 1 5 []) (sq (i_cge 50) (sq (i_ldR 3) (sq (i_ldR 0) (sq (i_gR 1 [8]) (sq (i_ldI 4) (sq (i_cV [(10, 118)] 3 5 []) (sq (i_zeq 44) (sq (i_ic 1) (i_rI 2))))))))))))
theorem sb_69_17 : Sd 69 17 27 bk_69_17 := Sd.sq st_69_17 (Sd.sq st_69_19 (Sd.sq st_69_20 (Sd.sq st_69_23 (Sd.sq st_69_26 (Sd.sq st_69_29 (Sd.sq st_69_30 (Sd.sq st_69_31 (Sd.sq st_69_34 (Sd.sq st_69_36 (Sd.sq st_69_39 (Sd.sq st_69_42 (st_69_43))))))))))))
theorem dd_69_44 : decode (mi 69).2.1 44 = .ok (.iinc 4 1, 3) := by decide +kernel
theorem st_69_44 : Sd 69 44 3 (i_inc 4 1) := sd_iinc dd_69_44
theorem dd_69_47 : decode (mi 69).2.1 47 = .ok (.goto (-30), 3) := by decide +kernel
theorem st_69_47 : Sd 69 47 3 (i_goto 17) := sd_goto dd_69_47 (by decide)
def bk_69_44 : Tr := sq (i_inc 4 1) (i_goto 17)
theorem sb_69_44 : Sd 69 44 6 bk_69_44 := Sd.sq st_69_44 (st_69_47)
theorem dd_69_50 : decode (mi 69).2.1 50 = .ok (.iconst 0, 1) := by decide +kernel
theorem st_69_50 : Sd 69 50 1 (i_ic 0) := sd_iconst dd_69_50
theorem dd_69_51 : decode (mi 69).2.1 51 = .ok (.ireturn, 1) := by decide +kernel
theorem st_69_51 : Sd 69 51 1 (i_rI 2) := sd_ireturn dd_69_51 (by decide) mr_69
def bk_69_50 : Tr := sq (i_ic 0) (i_rI 2)
theorem sb_69_50 : Sd 69 50 2 bk_69_50 := Sd.sq st_69_50 (st_69_51)
theorem dd_70_0 : decode (mi 70).2.1 0 = .ok (.aload_n 0, 1) := by decide +kernel
theorem st_70_0 : Sd 70 0 1 (i_ldR 0) := sd_aload_n (j := 0) dd_70_0 rfl
theorem dd_70_1 : decode (mi 70).2.1 1 = .ok (.invokespecial 3, 3) := by decide +kernel
theorem st_70_1 : Sd 70 1 3 (i_obj 2) := sd_obj dd_70_1 (by rw [mc_70]; exact tw_711) ob_1 ob_2 ml_70
theorem dd_70_4 : decode (mi 70).2.1 4 = .ok (.aload_n 0, 1) := by decide +kernel
theorem st_70_4 : Sd 70 4 1 (i_ldR 0) := sd_aload_n (j := 0) dd_70_4 rfl
theorem dd_70_5 : decode (mi 70).2.1 5 = .ok (.new 9, 3) := by decide +kernel
theorem st_70_5 : Sd 70 5 3 (i_new 16) := sd_new dd_70_5 (by rw [mc_70]; exact tw_712) (by exact tw_78) (by exact tw_165) (by decide) (by decide)
theorem dd_70_8 : decode (mi 70).2.1 8 = .ok (.dup, 1) := by decide +kernel
theorem st_70_8 : Sd 70 8 1 (i_dup) := sd_dup dd_70_8
theorem dd_70_9 : decode (mi 70).2.1 9 = .ok (.bipush 8, 2) := by decide +kernel
theorem st_70_9 : Sd 70 9 2 (i_ic 8) := sd_bipush dd_70_9 (by decide)
theorem dd_70_11 : decode (mi 70).2.1 11 = .ok (.invokespecial 11, 3) := by decide +kernel
theorem st_70_11 : Sd 70 11 3 (i_cI 2 2 2 []) := sd_init dd_70_11 (by rw [mc_70, mn_2]; exact tw_713) (by rw [mn_2]; exact tw_167) mt_2 pm_2 (by rw [mn_2]) (by decide +kernel) ml_70 (HsOk.nil (by decide +kernel))
theorem dd_70_14 : decode (mi 70).2.1 14 = .ok (.putfield 14, 3) := by decide +kernel
theorem st_70_14 : Sd 70 14 3 (i_pR 1 [4]) := sd_pR (ref := "ContractDesk$Interaction") (decl := "ContractDesk$Interaction") (name := "rules") (desc := "Ljava/util/ArrayList;") dd_70_14 (by rw [mc_70]; exact tw_716) (Or.inl rfl) (by decide +kernel) (by decide +kernel)
theorem dd_70_17 : decode (mi 70).2.1 17 = .ok (.aload_n 0, 1) := by decide +kernel
theorem st_70_17 : Sd 70 17 1 (i_ldR 0) := sd_aload_n (j := 0) dd_70_17 rfl
theorem dd_70_18 : decode (mi 70).2.1 18 = .ok (.iconst 3, 1) := by decide +kernel
theorem st_70_18 : Sd 70 18 1 (i_ic 3) := sd_iconst dd_70_18
theorem dd_70_19 : decode (mi 70).2.1 19 = .ok (.newarray .int, 2) := by decide +kernel
theorem st_70_19 : Sd 70 19 2 (i_na 20) := sd_newarray dd_70_19 (by exact tw_506) rfl (by decide)
theorem dd_70_21 : decode (mi 70).2.1 21 = .ok (.putfield 20, 3) := by decide +kernel
theorem st_70_21 : Sd 70 21 3 (i_pR 2 [4]) := sd_pR (ref := "ContractDesk$Interaction") (decl := "ContractDesk$Interaction") (name := "states") (desc := "[I") dd_70_21 (by rw [mc_70]; exact tw_718) (Or.inl rfl) (by decide +kernel) (by decide +kernel)
theorem dd_70_24 : decode (mi 70).2.1 24 = .ok (.aload_n 0, 1) := by decide +kernel
theorem st_70_24 : Sd 70 24 1 (i_ldR 0) := sd_aload_n (j := 0) dd_70_24 rfl
theorem dd_70_25 : decode (mi 70).2.1 25 = .ok (.iload_n 1, 1) := by decide +kernel
theorem st_70_25 : Sd 70 25 1 (i_ldI 1) := sd_iload_n (j := 1) dd_70_25 rfl
theorem dd_70_26 : decode (mi 70).2.1 26 = .ok (.putfield 24, 3) := by decide +kernel
theorem st_70_26 : Sd 70 26 3 (i_pI 0 [4] 2) := sd_pI (ref := "ContractDesk$Interaction") (decl := "ContractDesk$Interaction") (name := "strict") (desc := "Z") dd_70_26 (by rw [mc_70]; exact tw_714) (Or.inl rfl) (by decide +kernel) (by decide +kernel) (by decide)
theorem dd_70_29 : decode (mi 70).2.1 29 = .ok (.return_, 1) := by decide +kernel
theorem st_70_29 : Sd 70 29 1 (i_ret) := sd_ret dd_70_29 mr_70
def bk_70_0 : Tr := sq (i_ldR 0) (sq (i_obj 2) (sq (i_ldR 0) (sq (i_new 16) (sq (i_dup) (sq (i_ic 8) (sq (i_cI 2 2 2 []) (sq (i_pR 1 [4]) (sq (i_ldR 0) (sq (i_ic 3) (sq (i_na 20) (sq (i_pR 2 [4]) (sq (i_ldR 0) (sq (i_ldI 1) (sq (i_pI 0 [4] 2) (i_ret)))))))))))))))
theorem sb_70_0 : Sd 70 0 30 bk_70_0 := Sd.sq st_70_0 (Sd.sq st_70_1 (Sd.sq st_70_4 (Sd.sq st_70_5 (Sd.sq st_70_8 (Sd.sq st_70_9 (Sd.sq st_70_11 (Sd.sq st_70_14 (Sd.sq st_70_17 (Sd.sq st_70_18 (Sd.sq st_70_19 (Sd.sq st_70_21 (Sd.sq st_70_24 (Sd.sq st_70_25 (Sd.sq st_70_26 (st_70_29)))))))))))))))
theorem dd_71_0 : decode (mi 71).2.1 0 = .ok (.iconst (-1), 1) := by decide +kernel
theorem st_71_0 : Sd 71 0 1 (i_ic (-1)) := sd_iconst dd_71_0
theorem dd_71_1 : decode (mi 71).2.1 1 = .ok (.istore_n 3, 1) := by decide +kernel
theorem st_71_1 : Sd 71 1 1 (i_stI 3) := sd_istore_n (j := 3) dd_71_1 rfl
theorem dd_71_2 : decode (mi 71).2.1 2 = .ok (.iconst 0, 1) := by decide +kernel
theorem st_71_2 : Sd 71 2 1 (i_ic 0) := sd_iconst dd_71_2
theorem dd_71_3 : decode (mi 71).2.1 3 = .ok (.istore 4, 2) := by decide +kernel
theorem st_71_3 : Sd 71 3 2 (i_stI 4) := sd_istore dd_71_3
def bk_71_0 : Tr := sq (i_ic (-1)) (sq (i_stI 3) (sq (i_ic 0) (sq (i_stI 4) (i_fall 5))))
theorem sb_71_0 : Sd 71 0 5 bk_71_0 := Sd.sq st_71_0 (Sd.sq st_71_1 (Sd.sq st_71_2 (Sd.sq st_71_3 (sd_fall rfl))))
theorem dd_71_5 : decode (mi 71).2.1 5 = .ok (.iload 4, 2) := by decide +kernel
theorem st_71_5 : Sd 71 5 2 (i_ldI 4) := sd_iload dd_71_5
theorem dd_71_7 : decode (mi 71).2.1 7 = .ok (.aload_n 0, 1) := by decide +kernel
theorem st_71_7 : Sd 71 7 1 (i_ldR 0) := sd_aload_n (j := 0) dd_71_7 rfl
theorem dd_71_8 : decode (mi 71).2.1 8 = .ok (.getfield 14, 3) := by decide +kernel
theorem st_71_8 : Sd 71 8 3 (i_gR 1 [4]) := sd_gR (ref := "ContractDesk$Interaction") (decl := "ContractDesk$Interaction") (name := "rules") (desc := "Ljava/util/ArrayList;") dd_71_8 (by rw [mc_71]; exact tw_716) (Or.inl rfl) (by decide +kernel)
theorem dd_71_11 : decode (mi 71).2.1 11 = .ok (.invokevirtual 28, 3) := by decide +kernel
theorem st_71_11 : Sd 71 11 3 (i_cV [(16, 23)] 1 6 []) := sd_virt ⟨"java/util/ArrayList", "size", "()I"⟩ dd_71_11 (by rw [mc_71]; exact tw_655) (fun t j h => by simp only [List.mem_cons, List.not_mem_nil, or_false, Prod.mk.injEq] at h; obtain ⟨rfl, rfl⟩ := h; exact mn_23) (fun t j h => by simp only [List.mem_cons, List.not_mem_nil, or_false, Prod.mk.injEq] at h; obtain ⟨rfl, rfl⟩ := h; exact ⟨by rw [mn_23]; exact tw_545, by rw [mn_23]; exact tw_544, mt_23, by decide, by decide⟩) (by unfold prm; decide +kernel) ml_71 (HsOk.nil (by decide +kernel))
theorem dd_71_14 : decode (mi 71).2.1 14 = .ok (.if_icmp .ge 60, 3) := by decide +kernel
theorem st_71_14 : Sd 71 14 3 (i_cge 74) := sd_icmp_ge dd_71_14 (by decide)
theorem dd_71_17 : decode (mi 71).2.1 17 = .ok (.aload_n 0, 1) := by decide +kernel
theorem st_71_17 : Sd 71 17 1 (i_ldR 0) := sd_aload_n (j := 0) dd_71_17 rfl
theorem dd_71_18 : decode (mi 71).2.1 18 = .ok (.getfield 14, 3) := by decide +kernel
theorem st_71_18 : Sd 71 18 3 (i_gR 1 [4]) := sd_gR (ref := "ContractDesk$Interaction") (decl := "ContractDesk$Interaction") (name := "rules") (desc := "Ljava/util/ArrayList;") dd_71_18 (by rw [mc_71]; exact tw_716) (Or.inl rfl) (by decide +kernel)
theorem dd_71_21 : decode (mi 71).2.1 21 = .ok (.iload 4, 2) := by decide +kernel
theorem st_71_21 : Sd 71 21 2 (i_ldI 4) := sd_iload dd_71_21
theorem dd_71_23 : decode (mi 71).2.1 23 = .ok (.invokevirtual 32, 3) := by decide +kernel
theorem st_71_23 : Sd 71 23 3 (i_cV [(16, 24)] 2 6 []) := sd_virt ⟨"java/util/ArrayList", "get", "(I)Ljava/lang/Object;"⟩ dd_71_23 (by rw [mc_71]; exact tw_656) (fun t j h => by simp only [List.mem_cons, List.not_mem_nil, or_false, Prod.mk.injEq] at h; obtain ⟨rfl, rfl⟩ := h; exact mn_24) (fun t j h => by simp only [List.mem_cons, List.not_mem_nil, or_false, Prod.mk.injEq] at h; obtain ⟨rfl, rfl⟩ := h; exact ⟨by rw [mn_24]; exact tw_549, by rw [mn_24]; exact tw_548, mt_24, by decide, by decide⟩) (by unfold prm; decide +kernel) ml_71 (HsOk.nil (by decide +kernel))
theorem dd_71_26 : decode (mi 71).2.1 26 = .ok (.checkcast 36, 3) := by decide +kernel
theorem st_71_26 : Sd 71 26 3 (i_cast [5]) := sd_checkcast (nm := "ContractDesk$Rule") dd_71_26 (by rw [mc_71]; exact tw_657) okc_2
theorem dd_71_29 : decode (mi 71).2.1 29 = .ok (.astore 5, 2) := by decide +kernel
theorem st_71_29 : Sd 71 29 2 (i_stR 5) := sd_astore dd_71_29
theorem dd_71_31 : decode (mi 71).2.1 31 = .ok (.aload 5, 2) := by decide +kernel
theorem st_71_31 : Sd 71 31 2 (i_ldR 5) := sd_aload dd_71_31
theorem dd_71_33 : decode (mi 71).2.1 33 = .ok (.aload_n 1, 1) := by decide +kernel
theorem st_71_33 : Sd 71 33 1 (i_ldR 1) := sd_aload_n (j := 1) dd_71_33 rfl
theorem dd_71_34 : decode (mi 71).2.1 34 = .ok (.iload_n 2, 1) := by decide +kernel
theorem st_71_34 : Sd 71 34 1 (i_ldI 2) := sd_iload_n (j := 2) dd_71_34 rfl
theorem dd_71_35 : decode (mi 71).2.1 35 = .ok (.invokevirtual 38, 3) := by decide +kernel
theorem st_71_35 : Sd 71 35 3 (i_cV [(5, 106)] 3 6 []) := sd_virt ⟨"ContractDesk$Rule", "fits", "([II)Z"⟩ dd_71_35 (by rw [mc_71]; exact tw_658) (fun t j h => by simp only [List.mem_cons, List.not_mem_nil, or_false, Prod.mk.injEq] at h; obtain ⟨rfl, rfl⟩ := h; exact mn_106) (fun t j h => by simp only [List.mem_cons, List.not_mem_nil, or_false, Prod.mk.injEq] at h; obtain ⟨rfl, rfl⟩ := h; exact ⟨by rw [mn_106]; exact tw_660, by rw [mn_106]; exact tw_659, mt_106, by decide, by decide⟩) (by unfold prm; decide +kernel) ml_71 (HsOk.nil (by decide +kernel))
theorem dd_71_38 : decode (mi 71).2.1 38 = .ok (.ifCond .eq 30, 3) := by decide +kernel
theorem st_71_38 : Sd 71 38 3 (i_zeq 68) := sd_if_eq dd_71_38 (by decide)
theorem dd_71_41 : decode (mi 71).2.1 41 = .ok (.iload_n 3, 1) := by decide +kernel
theorem st_71_41 : Sd 71 41 1 (i_ldI 3) := sd_iload_n (j := 3) dd_71_41 rfl
theorem dd_71_42 : decode (mi 71).2.1 42 = .ok (.iconst (-1), 1) := by decide +kernel
theorem st_71_42 : Sd 71 42 1 (i_ic (-1)) := sd_iconst dd_71_42
theorem dd_71_43 : decode (mi 71).2.1 43 = .ok (.if_icmp .eq 22, 3) := by decide +kernel
theorem st_71_43 : Sd 71 43 3 (i_ceq 65) := sd_icmp_eq dd_71_43 (by decide)
theorem dd_71_46 : decode (mi 71).2.1 46 = .ok (.aload 5, 2) := by decide +kernel
theorem st_71_46 : Sd 71 46 2 (i_ldR 5) := sd_aload dd_71_46
theorem dd_71_48 : decode (mi 71).2.1 48 = .ok (.aload_n 0, 1) := by decide +kernel
theorem st_71_48 : Sd 71 48 1 (i_ldR 0) := sd_aload_n (j := 0) dd_71_48 rfl
theorem dd_71_49 : decode (mi 71).2.1 49 = .ok (.getfield 14, 3) := by decide +kernel
theorem st_71_49 : Sd 71 49 3 (i_gR 1 [4]) := sd_gR (ref := "ContractDesk$Interaction") (decl := "ContractDesk$Interaction") (name := "rules") (desc := "Ljava/util/ArrayList;") dd_71_49 (by rw [mc_71]; exact tw_716) (Or.inl rfl) (by decide +kernel)
theorem dd_71_52 : decode (mi 71).2.1 52 = .ok (.iload_n 3, 1) := by decide +kernel
theorem st_71_52 : Sd 71 52 1 (i_ldI 3) := sd_iload_n (j := 3) dd_71_52 rfl
theorem dd_71_53 : decode (mi 71).2.1 53 = .ok (.invokevirtual 32, 3) := by decide +kernel
theorem st_71_53 : Sd 71 53 3 (i_cV [(16, 24)] 2 6 []) := sd_virt ⟨"java/util/ArrayList", "get", "(I)Ljava/lang/Object;"⟩ dd_71_53 (by rw [mc_71]; exact tw_656) (fun t j h => by simp only [List.mem_cons, List.not_mem_nil, or_false, Prod.mk.injEq] at h; obtain ⟨rfl, rfl⟩ := h; exact mn_24) (fun t j h => by simp only [List.mem_cons, List.not_mem_nil, or_false, Prod.mk.injEq] at h; obtain ⟨rfl, rfl⟩ := h; exact ⟨by rw [mn_24]; exact tw_549, by rw [mn_24]; exact tw_548, mt_24, by decide, by decide⟩) (by unfold prm; decide +kernel) ml_71 (HsOk.nil (by decide +kernel))
theorem dd_71_56 : decode (mi 71).2.1 56 = .ok (.checkcast 36, 3) := by decide +kernel
theorem st_71_56 : Sd 71 56 3 (i_cast [5]) := sd_checkcast (nm := "ContractDesk$Rule") dd_71_56 (by rw [mc_71]; exact tw_657) okc_2
theorem dd_71_59 : decode (mi 71).2.1 59 = .ok (.invokevirtual 42, 3) := by decide +kernel
theorem st_71_59 : Sd 71 59 3 (i_cV [(5, 105)] 2 6 []) := sd_virt ⟨"ContractDesk$Rule", "beats", "(LContractDesk$Rule;)Z"⟩ dd_71_59 (by rw [mc_71]; exact tw_662) (fun t j h => by simp only [List.mem_cons, List.not_mem_nil, or_false, Prod.mk.injEq] at h; obtain ⟨rfl, rfl⟩ := h; exact mn_105) (fun t j h => by simp only [List.mem_cons, List.not_mem_nil, or_false, Prod.mk.injEq] at h; obtain ⟨rfl, rfl⟩ := h; exact ⟨by rw [mn_105]; exact tw_664, by rw [mn_105]; exact tw_663, mt_105, by decide, by decide⟩) (by unfold prm; decide +kernel) ml_71 (HsOk.nil (by decide +kernel))
theorem dd_71_62 : decode (mi 71).2.1 62 = .ok (.ifCond .eq 6, 3) := by decide +kernel
theorem st_71_62 : Sd 71 62 3 (i_zeq 68) := sd_if_eq dd_71_62 (by decide)
def bk_71_5 : Tr := sq (i_ldI 4) (sq (i_ldR 0) (sq (i_gR 1 [4]) (sq (i_cV [(16, 23)] 1 6 []) (sq (i_cge 74) (sq (i_ldR 0) (sq (i_gR 1 [4]) (sq (i_ldI 4) (sq (i_cV [(16, 24)] 2 6 []) (sq (i_cast [5]) (sq (i_stR 5) (sq (i_ldR 5) (sq (i_ldR 1) (sq (i_ldI 2) (sq (i_cV [(5, 106)] 3 6 []) (sq (i_zeq 68) (sq (i_ldI 3) (sq (i_ic (-1)) (sq (i_ceq 65) (sq (i_ldR 5) (sq (i_ldR 0) (sq (i_gR 1 [4]) (sq (i_ldI 3) (sq (i_cV [(16, 24)] 2 6 []) (sq (i_cast [5]) (sq (i_cV [(5, 105)] 2 6 []) (sq (i_zeq 68) (i_fall 65)))))))))))))))))))))))))))
theorem sb_71_5 : Sd 71 5 60 bk_71_5 := Sd.sq st_71_5 (Sd.sq st_71_7 (Sd.sq st_71_8 (Sd.sq st_71_11 (Sd.sq st_71_14 (Sd.sq st_71_17 (Sd.sq st_71_18 (Sd.sq st_71_21 (Sd.sq st_71_23 (Sd.sq st_71_26 (Sd.sq st_71_29 (Sd.sq st_71_31 (Sd.sq st_71_33 (Sd.sq st_71_34 (Sd.sq st_71_35 (Sd.sq st_71_38 (Sd.sq st_71_41 (Sd.sq st_71_42 (Sd.sq st_71_43 (Sd.sq st_71_46 (Sd.sq st_71_48 (Sd.sq st_71_49 (Sd.sq st_71_52 (Sd.sq st_71_53 (Sd.sq st_71_56 (Sd.sq st_71_59 (Sd.sq st_71_62 (sd_fall rfl)))))))))))))))))))))))))))
theorem dd_71_65 : decode (mi 71).2.1 65 = .ok (.iload 4, 2) := by decide +kernel
theorem st_71_65 : Sd 71 65 2 (i_ldI 4) := sd_iload dd_71_65
theorem dd_71_67 : decode (mi 71).2.1 67 = .ok (.istore_n 3, 1) := by decide +kernel
theorem st_71_67 : Sd 71 67 1 (i_stI 3) := sd_istore_n (j := 3) dd_71_67 rfl
def bk_71_65 : Tr := sq (i_ldI 4) (sq (i_stI 3) (i_fall 68))
theorem sb_71_65 : Sd 71 65 3 bk_71_65 := Sd.sq st_71_65 (Sd.sq st_71_67 (sd_fall rfl))
theorem dd_71_68 : decode (mi 71).2.1 68 = .ok (.iinc 4 1, 3) := by decide +kernel
theorem st_71_68 : Sd 71 68 3 (i_inc 4 1) := sd_iinc dd_71_68
theorem dd_71_71 : decode (mi 71).2.1 71 = .ok (.goto (-66), 3) := by decide +kernel
theorem st_71_71 : Sd 71 71 3 (i_goto 5) := sd_goto dd_71_71 (by decide)
def bk_71_68 : Tr := sq (i_inc 4 1) (i_goto 5)
theorem sb_71_68 : Sd 71 68 6 bk_71_68 := Sd.sq st_71_68 (st_71_71)
theorem dd_71_74 : decode (mi 71).2.1 74 = .ok (.iload_n 3, 1) := by decide +kernel
theorem st_71_74 : Sd 71 74 1 (i_ldI 3) := sd_iload_n (j := 3) dd_71_74 rfl
theorem dd_71_75 : decode (mi 71).2.1 75 = .ok (.ireturn, 1) := by decide +kernel
theorem st_71_75 : Sd 71 75 1 (i_rI 0) := sd_ireturn dd_71_75 (by decide) mr_71
def bk_71_74 : Tr := sq (i_ldI 3) (i_rI 0)
theorem sb_71_74 : Sd 71 74 2 bk_71_74 := Sd.sq st_71_74 (st_71_75)
theorem dd_72_0 : decode (mi 72).2.1 0 = .ok (.aload_n 0, 1) := by decide +kernel
theorem st_72_0 : Sd 72 0 1 (i_ldR 0) := sd_aload_n (j := 0) dd_72_0 rfl
theorem dd_72_1 : decode (mi 72).2.1 1 = .ok (.invokespecial 1, 3) := by decide +kernel
theorem st_72_1 : Sd 72 1 3 (i_obj 1) := sd_obj dd_72_1 (by rw [mc_72]; exact tw_1058) ob_1 ob_2 ml_72
theorem dd_72_4 : decode (mi 72).2.1 4 = .ok (.return_, 1) := by decide +kernel
theorem st_72_4 : Sd 72 4 1 (i_ret) := sd_ret dd_72_4 mr_72
def bk_72_0 : Tr := sq (i_ldR 0) (sq (i_obj 1) (i_ret))
theorem sb_72_0 : Sd 72 0 5 bk_72_0 := Sd.sq st_72_0 (Sd.sq st_72_1 (st_72_4))
theorem dd_73_0 : decode (mi 73).2.1 0 = .ok (.iconst 0, 1) := by decide +kernel
theorem st_73_0 : Sd 73 0 1 (i_ic 0) := sd_iconst dd_73_0
theorem dd_73_1 : decode (mi 73).2.1 1 = .ok (.ireturn, 1) := by decide +kernel
theorem st_73_1 : Sd 73 1 1 (i_rI 2) := sd_ireturn dd_73_1 (by decide) mr_73
def bk_73_0 : Tr := sq (i_ic 0) (i_rI 2)
theorem sb_73_0 : Sd 73 0 2 bk_73_0 := Sd.sq st_73_0 (st_73_1)
theorem dd_74_0 : decode (mi 74).2.1 0 = .ok (.aload_n 0, 1) := by decide +kernel
theorem st_74_0 : Sd 74 0 1 (i_ldR 0) := sd_aload_n (j := 0) dd_74_0 rfl
theorem dd_74_1 : decode (mi 74).2.1 1 = .ok (.invokespecial 1, 3) := by decide +kernel
theorem st_74_1 : Sd 74 1 3 (i_obj 3) := sd_obj dd_74_1 (by rw [mc_74]; exact tw_875) ob_1 ob_2 ml_74
theorem dd_74_4 : decode (mi 74).2.1 4 = .ok (.aload_n 0, 1) := by decide +kernel
theorem st_74_4 : Sd 74 4 1 (i_ldR 0) := sd_aload_n (j := 0) dd_74_4 rfl
theorem dd_74_5 : decode (mi 74).2.1 5 = .ok (.iload_n 1, 1) := by decide +kernel
theorem st_74_5 : Sd 74 5 1 (i_ldI 1) := sd_iload_n (j := 1) dd_74_5 rfl
theorem dd_74_6 : decode (mi 74).2.1 6 = .ok (.putfield 7, 3) := by decide +kernel
theorem st_74_6 : Sd 74 6 3 (i_pI 0 [13] 1) := sd_pI (ref := "ContractDesk$Member") (decl := "ContractDesk$Member") (name := "key") (desc := "C") dd_74_6 (by rw [mc_74]; exact tw_876) (Or.inl rfl) (by decide +kernel) (by decide +kernel) (by decide)
theorem dd_74_9 : decode (mi 74).2.1 9 = .ok (.aload_n 0, 1) := by decide +kernel
theorem st_74_9 : Sd 74 9 1 (i_ldR 0) := sd_aload_n (j := 0) dd_74_9 rfl
theorem dd_74_10 : decode (mi 74).2.1 10 = .ok (.aload_n 2, 1) := by decide +kernel
theorem st_74_10 : Sd 74 10 1 (i_ldR 2) := sd_aload_n (j := 2) dd_74_10 rfl
theorem dd_74_11 : decode (mi 74).2.1 11 = .ok (.putfield 13, 3) := by decide +kernel
theorem st_74_11 : Sd 74 11 3 (i_pR 1 [13]) := sd_pR (ref := "ContractDesk$Member") (decl := "ContractDesk$Member") (name := "value") (desc := "LContractDesk$Value;") dd_74_11 (by rw [mc_74]; exact tw_879) (Or.inl rfl) (by decide +kernel) (by decide +kernel)
theorem dd_74_14 : decode (mi 74).2.1 14 = .ok (.return_, 1) := by decide +kernel
theorem st_74_14 : Sd 74 14 1 (i_ret) := sd_ret dd_74_14 mr_74
def bk_74_0 : Tr := sq (i_ldR 0) (sq (i_obj 3) (sq (i_ldR 0) (sq (i_ldI 1) (sq (i_pI 0 [13] 1) (sq (i_ldR 0) (sq (i_ldR 2) (sq (i_pR 1 [13]) (i_ret))))))))
theorem sb_74_0 : Sd 74 0 15 bk_74_0 := Sd.sq st_74_0 (Sd.sq st_74_1 (Sd.sq st_74_4 (Sd.sq st_74_5 (Sd.sq st_74_6 (Sd.sq st_74_9 (Sd.sq st_74_10 (Sd.sq st_74_11 (st_74_14))))))))
theorem dd_75_0 : decode (mi 75).2.1 0 = .ok (.aload_n 0, 1) := by decide +kernel
theorem st_75_0 : Sd 75 0 1 (i_ldR 0) := sd_aload_n (j := 0) dd_75_0 rfl
theorem dd_75_1 : decode (mi 75).2.1 1 = .ok (.invokespecial 1, 3) := by decide +kernel
theorem st_75_1 : Sd 75 1 3 (i_obj 1) := sd_obj dd_75_1 (by rw [mc_75]; exact tw_1212) ob_1 ob_2 ml_75
theorem dd_75_4 : decode (mi 75).2.1 4 = .ok (.aload_n 0, 1) := by decide +kernel
theorem st_75_4 : Sd 75 4 1 (i_ldR 0) := sd_aload_n (j := 0) dd_75_4 rfl
theorem dd_75_5 : decode (mi 75).2.1 5 = .ok (.new 7, 3) := by decide +kernel
theorem st_75_5 : Sd 75 5 3 (i_new 15) := sd_new dd_75_5 (by rw [mc_75]; exact tw_1213) (by exact tw_72) (by exact tw_117) (by decide) (by decide)
theorem dd_75_8 : decode (mi 75).2.1 8 = .ok (.dup, 1) := by decide +kernel
theorem st_75_8 : Sd 75 8 1 (i_dup) := sd_dup dd_75_8
theorem dd_75_9 : decode (mi 75).2.1 9 = .ok (.bipush 16, 2) := by decide +kernel
theorem st_75_9 : Sd 75 9 2 (i_ic 16) := sd_bipush dd_75_9 (by decide)
theorem dd_75_11 : decode (mi 75).2.1 11 = .ok (.invokespecial 9, 3) := by decide +kernel
theorem st_75_11 : Sd 75 11 3 (i_cI 0 2 1 []) := sd_init dd_75_11 (by rw [mc_75, mn_0]; exact tw_1214) (by rw [mn_0]; exact tw_119) mt_0 pm_0 (by rw [mn_0]) (by decide +kernel) ml_75 (HsOk.nil (by decide +kernel))
theorem dd_75_14 : decode (mi 75).2.1 14 = .ok (.putfield 12, 3) := by decide +kernel
theorem st_75_14 : Sd 75 14 3 (i_pR 0 [14]) := sd_pR (ref := "ContractDesk$Mismatch") (decl := "ContractDesk$Mismatch") (name := "place") (desc := "Ljava/lang/StringBuilder;") dd_75_14 (by rw [mc_75]; exact tw_1215) (Or.inl rfl) (by decide +kernel) (by decide +kernel)
theorem dd_75_17 : decode (mi 75).2.1 17 = .ok (.return_, 1) := by decide +kernel
theorem st_75_17 : Sd 75 17 1 (i_ret) := sd_ret dd_75_17 mr_75
def bk_75_0 : Tr := sq (i_ldR 0) (sq (i_obj 1) (sq (i_ldR 0) (sq (i_new 15) (sq (i_dup) (sq (i_ic 16) (sq (i_cI 0 2 1 []) (sq (i_pR 0 [14]) (i_ret))))))))
theorem sb_75_0 : Sd 75 0 18 bk_75_0 := Sd.sq st_75_0 (Sd.sq st_75_1 (Sd.sq st_75_4 (Sd.sq st_75_5 (Sd.sq st_75_8 (Sd.sq st_75_9 (Sd.sq st_75_11 (Sd.sq st_75_14 (st_75_17))))))))
theorem dd_76_0 : decode (mi 76).2.1 0 = .ok (.aload_n 0, 1) := by decide +kernel
theorem st_76_0 : Sd 76 0 1 (i_ldR 0) := sd_aload_n (j := 0) dd_76_0 rfl
theorem dd_76_1 : decode (mi 76).2.1 1 = .ok (.invokespecial 1, 3) := by decide +kernel
theorem st_76_1 : Sd 76 1 3 (i_cI 121 1 3 []) := sd_initN (host := "ContractDesk") dd_76_1 (by rw [mc_76, mn_121]; exact tw_906) (by rw [mn_121]; exact tw_816) mt_121 pm_121 (by rw [mn_121]) (by decide +kernel) ml_76 (HsOk.nil (by decide +kernel))
theorem dd_76_4 : decode (mi 76).2.1 4 = .ok (.aload_n 0, 1) := by decide +kernel
theorem st_76_4 : Sd 76 4 1 (i_ldR 0) := sd_aload_n (j := 0) dd_76_4 rfl
theorem dd_76_5 : decode (mi 76).2.1 5 = .ok (.aload_n 1, 1) := by decide +kernel
theorem st_76_5 : Sd 76 5 1 (i_ldR 1) := sd_aload_n (j := 1) dd_76_5 rfl
theorem dd_76_6 : decode (mi 76).2.1 6 = .ok (.putfield 7, 3) := by decide +kernel
theorem st_76_6 : Sd 76 6 3 (i_pR 0 [11]) := sd_pR (ref := "ContractDesk$Plain") (decl := "ContractDesk$Plain") (name := "kind") (desc := "LContractDesk$Kind;") dd_76_6 (by rw [mc_76]; exact tw_907) (Or.inl rfl) (by decide +kernel) (by decide +kernel)
theorem dd_76_9 : decode (mi 76).2.1 9 = .ok (.aload_n 0, 1) := by decide +kernel
theorem st_76_9 : Sd 76 9 1 (i_ldR 0) := sd_aload_n (j := 0) dd_76_9 rfl
theorem dd_76_10 : decode (mi 76).2.1 10 = .ok (.iload_n 2, 1) := by decide +kernel
theorem st_76_10 : Sd 76 10 1 (i_ldI 2) := sd_iload_n (j := 2) dd_76_10 rfl
theorem dd_76_11 : decode (mi 76).2.1 11 = .ok (.putfield 13, 3) := by decide +kernel
theorem st_76_11 : Sd 76 11 3 (i_pI 1 [11] 0) := sd_pI (ref := "ContractDesk$Plain") (decl := "ContractDesk$Plain") (name := "number") (desc := "I") dd_76_11 (by rw [mc_76]; exact tw_908) (Or.inl rfl) (by decide +kernel) (by decide +kernel) (by decide)
theorem dd_76_14 : decode (mi 76).2.1 14 = .ok (.return_, 1) := by decide +kernel
theorem st_76_14 : Sd 76 14 1 (i_ret) := sd_ret dd_76_14 mr_76
def bk_76_0 : Tr := sq (i_ldR 0) (sq (i_cI 121 1 3 []) (sq (i_ldR 0) (sq (i_ldR 1) (sq (i_pR 0 [11]) (sq (i_ldR 0) (sq (i_ldI 2) (sq (i_pI 1 [11] 0) (i_ret))))))))
theorem sb_76_0 : Sd 76 0 15 bk_76_0 := Sd.sq st_76_0 (Sd.sq st_76_1 (Sd.sq st_76_4 (Sd.sq st_76_5 (Sd.sq st_76_6 (Sd.sq st_76_9 (Sd.sq st_76_10 (Sd.sq st_76_11 (st_76_14))))))))
theorem dd_77_0 : decode (mi 77).2.1 0 = .ok (.aload_n 0, 1) := by decide +kernel
theorem st_77_0 : Sd 77 0 1 (i_ldR 0) := sd_aload_n (j := 0) dd_77_0 rfl
theorem dd_77_1 : decode (mi 77).2.1 1 = .ok (.getfield 7, 3) := by decide +kernel
theorem st_77_1 : Sd 77 1 3 (i_gR 0 [11]) := sd_gR (ref := "ContractDesk$Plain") (decl := "ContractDesk$Plain") (name := "kind") (desc := "LContractDesk$Kind;") dd_77_1 (by rw [mc_77]; exact tw_907) (Or.inl rfl) (by decide +kernel)
theorem dd_77_4 : decode (mi 77).2.1 4 = .ok (.areturn, 1) := by decide +kernel
theorem st_77_4 : Sd 77 4 1 (i_rR) := sd_areturn dd_77_4 mr_77 (Or.inl ⟨_, rfl⟩)
def bk_77_0 : Tr := sq (i_ldR 0) (sq (i_gR 0 [11]) (i_rR))
theorem sb_77_0 : Sd 77 0 5 bk_77_0 := Sd.sq st_77_0 (Sd.sq st_77_1 (st_77_4))
theorem dd_78_0 : decode (mi 78).2.1 0 = .ok (.aload_n 1, 1) := by decide +kernel
theorem st_78_0 : Sd 78 0 1 (i_ldR 1) := sd_aload_n (j := 1) dd_78_0 rfl
theorem dd_78_1 : decode (mi 78).2.1 1 = .ok (.instanceof 8, 3) := by decide +kernel
theorem st_78_1 : Sd 78 1 3 (i_inst [11] [10, 12]) := sd_instanceof (nm := "ContractDesk$Plain") dd_78_1 (by rw [mc_78]; exact tw_977) okc_3 oknc_2
theorem dd_78_4 : decode (mi 78).2.1 4 = .ok (.ifCond .eq 29, 3) := by decide +kernel
theorem st_78_4 : Sd 78 4 3 (i_zeq 33) := sd_if_eq dd_78_4 (by decide)
theorem dd_78_7 : decode (mi 78).2.1 7 = .ok (.aload_n 0, 1) := by decide +kernel
theorem st_78_7 : Sd 78 7 1 (i_ldR 0) := sd_aload_n (j := 0) dd_78_7 rfl
theorem dd_78_8 : decode (mi 78).2.1 8 = .ok (.aload_n 1, 1) := by decide +kernel
theorem st_78_8 : Sd 78 8 1 (i_ldR 1) := sd_aload_n (j := 1) dd_78_8 rfl
theorem dd_78_9 : decode (mi 78).2.1 9 = .ok (.invokevirtual 17, 3) := by decide +kernel
theorem st_78_9 : Sd 78 9 3 (i_cV [(11, 123)] 2 2 []) := sd_virtU ⟨"ContractDesk$Plain", "isLike", "(LContractDesk$Value;)Z"⟩ "ContractDesk$Value" dd_78_9 (by rw [mc_78]; exact tw_978) (by exact tw_979) (Or.inl tw_954) (by decide) (fun t j h => by simp only [List.mem_cons, List.not_mem_nil, or_false, Prod.mk.injEq] at h; obtain ⟨rfl, rfl⟩ := h; exact ⟨by rw [mn_123]; exact tw_980, by rw [mn_123]; exact tw_956, mt_123, by decide, by decide⟩) (by unfold prm; decide +kernel) ml_78 (HsOk.nil (by decide +kernel))
theorem dd_78_12 : decode (mi 78).2.1 12 = .ok (.ifCond .eq 21, 3) := by decide +kernel
theorem st_78_12 : Sd 78 12 3 (i_zeq 33) := sd_if_eq dd_78_12 (by decide)
theorem dd_78_15 : decode (mi 78).2.1 15 = .ok (.aload_n 1, 1) := by decide +kernel
theorem st_78_15 : Sd 78 15 1 (i_ldR 1) := sd_aload_n (j := 1) dd_78_15 rfl
theorem dd_78_16 : decode (mi 78).2.1 16 = .ok (.checkcast 8, 3) := by decide +kernel
theorem st_78_16 : Sd 78 16 3 (i_cast [11]) := sd_checkcast (nm := "ContractDesk$Plain") dd_78_16 (by rw [mc_78]; exact tw_977) okc_3
theorem dd_78_19 : decode (mi 78).2.1 19 = .ok (.getfield 13, 3) := by decide +kernel
theorem st_78_19 : Sd 78 19 3 (i_gI 1 [11]) := sd_gI (ref := "ContractDesk$Plain") (decl := "ContractDesk$Plain") (name := "number") (desc := "I") dd_78_19 (by rw [mc_78]; exact tw_908) (Or.inl rfl) (by decide +kernel)
theorem dd_78_22 : decode (mi 78).2.1 22 = .ok (.aload_n 0, 1) := by decide +kernel
theorem st_78_22 : Sd 78 22 1 (i_ldR 0) := sd_aload_n (j := 0) dd_78_22 rfl
theorem dd_78_23 : decode (mi 78).2.1 23 = .ok (.getfield 13, 3) := by decide +kernel
theorem st_78_23 : Sd 78 23 3 (i_gI 1 [11]) := sd_gI (ref := "ContractDesk$Plain") (decl := "ContractDesk$Plain") (name := "number") (desc := "I") dd_78_23 (by rw [mc_78]; exact tw_908) (Or.inl rfl) (by decide +kernel)
theorem dd_78_26 : decode (mi 78).2.1 26 = .ok (.if_icmp .ne 7, 3) := by decide +kernel
theorem st_78_26 : Sd 78 26 3 (i_cne 33) := sd_icmp_ne dd_78_26 (by decide)
theorem dd_78_29 : decode (mi 78).2.1 29 = .ok (.iconst 1, 1) := by decide +kernel
theorem st_78_29 : Sd 78 29 1 (i_ic 1) := sd_iconst dd_78_29
theorem dd_78_30 : decode (mi 78).2.1 30 = .ok (.goto 4, 3) := by decide +kernel
theorem st_78_30 : Sd 78 30 3 (i_goto 34) := sd_goto dd_78_30 (by decide)
def bk_78_0 : Tr := sq (i_ldR 1) (sq (i_inst [11] [10, 12]) (sq (i_zeq 33) (sq (i_ldR 0) (sq (i_ldR 1) (sq (i_cV [(11, 123)] 2 2 []) (sq (i_zeq 33) (sq (i_ldR 1) (sq (i_cast [11]) (sq (i_gI 1 [11]) (sq (i_ldR 0) (sq (i_gI 1 [11]) (sq (i_cne 33) (sq (i_ic 1) (i_goto 34))))))))))))))
theorem sb_78_0 : Sd 78 0 33 bk_78_0 := Sd.sq st_78_0 (Sd.sq st_78_1 (Sd.sq st_78_4 (Sd.sq st_78_7 (Sd.sq st_78_8 (Sd.sq st_78_9 (Sd.sq st_78_12 (Sd.sq st_78_15 (Sd.sq st_78_16 (Sd.sq st_78_19 (Sd.sq st_78_22 (Sd.sq st_78_23 (Sd.sq st_78_26 (Sd.sq st_78_29 (st_78_30))))))))))))))
theorem dd_78_33 : decode (mi 78).2.1 33 = .ok (.iconst 0, 1) := by decide +kernel
theorem st_78_33 : Sd 78 33 1 (i_ic 0) := sd_iconst dd_78_33
def bk_78_33 : Tr := sq (i_ic 0) (i_fall 34)
theorem sb_78_33 : Sd 78 33 1 bk_78_33 := Sd.sq st_78_33 (sd_fall rfl)
theorem dd_78_34 : decode (mi 78).2.1 34 = .ok (.ireturn, 1) := by decide +kernel
theorem st_78_34 : Sd 78 34 1 (i_rI 2) := sd_ireturn dd_78_34 (by decide) mr_78
def bk_78_34 : Tr := i_rI 2
theorem sb_78_34 : Sd 78 34 1 bk_78_34 := st_78_34
theorem dd_79_0 : decode (mi 79).2.1 0 = .ok (.aload_n 0, 1) := by decide +kernel
theorem st_79_0 : Sd 79 0 1 (i_ldR 0) := sd_aload_n (j := 0) dd_79_0 rfl
theorem dd_79_1 : decode (mi 79).2.1 1 = .ok (.invokespecial 3, 3) := by decide +kernel
theorem st_79_1 : Sd 79 1 3 (i_obj 1) := sd_obj dd_79_1 (by rw [mc_79]; exact tw_154) ob_1 ob_2 ml_79
theorem dd_79_4 : decode (mi 79).2.1 4 = .ok (.aload_n 0, 1) := by decide +kernel
theorem st_79_4 : Sd 79 4 1 (i_ldR 0) := sd_aload_n (j := 0) dd_79_4 rfl
theorem dd_79_5 : decode (mi 79).2.1 5 = .ok (.new 9, 3) := by decide +kernel
theorem st_79_5 : Sd 79 5 3 (i_new 15) := sd_new dd_79_5 (by rw [mc_79]; exact tw_155) (by exact tw_72) (by exact tw_117) (by decide) (by decide)
theorem dd_79_8 : decode (mi 79).2.1 8 = .ok (.dup, 1) := by decide +kernel
theorem st_79_8 : Sd 79 8 1 (i_dup) := sd_dup dd_79_8
theorem dd_79_9 : decode (mi 79).2.1 9 = .ok (.bipush 100, 2) := by decide +kernel
theorem st_79_9 : Sd 79 9 2 (i_ic 100) := sd_bipush dd_79_9 (by decide)
theorem dd_79_11 : decode (mi 79).2.1 11 = .ok (.invokespecial 11, 3) := by decide +kernel
theorem st_79_11 : Sd 79 11 3 (i_cI 0 2 1 []) := sd_init dd_79_11 (by rw [mc_79, mn_0]; exact tw_156) (by rw [mn_0]; exact tw_119) mt_0 pm_0 (by rw [mn_0]) (by decide +kernel) ml_79 (HsOk.nil (by decide +kernel))
theorem dd_79_14 : decode (mi 79).2.1 14 = .ok (.putfield 14, 3) := by decide +kernel
theorem st_79_14 : Sd 79 14 3 (i_pR 0 [3]) := sd_pR (ref := "ContractDesk$Reader") (decl := "ContractDesk$Reader") (name := "s") (desc := "Ljava/lang/StringBuilder;") dd_79_14 (by rw [mc_79]; exact tw_157) (Or.inl rfl) (by decide +kernel) (by decide +kernel)
theorem dd_79_17 : decode (mi 79).2.1 17 = .ok (.return_, 1) := by decide +kernel
theorem st_79_17 : Sd 79 17 1 (i_ret) := sd_ret dd_79_17 mr_79
def bk_79_0 : Tr := sq (i_ldR 0) (sq (i_obj 1) (sq (i_ldR 0) (sq (i_new 15) (sq (i_dup) (sq (i_ic 100) (sq (i_cI 0 2 1 []) (sq (i_pR 0 [3]) (i_ret))))))))
theorem sb_79_0 : Sd 79 0 18 bk_79_0 := Sd.sq st_79_0 (Sd.sq st_79_1 (Sd.sq st_79_4 (Sd.sq st_79_5 (Sd.sq st_79_8 (Sd.sq st_79_9 (Sd.sq st_79_11 (Sd.sq st_79_14 (st_79_17))))))))
theorem dd_80_0 : decode (mi 80).2.1 0 = .ok (.aload_n 0, 1) := by decide +kernel
theorem st_80_0 : Sd 80 0 1 (i_ldR 0) := sd_aload_n (j := 0) dd_80_0 rfl
theorem dd_80_1 : decode (mi 80).2.1 1 = .ok (.invokevirtual 50, 3) := by decide +kernel
theorem st_80_1 : Sd 80 1 3 (i_cV [(3, 87)] 1 1 []) := sd_virt ⟨"ContractDesk$Reader", "isDigit", "()Z"⟩ dd_80_1 (by rw [mc_80]; exact tw_647) (fun t j h => by simp only [List.mem_cons, List.not_mem_nil, or_false, Prod.mk.injEq] at h; obtain ⟨rfl, rfl⟩ := h; exact mn_87) (fun t j h => by simp only [List.mem_cons, List.not_mem_nil, or_false, Prod.mk.injEq] at h; obtain ⟨rfl, rfl⟩ := h; exact ⟨by rw [mn_87]; exact tw_649, by rw [mn_87]; exact tw_648, mt_87, by decide, by decide⟩) (by unfold prm; decide +kernel) ml_80 (HsOk.nil (by decide +kernel))
theorem dd_80_4 : decode (mi 80).2.1 4 = .ok (.ifCond .ne 11, 3) := by decide +kernel
theorem st_80_4 : Sd 80 4 3 (i_zne 15) := sd_if_ne dd_80_4 (by decide)
theorem dd_80_7 : decode (mi 80).2.1 7 = .ok (.new 47, 3) := by decide +kernel
theorem st_80_7 : Sd 80 7 3 (i_new 17) := sd_new dd_80_7 (by rw [mc_80]; exact tw_624) (by exact tw_82) (by exact tw_181) (by decide) (by decide)
theorem dd_80_10 : decode (mi 80).2.1 10 = .ok (.dup, 1) := by decide +kernel
theorem st_80_10 : Sd 80 10 1 (i_dup) := sd_dup dd_80_10
theorem dd_80_11 : decode (mi 80).2.1 11 = .ok (.invokespecial 49, 3) := by decide +kernel
theorem st_80_11 : Sd 80 11 3 (i_exc 17 1) := sd_exc dd_80_11 (by decide) (by rw [mc_80]; exact tw_625) ml_80
theorem dd_80_14 : decode (mi 80).2.1 14 = .ok (.athrow, 1) := by decide +kernel
theorem st_80_14 : Sd 80 14 1 (i_throw) := sd_athrow dd_80_14 (by decide +kernel)
def bk_80_0 : Tr := sq (i_ldR 0) (sq (i_cV [(3, 87)] 1 1 []) (sq (i_zne 15) (sq (i_new 17) (sq (i_dup) (sq (i_exc 17 1) (i_throw))))))
theorem sb_80_0 : Sd 80 0 15 bk_80_0 := Sd.sq st_80_0 (Sd.sq st_80_1 (Sd.sq st_80_4 (Sd.sq st_80_7 (Sd.sq st_80_10 (Sd.sq st_80_11 (st_80_14))))))
theorem dd_80_15 : decode (mi 80).2.1 15 = .ok (.aload_n 0, 1) := by decide +kernel
theorem st_80_15 : Sd 80 15 1 (i_ldR 0) := sd_aload_n (j := 0) dd_80_15 rfl
theorem dd_80_16 : decode (mi 80).2.1 16 = .ok (.dup, 1) := by decide +kernel
theorem st_80_16 : Sd 80 16 1 (i_dup) := sd_dup dd_80_16
theorem dd_80_17 : decode (mi 80).2.1 17 = .ok (.getfield 35, 3) := by decide +kernel
theorem st_80_17 : Sd 80 17 3 (i_gI 1 [3]) := sd_gI (ref := "ContractDesk$Reader") (decl := "ContractDesk$Reader") (name := "at") (desc := "I") dd_80_17 (by rw [mc_80]; exact tw_158) (Or.inl rfl) (by decide +kernel)
theorem dd_80_20 : decode (mi 80).2.1 20 = .ok (.iconst 1, 1) := by decide +kernel
theorem st_80_20 : Sd 80 20 1 (i_ic 1) := sd_iconst dd_80_20
theorem dd_80_21 : decode (mi 80).2.1 21 = .ok (.iadd, 1) := by decide +kernel
theorem st_80_21 : Sd 80 21 1 (i_iadd) := sd_iadd dd_80_21
theorem dd_80_22 : decode (mi 80).2.1 22 = .ok (.putfield 35, 3) := by decide +kernel
theorem st_80_22 : Sd 80 22 3 (i_pI 1 [3] 0) := sd_pI (ref := "ContractDesk$Reader") (decl := "ContractDesk$Reader") (name := "at") (desc := "I") dd_80_22 (by rw [mc_80]; exact tw_158) (Or.inl rfl) (by decide +kernel) (by decide +kernel) (by decide)
theorem dd_80_25 : decode (mi 80).2.1 25 = .ok (.aload_n 0, 1) := by decide +kernel
theorem st_80_25 : Sd 80 25 1 (i_ldR 0) := sd_aload_n (j := 0) dd_80_25 rfl
theorem dd_80_26 : decode (mi 80).2.1 26 = .ok (.getfield 14, 3) := by decide +kernel
theorem st_80_26 : Sd 80 26 3 (i_gR 0 [3]) := sd_gR (ref := "ContractDesk$Reader") (decl := "ContractDesk$Reader") (name := "s") (desc := "Ljava/lang/StringBuilder;") dd_80_26 (by rw [mc_80]; exact tw_157) (Or.inl rfl) (by decide +kernel)
theorem dd_80_29 : decode (mi 80).2.1 29 = .ok (.aload_n 0, 1) := by decide +kernel
theorem st_80_29 : Sd 80 29 1 (i_ldR 0) := sd_aload_n (j := 0) dd_80_29 rfl
theorem dd_80_30 : decode (mi 80).2.1 30 = .ok (.getfield 35, 3) := by decide +kernel
theorem st_80_30 : Sd 80 30 3 (i_gI 1 [3]) := sd_gI (ref := "ContractDesk$Reader") (decl := "ContractDesk$Reader") (name := "at") (desc := "I") dd_80_30 (by rw [mc_80]; exact tw_158) (Or.inl rfl) (by decide +kernel)
theorem dd_80_33 : decode (mi 80).2.1 33 = .ok (.iconst 1, 1) := by decide +kernel
theorem st_80_33 : Sd 80 33 1 (i_ic 1) := sd_iconst dd_80_33
theorem dd_80_34 : decode (mi 80).2.1 34 = .ok (.isub, 1) := by decide +kernel
theorem st_80_34 : Sd 80 34 1 (i_isub) := sd_isub dd_80_34
theorem dd_80_35 : decode (mi 80).2.1 35 = .ok (.invokevirtual 27, 3) := by decide +kernel
theorem st_80_35 : Sd 80 35 3 (i_cV [(15, 19)] 2 1 []) := sd_virt ⟨"java/lang/StringBuilder", "charAt", "(I)C"⟩ dd_80_35 (by rw [mc_80]; exact tw_597) (fun t j h => by simp only [List.mem_cons, List.not_mem_nil, or_false, Prod.mk.injEq] at h; obtain ⟨rfl, rfl⟩ := h; exact mn_19) (fun t j h => by simp only [List.mem_cons, List.not_mem_nil, or_false, Prod.mk.injEq] at h; obtain ⟨rfl, rfl⟩ := h; exact ⟨by rw [mn_19]; exact tw_599, by rw [mn_19]; exact tw_598, mt_19, by decide, by decide⟩) (by unfold prm; decide +kernel) ml_80 (HsOk.nil (by decide +kernel))
theorem dd_80_38 : decode (mi 80).2.1 38 = .ok (.bipush 48, 2) := by decide +kernel
theorem st_80_38 : Sd 80 38 2 (i_ic 48) := sd_bipush dd_80_38 (by decide)
theorem dd_80_40 : decode (mi 80).2.1 40 = .ok (.isub, 1) := by decide +kernel
theorem st_80_40 : Sd 80 40 1 (i_isub) := sd_isub dd_80_40
theorem dd_80_41 : decode (mi 80).2.1 41 = .ok (.ireturn, 1) := by decide +kernel
theorem st_80_41 : Sd 80 41 1 (i_rI 0) := sd_ireturn dd_80_41 (by decide) mr_80
def bk_80_15 : Tr := sq (i_ldR 0) (sq (i_dup) (sq (i_gI 1 [3]) (sq (i_ic 1) (sq (i_iadd) (sq (i_pI 1 [3] 0) (sq (i_ldR 0) (sq (i_gR 0 [3]) (sq (i_ldR 0) (sq (i_gI 1 [3]) (sq (i_ic 1) (sq (i_isub) (sq (i_cV [(15, 19)] 2 1 []) (sq (i_ic 48) (sq (i_isub) (i_rI 0)))))))))))))))
theorem sb_80_15 : Sd 80 15 27 bk_80_15 := Sd.sq st_80_15 (Sd.sq st_80_16 (Sd.sq st_80_17 (Sd.sq st_80_20 (Sd.sq st_80_21 (Sd.sq st_80_22 (Sd.sq st_80_25 (Sd.sq st_80_26 (Sd.sq st_80_29 (Sd.sq st_80_30 (Sd.sq st_80_33 (Sd.sq st_80_34 (Sd.sq st_80_35 (Sd.sq st_80_38 (Sd.sq st_80_40 (st_80_41)))))))))))))))
theorem dd_81_0 : decode (mi 81).2.1 0 = .ok (.aload_n 0, 1) := by decide +kernel
theorem st_81_0 : Sd 81 0 1 (i_ldR 0) := sd_aload_n (j := 0) dd_81_0 rfl
theorem dd_81_1 : decode (mi 81).2.1 1 = .ok (.bipush 91, 2) := by decide +kernel
theorem st_81_1 : Sd 81 1 2 (i_ic 91) := sd_bipush dd_81_1 (by decide)
theorem dd_81_3 : decode (mi 81).2.1 3 = .ok (.invokevirtual 95, 3) := by decide +kernel
theorem st_81_3 : Sd 81 3 3 (i_cV [(3, 83)] 2 2 []) := sd_virt ⟨"ContractDesk$Reader", "expect", "(C)V"⟩ dd_81_3 (by rw [mc_81]; exact tw_612) (fun t j h => by simp only [List.mem_cons, List.not_mem_nil, or_false, Prod.mk.injEq] at h; obtain ⟨rfl, rfl⟩ := h; exact mn_83) (fun t j h => by simp only [List.mem_cons, List.not_mem_nil, or_false, Prod.mk.injEq] at h; obtain ⟨rfl, rfl⟩ := h; exact ⟨by rw [mn_83]; exact tw_614, by rw [mn_83]; exact tw_613, mt_83, by decide, by decide⟩) (by unfold prm; decide +kernel) ml_81 (HsOk.nil (by decide +kernel))
theorem dd_81_6 : decode (mi 81).2.1 6 = .ok (.aload_n 0, 1) := by decide +kernel
theorem st_81_6 : Sd 81 6 1 (i_ldR 0) := sd_aload_n (j := 0) dd_81_6 rfl
theorem dd_81_7 : decode (mi 81).2.1 7 = .ok (.invokevirtual 104, 3) := by decide +kernel
theorem st_81_7 : Sd 81 7 3 (i_cV [(3, 80)] 1 2 []) := sd_virt ⟨"ContractDesk$Reader", "digit", "()I"⟩ dd_81_7 (by rw [mc_81]; exact tw_643) (fun t j h => by simp only [List.mem_cons, List.not_mem_nil, or_false, Prod.mk.injEq] at h; obtain ⟨rfl, rfl⟩ := h; exact mn_80) (fun t j h => by simp only [List.mem_cons, List.not_mem_nil, or_false, Prod.mk.injEq] at h; obtain ⟨rfl, rfl⟩ := h; exact ⟨by rw [mn_80]; exact tw_645, by rw [mn_80]; exact tw_644, mt_80, by decide, by decide⟩) (by unfold prm; decide +kernel) ml_81 (HsOk.nil (by decide +kernel))
theorem dd_81_10 : decode (mi 81).2.1 10 = .ok (.istore_n 1, 1) := by decide +kernel
theorem st_81_10 : Sd 81 10 1 (i_stI 1) := sd_istore_n (j := 1) dd_81_10 rfl
theorem dd_81_11 : decode (mi 81).2.1 11 = .ok (.iload_n 1, 1) := by decide +kernel
theorem st_81_11 : Sd 81 11 1 (i_ldI 1) := sd_iload_n (j := 1) dd_81_11 rfl
theorem dd_81_12 : decode (mi 81).2.1 12 = .ok (.ifCond .le 20, 3) := by decide +kernel
theorem st_81_12 : Sd 81 12 3 (i_zle 32) := sd_if_le dd_81_12 (by decide)
theorem dd_81_15 : decode (mi 81).2.1 15 = .ok (.aload_n 0, 1) := by decide +kernel
theorem st_81_15 : Sd 81 15 1 (i_ldR 0) := sd_aload_n (j := 0) dd_81_15 rfl
theorem dd_81_16 : decode (mi 81).2.1 16 = .ok (.invokevirtual 50, 3) := by decide +kernel
theorem st_81_16 : Sd 81 16 3 (i_cV [(3, 87)] 1 2 []) := sd_virt ⟨"ContractDesk$Reader", "isDigit", "()Z"⟩ dd_81_16 (by rw [mc_81]; exact tw_647) (fun t j h => by simp only [List.mem_cons, List.not_mem_nil, or_false, Prod.mk.injEq] at h; obtain ⟨rfl, rfl⟩ := h; exact mn_87) (fun t j h => by simp only [List.mem_cons, List.not_mem_nil, or_false, Prod.mk.injEq] at h; obtain ⟨rfl, rfl⟩ := h; exact ⟨by rw [mn_87]; exact tw_649, by rw [mn_87]; exact tw_648, mt_87, by decide, by decide⟩) (by unfold prm; decide +kernel) ml_81 (HsOk.nil (by decide +kernel))
theorem dd_81_19 : decode (mi 81).2.1 19 = .ok (.ifCond .eq 13, 3) := by decide +kernel
theorem st_81_19 : Sd 81 19 3 (i_zeq 32) := sd_if_eq dd_81_19 (by decide)
theorem dd_81_22 : decode (mi 81).2.1 22 = .ok (.bipush 10, 2) := by decide +kernel
theorem st_81_22 : Sd 81 22 2 (i_ic 10) := sd_bipush dd_81_22 (by decide)
theorem dd_81_24 : decode (mi 81).2.1 24 = .ok (.iload_n 1, 1) := by decide +kernel
theorem st_81_24 : Sd 81 24 1 (i_ldI 1) := sd_iload_n (j := 1) dd_81_24 rfl
theorem dd_81_25 : decode (mi 81).2.1 25 = .ok (.imul, 1) := by decide +kernel
theorem st_81_25 : Sd 81 25 1 (i_imul) := sd_imul dd_81_25
theorem dd_81_26 : decode (mi 81).2.1 26 = .ok (.aload_n 0, 1) := by decide +kernel
theorem st_81_26 : Sd 81 26 1 (i_ldR 0) := sd_aload_n (j := 0) dd_81_26 rfl
theorem dd_81_27 : decode (mi 81).2.1 27 = .ok (.invokevirtual 104, 3) := by decide +kernel
theorem st_81_27 : Sd 81 27 3 (i_cV [(3, 80)] 1 2 []) := sd_virt ⟨"ContractDesk$Reader", "digit", "()I"⟩ dd_81_27 (by rw [mc_81]; exact tw_643) (fun t j h => by simp only [List.mem_cons, List.not_mem_nil, or_false, Prod.mk.injEq] at h; obtain ⟨rfl, rfl⟩ := h; exact mn_80) (fun t j h => by simp only [List.mem_cons, List.not_mem_nil, or_false, Prod.mk.injEq] at h; obtain ⟨rfl, rfl⟩ := h; exact ⟨by rw [mn_80]; exact tw_645, by rw [mn_80]; exact tw_644, mt_80, by decide, by decide⟩) (by unfold prm; decide +kernel) ml_81 (HsOk.nil (by decide +kernel))
theorem dd_81_30 : decode (mi 81).2.1 30 = .ok (.iadd, 1) := by decide +kernel
theorem st_81_30 : Sd 81 30 1 (i_iadd) := sd_iadd dd_81_30
theorem dd_81_31 : decode (mi 81).2.1 31 = .ok (.istore_n 1, 1) := by decide +kernel
theorem st_81_31 : Sd 81 31 1 (i_stI 1) := sd_istore_n (j := 1) dd_81_31 rfl
def bk_81_0 : Tr := sq (i_ldR 0) (sq (i_ic 91) (sq (i_cV [(3, 83)] 2 2 []) (sq (i_ldR 0) (sq (i_cV [(3, 80)] 1 2 []) (sq (i_stI 1) (sq (i_ldI 1) (sq (i_zle 32) (sq (i_ldR 0) (sq (i_cV [(3, 87)] 1 2 []) (sq (i_zeq 32) (sq (i_ic 10) (sq (i_ldI 1) (sq (i_imul) (sq (i_ldR 0) (sq (i_cV [(3, 80)] 1 2 []) (sq (i_iadd) (sq (i_stI 1) (i_fall 32))))))))))))))))))
theorem sb_81_0 : Sd 81 0 32 bk_81_0 := Sd.sq st_81_0 (Sd.sq st_81_1 (Sd.sq st_81_3 (Sd.sq st_81_6 (Sd.sq st_81_7 (Sd.sq st_81_10 (Sd.sq st_81_11 (Sd.sq st_81_12 (Sd.sq st_81_15 (Sd.sq st_81_16 (Sd.sq st_81_19 (Sd.sq st_81_22 (Sd.sq st_81_24 (Sd.sq st_81_25 (Sd.sq st_81_26 (Sd.sq st_81_27 (Sd.sq st_81_30 (Sd.sq st_81_31 (sd_fall rfl))))))))))))))))))
theorem dd_81_32 : decode (mi 81).2.1 32 = .ok (.aload_n 0, 1) := by decide +kernel
theorem st_81_32 : Sd 81 32 1 (i_ldR 0) := sd_aload_n (j := 0) dd_81_32 rfl
theorem dd_81_33 : decode (mi 81).2.1 33 = .ok (.bipush 93, 2) := by decide +kernel
theorem st_81_33 : Sd 81 33 2 (i_ic 93) := sd_bipush dd_81_33 (by decide)
theorem dd_81_35 : decode (mi 81).2.1 35 = .ok (.invokevirtual 95, 3) := by decide +kernel
theorem st_81_35 : Sd 81 35 3 (i_cV [(3, 83)] 2 2 []) := sd_virt ⟨"ContractDesk$Reader", "expect", "(C)V"⟩ dd_81_35 (by rw [mc_81]; exact tw_612) (fun t j h => by simp only [List.mem_cons, List.not_mem_nil, or_false, Prod.mk.injEq] at h; obtain ⟨rfl, rfl⟩ := h; exact mn_83) (fun t j h => by simp only [List.mem_cons, List.not_mem_nil, or_false, Prod.mk.injEq] at h; obtain ⟨rfl, rfl⟩ := h; exact ⟨by rw [mn_83]; exact tw_614, by rw [mn_83]; exact tw_613, mt_83, by decide, by decide⟩) (by unfold prm; decide +kernel) ml_81 (HsOk.nil (by decide +kernel))
theorem dd_81_38 : decode (mi 81).2.1 38 = .ok (.sipush 1000, 3) := by decide +kernel
theorem st_81_38 : Sd 81 38 3 (i_ic 1000) := sd_sipush dd_81_38 (by decide)
theorem dd_81_41 : decode (mi 81).2.1 41 = .ok (.iload_n 1, 1) := by decide +kernel
theorem st_81_41 : Sd 81 41 1 (i_ldI 1) := sd_iload_n (j := 1) dd_81_41 rfl
theorem dd_81_42 : decode (mi 81).2.1 42 = .ok (.iadd, 1) := by decide +kernel
theorem st_81_42 : Sd 81 42 1 (i_iadd) := sd_iadd dd_81_42
theorem dd_81_43 : decode (mi 81).2.1 43 = .ok (.ireturn, 1) := by decide +kernel
theorem st_81_43 : Sd 81 43 1 (i_rI 0) := sd_ireturn dd_81_43 (by decide) mr_81
def bk_81_32 : Tr := sq (i_ldR 0) (sq (i_ic 93) (sq (i_cV [(3, 83)] 2 2 []) (sq (i_ic 1000) (sq (i_ldI 1) (sq (i_iadd) (i_rI 0))))))
theorem sb_81_32 : Sd 81 32 12 bk_81_32 := Sd.sq st_81_32 (Sd.sq st_81_33 (Sd.sq st_81_35 (Sd.sq st_81_38 (Sd.sq st_81_41 (Sd.sq st_81_42 (st_81_43))))))
theorem dd_82_0 : decode (mi 82).2.1 0 = .ok (.aload_n 0, 1) := by decide +kernel
theorem st_82_0 : Sd 82 0 1 (i_ldR 0) := sd_aload_n (j := 0) dd_82_0 rfl
theorem dd_82_1 : decode (mi 82).2.1 1 = .ok (.getfield 35, 3) := by decide +kernel
theorem st_82_1 : Sd 82 1 3 (i_gI 1 [3]) := sd_gI (ref := "ContractDesk$Reader") (decl := "ContractDesk$Reader") (name := "at") (desc := "I") dd_82_1 (by rw [mc_82]; exact tw_158) (Or.inl rfl) (by decide +kernel)
theorem dd_82_4 : decode (mi 82).2.1 4 = .ok (.aload_n 0, 1) := by decide +kernel
theorem st_82_4 : Sd 82 4 1 (i_ldR 0) := sd_aload_n (j := 0) dd_82_4 rfl
theorem dd_82_5 : decode (mi 82).2.1 5 = .ok (.getfield 14, 3) := by decide +kernel
theorem st_82_5 : Sd 82 5 3 (i_gR 0 [3]) := sd_gR (ref := "ContractDesk$Reader") (decl := "ContractDesk$Reader") (name := "s") (desc := "Ljava/lang/StringBuilder;") dd_82_5 (by rw [mc_82]; exact tw_157) (Or.inl rfl) (by decide +kernel)
theorem dd_82_8 : decode (mi 82).2.1 8 = .ok (.invokevirtual 23, 3) := by decide +kernel
theorem st_82_8 : Sd 82 8 3 (i_cV [(15, 15)] 1 1 []) := sd_virt ⟨"java/lang/StringBuilder", "length", "()I"⟩ dd_82_8 (by rw [mc_82]; exact tw_596) (fun t j h => by simp only [List.mem_cons, List.not_mem_nil, or_false, Prod.mk.injEq] at h; obtain ⟨rfl, rfl⟩ := h; exact mn_15) (fun t j h => by simp only [List.mem_cons, List.not_mem_nil, or_false, Prod.mk.injEq] at h; obtain ⟨rfl, rfl⟩ := h; exact ⟨by rw [mn_15]; exact tw_1600, by rw [mn_15]; exact tw_392, mt_15, by decide, by decide⟩) (by unfold prm; decide +kernel) ml_82 (HsOk.nil (by decide +kernel))
theorem dd_82_11 : decode (mi 82).2.1 11 = .ok (.if_icmp .ge 11, 3) := by decide +kernel
theorem st_82_11 : Sd 82 11 3 (i_cge 22) := sd_icmp_ge dd_82_11 (by decide)
theorem dd_82_14 : decode (mi 82).2.1 14 = .ok (.new 47, 3) := by decide +kernel
theorem st_82_14 : Sd 82 14 3 (i_new 17) := sd_new dd_82_14 (by rw [mc_82]; exact tw_624) (by exact tw_82) (by exact tw_181) (by decide) (by decide)
theorem dd_82_17 : decode (mi 82).2.1 17 = .ok (.dup, 1) := by decide +kernel
theorem st_82_17 : Sd 82 17 1 (i_dup) := sd_dup dd_82_17
theorem dd_82_18 : decode (mi 82).2.1 18 = .ok (.invokespecial 49, 3) := by decide +kernel
theorem st_82_18 : Sd 82 18 3 (i_exc 17 1) := sd_exc dd_82_18 (by decide) (by rw [mc_82]; exact tw_625) ml_82
theorem dd_82_21 : decode (mi 82).2.1 21 = .ok (.athrow, 1) := by decide +kernel
theorem st_82_21 : Sd 82 21 1 (i_throw) := sd_athrow dd_82_21 (by decide +kernel)
def bk_82_0 : Tr := sq (i_ldR 0) (sq (i_gI 1 [3]) (sq (i_ldR 0) (sq (i_gR 0 [3]) (sq (i_cV [(15, 15)] 1 1 []) (sq (i_cge 22) (sq (i_new 17) (sq (i_dup) (sq (i_exc 17 1) (i_throw)))))))))
theorem sb_82_0 : Sd 82 0 22 bk_82_0 := Sd.sq st_82_0 (Sd.sq st_82_1 (Sd.sq st_82_4 (Sd.sq st_82_5 (Sd.sq st_82_8 (Sd.sq st_82_11 (Sd.sq st_82_14 (Sd.sq st_82_17 (Sd.sq st_82_18 (st_82_21)))))))))
theorem dd_82_22 : decode (mi 82).2.1 22 = .ok (.return_, 1) := by decide +kernel
theorem st_82_22 : Sd 82 22 1 (i_ret) := sd_ret dd_82_22 mr_82
def bk_82_22 : Tr := i_ret
theorem sb_82_22 : Sd 82 22 1 bk_82_22 := st_82_22
theorem dd_83_0 : decode (mi 83).2.1 0 = .ok (.aload_n 0, 1) := by decide +kernel
theorem st_83_0 : Sd 83 0 1 (i_ldR 0) := sd_aload_n (j := 0) dd_83_0 rfl
theorem dd_83_1 : decode (mi 83).2.1 1 = .ok (.iload_n 1, 1) := by decide +kernel
theorem st_83_1 : Sd 83 1 1 (i_ldI 1) := sd_iload_n (j := 1) dd_83_1 rfl
theorem dd_83_2 : decode (mi 83).2.1 2 = .ok (.invokevirtual 43, 3) := by decide +kernel
theorem st_83_2 : Sd 83 2 3 (i_cV [(3, 98)] 2 2 []) := sd_virt ⟨"ContractDesk$Reader", "takes", "(C)Z"⟩ dd_83_2 (by rw [mc_83]; exact tw_616) (fun t j h => by simp only [List.mem_cons, List.not_mem_nil, or_false, Prod.mk.injEq] at h; obtain ⟨rfl, rfl⟩ := h; exact mn_98) (fun t j h => by simp only [List.mem_cons, List.not_mem_nil, or_false, Prod.mk.injEq] at h; obtain ⟨rfl, rfl⟩ := h; exact ⟨by rw [mn_98]; exact tw_618, by rw [mn_98]; exact tw_617, mt_98, by decide, by decide⟩) (by unfold prm; decide +kernel) ml_83 (HsOk.nil (by decide +kernel))
theorem dd_83_5 : decode (mi 83).2.1 5 = .ok (.ifCond .ne 11, 3) := by decide +kernel
theorem st_83_5 : Sd 83 5 3 (i_zne 16) := sd_if_ne dd_83_5 (by decide)
theorem dd_83_8 : decode (mi 83).2.1 8 = .ok (.new 47, 3) := by decide +kernel
theorem st_83_8 : Sd 83 8 3 (i_new 17) := sd_new dd_83_8 (by rw [mc_83]; exact tw_624) (by exact tw_82) (by exact tw_181) (by decide) (by decide)
theorem dd_83_11 : decode (mi 83).2.1 11 = .ok (.dup, 1) := by decide +kernel
theorem st_83_11 : Sd 83 11 1 (i_dup) := sd_dup dd_83_11
theorem dd_83_12 : decode (mi 83).2.1 12 = .ok (.invokespecial 49, 3) := by decide +kernel
theorem st_83_12 : Sd 83 12 3 (i_exc 17 2) := sd_exc dd_83_12 (by decide) (by rw [mc_83]; exact tw_625) ml_83
theorem dd_83_15 : decode (mi 83).2.1 15 = .ok (.athrow, 1) := by decide +kernel
theorem st_83_15 : Sd 83 15 1 (i_throw) := sd_athrow dd_83_15 (by decide +kernel)
def bk_83_0 : Tr := sq (i_ldR 0) (sq (i_ldI 1) (sq (i_cV [(3, 98)] 2 2 []) (sq (i_zne 16) (sq (i_new 17) (sq (i_dup) (sq (i_exc 17 2) (i_throw)))))))
theorem sb_83_0 : Sd 83 0 16 bk_83_0 := Sd.sq st_83_0 (Sd.sq st_83_1 (Sd.sq st_83_2 (Sd.sq st_83_5 (Sd.sq st_83_8 (Sd.sq st_83_11 (Sd.sq st_83_12 (st_83_15)))))))
theorem dd_83_16 : decode (mi 83).2.1 16 = .ok (.return_, 1) := by decide +kernel
theorem st_83_16 : Sd 83 16 1 (i_ret) := sd_ret dd_83_16 mr_83
def bk_83_16 : Tr := i_ret
theorem sb_83_16 : Sd 83 16 1 bk_83_16 := st_83_16
theorem dd_84_0 : decode (mi 84).2.1 0 = .ok (.iload_n 2, 1) := by decide +kernel
theorem st_84_0 : Sd 84 0 1 (i_ldI 2) := sd_iload_n (j := 2) dd_84_0 rfl
theorem dd_84_1 : decode (mi 84).2.1 1 = .ok (.iconst 5, 1) := by decide +kernel
theorem st_84_1 : Sd 84 1 1 (i_ic 5) := sd_iconst dd_84_1
theorem dd_84_2 : decode (mi 84).2.1 2 = .ok (.if_icmp .le 11, 3) := by decide +kernel
theorem st_84_2 : Sd 84 2 3 (i_cle 13) := sd_icmp_le dd_84_2 (by decide)
theorem dd_84_5 : decode (mi 84).2.1 5 = .ok (.new 47, 3) := by decide +kernel
theorem st_84_5 : Sd 84 5 3 (i_new 17) := sd_new dd_84_5 (by rw [mc_84]; exact tw_624) (by exact tw_82) (by exact tw_181) (by decide) (by decide)
theorem dd_84_8 : decode (mi 84).2.1 8 = .ok (.dup, 1) := by decide +kernel
theorem st_84_8 : Sd 84 8 1 (i_dup) := sd_dup dd_84_8
theorem dd_84_9 : decode (mi 84).2.1 9 = .ok (.invokespecial 49, 3) := by decide +kernel
theorem st_84_9 : Sd 84 9 3 (i_exc 17 7) := sd_exc dd_84_9 (by decide) (by rw [mc_84]; exact tw_625) ml_84
theorem dd_84_12 : decode (mi 84).2.1 12 = .ok (.athrow, 1) := by decide +kernel
theorem st_84_12 : Sd 84 12 1 (i_throw) := sd_athrow dd_84_12 (by decide +kernel)
def bk_84_0 : Tr := sq (i_ldI 2) (sq (i_ic 5) (sq (i_cle 13) (sq (i_new 17) (sq (i_dup) (sq (i_exc 17 7) (i_throw))))))
theorem sb_84_0 : Sd 84 0 13 bk_84_0 := Sd.sq st_84_0 (Sd.sq st_84_1 (Sd.sq st_84_2 (Sd.sq st_84_5 (Sd.sq st_84_8 (Sd.sq st_84_9 (st_84_12))))))
theorem dd_84_13 : decode (mi 84).2.1 13 = .ok (.iload_n 1, 1) := by decide +kernel
theorem st_84_13 : Sd 84 13 1 (i_ldI 1) := sd_iload_n (j := 1) dd_84_13 rfl
theorem dd_84_14 : decode (mi 84).2.1 14 = .ok (.bipush 123, 2) := by decide +kernel
theorem st_84_14 : Sd 84 14 2 (i_ic 123) := sd_bipush dd_84_14 (by decide)
theorem dd_84_16 : decode (mi 84).2.1 16 = .ok (.if_icmp .ne 7, 3) := by decide +kernel
theorem st_84_16 : Sd 84 16 3 (i_cne 23) := sd_icmp_ne dd_84_16 (by decide)
theorem dd_84_19 : decode (mi 84).2.1 19 = .ok (.iconst 1, 1) := by decide +kernel
theorem st_84_19 : Sd 84 19 1 (i_ic 1) := sd_iconst dd_84_19
theorem dd_84_20 : decode (mi 84).2.1 20 = .ok (.goto 4, 3) := by decide +kernel
theorem st_84_20 : Sd 84 20 3 (i_goto 24) := sd_goto dd_84_20 (by decide)
def bk_84_13 : Tr := sq (i_ldI 1) (sq (i_ic 123) (sq (i_cne 23) (sq (i_ic 1) (i_goto 24))))
theorem sb_84_13 : Sd 84 13 10 bk_84_13 := Sd.sq st_84_13 (Sd.sq st_84_14 (Sd.sq st_84_16 (Sd.sq st_84_19 (st_84_20))))
theorem dd_84_23 : decode (mi 84).2.1 23 = .ok (.iconst 0, 1) := by decide +kernel
theorem st_84_23 : Sd 84 23 1 (i_ic 0) := sd_iconst dd_84_23
def bk_84_23 : Tr := sq (i_ic 0) (i_fall 24)
theorem sb_84_23 : Sd 84 23 1 bk_84_23 := Sd.sq st_84_23 (sd_fall rfl)
theorem dd_84_24 : decode (mi 84).2.1 24 = .ok (.istore_n 3, 1) := by decide +kernel
theorem st_84_24 : Sd 84 24 1 (i_stI 3) := sd_istore_n (j := 3) dd_84_24 rfl
theorem dd_84_25 : decode (mi 84).2.1 25 = .ok (.new 122, 3) := by decide +kernel
theorem st_84_25 : Sd 84 25 3 (i_new 12) := sd_new dd_84_25 (by rw [mc_84]; exact tw_836) (by exact tw_96) (by exact tw_837) (by decide) (by decide)
theorem dd_84_28 : decode (mi 84).2.1 28 = .ok (.dup, 1) := by decide +kernel
theorem st_84_28 : Sd 84 28 1 (i_dup) := sd_dup dd_84_28
theorem dd_84_29 : decode (mi 84).2.1 29 = .ok (.iload_n 3, 1) := by decide +kernel
theorem st_84_29 : Sd 84 29 1 (i_ldI 3) := sd_iload_n (j := 3) dd_84_29 rfl
theorem dd_84_30 : decode (mi 84).2.1 30 = .ok (.ifCond .eq 9, 3) := by decide +kernel
theorem st_84_30 : Sd 84 30 3 (i_zeq 39) := sd_if_eq dd_84_30 (by decide)
theorem dd_84_33 : decode (mi 84).2.1 33 = .ok (.getstatic 124, 3) := by decide +kernel
theorem st_84_33 : Sd 84 33 3 (i_gs 5) := sd_gs (n := 5) dd_84_33 (by rw [mc_84]; exact tw_838) (by decide)
theorem dd_84_36 : decode (mi 84).2.1 36 = .ok (.goto 6, 3) := by decide +kernel
theorem st_84_36 : Sd 84 36 3 (i_goto 42) := sd_goto dd_84_36 (by decide)
def bk_84_24 : Tr := sq (i_stI 3) (sq (i_new 12) (sq (i_dup) (sq (i_ldI 3) (sq (i_zeq 39) (sq (i_gs 5) (i_goto 42))))))
theorem sb_84_24 : Sd 84 24 15 bk_84_24 := Sd.sq st_84_24 (Sd.sq st_84_25 (Sd.sq st_84_28 (Sd.sq st_84_29 (Sd.sq st_84_30 (Sd.sq st_84_33 (st_84_36))))))
theorem dd_84_39 : decode (mi 84).2.1 39 = .ok (.getstatic 127, 3) := by decide +kernel
theorem st_84_39 : Sd 84 39 3 (i_gs 4) := sd_gs (n := 4) dd_84_39 (by rw [mc_84]; exact tw_840) (by decide)
def bk_84_39 : Tr := sq (i_gs 4) (i_fall 42)
theorem sb_84_39 : Sd 84 39 3 bk_84_39 := Sd.sq st_84_39 (sd_fall rfl)
theorem dd_84_42 : decode (mi 84).2.1 42 = .ok (.invokespecial 130, 3) := by decide +kernel
theorem st_84_42 : Sd 84 42 3 (i_cI 62 2 7 []) := sd_init dd_84_42 (by rw [mc_84, mn_62]; exact tw_842) (by rw [mn_62]; exact tw_843) mt_62 pm_62 (by rw [mn_62]) (by decide +kernel) ml_84 (HsOk.nil (by decide +kernel))
theorem dd_84_45 : decode (mi 84).2.1 45 = .ok (.astore 4, 2) := by decide +kernel
theorem st_84_45 : Sd 84 45 2 (i_stR 4) := sd_astore dd_84_45
theorem dd_84_47 : decode (mi 84).2.1 47 = .ok (.aload_n 0, 1) := by decide +kernel
theorem st_84_47 : Sd 84 47 1 (i_ldR 0) := sd_aload_n (j := 0) dd_84_47 rfl
theorem dd_84_48 : decode (mi 84).2.1 48 = .ok (.dup, 1) := by decide +kernel
theorem st_84_48 : Sd 84 48 1 (i_dup) := sd_dup dd_84_48
theorem dd_84_49 : decode (mi 84).2.1 49 = .ok (.getfield 35, 3) := by decide +kernel
theorem st_84_49 : Sd 84 49 3 (i_gI 1 [3]) := sd_gI (ref := "ContractDesk$Reader") (decl := "ContractDesk$Reader") (name := "at") (desc := "I") dd_84_49 (by rw [mc_84]; exact tw_158) (Or.inl rfl) (by decide +kernel)
theorem dd_84_52 : decode (mi 84).2.1 52 = .ok (.iconst 1, 1) := by decide +kernel
theorem st_84_52 : Sd 84 52 1 (i_ic 1) := sd_iconst dd_84_52
theorem dd_84_53 : decode (mi 84).2.1 53 = .ok (.iadd, 1) := by decide +kernel
theorem st_84_53 : Sd 84 53 1 (i_iadd) := sd_iadd dd_84_53
theorem dd_84_54 : decode (mi 84).2.1 54 = .ok (.putfield 35, 3) := by decide +kernel
theorem st_84_54 : Sd 84 54 3 (i_pI 1 [3] 0) := sd_pI (ref := "ContractDesk$Reader") (decl := "ContractDesk$Reader") (name := "at") (desc := "I") dd_84_54 (by rw [mc_84]; exact tw_158) (Or.inl rfl) (by decide +kernel) (by decide +kernel) (by decide)
theorem dd_84_57 : decode (mi 84).2.1 57 = .ok (.aload_n 0, 1) := by decide +kernel
theorem st_84_57 : Sd 84 57 1 (i_ldR 0) := sd_aload_n (j := 0) dd_84_57 rfl
theorem dd_84_58 : decode (mi 84).2.1 58 = .ok (.iload_n 3, 1) := by decide +kernel
theorem st_84_58 : Sd 84 58 1 (i_ldI 3) := sd_iload_n (j := 3) dd_84_58 rfl
theorem dd_84_59 : decode (mi 84).2.1 59 = .ok (.ifCond .eq 8, 3) := by decide +kernel
theorem st_84_59 : Sd 84 59 3 (i_zeq 67) := sd_if_eq dd_84_59 (by decide)
theorem dd_84_62 : decode (mi 84).2.1 62 = .ok (.bipush 125, 2) := by decide +kernel
theorem st_84_62 : Sd 84 62 2 (i_ic 125) := sd_bipush dd_84_62 (by decide)
theorem dd_84_64 : decode (mi 84).2.1 64 = .ok (.goto 5, 3) := by decide +kernel
theorem st_84_64 : Sd 84 64 3 (i_goto 69) := sd_goto dd_84_64 (by decide)
def bk_84_42 : Tr := sq (i_cI 62 2 7 []) (sq (i_stR 4) (sq (i_ldR 0) (sq (i_dup) (sq (i_gI 1 [3]) (sq (i_ic 1) (sq (i_iadd) (sq (i_pI 1 [3] 0) (sq (i_ldR 0) (sq (i_ldI 3) (sq (i_zeq 67) (sq (i_ic 125) (i_goto 69))))))))))))
theorem sb_84_42 : Sd 84 42 25 bk_84_42 := Sd.sq st_84_42 (Sd.sq st_84_45 (Sd.sq st_84_47 (Sd.sq st_84_48 (Sd.sq st_84_49 (Sd.sq st_84_52 (Sd.sq st_84_53 (Sd.sq st_84_54 (Sd.sq st_84_57 (Sd.sq st_84_58 (Sd.sq st_84_59 (Sd.sq st_84_62 (st_84_64))))))))))))
theorem dd_84_67 : decode (mi 84).2.1 67 = .ok (.bipush 93, 2) := by decide +kernel
theorem st_84_67 : Sd 84 67 2 (i_ic 93) := sd_bipush dd_84_67 (by decide)
def bk_84_67 : Tr := sq (i_ic 93) (i_fall 69)
theorem sb_84_67 : Sd 84 67 2 bk_84_67 := Sd.sq st_84_67 (sd_fall rfl)
theorem dd_84_69 : decode (mi 84).2.1 69 = .ok (.invokevirtual 43, 3) := by decide +kernel
theorem st_84_69 : Sd 84 69 3 (i_cV [(3, 98)] 2 7 []) := sd_virt ⟨"ContractDesk$Reader", "takes", "(C)Z"⟩ dd_84_69 (by rw [mc_84]; exact tw_616) (fun t j h => by simp only [List.mem_cons, List.not_mem_nil, or_false, Prod.mk.injEq] at h; obtain ⟨rfl, rfl⟩ := h; exact mn_98) (fun t j h => by simp only [List.mem_cons, List.not_mem_nil, or_false, Prod.mk.injEq] at h; obtain ⟨rfl, rfl⟩ := h; exact ⟨by rw [mn_98]; exact tw_618, by rw [mn_98]; exact tw_617, mt_98, by decide, by decide⟩) (by unfold prm; decide +kernel) ml_84 (HsOk.nil (by decide +kernel))
theorem dd_84_72 : decode (mi 84).2.1 72 = .ok (.ifCond .eq 6, 3) := by decide +kernel
theorem st_84_72 : Sd 84 72 3 (i_zeq 78) := sd_if_eq dd_84_72 (by decide)
theorem dd_84_75 : decode (mi 84).2.1 75 = .ok (.aload 4, 2) := by decide +kernel
theorem st_84_75 : Sd 84 75 2 (i_ldR 4) := sd_aload dd_84_75
theorem dd_84_77 : decode (mi 84).2.1 77 = .ok (.areturn, 1) := by decide +kernel
theorem st_84_77 : Sd 84 77 1 (i_rR) := sd_areturn dd_84_77 mr_84 (Or.inl ⟨_, rfl⟩)
def bk_84_69 : Tr := sq (i_cV [(3, 98)] 2 7 []) (sq (i_zeq 78) (sq (i_ldR 4) (i_rR)))
theorem sb_84_69 : Sd 84 69 9 bk_84_69 := Sd.sq st_84_69 (Sd.sq st_84_72 (Sd.sq st_84_75 (st_84_77)))
theorem dd_84_78 : decode (mi 84).2.1 78 = .ok (.iconst 1, 1) := by decide +kernel
theorem st_84_78 : Sd 84 78 1 (i_ic 1) := sd_iconst dd_84_78
theorem dd_84_79 : decode (mi 84).2.1 79 = .ok (.istore 5, 2) := by decide +kernel
theorem st_84_79 : Sd 84 79 2 (i_stI 5) := sd_istore dd_84_79
def bk_84_78 : Tr := sq (i_ic 1) (sq (i_stI 5) (i_fall 81))
theorem sb_84_78 : Sd 84 78 3 bk_84_78 := Sd.sq st_84_78 (Sd.sq st_84_79 (sd_fall rfl))
theorem dd_84_81 : decode (mi 84).2.1 81 = .ok (.iload 5, 2) := by decide +kernel
theorem st_84_81 : Sd 84 81 2 (i_ldI 5) := sd_iload dd_84_81
theorem dd_84_83 : decode (mi 84).2.1 83 = .ok (.ifCond .eq 49, 3) := by decide +kernel
theorem st_84_83 : Sd 84 83 3 (i_zeq 132) := sd_if_eq dd_84_83 (by decide)
theorem dd_84_86 : decode (mi 84).2.1 86 = .ok (.iload_n 3, 1) := by decide +kernel
theorem st_84_86 : Sd 84 86 1 (i_ldI 3) := sd_iload_n (j := 3) dd_84_86 rfl
theorem dd_84_87 : decode (mi 84).2.1 87 = .ok (.ifCond .eq 12, 3) := by decide +kernel
theorem st_84_87 : Sd 84 87 3 (i_zeq 99) := sd_if_eq dd_84_87 (by decide)
theorem dd_84_90 : decode (mi 84).2.1 90 = .ok (.aload_n 0, 1) := by decide +kernel
theorem st_84_90 : Sd 84 90 1 (i_ldR 0) := sd_aload_n (j := 0) dd_84_90 rfl
theorem dd_84_91 : decode (mi 84).2.1 91 = .ok (.aload 4, 2) := by decide +kernel
theorem st_84_91 : Sd 84 91 2 (i_ldR 4) := sd_aload dd_84_91
theorem dd_84_93 : decode (mi 84).2.1 93 = .ok (.invokevirtual 133, 3) := by decide +kernel
theorem st_84_93 : Sd 84 93 3 (i_cV [(3, 89)] 2 7 []) := sd_virt ⟨"ContractDesk$Reader", "key", "(LContractDesk$Group;)C"⟩ dd_84_93 (by rw [mc_84]; exact tw_862) (fun t j h => by simp only [List.mem_cons, List.not_mem_nil, or_false, Prod.mk.injEq] at h; obtain ⟨rfl, rfl⟩ := h; exact mn_89) (fun t j h => by simp only [List.mem_cons, List.not_mem_nil, or_false, Prod.mk.injEq] at h; obtain ⟨rfl, rfl⟩ := h; exact ⟨by rw [mn_89]; exact tw_10, by rw [mn_89]; exact tw_864, mt_89, by decide, by decide⟩) (by unfold prm; decide +kernel) ml_84 (HsOk.nil (by decide +kernel))
theorem dd_84_96 : decode (mi 84).2.1 96 = .ok (.goto 4, 3) := by decide +kernel
theorem st_84_96 : Sd 84 96 3 (i_goto 100) := sd_goto dd_84_96 (by decide)
def bk_84_81 : Tr := sq (i_ldI 5) (sq (i_zeq 132) (sq (i_ldI 3) (sq (i_zeq 99) (sq (i_ldR 0) (sq (i_ldR 4) (sq (i_cV [(3, 89)] 2 7 []) (i_goto 100)))))))
theorem sb_84_81 : Sd 84 81 18 bk_84_81 := Sd.sq st_84_81 (Sd.sq st_84_83 (Sd.sq st_84_86 (Sd.sq st_84_87 (Sd.sq st_84_90 (Sd.sq st_84_91 (Sd.sq st_84_93 (st_84_96)))))))
theorem dd_84_99 : decode (mi 84).2.1 99 = .ok (.iconst 0, 1) := by decide +kernel
theorem st_84_99 : Sd 84 99 1 (i_ic 0) := sd_iconst dd_84_99
def bk_84_99 : Tr := sq (i_ic 0) (i_fall 100)
theorem sb_84_99 : Sd 84 99 1 bk_84_99 := Sd.sq st_84_99 (sd_fall rfl)
theorem dd_84_100 : decode (mi 84).2.1 100 = .ok (.istore 6, 2) := by decide +kernel
theorem st_84_100 : Sd 84 100 2 (i_stI 6) := sd_istore dd_84_100
theorem dd_84_102 : decode (mi 84).2.1 102 = .ok (.aload 4, 2) := by decide +kernel
theorem st_84_102 : Sd 84 102 2 (i_ldR 4) := sd_aload dd_84_102
theorem dd_84_104 : decode (mi 84).2.1 104 = .ok (.new 137, 3) := by decide +kernel
theorem st_84_104 : Sd 84 104 3 (i_new 13) := sd_new dd_84_104 (by rw [mc_84]; exact tw_870) (by exact tw_99) (by exact tw_871) (by decide) (by decide)
theorem dd_84_107 : decode (mi 84).2.1 107 = .ok (.dup, 1) := by decide +kernel
theorem st_84_107 : Sd 84 107 1 (i_dup) := sd_dup dd_84_107
theorem dd_84_108 : decode (mi 84).2.1 108 = .ok (.iload 6, 2) := by decide +kernel
theorem st_84_108 : Sd 84 108 2 (i_ldI 6) := sd_iload dd_84_108
theorem dd_84_110 : decode (mi 84).2.1 110 = .ok (.aload_n 0, 1) := by decide +kernel
theorem st_84_110 : Sd 84 110 1 (i_ldR 0) := sd_aload_n (j := 0) dd_84_110 rfl
theorem dd_84_111 : decode (mi 84).2.1 111 = .ok (.iload_n 2, 1) := by decide +kernel
theorem st_84_111 : Sd 84 111 1 (i_ldI 2) := sd_iload_n (j := 2) dd_84_111 rfl
theorem dd_84_112 : decode (mi 84).2.1 112 = .ok (.invokevirtual 54, 3) := by decide +kernel
theorem st_84_112 : Sd 84 112 3 (i_cV [(3, 100)] 2 7 []) := sd_virt ⟨"ContractDesk$Reader", "value", "(I)LContractDesk$Value;"⟩ dd_84_112 (by rw [mc_84]; exact tw_802) (fun t j h => by simp only [List.mem_cons, List.not_mem_nil, or_false, Prod.mk.injEq] at h; obtain ⟨rfl, rfl⟩ := h; exact mn_100) (fun t j h => by simp only [List.mem_cons, List.not_mem_nil, or_false, Prod.mk.injEq] at h; obtain ⟨rfl, rfl⟩ := h; exact ⟨by rw [mn_100]; exact tw_7, by rw [mn_100]; exact tw_804, mt_100, by decide, by decide⟩) (by unfold prm; decide +kernel) ml_84 (HsOk.nil (by decide +kernel))
theorem dd_84_115 : decode (mi 84).2.1 115 = .ok (.invokespecial 139, 3) := by decide +kernel
theorem st_84_115 : Sd 84 115 3 (i_cI 74 3 7 []) := sd_init dd_84_115 (by rw [mc_84, mn_74]; exact tw_872) (by rw [mn_74]; exact tw_873) mt_74 pm_74 (by rw [mn_74]) (by decide +kernel) ml_84 (HsOk.nil (by decide +kernel))
theorem dd_84_118 : decode (mi 84).2.1 118 = .ok (.invokevirtual 142, 3) := by decide +kernel
theorem st_84_118 : Sd 84 118 3 (i_cV [(12, 63)] 2 7 []) := sd_virt ⟨"ContractDesk$Group", "add", "(LContractDesk$Member;)V"⟩ dd_84_118 (by rw [mc_84]; exact tw_891) (fun t j h => by simp only [List.mem_cons, List.not_mem_nil, or_false, Prod.mk.injEq] at h; obtain ⟨rfl, rfl⟩ := h; exact mn_63) (fun t j h => by simp only [List.mem_cons, List.not_mem_nil, or_false, Prod.mk.injEq] at h; obtain ⟨rfl, rfl⟩ := h; exact ⟨by rw [mn_63]; exact tw_893, by rw [mn_63]; exact tw_892, mt_63, by decide, by decide⟩) (by unfold prm; decide +kernel) ml_84 (HsOk.nil (by decide +kernel))
theorem dd_84_121 : decode (mi 84).2.1 121 = .ok (.aload_n 0, 1) := by decide +kernel
theorem st_84_121 : Sd 84 121 1 (i_ldR 0) := sd_aload_n (j := 0) dd_84_121 rfl
theorem dd_84_122 : decode (mi 84).2.1 122 = .ok (.bipush 44, 2) := by decide +kernel
theorem st_84_122 : Sd 84 122 2 (i_ic 44) := sd_bipush dd_84_122 (by decide)
theorem dd_84_124 : decode (mi 84).2.1 124 = .ok (.invokevirtual 43, 3) := by decide +kernel
theorem st_84_124 : Sd 84 124 3 (i_cV [(3, 98)] 2 7 []) := sd_virt ⟨"ContractDesk$Reader", "takes", "(C)Z"⟩ dd_84_124 (by rw [mc_84]; exact tw_616) (fun t j h => by simp only [List.mem_cons, List.not_mem_nil, or_false, Prod.mk.injEq] at h; obtain ⟨rfl, rfl⟩ := h; exact mn_98) (fun t j h => by simp only [List.mem_cons, List.not_mem_nil, or_false, Prod.mk.injEq] at h; obtain ⟨rfl, rfl⟩ := h; exact ⟨by rw [mn_98]; exact tw_618, by rw [mn_98]; exact tw_617, mt_98, by decide, by decide⟩) (by unfold prm; decide +kernel) ml_84 (HsOk.nil (by decide +kernel))
theorem dd_84_127 : decode (mi 84).2.1 127 = .ok (.istore 5, 2) := by decide +kernel
theorem st_84_127 : Sd 84 127 2 (i_stI 5) := sd_istore dd_84_127
theorem dd_84_129 : decode (mi 84).2.1 129 = .ok (.goto (-48), 3) := by decide +kernel
theorem st_84_129 : Sd 84 129 3 (i_goto 81) := sd_goto dd_84_129 (by decide)
def bk_84_100 : Tr := sq (i_stI 6) (sq (i_ldR 4) (sq (i_new 13) (sq (i_dup) (sq (i_ldI 6) (sq (i_ldR 0) (sq (i_ldI 2) (sq (i_cV [(3, 100)] 2 7 []) (sq (i_cI 74 3 7 []) (sq (i_cV [(12, 63)] 2 7 []) (sq (i_ldR 0) (sq (i_ic 44) (sq (i_cV [(3, 98)] 2 7 []) (sq (i_stI 5) (i_goto 81))))))))))))))
theorem sb_84_100 : Sd 84 100 32 bk_84_100 := Sd.sq st_84_100 (Sd.sq st_84_102 (Sd.sq st_84_104 (Sd.sq st_84_107 (Sd.sq st_84_108 (Sd.sq st_84_110 (Sd.sq st_84_111 (Sd.sq st_84_112 (Sd.sq st_84_115 (Sd.sq st_84_118 (Sd.sq st_84_121 (Sd.sq st_84_122 (Sd.sq st_84_124 (Sd.sq st_84_127 (st_84_129))))))))))))))
theorem dd_84_132 : decode (mi 84).2.1 132 = .ok (.aload_n 0, 1) := by decide +kernel
theorem st_84_132 : Sd 84 132 1 (i_ldR 0) := sd_aload_n (j := 0) dd_84_132 rfl
theorem dd_84_133 : decode (mi 84).2.1 133 = .ok (.iload_n 3, 1) := by decide +kernel
theorem st_84_133 : Sd 84 133 1 (i_ldI 3) := sd_iload_n (j := 3) dd_84_133 rfl
theorem dd_84_134 : decode (mi 84).2.1 134 = .ok (.ifCond .eq 8, 3) := by decide +kernel
theorem st_84_134 : Sd 84 134 3 (i_zeq 142) := sd_if_eq dd_84_134 (by decide)
theorem dd_84_137 : decode (mi 84).2.1 137 = .ok (.bipush 125, 2) := by decide +kernel
theorem st_84_137 : Sd 84 137 2 (i_ic 125) := sd_bipush dd_84_137 (by decide)
theorem dd_84_139 : decode (mi 84).2.1 139 = .ok (.goto 5, 3) := by decide +kernel
theorem st_84_139 : Sd 84 139 3 (i_goto 144) := sd_goto dd_84_139 (by decide)
def bk_84_132 : Tr := sq (i_ldR 0) (sq (i_ldI 3) (sq (i_zeq 142) (sq (i_ic 125) (i_goto 144))))
theorem sb_84_132 : Sd 84 132 10 bk_84_132 := Sd.sq st_84_132 (Sd.sq st_84_133 (Sd.sq st_84_134 (Sd.sq st_84_137 (st_84_139))))
theorem dd_84_142 : decode (mi 84).2.1 142 = .ok (.bipush 93, 2) := by decide +kernel
theorem st_84_142 : Sd 84 142 2 (i_ic 93) := sd_bipush dd_84_142 (by decide)
def bk_84_142 : Tr := sq (i_ic 93) (i_fall 144)
theorem sb_84_142 : Sd 84 142 2 bk_84_142 := Sd.sq st_84_142 (sd_fall rfl)
theorem dd_84_144 : decode (mi 84).2.1 144 = .ok (.invokevirtual 95, 3) := by decide +kernel
theorem st_84_144 : Sd 84 144 3 (i_cV [(3, 83)] 2 7 []) := sd_virt ⟨"ContractDesk$Reader", "expect", "(C)V"⟩ dd_84_144 (by rw [mc_84]; exact tw_612) (fun t j h => by simp only [List.mem_cons, List.not_mem_nil, or_false, Prod.mk.injEq] at h; obtain ⟨rfl, rfl⟩ := h; exact mn_83) (fun t j h => by simp only [List.mem_cons, List.not_mem_nil, or_false, Prod.mk.injEq] at h; obtain ⟨rfl, rfl⟩ := h; exact ⟨by rw [mn_83]; exact tw_614, by rw [mn_83]; exact tw_613, mt_83, by decide, by decide⟩) (by unfold prm; decide +kernel) ml_84 (HsOk.nil (by decide +kernel))
theorem dd_84_147 : decode (mi 84).2.1 147 = .ok (.aload 4, 2) := by decide +kernel
theorem st_84_147 : Sd 84 147 2 (i_ldR 4) := sd_aload dd_84_147
theorem dd_84_149 : decode (mi 84).2.1 149 = .ok (.areturn, 1) := by decide +kernel
theorem st_84_149 : Sd 84 149 1 (i_rR) := sd_areturn dd_84_149 mr_84 (Or.inl ⟨_, rfl⟩)
def bk_84_144 : Tr := sq (i_cV [(3, 83)] 2 7 []) (sq (i_ldR 4) (i_rR))
theorem sb_84_144 : Sd 84 144 6 bk_84_144 := Sd.sq st_84_144 (Sd.sq st_84_147 (st_84_149))
theorem dd_85_0 : decode (mi 85).2.1 0 = .ok (.aload_n 0, 1) := by decide +kernel
theorem st_85_0 : Sd 85 0 1 (i_ldR 0) := sd_aload_n (j := 0) dd_85_0 rfl
theorem dd_85_1 : decode (mi 85).2.1 1 = .ok (.getfield 35, 3) := by decide +kernel
theorem st_85_1 : Sd 85 1 3 (i_gI 1 [3]) := sd_gI (ref := "ContractDesk$Reader") (decl := "ContractDesk$Reader") (name := "at") (desc := "I") dd_85_1 (by rw [mc_85]; exact tw_158) (Or.inl rfl) (by decide +kernel)
theorem dd_85_4 : decode (mi 85).2.1 4 = .ok (.aload_n 0, 1) := by decide +kernel
theorem st_85_4 : Sd 85 4 1 (i_ldR 0) := sd_aload_n (j := 0) dd_85_4 rfl
theorem dd_85_5 : decode (mi 85).2.1 5 = .ok (.getfield 14, 3) := by decide +kernel
theorem st_85_5 : Sd 85 5 3 (i_gR 0 [3]) := sd_gR (ref := "ContractDesk$Reader") (decl := "ContractDesk$Reader") (name := "s") (desc := "Ljava/lang/StringBuilder;") dd_85_5 (by rw [mc_85]; exact tw_157) (Or.inl rfl) (by decide +kernel)
theorem dd_85_8 : decode (mi 85).2.1 8 = .ok (.invokevirtual 23, 3) := by decide +kernel
theorem st_85_8 : Sd 85 8 3 (i_cV [(15, 15)] 1 1 []) := sd_virt ⟨"java/lang/StringBuilder", "length", "()I"⟩ dd_85_8 (by rw [mc_85]; exact tw_596) (fun t j h => by simp only [List.mem_cons, List.not_mem_nil, or_false, Prod.mk.injEq] at h; obtain ⟨rfl, rfl⟩ := h; exact mn_15) (fun t j h => by simp only [List.mem_cons, List.not_mem_nil, or_false, Prod.mk.injEq] at h; obtain ⟨rfl, rfl⟩ := h; exact ⟨by rw [mn_15]; exact tw_1600, by rw [mn_15]; exact tw_392, mt_15, by decide, by decide⟩) (by unfold prm; decide +kernel) ml_85 (HsOk.nil (by decide +kernel))
theorem dd_85_11 : decode (mi 85).2.1 11 = .ok (.if_icmp .ge 17, 3) := by decide +kernel
theorem st_85_11 : Sd 85 11 3 (i_cge 28) := sd_icmp_ge dd_85_11 (by decide)
theorem dd_85_14 : decode (mi 85).2.1 14 = .ok (.aload_n 0, 1) := by decide +kernel
theorem st_85_14 : Sd 85 14 1 (i_ldR 0) := sd_aload_n (j := 0) dd_85_14 rfl
theorem dd_85_15 : decode (mi 85).2.1 15 = .ok (.getfield 14, 3) := by decide +kernel
theorem st_85_15 : Sd 85 15 3 (i_gR 0 [3]) := sd_gR (ref := "ContractDesk$Reader") (decl := "ContractDesk$Reader") (name := "s") (desc := "Ljava/lang/StringBuilder;") dd_85_15 (by rw [mc_85]; exact tw_157) (Or.inl rfl) (by decide +kernel)
theorem dd_85_18 : decode (mi 85).2.1 18 = .ok (.aload_n 0, 1) := by decide +kernel
theorem st_85_18 : Sd 85 18 1 (i_ldR 0) := sd_aload_n (j := 0) dd_85_18 rfl
theorem dd_85_19 : decode (mi 85).2.1 19 = .ok (.getfield 35, 3) := by decide +kernel
theorem st_85_19 : Sd 85 19 3 (i_gI 1 [3]) := sd_gI (ref := "ContractDesk$Reader") (decl := "ContractDesk$Reader") (name := "at") (desc := "I") dd_85_19 (by rw [mc_85]; exact tw_158) (Or.inl rfl) (by decide +kernel)
theorem dd_85_22 : decode (mi 85).2.1 22 = .ok (.invokevirtual 27, 3) := by decide +kernel
theorem st_85_22 : Sd 85 22 3 (i_cV [(15, 19)] 2 1 []) := sd_virt ⟨"java/lang/StringBuilder", "charAt", "(I)C"⟩ dd_85_22 (by rw [mc_85]; exact tw_597) (fun t j h => by simp only [List.mem_cons, List.not_mem_nil, or_false, Prod.mk.injEq] at h; obtain ⟨rfl, rfl⟩ := h; exact mn_19) (fun t j h => by simp only [List.mem_cons, List.not_mem_nil, or_false, Prod.mk.injEq] at h; obtain ⟨rfl, rfl⟩ := h; exact ⟨by rw [mn_19]; exact tw_599, by rw [mn_19]; exact tw_598, mt_19, by decide, by decide⟩) (by unfold prm; decide +kernel) ml_85 (HsOk.nil (by decide +kernel))
theorem dd_85_25 : decode (mi 85).2.1 25 = .ok (.goto 4, 3) := by decide +kernel
theorem st_85_25 : Sd 85 25 3 (i_goto 29) := sd_goto dd_85_25 (by decide)
def bk_85_0 : Tr := sq (i_ldR 0) (sq (i_gI 1 [3]) (sq (i_ldR 0) (sq (i_gR 0 [3]) (sq (i_cV [(15, 15)] 1 1 []) (sq (i_cge 28) (sq (i_ldR 0) (sq (i_gR 0 [3]) (sq (i_ldR 0) (sq (i_gI 1 [3]) (sq (i_cV [(15, 19)] 2 1 []) (i_goto 29)))))))))))
theorem sb_85_0 : Sd 85 0 28 bk_85_0 := Sd.sq st_85_0 (Sd.sq st_85_1 (Sd.sq st_85_4 (Sd.sq st_85_5 (Sd.sq st_85_8 (Sd.sq st_85_11 (Sd.sq st_85_14 (Sd.sq st_85_15 (Sd.sq st_85_18 (Sd.sq st_85_19 (Sd.sq st_85_22 (st_85_25)))))))))))
theorem dd_85_28 : decode (mi 85).2.1 28 = .ok (.iconst 0, 1) := by decide +kernel
theorem st_85_28 : Sd 85 28 1 (i_ic 0) := sd_iconst dd_85_28
def bk_85_28 : Tr := sq (i_ic 0) (i_fall 29)
theorem sb_85_28 : Sd 85 28 1 bk_85_28 := Sd.sq st_85_28 (sd_fall rfl)
theorem dd_85_29 : decode (mi 85).2.1 29 = .ok (.ireturn, 1) := by decide +kernel
theorem st_85_29 : Sd 85 29 1 (i_rI 1) := sd_ireturn dd_85_29 (by decide) mr_85
def bk_85_29 : Tr := i_rI 1
theorem sb_85_29 : Sd 85 29 1 bk_85_29 := st_85_29
theorem dd_86_0 : decode (mi 86).2.1 0 = .ok (.new 192, 3) := by decide +kernel
theorem st_86_0 : Sd 86 0 3 (i_new 8) := sd_new dd_86_0 (by rw [mc_86]; exact tw_1084) (by exact tw_105) (by exact tw_1085) (by decide) (by decide)
theorem dd_86_3 : decode (mi 86).2.1 3 = .ok (.dup, 1) := by decide +kernel
theorem st_86_3 : Sd 86 3 1 (i_dup) := sd_dup dd_86_3
theorem dd_86_4 : decode (mi 86).2.1 4 = .ok (.invokespecial 194, 3) := by decide +kernel
theorem st_86_4 : Sd 86 4 3 (i_cI 68 1 2 []) := sd_initN (host := "ContractDesk") dd_86_4 (by rw [mc_86, mn_68]; exact tw_1086) (by rw [mn_68]; exact tw_1087) mt_68 pm_68 (by rw [mn_68]) (by decide +kernel) ml_86 (HsOk.nil (by decide +kernel))
theorem dd_86_7 : decode (mi 86).2.1 7 = .ok (.astore_n 1, 1) := by decide +kernel
theorem st_86_7 : Sd 86 7 1 (i_stR 1) := sd_astore_n (j := 1) dd_86_7 rfl
theorem dd_86_8 : decode (mi 86).2.1 8 = .ok (.aload_n 1, 1) := by decide +kernel
theorem st_86_8 : Sd 86 8 1 (i_ldR 1) := sd_aload_n (j := 1) dd_86_8 rfl
theorem dd_86_9 : decode (mi 86).2.1 9 = .ok (.getfield 195, 3) := by decide +kernel
theorem st_86_9 : Sd 86 9 3 (i_gR 1 [8]) := sd_gRN (decl := "ContractDesk$Inside") (name := "letters") (desc := "Ljava/lang/StringBuilder;") (host := "ContractDesk") dd_86_9 (by rw [mc_86]; exact tw_1093) (by decide +kernel)
theorem dd_86_12 : decode (mi 86).2.1 12 = .ok (.aload_n 0, 1) := by decide +kernel
theorem st_86_12 : Sd 86 12 1 (i_ldR 0) := sd_aload_n (j := 0) dd_86_12 rfl
theorem dd_86_13 : decode (mi 86).2.1 13 = .ok (.invokevirtual 119, 3) := by decide +kernel
theorem st_86_13 : Sd 86 13 3 (i_cV [(3, 90)] 1 2 []) := sd_virt ⟨"ContractDesk$Reader", "letter", "()C"⟩ dd_86_13 (by rw [mc_86]; exact tw_635) (fun t j h => by simp only [List.mem_cons, List.not_mem_nil, or_false, Prod.mk.injEq] at h; obtain ⟨rfl, rfl⟩ := h; exact mn_90) (fun t j h => by simp only [List.mem_cons, List.not_mem_nil, or_false, Prod.mk.injEq] at h; obtain ⟨rfl, rfl⟩ := h; exact ⟨by rw [mn_90]; exact tw_637, by rw [mn_90]; exact tw_636, mt_90, by decide, by decide⟩) (by unfold prm; decide +kernel) ml_86 (HsOk.nil (by decide +kernel))
theorem dd_86_16 : decode (mi 86).2.1 16 = .ok (.invokevirtual 31, 3) := by decide +kernel
theorem st_86_16 : Sd 86 16 3 (i_cV [(15, 12)] 2 2 []) := sd_virt ⟨"java/lang/StringBuilder", "append", "(C)Ljava/lang/StringBuilder;"⟩ dd_86_16 (by rw [mc_86]; exact tw_607) (fun t j h => by simp only [List.mem_cons, List.not_mem_nil, or_false, Prod.mk.injEq] at h; obtain ⟨rfl, rfl⟩ := h; exact mn_12) (fun t j h => by simp only [List.mem_cons, List.not_mem_nil, or_false, Prod.mk.injEq] at h; obtain ⟨rfl, rfl⟩ := h; exact ⟨by rw [mn_12]; exact tw_515, by rw [mn_12]; exact tw_514, mt_12, by decide, by decide⟩) (by unfold prm; decide +kernel) ml_86 (HsOk.nil (by decide +kernel))
theorem dd_86_19 : decode (mi 86).2.1 19 = .ok (.pop, 1) := by decide +kernel
theorem st_86_19 : Sd 86 19 1 (i_pop) := sd_pop dd_86_19
def bk_86_0 : Tr := sq (i_new 8) (sq (i_dup) (sq (i_cI 68 1 2 []) (sq (i_stR 1) (sq (i_ldR 1) (sq (i_gR 1 [8]) (sq (i_ldR 0) (sq (i_cV [(3, 90)] 1 2 []) (sq (i_cV [(15, 12)] 2 2 []) (sq (i_pop) (i_fall 20))))))))))
theorem sb_86_0 : Sd 86 0 20 bk_86_0 := Sd.sq st_86_0 (Sd.sq st_86_3 (Sd.sq st_86_4 (Sd.sq st_86_7 (Sd.sq st_86_8 (Sd.sq st_86_9 (Sd.sq st_86_12 (Sd.sq st_86_13 (Sd.sq st_86_16 (Sd.sq st_86_19 (sd_fall rfl))))))))))
theorem dd_86_20 : decode (mi 86).2.1 20 = .ok (.aload_n 0, 1) := by decide +kernel
theorem st_86_20 : Sd 86 20 1 (i_ldR 0) := sd_aload_n (j := 0) dd_86_20 rfl
theorem dd_86_21 : decode (mi 86).2.1 21 = .ok (.invokevirtual 113, 3) := by decide +kernel
theorem st_86_21 : Sd 86 21 3 (i_cV [(3, 88)] 1 2 []) := sd_virt ⟨"ContractDesk$Reader", "isLetter", "()Z"⟩ dd_86_21 (by rw [mc_86]; exact tw_828) (fun t j h => by simp only [List.mem_cons, List.not_mem_nil, or_false, Prod.mk.injEq] at h; obtain ⟨rfl, rfl⟩ := h; exact mn_88) (fun t j h => by simp only [List.mem_cons, List.not_mem_nil, or_false, Prod.mk.injEq] at h; obtain ⟨rfl, rfl⟩ := h; exact ⟨by rw [mn_88]; exact tw_830, by rw [mn_88]; exact tw_829, mt_88, by decide, by decide⟩) (by unfold prm; decide +kernel) ml_86 (HsOk.nil (by decide +kernel))
theorem dd_86_24 : decode (mi 86).2.1 24 = .ok (.ifCond .eq 30, 3) := by decide +kernel
theorem st_86_24 : Sd 86 24 3 (i_zeq 54) := sd_if_eq dd_86_24 (by decide)
theorem dd_86_27 : decode (mi 86).2.1 27 = .ok (.aload_n 1, 1) := by decide +kernel
theorem st_86_27 : Sd 86 27 1 (i_ldR 1) := sd_aload_n (j := 1) dd_86_27 rfl
theorem dd_86_28 : decode (mi 86).2.1 28 = .ok (.getfield 195, 3) := by decide +kernel
theorem st_86_28 : Sd 86 28 3 (i_gR 1 [8]) := sd_gRN (decl := "ContractDesk$Inside") (name := "letters") (desc := "Ljava/lang/StringBuilder;") (host := "ContractDesk") dd_86_28 (by rw [mc_86]; exact tw_1093) (by decide +kernel)
theorem dd_86_31 : decode (mi 86).2.1 31 = .ok (.invokevirtual 23, 3) := by decide +kernel
theorem st_86_31 : Sd 86 31 3 (i_cV [(15, 15)] 1 2 []) := sd_virt ⟨"java/lang/StringBuilder", "length", "()I"⟩ dd_86_31 (by rw [mc_86]; exact tw_596) (fun t j h => by simp only [List.mem_cons, List.not_mem_nil, or_false, Prod.mk.injEq] at h; obtain ⟨rfl, rfl⟩ := h; exact mn_15) (fun t j h => by simp only [List.mem_cons, List.not_mem_nil, or_false, Prod.mk.injEq] at h; obtain ⟨rfl, rfl⟩ := h; exact ⟨by rw [mn_15]; exact tw_1600, by rw [mn_15]; exact tw_392, mt_15, by decide, by decide⟩) (by unfold prm; decide +kernel) ml_86 (HsOk.nil (by decide +kernel))
theorem dd_86_34 : decode (mi 86).2.1 34 = .ok (.bipush 6, 2) := by decide +kernel
theorem st_86_34 : Sd 86 34 2 (i_ic 6) := sd_bipush dd_86_34 (by decide)
theorem dd_86_36 : decode (mi 86).2.1 36 = .ok (.if_icmp .ge 18, 3) := by decide +kernel
theorem st_86_36 : Sd 86 36 3 (i_cge 54) := sd_icmp_ge dd_86_36 (by decide)
theorem dd_86_39 : decode (mi 86).2.1 39 = .ok (.aload_n 1, 1) := by decide +kernel
theorem st_86_39 : Sd 86 39 1 (i_ldR 1) := sd_aload_n (j := 1) dd_86_39 rfl
theorem dd_86_40 : decode (mi 86).2.1 40 = .ok (.getfield 195, 3) := by decide +kernel
theorem st_86_40 : Sd 86 40 3 (i_gR 1 [8]) := sd_gRN (decl := "ContractDesk$Inside") (name := "letters") (desc := "Ljava/lang/StringBuilder;") (host := "ContractDesk") dd_86_40 (by rw [mc_86]; exact tw_1093) (by decide +kernel)
theorem dd_86_43 : decode (mi 86).2.1 43 = .ok (.aload_n 0, 1) := by decide +kernel
theorem st_86_43 : Sd 86 43 1 (i_ldR 0) := sd_aload_n (j := 0) dd_86_43 rfl
theorem dd_86_44 : decode (mi 86).2.1 44 = .ok (.invokevirtual 119, 3) := by decide +kernel
theorem st_86_44 : Sd 86 44 3 (i_cV [(3, 90)] 1 2 []) := sd_virt ⟨"ContractDesk$Reader", "letter", "()C"⟩ dd_86_44 (by rw [mc_86]; exact tw_635) (fun t j h => by simp only [List.mem_cons, List.not_mem_nil, or_false, Prod.mk.injEq] at h; obtain ⟨rfl, rfl⟩ := h; exact mn_90) (fun t j h => by simp only [List.mem_cons, List.not_mem_nil, or_false, Prod.mk.injEq] at h; obtain ⟨rfl, rfl⟩ := h; exact ⟨by rw [mn_90]; exact tw_637, by rw [mn_90]; exact tw_636, mt_90, by decide, by decide⟩) (by unfold prm; decide +kernel) ml_86 (HsOk.nil (by decide +kernel))
theorem dd_86_47 : decode (mi 86).2.1 47 = .ok (.invokevirtual 31, 3) := by decide +kernel
theorem st_86_47 : Sd 86 47 3 (i_cV [(15, 12)] 2 2 []) := sd_virt ⟨"java/lang/StringBuilder", "append", "(C)Ljava/lang/StringBuilder;"⟩ dd_86_47 (by rw [mc_86]; exact tw_607) (fun t j h => by simp only [List.mem_cons, List.not_mem_nil, or_false, Prod.mk.injEq] at h; obtain ⟨rfl, rfl⟩ := h; exact mn_12) (fun t j h => by simp only [List.mem_cons, List.not_mem_nil, or_false, Prod.mk.injEq] at h; obtain ⟨rfl, rfl⟩ := h; exact ⟨by rw [mn_12]; exact tw_515, by rw [mn_12]; exact tw_514, mt_12, by decide, by decide⟩) (by unfold prm; decide +kernel) ml_86 (HsOk.nil (by decide +kernel))
theorem dd_86_50 : decode (mi 86).2.1 50 = .ok (.pop, 1) := by decide +kernel
theorem st_86_50 : Sd 86 50 1 (i_pop) := sd_pop dd_86_50
theorem dd_86_51 : decode (mi 86).2.1 51 = .ok (.goto (-31), 3) := by decide +kernel
theorem st_86_51 : Sd 86 51 3 (i_goto 20) := sd_goto dd_86_51 (by decide)
def bk_86_20 : Tr := sq (i_ldR 0) (sq (i_cV [(3, 88)] 1 2 []) (sq (i_zeq 54) (sq (i_ldR 1) (sq (i_gR 1 [8]) (sq (i_cV [(15, 15)] 1 2 []) (sq (i_ic 6) (sq (i_cge 54) (sq (i_ldR 1) (sq (i_gR 1 [8]) (sq (i_ldR 0) (sq (i_cV [(3, 90)] 1 2 []) (sq (i_cV [(15, 12)] 2 2 []) (sq (i_pop) (i_goto 20))))))))))))))
theorem sb_86_20 : Sd 86 20 34 bk_86_20 := Sd.sq st_86_20 (Sd.sq st_86_21 (Sd.sq st_86_24 (Sd.sq st_86_27 (Sd.sq st_86_28 (Sd.sq st_86_31 (Sd.sq st_86_34 (Sd.sq st_86_36 (Sd.sq st_86_39 (Sd.sq st_86_40 (Sd.sq st_86_43 (Sd.sq st_86_44 (Sd.sq st_86_47 (Sd.sq st_86_50 (st_86_51))))))))))))))
theorem dd_86_54 : decode (mi 86).2.1 54 = .ok (.aload_n 1, 1) := by decide +kernel
theorem st_86_54 : Sd 86 54 1 (i_ldR 1) := sd_aload_n (j := 1) dd_86_54 rfl
theorem dd_86_55 : decode (mi 86).2.1 55 = .ok (.areturn, 1) := by decide +kernel
theorem st_86_55 : Sd 86 55 1 (i_rR) := sd_areturn dd_86_55 mr_86 (Or.inl ⟨_, rfl⟩)
def bk_86_54 : Tr := sq (i_ldR 1) (i_rR)
theorem sb_86_54 : Sd 86 54 2 bk_86_54 := Sd.sq st_86_54 (st_86_55)
theorem dd_87_0 : decode (mi 87).2.1 0 = .ok (.aload_n 0, 1) := by decide +kernel
theorem st_87_0 : Sd 87 0 1 (i_ldR 0) := sd_aload_n (j := 0) dd_87_0 rfl
theorem dd_87_1 : decode (mi 87).2.1 1 = .ok (.invokevirtual 39, 3) := by decide +kernel
theorem st_87_1 : Sd 87 1 3 (i_cV [(3, 85)] 1 1 []) := sd_virt ⟨"ContractDesk$Reader", "here", "()C"⟩ dd_87_1 (by rw [mc_87]; exact tw_620) (fun t j h => by simp only [List.mem_cons, List.not_mem_nil, or_false, Prod.mk.injEq] at h; obtain ⟨rfl, rfl⟩ := h; exact mn_85) (fun t j h => by simp only [List.mem_cons, List.not_mem_nil, or_false, Prod.mk.injEq] at h; obtain ⟨rfl, rfl⟩ := h; exact ⟨by rw [mn_85]; exact tw_622, by rw [mn_85]; exact tw_621, mt_85, by decide, by decide⟩) (by unfold prm; decide +kernel) ml_87 (HsOk.nil (by decide +kernel))
theorem dd_87_4 : decode (mi 87).2.1 4 = .ok (.bipush 48, 2) := by decide +kernel
theorem st_87_4 : Sd 87 4 2 (i_ic 48) := sd_bipush dd_87_4 (by decide)
theorem dd_87_6 : decode (mi 87).2.1 6 = .ok (.if_icmp .lt 16, 3) := by decide +kernel
theorem st_87_6 : Sd 87 6 3 (i_clt 22) := sd_icmp_lt dd_87_6 (by decide)
theorem dd_87_9 : decode (mi 87).2.1 9 = .ok (.aload_n 0, 1) := by decide +kernel
theorem st_87_9 : Sd 87 9 1 (i_ldR 0) := sd_aload_n (j := 0) dd_87_9 rfl
theorem dd_87_10 : decode (mi 87).2.1 10 = .ok (.invokevirtual 39, 3) := by decide +kernel
theorem st_87_10 : Sd 87 10 3 (i_cV [(3, 85)] 1 1 []) := sd_virt ⟨"ContractDesk$Reader", "here", "()C"⟩ dd_87_10 (by rw [mc_87]; exact tw_620) (fun t j h => by simp only [List.mem_cons, List.not_mem_nil, or_false, Prod.mk.injEq] at h; obtain ⟨rfl, rfl⟩ := h; exact mn_85) (fun t j h => by simp only [List.mem_cons, List.not_mem_nil, or_false, Prod.mk.injEq] at h; obtain ⟨rfl, rfl⟩ := h; exact ⟨by rw [mn_85]; exact tw_622, by rw [mn_85]; exact tw_621, mt_85, by decide, by decide⟩) (by unfold prm; decide +kernel) ml_87 (HsOk.nil (by decide +kernel))
theorem dd_87_13 : decode (mi 87).2.1 13 = .ok (.bipush 57, 2) := by decide +kernel
theorem st_87_13 : Sd 87 13 2 (i_ic 57) := sd_bipush dd_87_13 (by decide)
theorem dd_87_15 : decode (mi 87).2.1 15 = .ok (.if_icmp .gt 7, 3) := by decide +kernel
theorem st_87_15 : Sd 87 15 3 (i_cgt 22) := sd_icmp_gt dd_87_15 (by decide)
theorem dd_87_18 : decode (mi 87).2.1 18 = .ok (.iconst 1, 1) := by decide +kernel
theorem st_87_18 : Sd 87 18 1 (i_ic 1) := sd_iconst dd_87_18
theorem dd_87_19 : decode (mi 87).2.1 19 = .ok (.goto 4, 3) := by decide +kernel
theorem st_87_19 : Sd 87 19 3 (i_goto 23) := sd_goto dd_87_19 (by decide)
def bk_87_0 : Tr := sq (i_ldR 0) (sq (i_cV [(3, 85)] 1 1 []) (sq (i_ic 48) (sq (i_clt 22) (sq (i_ldR 0) (sq (i_cV [(3, 85)] 1 1 []) (sq (i_ic 57) (sq (i_cgt 22) (sq (i_ic 1) (i_goto 23)))))))))
theorem sb_87_0 : Sd 87 0 22 bk_87_0 := Sd.sq st_87_0 (Sd.sq st_87_1 (Sd.sq st_87_4 (Sd.sq st_87_6 (Sd.sq st_87_9 (Sd.sq st_87_10 (Sd.sq st_87_13 (Sd.sq st_87_15 (Sd.sq st_87_18 (st_87_19)))))))))
theorem dd_87_22 : decode (mi 87).2.1 22 = .ok (.iconst 0, 1) := by decide +kernel
theorem st_87_22 : Sd 87 22 1 (i_ic 0) := sd_iconst dd_87_22
def bk_87_22 : Tr := sq (i_ic 0) (i_fall 23)
theorem sb_87_22 : Sd 87 22 1 bk_87_22 := Sd.sq st_87_22 (sd_fall rfl)
theorem dd_87_23 : decode (mi 87).2.1 23 = .ok (.ireturn, 1) := by decide +kernel
theorem st_87_23 : Sd 87 23 1 (i_rI 2) := sd_ireturn dd_87_23 (by decide) mr_87
def bk_87_23 : Tr := i_rI 2
theorem sb_87_23 : Sd 87 23 1 bk_87_23 := st_87_23
theorem dd_88_0 : decode (mi 88).2.1 0 = .ok (.aload_n 0, 1) := by decide +kernel
theorem st_88_0 : Sd 88 0 1 (i_ldR 0) := sd_aload_n (j := 0) dd_88_0 rfl
theorem dd_88_1 : decode (mi 88).2.1 1 = .ok (.invokevirtual 39, 3) := by decide +kernel
theorem st_88_1 : Sd 88 1 3 (i_cV [(3, 85)] 1 1 []) := sd_virt ⟨"ContractDesk$Reader", "here", "()C"⟩ dd_88_1 (by rw [mc_88]; exact tw_620) (fun t j h => by simp only [List.mem_cons, List.not_mem_nil, or_false, Prod.mk.injEq] at h; obtain ⟨rfl, rfl⟩ := h; exact mn_85) (fun t j h => by simp only [List.mem_cons, List.not_mem_nil, or_false, Prod.mk.injEq] at h; obtain ⟨rfl, rfl⟩ := h; exact ⟨by rw [mn_85]; exact tw_622, by rw [mn_85]; exact tw_621, mt_85, by decide, by decide⟩) (by unfold prm; decide +kernel) ml_88 (HsOk.nil (by decide +kernel))
theorem dd_88_4 : decode (mi 88).2.1 4 = .ok (.bipush 97, 2) := by decide +kernel
theorem st_88_4 : Sd 88 4 2 (i_ic 97) := sd_bipush dd_88_4 (by decide)
theorem dd_88_6 : decode (mi 88).2.1 6 = .ok (.if_icmp .lt 16, 3) := by decide +kernel
theorem st_88_6 : Sd 88 6 3 (i_clt 22) := sd_icmp_lt dd_88_6 (by decide)
theorem dd_88_9 : decode (mi 88).2.1 9 = .ok (.aload_n 0, 1) := by decide +kernel
theorem st_88_9 : Sd 88 9 1 (i_ldR 0) := sd_aload_n (j := 0) dd_88_9 rfl
theorem dd_88_10 : decode (mi 88).2.1 10 = .ok (.invokevirtual 39, 3) := by decide +kernel
theorem st_88_10 : Sd 88 10 3 (i_cV [(3, 85)] 1 1 []) := sd_virt ⟨"ContractDesk$Reader", "here", "()C"⟩ dd_88_10 (by rw [mc_88]; exact tw_620) (fun t j h => by simp only [List.mem_cons, List.not_mem_nil, or_false, Prod.mk.injEq] at h; obtain ⟨rfl, rfl⟩ := h; exact mn_85) (fun t j h => by simp only [List.mem_cons, List.not_mem_nil, or_false, Prod.mk.injEq] at h; obtain ⟨rfl, rfl⟩ := h; exact ⟨by rw [mn_85]; exact tw_622, by rw [mn_85]; exact tw_621, mt_85, by decide, by decide⟩) (by unfold prm; decide +kernel) ml_88 (HsOk.nil (by decide +kernel))
theorem dd_88_13 : decode (mi 88).2.1 13 = .ok (.bipush 122, 2) := by decide +kernel
theorem st_88_13 : Sd 88 13 2 (i_ic 122) := sd_bipush dd_88_13 (by decide)
theorem dd_88_15 : decode (mi 88).2.1 15 = .ok (.if_icmp .gt 7, 3) := by decide +kernel
theorem st_88_15 : Sd 88 15 3 (i_cgt 22) := sd_icmp_gt dd_88_15 (by decide)
theorem dd_88_18 : decode (mi 88).2.1 18 = .ok (.iconst 1, 1) := by decide +kernel
theorem st_88_18 : Sd 88 18 1 (i_ic 1) := sd_iconst dd_88_18
theorem dd_88_19 : decode (mi 88).2.1 19 = .ok (.goto 4, 3) := by decide +kernel
theorem st_88_19 : Sd 88 19 3 (i_goto 23) := sd_goto dd_88_19 (by decide)
def bk_88_0 : Tr := sq (i_ldR 0) (sq (i_cV [(3, 85)] 1 1 []) (sq (i_ic 97) (sq (i_clt 22) (sq (i_ldR 0) (sq (i_cV [(3, 85)] 1 1 []) (sq (i_ic 122) (sq (i_cgt 22) (sq (i_ic 1) (i_goto 23)))))))))
theorem sb_88_0 : Sd 88 0 22 bk_88_0 := Sd.sq st_88_0 (Sd.sq st_88_1 (Sd.sq st_88_4 (Sd.sq st_88_6 (Sd.sq st_88_9 (Sd.sq st_88_10 (Sd.sq st_88_13 (Sd.sq st_88_15 (Sd.sq st_88_18 (st_88_19)))))))))
theorem dd_88_22 : decode (mi 88).2.1 22 = .ok (.iconst 0, 1) := by decide +kernel
theorem st_88_22 : Sd 88 22 1 (i_ic 0) := sd_iconst dd_88_22
def bk_88_22 : Tr := sq (i_ic 0) (i_fall 23)
theorem sb_88_22 : Sd 88 22 1 bk_88_22 := Sd.sq st_88_22 (sd_fall rfl)
theorem dd_88_23 : decode (mi 88).2.1 23 = .ok (.ireturn, 1) := by decide +kernel
theorem st_88_23 : Sd 88 23 1 (i_rI 2) := sd_ireturn dd_88_23 (by decide) mr_88
def bk_88_23 : Tr := i_rI 2
theorem sb_88_23 : Sd 88 23 1 bk_88_23 := st_88_23
theorem dd_89_0 : decode (mi 89).2.1 0 = .ok (.aload_n 0, 1) := by decide +kernel
theorem st_89_0 : Sd 89 0 1 (i_ldR 0) := sd_aload_n (j := 0) dd_89_0 rfl
theorem dd_89_1 : decode (mi 89).2.1 1 = .ok (.bipush 34, 2) := by decide +kernel
theorem st_89_1 : Sd 89 1 2 (i_ic 34) := sd_bipush dd_89_1 (by decide)
theorem dd_89_3 : decode (mi 89).2.1 3 = .ok (.invokevirtual 95, 3) := by decide +kernel
theorem st_89_3 : Sd 89 3 3 (i_cV [(3, 83)] 2 3 []) := sd_virt ⟨"ContractDesk$Reader", "expect", "(C)V"⟩ dd_89_3 (by rw [mc_89]; exact tw_612) (fun t j h => by simp only [List.mem_cons, List.not_mem_nil, or_false, Prod.mk.injEq] at h; obtain ⟨rfl, rfl⟩ := h; exact mn_83) (fun t j h => by simp only [List.mem_cons, List.not_mem_nil, or_false, Prod.mk.injEq] at h; obtain ⟨rfl, rfl⟩ := h; exact ⟨by rw [mn_83]; exact tw_614, by rw [mn_83]; exact tw_613, mt_83, by decide, by decide⟩) (by unfold prm; decide +kernel) ml_89 (HsOk.nil (by decide +kernel))
theorem dd_89_6 : decode (mi 89).2.1 6 = .ok (.aload_n 0, 1) := by decide +kernel
theorem st_89_6 : Sd 89 6 1 (i_ldR 0) := sd_aload_n (j := 0) dd_89_6 rfl
theorem dd_89_7 : decode (mi 89).2.1 7 = .ok (.invokevirtual 119, 3) := by decide +kernel
theorem st_89_7 : Sd 89 7 3 (i_cV [(3, 90)] 1 3 []) := sd_virt ⟨"ContractDesk$Reader", "letter", "()C"⟩ dd_89_7 (by rw [mc_89]; exact tw_635) (fun t j h => by simp only [List.mem_cons, List.not_mem_nil, or_false, Prod.mk.injEq] at h; obtain ⟨rfl, rfl⟩ := h; exact mn_90) (fun t j h => by simp only [List.mem_cons, List.not_mem_nil, or_false, Prod.mk.injEq] at h; obtain ⟨rfl, rfl⟩ := h; exact ⟨by rw [mn_90]; exact tw_637, by rw [mn_90]; exact tw_636, mt_90, by decide, by decide⟩) (by unfold prm; decide +kernel) ml_89 (HsOk.nil (by decide +kernel))
theorem dd_89_10 : decode (mi 89).2.1 10 = .ok (.istore_n 2, 1) := by decide +kernel
theorem st_89_10 : Sd 89 10 1 (i_stI 2) := sd_istore_n (j := 2) dd_89_10 rfl
theorem dd_89_11 : decode (mi 89).2.1 11 = .ok (.aload_n 0, 1) := by decide +kernel
theorem st_89_11 : Sd 89 11 1 (i_ldR 0) := sd_aload_n (j := 0) dd_89_11 rfl
theorem dd_89_12 : decode (mi 89).2.1 12 = .ok (.bipush 34, 2) := by decide +kernel
theorem st_89_12 : Sd 89 12 2 (i_ic 34) := sd_bipush dd_89_12 (by decide)
theorem dd_89_14 : decode (mi 89).2.1 14 = .ok (.invokevirtual 95, 3) := by decide +kernel
theorem st_89_14 : Sd 89 14 3 (i_cV [(3, 83)] 2 3 []) := sd_virt ⟨"ContractDesk$Reader", "expect", "(C)V"⟩ dd_89_14 (by rw [mc_89]; exact tw_612) (fun t j h => by simp only [List.mem_cons, List.not_mem_nil, or_false, Prod.mk.injEq] at h; obtain ⟨rfl, rfl⟩ := h; exact mn_83) (fun t j h => by simp only [List.mem_cons, List.not_mem_nil, or_false, Prod.mk.injEq] at h; obtain ⟨rfl, rfl⟩ := h; exact ⟨by rw [mn_83]; exact tw_614, by rw [mn_83]; exact tw_613, mt_83, by decide, by decide⟩) (by unfold prm; decide +kernel) ml_89 (HsOk.nil (by decide +kernel))
theorem dd_89_17 : decode (mi 89).2.1 17 = .ok (.aload_n 0, 1) := by decide +kernel
theorem st_89_17 : Sd 89 17 1 (i_ldR 0) := sd_aload_n (j := 0) dd_89_17 rfl
theorem dd_89_18 : decode (mi 89).2.1 18 = .ok (.bipush 58, 2) := by decide +kernel
theorem st_89_18 : Sd 89 18 2 (i_ic 58) := sd_bipush dd_89_18 (by decide)
theorem dd_89_20 : decode (mi 89).2.1 20 = .ok (.invokevirtual 95, 3) := by decide +kernel
theorem st_89_20 : Sd 89 20 3 (i_cV [(3, 83)] 2 3 []) := sd_virt ⟨"ContractDesk$Reader", "expect", "(C)V"⟩ dd_89_20 (by rw [mc_89]; exact tw_612) (fun t j h => by simp only [List.mem_cons, List.not_mem_nil, or_false, Prod.mk.injEq] at h; obtain ⟨rfl, rfl⟩ := h; exact mn_83) (fun t j h => by simp only [List.mem_cons, List.not_mem_nil, or_false, Prod.mk.injEq] at h; obtain ⟨rfl, rfl⟩ := h; exact ⟨by rw [mn_83]; exact tw_614, by rw [mn_83]; exact tw_613, mt_83, by decide, by decide⟩) (by unfold prm; decide +kernel) ml_89 (HsOk.nil (by decide +kernel))
theorem dd_89_23 : decode (mi 89).2.1 23 = .ok (.aload_n 1, 1) := by decide +kernel
theorem st_89_23 : Sd 89 23 1 (i_ldR 1) := sd_aload_n (j := 1) dd_89_23 rfl
theorem dd_89_24 : decode (mi 89).2.1 24 = .ok (.iload_n 2, 1) := by decide +kernel
theorem st_89_24 : Sd 89 24 1 (i_ldI 2) := sd_iload_n (j := 2) dd_89_24 rfl
theorem dd_89_25 : decode (mi 89).2.1 25 = .ok (.invokevirtual 146, 3) := by decide +kernel
theorem st_89_25 : Sd 89 25 3 (i_cV [(12, 65)] 2 3 []) := sd_virt ⟨"ContractDesk$Group", "find", "(C)LContractDesk$Value;"⟩ dd_89_25 (by rw [mc_89]; exact tw_866) (fun t j h => by simp only [List.mem_cons, List.not_mem_nil, or_false, Prod.mk.injEq] at h; obtain ⟨rfl, rfl⟩ := h; exact mn_65) (fun t j h => by simp only [List.mem_cons, List.not_mem_nil, or_false, Prod.mk.injEq] at h; obtain ⟨rfl, rfl⟩ := h; exact ⟨by rw [mn_65]; exact tw_868, by rw [mn_65]; exact tw_867, mt_65, by decide, by decide⟩) (by unfold prm; decide +kernel) ml_89 (HsOk.nil (by decide +kernel))
theorem dd_89_28 : decode (mi 89).2.1 28 = .ok (.ifnull 11, 3) := by decide +kernel
theorem st_89_28 : Sd 89 28 3 (i_nul 39) := sd_ifnull dd_89_28 (by decide)
theorem dd_89_31 : decode (mi 89).2.1 31 = .ok (.new 47, 3) := by decide +kernel
theorem st_89_31 : Sd 89 31 3 (i_new 17) := sd_new dd_89_31 (by rw [mc_89]; exact tw_624) (by exact tw_82) (by exact tw_181) (by decide) (by decide)
theorem dd_89_34 : decode (mi 89).2.1 34 = .ok (.dup, 1) := by decide +kernel
theorem st_89_34 : Sd 89 34 1 (i_dup) := sd_dup dd_89_34
theorem dd_89_35 : decode (mi 89).2.1 35 = .ok (.invokespecial 49, 3) := by decide +kernel
theorem st_89_35 : Sd 89 35 3 (i_exc 17 3) := sd_exc dd_89_35 (by decide) (by rw [mc_89]; exact tw_625) ml_89
theorem dd_89_38 : decode (mi 89).2.1 38 = .ok (.athrow, 1) := by decide +kernel
theorem st_89_38 : Sd 89 38 1 (i_throw) := sd_athrow dd_89_38 (by decide +kernel)
def bk_89_0 : Tr := sq (i_ldR 0) (sq (i_ic 34) (sq (i_cV [(3, 83)] 2 3 []) (sq (i_ldR 0) (sq (i_cV [(3, 90)] 1 3 []) (sq (i_stI 2) (sq (i_ldR 0) (sq (i_ic 34) (sq (i_cV [(3, 83)] 2 3 []) (sq (i_ldR 0) (sq (i_ic 58) (sq (i_cV [(3, 83)] 2 3 []) (sq (i_ldR 1) (sq (i_ldI 2) (sq (i_cV [(12, 65)] 2 3 []) (sq (i_nul 39) (sq (i_new 17) (sq (i_dup) (sq (i_exc 17 3) (i_throw)))))))))))))))))))
theorem sb_89_0 : Sd 89 0 39 bk_89_0 := Sd.sq st_89_0 (Sd.sq st_89_1 (Sd.sq st_89_3 (Sd.sq st_89_6 (Sd.sq st_89_7 (Sd.sq st_89_10 (Sd.sq st_89_11 (Sd.sq st_89_12 (Sd.sq st_89_14 (Sd.sq st_89_17 (Sd.sq st_89_18 (Sd.sq st_89_20 (Sd.sq st_89_23 (Sd.sq st_89_24 (Sd.sq st_89_25 (Sd.sq st_89_28 (Sd.sq st_89_31 (Sd.sq st_89_34 (Sd.sq st_89_35 (st_89_38)))))))))))))))))))
theorem dd_89_39 : decode (mi 89).2.1 39 = .ok (.iload_n 2, 1) := by decide +kernel
theorem st_89_39 : Sd 89 39 1 (i_ldI 2) := sd_iload_n (j := 2) dd_89_39 rfl
theorem dd_89_40 : decode (mi 89).2.1 40 = .ok (.ireturn, 1) := by decide +kernel
theorem st_89_40 : Sd 89 40 1 (i_rI 1) := sd_ireturn dd_89_40 (by decide) mr_89
def bk_89_39 : Tr := sq (i_ldI 2) (i_rI 1)
theorem sb_89_39 : Sd 89 39 2 bk_89_39 := Sd.sq st_89_39 (st_89_40)
theorem dd_90_0 : decode (mi 90).2.1 0 = .ok (.aload_n 0, 1) := by decide +kernel
theorem st_90_0 : Sd 90 0 1 (i_ldR 0) := sd_aload_n (j := 0) dd_90_0 rfl
theorem dd_90_1 : decode (mi 90).2.1 1 = .ok (.invokevirtual 39, 3) := by decide +kernel
theorem st_90_1 : Sd 90 1 3 (i_cV [(3, 85)] 1 2 []) := sd_virt ⟨"ContractDesk$Reader", "here", "()C"⟩ dd_90_1 (by rw [mc_90]; exact tw_620) (fun t j h => by simp only [List.mem_cons, List.not_mem_nil, or_false, Prod.mk.injEq] at h; obtain ⟨rfl, rfl⟩ := h; exact mn_85) (fun t j h => by simp only [List.mem_cons, List.not_mem_nil, or_false, Prod.mk.injEq] at h; obtain ⟨rfl, rfl⟩ := h; exact ⟨by rw [mn_85]; exact tw_622, by rw [mn_85]; exact tw_621, mt_85, by decide, by decide⟩) (by unfold prm; decide +kernel) ml_90 (HsOk.nil (by decide +kernel))
theorem dd_90_4 : decode (mi 90).2.1 4 = .ok (.istore_n 1, 1) := by decide +kernel
theorem st_90_4 : Sd 90 4 1 (i_stI 1) := sd_istore_n (j := 1) dd_90_4 rfl
theorem dd_90_5 : decode (mi 90).2.1 5 = .ok (.iload_n 1, 1) := by decide +kernel
theorem st_90_5 : Sd 90 5 1 (i_ldI 1) := sd_iload_n (j := 1) dd_90_5 rfl
theorem dd_90_6 : decode (mi 90).2.1 6 = .ok (.bipush 97, 2) := by decide +kernel
theorem st_90_6 : Sd 90 6 2 (i_ic 97) := sd_bipush dd_90_6 (by decide)
theorem dd_90_8 : decode (mi 90).2.1 8 = .ok (.if_icmp .lt 9, 3) := by decide +kernel
theorem st_90_8 : Sd 90 8 3 (i_clt 17) := sd_icmp_lt dd_90_8 (by decide)
theorem dd_90_11 : decode (mi 90).2.1 11 = .ok (.iload_n 1, 1) := by decide +kernel
theorem st_90_11 : Sd 90 11 1 (i_ldI 1) := sd_iload_n (j := 1) dd_90_11 rfl
theorem dd_90_12 : decode (mi 90).2.1 12 = .ok (.bipush 122, 2) := by decide +kernel
theorem st_90_12 : Sd 90 12 2 (i_ic 122) := sd_bipush dd_90_12 (by decide)
theorem dd_90_14 : decode (mi 90).2.1 14 = .ok (.if_icmp .le 11, 3) := by decide +kernel
theorem st_90_14 : Sd 90 14 3 (i_cle 25) := sd_icmp_le dd_90_14 (by decide)
def bk_90_0 : Tr := sq (i_ldR 0) (sq (i_cV [(3, 85)] 1 2 []) (sq (i_stI 1) (sq (i_ldI 1) (sq (i_ic 97) (sq (i_clt 17) (sq (i_ldI 1) (sq (i_ic 122) (sq (i_cle 25) (i_fall 17)))))))))
theorem sb_90_0 : Sd 90 0 17 bk_90_0 := Sd.sq st_90_0 (Sd.sq st_90_1 (Sd.sq st_90_4 (Sd.sq st_90_5 (Sd.sq st_90_6 (Sd.sq st_90_8 (Sd.sq st_90_11 (Sd.sq st_90_12 (Sd.sq st_90_14 (sd_fall rfl)))))))))
theorem dd_90_17 : decode (mi 90).2.1 17 = .ok (.new 47, 3) := by decide +kernel
theorem st_90_17 : Sd 90 17 3 (i_new 17) := sd_new dd_90_17 (by rw [mc_90]; exact tw_624) (by exact tw_82) (by exact tw_181) (by decide) (by decide)
theorem dd_90_20 : decode (mi 90).2.1 20 = .ok (.dup, 1) := by decide +kernel
theorem st_90_20 : Sd 90 20 1 (i_dup) := sd_dup dd_90_20
theorem dd_90_21 : decode (mi 90).2.1 21 = .ok (.invokespecial 49, 3) := by decide +kernel
theorem st_90_21 : Sd 90 21 3 (i_exc 17 2) := sd_exc dd_90_21 (by decide) (by rw [mc_90]; exact tw_625) ml_90
theorem dd_90_24 : decode (mi 90).2.1 24 = .ok (.athrow, 1) := by decide +kernel
theorem st_90_24 : Sd 90 24 1 (i_throw) := sd_athrow dd_90_24 (by decide +kernel)
def bk_90_17 : Tr := sq (i_new 17) (sq (i_dup) (sq (i_exc 17 2) (i_throw)))
theorem sb_90_17 : Sd 90 17 8 bk_90_17 := Sd.sq st_90_17 (Sd.sq st_90_20 (Sd.sq st_90_21 (st_90_24)))
theorem dd_90_25 : decode (mi 90).2.1 25 = .ok (.aload_n 0, 1) := by decide +kernel
theorem st_90_25 : Sd 90 25 1 (i_ldR 0) := sd_aload_n (j := 0) dd_90_25 rfl
theorem dd_90_26 : decode (mi 90).2.1 26 = .ok (.dup, 1) := by decide +kernel
theorem st_90_26 : Sd 90 26 1 (i_dup) := sd_dup dd_90_26
theorem dd_90_27 : decode (mi 90).2.1 27 = .ok (.getfield 35, 3) := by decide +kernel
theorem st_90_27 : Sd 90 27 3 (i_gI 1 [3]) := sd_gI (ref := "ContractDesk$Reader") (decl := "ContractDesk$Reader") (name := "at") (desc := "I") dd_90_27 (by rw [mc_90]; exact tw_158) (Or.inl rfl) (by decide +kernel)
theorem dd_90_30 : decode (mi 90).2.1 30 = .ok (.iconst 1, 1) := by decide +kernel
theorem st_90_30 : Sd 90 30 1 (i_ic 1) := sd_iconst dd_90_30
theorem dd_90_31 : decode (mi 90).2.1 31 = .ok (.iadd, 1) := by decide +kernel
theorem st_90_31 : Sd 90 31 1 (i_iadd) := sd_iadd dd_90_31
theorem dd_90_32 : decode (mi 90).2.1 32 = .ok (.putfield 35, 3) := by decide +kernel
theorem st_90_32 : Sd 90 32 3 (i_pI 1 [3] 0) := sd_pI (ref := "ContractDesk$Reader") (decl := "ContractDesk$Reader") (name := "at") (desc := "I") dd_90_32 (by rw [mc_90]; exact tw_158) (Or.inl rfl) (by decide +kernel) (by decide +kernel) (by decide)
theorem dd_90_35 : decode (mi 90).2.1 35 = .ok (.iload_n 1, 1) := by decide +kernel
theorem st_90_35 : Sd 90 35 1 (i_ldI 1) := sd_iload_n (j := 1) dd_90_35 rfl
theorem dd_90_36 : decode (mi 90).2.1 36 = .ok (.ireturn, 1) := by decide +kernel
theorem st_90_36 : Sd 90 36 1 (i_rI 1) := sd_ireturn dd_90_36 (by decide) mr_90
def bk_90_25 : Tr := sq (i_ldR 0) (sq (i_dup) (sq (i_gI 1 [3]) (sq (i_ic 1) (sq (i_iadd) (sq (i_pI 1 [3] 0) (sq (i_ldI 1) (i_rI 1)))))))
theorem sb_90_25 : Sd 90 25 12 bk_90_25 := Sd.sq st_90_25 (Sd.sq st_90_26 (Sd.sq st_90_27 (Sd.sq st_90_30 (Sd.sq st_90_31 (Sd.sq st_90_32 (Sd.sq st_90_35 (st_90_36)))))))
theorem dd_91_0 : decode (mi 91).2.1 0 = .ok (.aload_n 0, 1) := by decide +kernel
theorem st_91_0 : Sd 91 0 1 (i_ldR 0) := sd_aload_n (j := 0) dd_91_0 rfl
theorem dd_91_1 : decode (mi 91).2.1 1 = .ok (.invokevirtual 39, 3) := by decide +kernel
theorem st_91_1 : Sd 91 1 3 (i_cV [(3, 85)] 1 2 []) := sd_virt ⟨"ContractDesk$Reader", "here", "()C"⟩ dd_91_1 (by rw [mc_91]; exact tw_620) (fun t j h => by simp only [List.mem_cons, List.not_mem_nil, or_false, Prod.mk.injEq] at h; obtain ⟨rfl, rfl⟩ := h; exact mn_85) (fun t j h => by simp only [List.mem_cons, List.not_mem_nil, or_false, Prod.mk.injEq] at h; obtain ⟨rfl, rfl⟩ := h; exact ⟨by rw [mn_85]; exact tw_622, by rw [mn_85]; exact tw_621, mt_85, by decide, by decide⟩) (by unfold prm; decide +kernel) ml_91 (HsOk.nil (by decide +kernel))
theorem dd_91_4 : decode (mi 91).2.1 4 = .ok (.istore_n 1, 1) := by decide +kernel
theorem st_91_4 : Sd 91 4 1 (i_stI 1) := sd_istore_n (j := 1) dd_91_4 rfl
theorem dd_91_5 : decode (mi 91).2.1 5 = .ok (.aload_n 0, 1) := by decide +kernel
theorem st_91_5 : Sd 91 5 1 (i_ldR 0) := sd_aload_n (j := 0) dd_91_5 rfl
theorem dd_91_6 : decode (mi 91).2.1 6 = .ok (.dup, 1) := by decide +kernel
theorem st_91_6 : Sd 91 6 1 (i_dup) := sd_dup dd_91_6
theorem dd_91_7 : decode (mi 91).2.1 7 = .ok (.getfield 35, 3) := by decide +kernel
theorem st_91_7 : Sd 91 7 3 (i_gI 1 [3]) := sd_gI (ref := "ContractDesk$Reader") (decl := "ContractDesk$Reader") (name := "at") (desc := "I") dd_91_7 (by rw [mc_91]; exact tw_158) (Or.inl rfl) (by decide +kernel)
theorem dd_91_10 : decode (mi 91).2.1 10 = .ok (.iconst 1, 1) := by decide +kernel
theorem st_91_10 : Sd 91 10 1 (i_ic 1) := sd_iconst dd_91_10
theorem dd_91_11 : decode (mi 91).2.1 11 = .ok (.iadd, 1) := by decide +kernel
theorem st_91_11 : Sd 91 11 1 (i_iadd) := sd_iadd dd_91_11
theorem dd_91_12 : decode (mi 91).2.1 12 = .ok (.putfield 35, 3) := by decide +kernel
theorem st_91_12 : Sd 91 12 3 (i_pI 1 [3] 0) := sd_pI (ref := "ContractDesk$Reader") (decl := "ContractDesk$Reader") (name := "at") (desc := "I") dd_91_12 (by rw [mc_91]; exact tw_158) (Or.inl rfl) (by decide +kernel) (by decide +kernel) (by decide)
theorem dd_91_15 : decode (mi 91).2.1 15 = .ok (.iload_n 1, 1) := by decide +kernel
theorem st_91_15 : Sd 91 15 1 (i_ldI 1) := sd_iload_n (j := 1) dd_91_15 rfl
theorem dd_91_16 : decode (mi 91).2.1 16 = .ok (.lookupswitch 118 #[(47, 113), (48, 76), (60, 85), (61, 76), (62, 85), (105, 76), (116, 76), (126, 108)], 76) := by decide +kernel
theorem st_91_16 : Sd 91 16 76 (i_lsw 134 [(47, 129), (48, 92), (60, 101), (61, 92), (62, 101), (105, 92), (116, 92), (126, 124)]) := sd_lsw dd_91_16 (by decide) (by decide) (by decide)
def bk_91_0 : Tr := sq (i_ldR 0) (sq (i_cV [(3, 85)] 1 2 []) (sq (i_stI 1) (sq (i_ldR 0) (sq (i_dup) (sq (i_gI 1 [3]) (sq (i_ic 1) (sq (i_iadd) (sq (i_pI 1 [3] 0) (sq (i_ldI 1) (i_lsw 134 [(47, 129), (48, 92), (60, 101), (61, 92), (62, 101), (105, 92), (116, 92), (126, 124)]))))))))))
theorem sb_91_0 : Sd 91 0 92 bk_91_0 := Sd.sq st_91_0 (Sd.sq st_91_1 (Sd.sq st_91_4 (Sd.sq st_91_5 (Sd.sq st_91_6 (Sd.sq st_91_7 (Sd.sq st_91_10 (Sd.sq st_91_11 (Sd.sq st_91_12 (Sd.sq st_91_15 (st_91_16))))))))))
theorem dd_91_92 : decode (mi 91).2.1 92 = .ok (.new 177, 3) := by decide +kernel
theorem st_91_92 : Sd 91 92 3 (i_new 6) := sd_new dd_91_92 (by rw [mc_91]; exact tw_1050) (by exact tw_103) (by exact tw_1051) (by decide) (by decide)
theorem dd_91_95 : decode (mi 91).2.1 95 = .ok (.dup, 1) := by decide +kernel
theorem st_91_95 : Sd 91 95 1 (i_dup) := sd_dup dd_91_95
theorem dd_91_96 : decode (mi 91).2.1 96 = .ok (.iload_n 1, 1) := by decide +kernel
theorem st_91_96 : Sd 91 96 1 (i_ldI 1) := sd_iload_n (j := 1) dd_91_96 rfl
theorem dd_91_97 : decode (mi 91).2.1 97 = .ok (.invokespecial 179, 3) := by decide +kernel
theorem st_91_97 : Sd 91 97 3 (i_cI 114 2 2 []) := sd_init dd_91_97 (by rw [mc_91, mn_114]; exact tw_1052) (by rw [mn_114]; exact tw_1053) mt_114 pm_114 (by rw [mn_114]) (by decide +kernel) ml_91 (HsOk.nil (by decide +kernel))
theorem dd_91_100 : decode (mi 91).2.1 100 = .ok (.areturn, 1) := by decide +kernel
theorem st_91_100 : Sd 91 100 1 (i_rR) := sd_areturn dd_91_100 mr_91 (Or.inl ⟨_, rfl⟩)
def bk_91_92 : Tr := sq (i_new 6) (sq (i_dup) (sq (i_ldI 1) (sq (i_cI 114 2 2 []) (i_rR))))
theorem sb_91_92 : Sd 91 92 9 bk_91_92 := Sd.sq st_91_92 (Sd.sq st_91_95 (Sd.sq st_91_96 (Sd.sq st_91_97 (st_91_100))))
theorem dd_91_101 : decode (mi 91).2.1 101 = .ok (.new 181, 3) := by decide +kernel
theorem st_91_101 : Sd 91 101 3 (i_new 7) := sd_new dd_91_101 (by rw [mc_91]; exact tw_1066) (by exact tw_104) (by exact tw_1067) (by decide) (by decide)
theorem dd_91_104 : decode (mi 91).2.1 104 = .ok (.dup, 1) := by decide +kernel
theorem st_91_104 : Sd 91 104 1 (i_dup) := sd_dup dd_91_104
theorem dd_91_105 : decode (mi 91).2.1 105 = .ok (.iload_n 1, 1) := by decide +kernel
theorem st_91_105 : Sd 91 105 1 (i_ldI 1) := sd_iload_n (j := 1) dd_91_105 rfl
theorem dd_91_106 : decode (mi 91).2.1 106 = .ok (.bipush 60, 2) := by decide +kernel
theorem st_91_106 : Sd 91 106 2 (i_ic 60) := sd_bipush dd_91_106 (by decide)
theorem dd_91_108 : decode (mi 91).2.1 108 = .ok (.if_icmp .ne 7, 3) := by decide +kernel
theorem st_91_108 : Sd 91 108 3 (i_cne 115) := sd_icmp_ne dd_91_108 (by decide)
theorem dd_91_111 : decode (mi 91).2.1 111 = .ok (.iconst 1, 1) := by decide +kernel
theorem st_91_111 : Sd 91 111 1 (i_ic 1) := sd_iconst dd_91_111
theorem dd_91_112 : decode (mi 91).2.1 112 = .ok (.goto 4, 3) := by decide +kernel
theorem st_91_112 : Sd 91 112 3 (i_goto 116) := sd_goto dd_91_112 (by decide)
def bk_91_101 : Tr := sq (i_new 7) (sq (i_dup) (sq (i_ldI 1) (sq (i_ic 60) (sq (i_cne 115) (sq (i_ic 1) (i_goto 116))))))
theorem sb_91_101 : Sd 91 101 14 bk_91_101 := Sd.sq st_91_101 (Sd.sq st_91_104 (Sd.sq st_91_105 (Sd.sq st_91_106 (Sd.sq st_91_108 (Sd.sq st_91_111 (st_91_112))))))
theorem dd_91_115 : decode (mi 91).2.1 115 = .ok (.iconst 0, 1) := by decide +kernel
theorem st_91_115 : Sd 91 115 1 (i_ic 0) := sd_iconst dd_91_115
def bk_91_115 : Tr := sq (i_ic 0) (i_fall 116)
theorem sb_91_115 : Sd 91 115 1 bk_91_115 := Sd.sq st_91_115 (sd_fall rfl)
theorem dd_91_116 : decode (mi 91).2.1 116 = .ok (.aload_n 0, 1) := by decide +kernel
theorem st_91_116 : Sd 91 116 1 (i_ldR 0) := sd_aload_n (j := 0) dd_91_116 rfl
theorem dd_91_117 : decode (mi 91).2.1 117 = .ok (.invokevirtual 104, 3) := by decide +kernel
theorem st_91_117 : Sd 91 117 3 (i_cV [(3, 80)] 1 2 []) := sd_virt ⟨"ContractDesk$Reader", "digit", "()I"⟩ dd_91_117 (by rw [mc_91]; exact tw_643) (fun t j h => by simp only [List.mem_cons, List.not_mem_nil, or_false, Prod.mk.injEq] at h; obtain ⟨rfl, rfl⟩ := h; exact mn_80) (fun t j h => by simp only [List.mem_cons, List.not_mem_nil, or_false, Prod.mk.injEq] at h; obtain ⟨rfl, rfl⟩ := h; exact ⟨by rw [mn_80]; exact tw_645, by rw [mn_80]; exact tw_644, mt_80, by decide, by decide⟩) (by unfold prm; decide +kernel) ml_91 (HsOk.nil (by decide +kernel))
theorem dd_91_120 : decode (mi 91).2.1 120 = .ok (.invokespecial 183, 3) := by decide +kernel
theorem st_91_120 : Sd 91 120 3 (i_cI 59 3 2 []) := sd_init dd_91_120 (by rw [mc_91, mn_59]; exact tw_1068) (by rw [mn_59]; exact tw_1069) mt_59 pm_59 (by rw [mn_59]) (by decide +kernel) ml_91 (HsOk.nil (by decide +kernel))
theorem dd_91_123 : decode (mi 91).2.1 123 = .ok (.areturn, 1) := by decide +kernel
theorem st_91_123 : Sd 91 123 1 (i_rR) := sd_areturn dd_91_123 mr_91 (Or.inl ⟨_, rfl⟩)
def bk_91_116 : Tr := sq (i_ldR 0) (sq (i_cV [(3, 80)] 1 2 []) (sq (i_cI 59 3 2 []) (i_rR)))
theorem sb_91_116 : Sd 91 116 8 bk_91_116 := Sd.sq st_91_116 (Sd.sq st_91_117 (Sd.sq st_91_120 (st_91_123)))
theorem dd_91_124 : decode (mi 91).2.1 124 = .ok (.aload_n 0, 1) := by decide +kernel
theorem st_91_124 : Sd 91 124 1 (i_ldR 0) := sd_aload_n (j := 0) dd_91_124 rfl
theorem dd_91_125 : decode (mi 91).2.1 125 = .ok (.invokevirtual 186, 3) := by decide +kernel
theorem st_91_125 : Sd 91 125 3 (i_cV [(3, 86)] 1 2 []) := sd_virt ⟨"ContractDesk$Reader", "inside", "()LContractDesk$Matcher;"⟩ dd_91_125 (by rw [mc_91]; exact tw_1080) (fun t j h => by simp only [List.mem_cons, List.not_mem_nil, or_false, Prod.mk.injEq] at h; obtain ⟨rfl, rfl⟩ := h; exact mn_86) (fun t j h => by simp only [List.mem_cons, List.not_mem_nil, or_false, Prod.mk.injEq] at h; obtain ⟨rfl, rfl⟩ := h; exact ⟨by rw [mn_86]; exact tw_15, by rw [mn_86]; exact tw_1082, mt_86, by decide, by decide⟩) (by unfold prm; decide +kernel) ml_91 (HsOk.nil (by decide +kernel))
theorem dd_91_128 : decode (mi 91).2.1 128 = .ok (.areturn, 1) := by decide +kernel
theorem st_91_128 : Sd 91 128 1 (i_rR) := sd_areturn dd_91_128 mr_91 (Or.inl ⟨_, rfl⟩)
def bk_91_124 : Tr := sq (i_ldR 0) (sq (i_cV [(3, 86)] 1 2 []) (i_rR))
theorem sb_91_124 : Sd 91 124 5 bk_91_124 := Sd.sq st_91_124 (Sd.sq st_91_125 (st_91_128))
theorem dd_91_129 : decode (mi 91).2.1 129 = .ok (.aload_n 0, 1) := by decide +kernel
theorem st_91_129 : Sd 91 129 1 (i_ldR 0) := sd_aload_n (j := 0) dd_91_129 rfl
theorem dd_91_130 : decode (mi 91).2.1 130 = .ok (.invokevirtual 189, 3) := by decide +kernel
theorem st_91_130 : Sd 91 130 3 (i_cV [(3, 96)] 1 2 []) := sd_virt ⟨"ContractDesk$Reader", "shape", "()LContractDesk$Matcher;"⟩ dd_91_130 (by rw [mc_91]; exact tw_1098) (fun t j h => by simp only [List.mem_cons, List.not_mem_nil, or_false, Prod.mk.injEq] at h; obtain ⟨rfl, rfl⟩ := h; exact mn_96) (fun t j h => by simp only [List.mem_cons, List.not_mem_nil, or_false, Prod.mk.injEq] at h; obtain ⟨rfl, rfl⟩ := h; exact ⟨by rw [mn_96]; exact tw_16, by rw [mn_96]; exact tw_1100, mt_96, by decide, by decide⟩) (by unfold prm; decide +kernel) ml_91 (HsOk.nil (by decide +kernel))
theorem dd_91_133 : decode (mi 91).2.1 133 = .ok (.areturn, 1) := by decide +kernel
theorem st_91_133 : Sd 91 133 1 (i_rR) := sd_areturn dd_91_133 mr_91 (Or.inl ⟨_, rfl⟩)
def bk_91_129 : Tr := sq (i_ldR 0) (sq (i_cV [(3, 96)] 1 2 []) (i_rR))
theorem sb_91_129 : Sd 91 129 5 bk_91_129 := Sd.sq st_91_129 (Sd.sq st_91_130 (st_91_133))
theorem dd_91_134 : decode (mi 91).2.1 134 = .ok (.new 47, 3) := by decide +kernel
theorem st_91_134 : Sd 91 134 3 (i_new 17) := sd_new dd_91_134 (by rw [mc_91]; exact tw_624) (by exact tw_82) (by exact tw_181) (by decide) (by decide)
theorem dd_91_137 : decode (mi 91).2.1 137 = .ok (.dup, 1) := by decide +kernel
theorem st_91_137 : Sd 91 137 1 (i_dup) := sd_dup dd_91_137
theorem dd_91_138 : decode (mi 91).2.1 138 = .ok (.invokespecial 49, 3) := by decide +kernel
theorem st_91_138 : Sd 91 138 3 (i_exc 17 2) := sd_exc dd_91_138 (by decide) (by rw [mc_91]; exact tw_625) ml_91
theorem dd_91_141 : decode (mi 91).2.1 141 = .ok (.athrow, 1) := by decide +kernel
theorem st_91_141 : Sd 91 141 1 (i_throw) := sd_athrow dd_91_141 (by decide +kernel)
def bk_91_134 : Tr := sq (i_new 17) (sq (i_dup) (sq (i_exc 17 2) (i_throw)))
theorem sb_91_134 : Sd 91 134 8 bk_91_134 := Sd.sq st_91_134 (Sd.sq st_91_137 (Sd.sq st_91_138 (st_91_141)))
theorem dd_92_0 : decode (mi 92).2.1 0 = .ok (.aload_n 0, 1) := by decide +kernel
theorem st_92_0 : Sd 92 0 1 (i_ldR 0) := sd_aload_n (j := 0) dd_92_0 rfl
theorem dd_92_1 : decode (mi 92).2.1 1 = .ok (.bipush 45, 2) := by decide +kernel
theorem st_92_1 : Sd 92 1 2 (i_ic 45) := sd_bipush dd_92_1 (by decide)
theorem dd_92_3 : decode (mi 92).2.1 3 = .ok (.invokevirtual 43, 3) := by decide +kernel
theorem st_92_3 : Sd 92 3 3 (i_cV [(3, 98)] 2 5 []) := sd_virt ⟨"ContractDesk$Reader", "takes", "(C)Z"⟩ dd_92_3 (by rw [mc_92]; exact tw_616) (fun t j h => by simp only [List.mem_cons, List.not_mem_nil, or_false, Prod.mk.injEq] at h; obtain ⟨rfl, rfl⟩ := h; exact mn_98) (fun t j h => by simp only [List.mem_cons, List.not_mem_nil, or_false, Prod.mk.injEq] at h; obtain ⟨rfl, rfl⟩ := h; exact ⟨by rw [mn_98]; exact tw_618, by rw [mn_98]; exact tw_617, mt_98, by decide, by decide⟩) (by unfold prm; decide +kernel) ml_92 (HsOk.nil (by decide +kernel))
theorem dd_92_6 : decode (mi 92).2.1 6 = .ok (.istore_n 1, 1) := by decide +kernel
theorem st_92_6 : Sd 92 6 1 (i_stI 1) := sd_istore_n (j := 1) dd_92_6 rfl
theorem dd_92_7 : decode (mi 92).2.1 7 = .ok (.aload_n 0, 1) := by decide +kernel
theorem st_92_7 : Sd 92 7 1 (i_ldR 0) := sd_aload_n (j := 0) dd_92_7 rfl
theorem dd_92_8 : decode (mi 92).2.1 8 = .ok (.invokevirtual 104, 3) := by decide +kernel
theorem st_92_8 : Sd 92 8 3 (i_cV [(3, 80)] 1 5 []) := sd_virt ⟨"ContractDesk$Reader", "digit", "()I"⟩ dd_92_8 (by rw [mc_92]; exact tw_643) (fun t j h => by simp only [List.mem_cons, List.not_mem_nil, or_false, Prod.mk.injEq] at h; obtain ⟨rfl, rfl⟩ := h; exact mn_80) (fun t j h => by simp only [List.mem_cons, List.not_mem_nil, or_false, Prod.mk.injEq] at h; obtain ⟨rfl, rfl⟩ := h; exact ⟨by rw [mn_80]; exact tw_645, by rw [mn_80]; exact tw_644, mt_80, by decide, by decide⟩) (by unfold prm; decide +kernel) ml_92 (HsOk.nil (by decide +kernel))
theorem dd_92_11 : decode (mi 92).2.1 11 = .ok (.istore_n 2, 1) := by decide +kernel
theorem st_92_11 : Sd 92 11 1 (i_stI 2) := sd_istore_n (j := 2) dd_92_11 rfl
theorem dd_92_12 : decode (mi 92).2.1 12 = .ok (.iload_n 2, 1) := by decide +kernel
theorem st_92_12 : Sd 92 12 1 (i_ldI 2) := sd_iload_n (j := 2) dd_92_12 rfl
theorem dd_92_13 : decode (mi 92).2.1 13 = .ok (.ifCond .ne 15, 3) := by decide +kernel
theorem st_92_13 : Sd 92 13 3 (i_zne 28) := sd_if_ne dd_92_13 (by decide)
theorem dd_92_16 : decode (mi 92).2.1 16 = .ok (.iload_n 1, 1) := by decide +kernel
theorem st_92_16 : Sd 92 16 1 (i_ldI 1) := sd_iload_n (j := 1) dd_92_16 rfl
theorem dd_92_17 : decode (mi 92).2.1 17 = .ok (.ifCond .eq 11, 3) := by decide +kernel
theorem st_92_17 : Sd 92 17 3 (i_zeq 28) := sd_if_eq dd_92_17 (by decide)
theorem dd_92_20 : decode (mi 92).2.1 20 = .ok (.new 47, 3) := by decide +kernel
theorem st_92_20 : Sd 92 20 3 (i_new 17) := sd_new dd_92_20 (by rw [mc_92]; exact tw_624) (by exact tw_82) (by exact tw_181) (by decide) (by decide)
theorem dd_92_23 : decode (mi 92).2.1 23 = .ok (.dup, 1) := by decide +kernel
theorem st_92_23 : Sd 92 23 1 (i_dup) := sd_dup dd_92_23
theorem dd_92_24 : decode (mi 92).2.1 24 = .ok (.invokespecial 49, 3) := by decide +kernel
theorem st_92_24 : Sd 92 24 3 (i_exc 17 5) := sd_exc dd_92_24 (by decide) (by rw [mc_92]; exact tw_625) ml_92
theorem dd_92_27 : decode (mi 92).2.1 27 = .ok (.athrow, 1) := by decide +kernel
theorem st_92_27 : Sd 92 27 1 (i_throw) := sd_athrow dd_92_27 (by decide +kernel)
def bk_92_0 : Tr := sq (i_ldR 0) (sq (i_ic 45) (sq (i_cV [(3, 98)] 2 5 []) (sq (i_stI 1) (sq (i_ldR 0) (sq (i_cV [(3, 80)] 1 5 []) (sq (i_stI 2) (sq (i_ldI 2) (sq (i_zne 28) (sq (i_ldI 1) (sq (i_zeq 28) (sq (i_new 17) (sq (i_dup) (sq (i_exc 17 5) (i_throw))))))))))))))
theorem sb_92_0 : Sd 92 0 28 bk_92_0 := Sd.sq st_92_0 (Sd.sq st_92_1 (Sd.sq st_92_3 (Sd.sq st_92_6 (Sd.sq st_92_7 (Sd.sq st_92_8 (Sd.sq st_92_11 (Sd.sq st_92_12 (Sd.sq st_92_13 (Sd.sq st_92_16 (Sd.sq st_92_17 (Sd.sq st_92_20 (Sd.sq st_92_23 (Sd.sq st_92_24 (st_92_27))))))))))))))
theorem dd_92_28 : decode (mi 92).2.1 28 = .ok (.iload_n 2, 1) := by decide +kernel
theorem st_92_28 : Sd 92 28 1 (i_ldI 2) := sd_iload_n (j := 2) dd_92_28 rfl
theorem dd_92_29 : decode (mi 92).2.1 29 = .ok (.istore_n 3, 1) := by decide +kernel
theorem st_92_29 : Sd 92 29 1 (i_stI 3) := sd_istore_n (j := 3) dd_92_29 rfl
theorem dd_92_30 : decode (mi 92).2.1 30 = .ok (.iconst 0, 1) := by decide +kernel
theorem st_92_30 : Sd 92 30 1 (i_ic 0) := sd_iconst dd_92_30
theorem dd_92_31 : decode (mi 92).2.1 31 = .ok (.istore 4, 2) := by decide +kernel
theorem st_92_31 : Sd 92 31 2 (i_stI 4) := sd_istore dd_92_31
def bk_92_28 : Tr := sq (i_ldI 2) (sq (i_stI 3) (sq (i_ic 0) (sq (i_stI 4) (i_fall 33))))
theorem sb_92_28 : Sd 92 28 5 bk_92_28 := Sd.sq st_92_28 (Sd.sq st_92_29 (Sd.sq st_92_30 (Sd.sq st_92_31 (sd_fall rfl))))
theorem dd_92_33 : decode (mi 92).2.1 33 = .ok (.iload 4, 2) := by decide +kernel
theorem st_92_33 : Sd 92 33 2 (i_ldI 4) := sd_iload dd_92_33
theorem dd_92_35 : decode (mi 92).2.1 35 = .ok (.iconst 4, 1) := by decide +kernel
theorem st_92_35 : Sd 92 35 1 (i_ic 4) := sd_iconst dd_92_35
theorem dd_92_36 : decode (mi 92).2.1 36 = .ok (.if_icmp .ge 30, 3) := by decide +kernel
theorem st_92_36 : Sd 92 36 3 (i_cge 66) := sd_icmp_ge dd_92_36 (by decide)
theorem dd_92_39 : decode (mi 92).2.1 39 = .ok (.iload_n 2, 1) := by decide +kernel
theorem st_92_39 : Sd 92 39 1 (i_ldI 2) := sd_iload_n (j := 2) dd_92_39 rfl
theorem dd_92_40 : decode (mi 92).2.1 40 = .ok (.ifCond .le 26, 3) := by decide +kernel
theorem st_92_40 : Sd 92 40 3 (i_zle 66) := sd_if_le dd_92_40 (by decide)
theorem dd_92_43 : decode (mi 92).2.1 43 = .ok (.aload_n 0, 1) := by decide +kernel
theorem st_92_43 : Sd 92 43 1 (i_ldR 0) := sd_aload_n (j := 0) dd_92_43 rfl
theorem dd_92_44 : decode (mi 92).2.1 44 = .ok (.invokevirtual 50, 3) := by decide +kernel
theorem st_92_44 : Sd 92 44 3 (i_cV [(3, 87)] 1 5 []) := sd_virt ⟨"ContractDesk$Reader", "isDigit", "()Z"⟩ dd_92_44 (by rw [mc_92]; exact tw_647) (fun t j h => by simp only [List.mem_cons, List.not_mem_nil, or_false, Prod.mk.injEq] at h; obtain ⟨rfl, rfl⟩ := h; exact mn_87) (fun t j h => by simp only [List.mem_cons, List.not_mem_nil, or_false, Prod.mk.injEq] at h; obtain ⟨rfl, rfl⟩ := h; exact ⟨by rw [mn_87]; exact tw_649, by rw [mn_87]; exact tw_648, mt_87, by decide, by decide⟩) (by unfold prm; decide +kernel) ml_92 (HsOk.nil (by decide +kernel))
theorem dd_92_47 : decode (mi 92).2.1 47 = .ok (.ifCond .eq 19, 3) := by decide +kernel
theorem st_92_47 : Sd 92 47 3 (i_zeq 66) := sd_if_eq dd_92_47 (by decide)
theorem dd_92_50 : decode (mi 92).2.1 50 = .ok (.bipush 10, 2) := by decide +kernel
theorem st_92_50 : Sd 92 50 2 (i_ic 10) := sd_bipush dd_92_50 (by decide)
theorem dd_92_52 : decode (mi 92).2.1 52 = .ok (.iload_n 3, 1) := by decide +kernel
theorem st_92_52 : Sd 92 52 1 (i_ldI 3) := sd_iload_n (j := 3) dd_92_52 rfl
theorem dd_92_53 : decode (mi 92).2.1 53 = .ok (.imul, 1) := by decide +kernel
theorem st_92_53 : Sd 92 53 1 (i_imul) := sd_imul dd_92_53
theorem dd_92_54 : decode (mi 92).2.1 54 = .ok (.aload_n 0, 1) := by decide +kernel
theorem st_92_54 : Sd 92 54 1 (i_ldR 0) := sd_aload_n (j := 0) dd_92_54 rfl
theorem dd_92_55 : decode (mi 92).2.1 55 = .ok (.invokevirtual 104, 3) := by decide +kernel
theorem st_92_55 : Sd 92 55 3 (i_cV [(3, 80)] 1 5 []) := sd_virt ⟨"ContractDesk$Reader", "digit", "()I"⟩ dd_92_55 (by rw [mc_92]; exact tw_643) (fun t j h => by simp only [List.mem_cons, List.not_mem_nil, or_false, Prod.mk.injEq] at h; obtain ⟨rfl, rfl⟩ := h; exact mn_80) (fun t j h => by simp only [List.mem_cons, List.not_mem_nil, or_false, Prod.mk.injEq] at h; obtain ⟨rfl, rfl⟩ := h; exact ⟨by rw [mn_80]; exact tw_645, by rw [mn_80]; exact tw_644, mt_80, by decide, by decide⟩) (by unfold prm; decide +kernel) ml_92 (HsOk.nil (by decide +kernel))
theorem dd_92_58 : decode (mi 92).2.1 58 = .ok (.iadd, 1) := by decide +kernel
theorem st_92_58 : Sd 92 58 1 (i_iadd) := sd_iadd dd_92_58
theorem dd_92_59 : decode (mi 92).2.1 59 = .ok (.istore_n 3, 1) := by decide +kernel
theorem st_92_59 : Sd 92 59 1 (i_stI 3) := sd_istore_n (j := 3) dd_92_59 rfl
theorem dd_92_60 : decode (mi 92).2.1 60 = .ok (.iinc 4 1, 3) := by decide +kernel
theorem st_92_60 : Sd 92 60 3 (i_inc 4 1) := sd_iinc dd_92_60
theorem dd_92_63 : decode (mi 92).2.1 63 = .ok (.goto (-30), 3) := by decide +kernel
theorem st_92_63 : Sd 92 63 3 (i_goto 33) := sd_goto dd_92_63 (by decide)
def bk_92_33 : Tr := sq (i_ldI 4) (sq (i_ic 4) (sq (i_cge 66) (sq (i_ldI 2) (sq (i_zle 66) (sq (i_ldR 0) (sq (i_cV [(3, 87)] 1 5 []) (sq (i_zeq 66) (sq (i_ic 10) (sq (i_ldI 3) (sq (i_imul) (sq (i_ldR 0) (sq (i_cV [(3, 80)] 1 5 []) (sq (i_iadd) (sq (i_stI 3) (sq (i_inc 4 1) (i_goto 33))))))))))))))))
theorem sb_92_33 : Sd 92 33 33 bk_92_33 := Sd.sq st_92_33 (Sd.sq st_92_35 (Sd.sq st_92_36 (Sd.sq st_92_39 (Sd.sq st_92_40 (Sd.sq st_92_43 (Sd.sq st_92_44 (Sd.sq st_92_47 (Sd.sq st_92_50 (Sd.sq st_92_52 (Sd.sq st_92_53 (Sd.sq st_92_54 (Sd.sq st_92_55 (Sd.sq st_92_58 (Sd.sq st_92_59 (Sd.sq st_92_60 (st_92_63))))))))))))))))
theorem dd_92_66 : decode (mi 92).2.1 66 = .ok (.new 99, 3) := by decide +kernel
theorem st_92_66 : Sd 92 66 3 (i_new 11) := sd_new dd_92_66 (by rw [mc_92]; exact tw_899) (by exact tw_100) (by exact tw_900) (by decide) (by decide)
theorem dd_92_69 : decode (mi 92).2.1 69 = .ok (.dup, 1) := by decide +kernel
theorem st_92_69 : Sd 92 69 1 (i_dup) := sd_dup dd_92_69
theorem dd_92_70 : decode (mi 92).2.1 70 = .ok (.getstatic 107, 3) := by decide +kernel
theorem st_92_70 : Sd 92 70 3 (i_gs 2) := sd_gs (n := 2) dd_92_70 (by rw [mc_92]; exact tw_901) (by decide)
theorem dd_92_73 : decode (mi 92).2.1 73 = .ok (.iload_n 1, 1) := by decide +kernel
theorem st_92_73 : Sd 92 73 1 (i_ldI 1) := sd_iload_n (j := 1) dd_92_73 rfl
theorem dd_92_74 : decode (mi 92).2.1 74 = .ok (.ifCond .eq 8, 3) := by decide +kernel
theorem st_92_74 : Sd 92 74 3 (i_zeq 82) := sd_if_eq dd_92_74 (by decide)
theorem dd_92_77 : decode (mi 92).2.1 77 = .ok (.iload_n 3, 1) := by decide +kernel
theorem st_92_77 : Sd 92 77 1 (i_ldI 3) := sd_iload_n (j := 3) dd_92_77 rfl
theorem dd_92_78 : decode (mi 92).2.1 78 = .ok (.ineg, 1) := by decide +kernel
theorem st_92_78 : Sd 92 78 1 (i_ineg) := sd_ineg dd_92_78
theorem dd_92_79 : decode (mi 92).2.1 79 = .ok (.goto 4, 3) := by decide +kernel
theorem st_92_79 : Sd 92 79 3 (i_goto 83) := sd_goto dd_92_79 (by decide)
def bk_92_66 : Tr := sq (i_new 11) (sq (i_dup) (sq (i_gs 2) (sq (i_ldI 1) (sq (i_zeq 82) (sq (i_ldI 3) (sq (i_ineg) (i_goto 83)))))))
theorem sb_92_66 : Sd 92 66 16 bk_92_66 := Sd.sq st_92_66 (Sd.sq st_92_69 (Sd.sq st_92_70 (Sd.sq st_92_73 (Sd.sq st_92_74 (Sd.sq st_92_77 (Sd.sq st_92_78 (st_92_79)))))))
theorem dd_92_82 : decode (mi 92).2.1 82 = .ok (.iload_n 3, 1) := by decide +kernel
theorem st_92_82 : Sd 92 82 1 (i_ldI 3) := sd_iload_n (j := 3) dd_92_82 rfl
def bk_92_82 : Tr := sq (i_ldI 3) (i_fall 83)
theorem sb_92_82 : Sd 92 82 1 bk_92_82 := Sd.sq st_92_82 (sd_fall rfl)
theorem dd_92_83 : decode (mi 92).2.1 83 = .ok (.invokespecial 101, 3) := by decide +kernel
theorem st_92_83 : Sd 92 83 3 (i_cI 76 3 5 []) := sd_init dd_92_83 (by rw [mc_92, mn_76]; exact tw_903) (by rw [mn_76]; exact tw_904) mt_76 pm_76 (by rw [mn_76]) (by decide +kernel) ml_92 (HsOk.nil (by decide +kernel))
theorem dd_92_86 : decode (mi 92).2.1 86 = .ok (.areturn, 1) := by decide +kernel
theorem st_92_86 : Sd 92 86 1 (i_rR) := sd_areturn dd_92_86 mr_92 (Or.inl ⟨_, rfl⟩)
def bk_92_83 : Tr := sq (i_cI 76 3 5 []) (i_rR)
theorem sb_92_83 : Sd 92 83 4 bk_92_83 := Sd.sq st_92_83 (st_92_86)
theorem dd_93_0 : decode (mi 93).2.1 0 = .ok (.aload_n 0, 1) := by decide +kernel
theorem st_93_0 : Sd 93 0 1 (i_ldR 0) := sd_aload_n (j := 0) dd_93_0 rfl
theorem dd_93_1 : decode (mi 93).2.1 1 = .ok (.bipush 46, 2) := by decide +kernel
theorem st_93_1 : Sd 93 1 2 (i_ic 46) := sd_bipush dd_93_1 (by decide)
theorem dd_93_3 : decode (mi 93).2.1 3 = .ok (.invokevirtual 43, 3) := by decide +kernel
theorem st_93_3 : Sd 93 3 3 (i_cV [(3, 98)] 2 2 []) := sd_virt ⟨"ContractDesk$Reader", "takes", "(C)Z"⟩ dd_93_3 (by rw [mc_93]; exact tw_616) (fun t j h => by simp only [List.mem_cons, List.not_mem_nil, or_false, Prod.mk.injEq] at h; obtain ⟨rfl, rfl⟩ := h; exact mn_98) (fun t j h => by simp only [List.mem_cons, List.not_mem_nil, or_false, Prod.mk.injEq] at h; obtain ⟨rfl, rfl⟩ := h; exact ⟨by rw [mn_98]; exact tw_618, by rw [mn_98]; exact tw_617, mt_98, by decide, by decide⟩) (by unfold prm; decide +kernel) ml_93 (HsOk.nil (by decide +kernel))
theorem dd_93_6 : decode (mi 93).2.1 6 = .ok (.ifCond .eq 21, 3) := by decide +kernel
theorem st_93_6 : Sd 93 6 3 (i_zeq 27) := sd_if_eq dd_93_6 (by decide)
theorem dd_93_9 : decode (mi 93).2.1 9 = .ok (.aload_n 0, 1) := by decide +kernel
theorem st_93_9 : Sd 93 9 1 (i_ldR 0) := sd_aload_n (j := 0) dd_93_9 rfl
theorem dd_93_10 : decode (mi 93).2.1 10 = .ok (.bipush 42, 2) := by decide +kernel
theorem st_93_10 : Sd 93 10 2 (i_ic 42) := sd_bipush dd_93_10 (by decide)
theorem dd_93_12 : decode (mi 93).2.1 12 = .ok (.invokevirtual 43, 3) := by decide +kernel
theorem st_93_12 : Sd 93 12 3 (i_cV [(3, 98)] 2 2 []) := sd_virt ⟨"ContractDesk$Reader", "takes", "(C)Z"⟩ dd_93_12 (by rw [mc_93]; exact tw_616) (fun t j h => by simp only [List.mem_cons, List.not_mem_nil, or_false, Prod.mk.injEq] at h; obtain ⟨rfl, rfl⟩ := h; exact mn_98) (fun t j h => by simp only [List.mem_cons, List.not_mem_nil, or_false, Prod.mk.injEq] at h; obtain ⟨rfl, rfl⟩ := h; exact ⟨by rw [mn_98]; exact tw_618, by rw [mn_98]; exact tw_617, mt_98, by decide, by decide⟩) (by unfold prm; decide +kernel) ml_93 (HsOk.nil (by decide +kernel))
theorem dd_93_15 : decode (mi 93).2.1 15 = .ok (.ifCond .eq 7, 3) := by decide +kernel
theorem st_93_15 : Sd 93 15 3 (i_zeq 22) := sd_if_eq dd_93_15 (by decide)
theorem dd_93_18 : decode (mi 93).2.1 18 = .ok (.iconst 1, 1) := by decide +kernel
theorem st_93_18 : Sd 93 18 1 (i_ic 1) := sd_iconst dd_93_18
theorem dd_93_19 : decode (mi 93).2.1 19 = .ok (.goto 7, 3) := by decide +kernel
theorem st_93_19 : Sd 93 19 3 (i_goto 26) := sd_goto dd_93_19 (by decide)
def bk_93_0 : Tr := sq (i_ldR 0) (sq (i_ic 46) (sq (i_cV [(3, 98)] 2 2 []) (sq (i_zeq 27) (sq (i_ldR 0) (sq (i_ic 42) (sq (i_cV [(3, 98)] 2 2 []) (sq (i_zeq 22) (sq (i_ic 1) (i_goto 26)))))))))
theorem sb_93_0 : Sd 93 0 22 bk_93_0 := Sd.sq st_93_0 (Sd.sq st_93_1 (Sd.sq st_93_3 (Sd.sq st_93_6 (Sd.sq st_93_9 (Sd.sq st_93_10 (Sd.sq st_93_12 (Sd.sq st_93_15 (Sd.sq st_93_18 (st_93_19)))))))))
theorem dd_93_22 : decode (mi 93).2.1 22 = .ok (.aload_n 0, 1) := by decide +kernel
theorem st_93_22 : Sd 93 22 1 (i_ldR 0) := sd_aload_n (j := 0) dd_93_22 rfl
theorem dd_93_23 : decode (mi 93).2.1 23 = .ok (.invokevirtual 119, 3) := by decide +kernel
theorem st_93_23 : Sd 93 23 3 (i_cV [(3, 90)] 1 2 []) := sd_virt ⟨"ContractDesk$Reader", "letter", "()C"⟩ dd_93_23 (by rw [mc_93]; exact tw_635) (fun t j h => by simp only [List.mem_cons, List.not_mem_nil, or_false, Prod.mk.injEq] at h; obtain ⟨rfl, rfl⟩ := h; exact mn_90) (fun t j h => by simp only [List.mem_cons, List.not_mem_nil, or_false, Prod.mk.injEq] at h; obtain ⟨rfl, rfl⟩ := h; exact ⟨by rw [mn_90]; exact tw_637, by rw [mn_90]; exact tw_636, mt_90, by decide, by decide⟩) (by unfold prm; decide +kernel) ml_93 (HsOk.nil (by decide +kernel))
def bk_93_22 : Tr := sq (i_ldR 0) (sq (i_cV [(3, 90)] 1 2 []) (i_fall 26))
theorem sb_93_22 : Sd 93 22 4 bk_93_22 := Sd.sq st_93_22 (Sd.sq st_93_23 (sd_fall rfl))
theorem dd_93_26 : decode (mi 93).2.1 26 = .ok (.ireturn, 1) := by decide +kernel
theorem st_93_26 : Sd 93 26 1 (i_rI 0) := sd_ireturn dd_93_26 (by decide) mr_93
def bk_93_26 : Tr := i_rI 0
theorem sb_93_26 : Sd 93 26 1 bk_93_26 := st_93_26
theorem dd_93_27 : decode (mi 93).2.1 27 = .ok (.aload_n 0, 1) := by decide +kernel
theorem st_93_27 : Sd 93 27 1 (i_ldR 0) := sd_aload_n (j := 0) dd_93_27 rfl
theorem dd_93_28 : decode (mi 93).2.1 28 = .ok (.bipush 91, 2) := by decide +kernel
theorem st_93_28 : Sd 93 28 2 (i_ic 91) := sd_bipush dd_93_28 (by decide)
theorem dd_93_30 : decode (mi 93).2.1 30 = .ok (.invokevirtual 95, 3) := by decide +kernel
theorem st_93_30 : Sd 93 30 3 (i_cV [(3, 83)] 2 2 []) := sd_virt ⟨"ContractDesk$Reader", "expect", "(C)V"⟩ dd_93_30 (by rw [mc_93]; exact tw_612) (fun t j h => by simp only [List.mem_cons, List.not_mem_nil, or_false, Prod.mk.injEq] at h; obtain ⟨rfl, rfl⟩ := h; exact mn_83) (fun t j h => by simp only [List.mem_cons, List.not_mem_nil, or_false, Prod.mk.injEq] at h; obtain ⟨rfl, rfl⟩ := h; exact ⟨by rw [mn_83]; exact tw_614, by rw [mn_83]; exact tw_613, mt_83, by decide, by decide⟩) (by unfold prm; decide +kernel) ml_93 (HsOk.nil (by decide +kernel))
theorem dd_93_33 : decode (mi 93).2.1 33 = .ok (.aload_n 0, 1) := by decide +kernel
theorem st_93_33 : Sd 93 33 1 (i_ldR 0) := sd_aload_n (j := 0) dd_93_33 rfl
theorem dd_93_34 : decode (mi 93).2.1 34 = .ok (.bipush 42, 2) := by decide +kernel
theorem st_93_34 : Sd 93 34 2 (i_ic 42) := sd_bipush dd_93_34 (by decide)
theorem dd_93_36 : decode (mi 93).2.1 36 = .ok (.invokevirtual 43, 3) := by decide +kernel
theorem st_93_36 : Sd 93 36 3 (i_cV [(3, 98)] 2 2 []) := sd_virt ⟨"ContractDesk$Reader", "takes", "(C)Z"⟩ dd_93_36 (by rw [mc_93]; exact tw_616) (fun t j h => by simp only [List.mem_cons, List.not_mem_nil, or_false, Prod.mk.injEq] at h; obtain ⟨rfl, rfl⟩ := h; exact mn_98) (fun t j h => by simp only [List.mem_cons, List.not_mem_nil, or_false, Prod.mk.injEq] at h; obtain ⟨rfl, rfl⟩ := h; exact ⟨by rw [mn_98]; exact tw_618, by rw [mn_98]; exact tw_617, mt_98, by decide, by decide⟩) (by unfold prm; decide +kernel) ml_93 (HsOk.nil (by decide +kernel))
theorem dd_93_39 : decode (mi 93).2.1 39 = .ok (.ifCond .eq 7, 3) := by decide +kernel
theorem st_93_39 : Sd 93 39 3 (i_zeq 46) := sd_if_eq dd_93_39 (by decide)
theorem dd_93_42 : decode (mi 93).2.1 42 = .ok (.iconst 2, 1) := by decide +kernel
theorem st_93_42 : Sd 93 42 1 (i_ic 2) := sd_iconst dd_93_42
theorem dd_93_43 : decode (mi 93).2.1 43 = .ok (.goto 11, 3) := by decide +kernel
theorem st_93_43 : Sd 93 43 3 (i_goto 54) := sd_goto dd_93_43 (by decide)
def bk_93_27 : Tr := sq (i_ldR 0) (sq (i_ic 91) (sq (i_cV [(3, 83)] 2 2 []) (sq (i_ldR 0) (sq (i_ic 42) (sq (i_cV [(3, 98)] 2 2 []) (sq (i_zeq 46) (sq (i_ic 2) (i_goto 54))))))))
theorem sb_93_27 : Sd 93 27 19 bk_93_27 := Sd.sq st_93_27 (Sd.sq st_93_28 (Sd.sq st_93_30 (Sd.sq st_93_33 (Sd.sq st_93_34 (Sd.sq st_93_36 (Sd.sq st_93_39 (Sd.sq st_93_42 (st_93_43))))))))
theorem dd_93_46 : decode (mi 93).2.1 46 = .ok (.sipush 1000, 3) := by decide +kernel
theorem st_93_46 : Sd 93 46 3 (i_ic 1000) := sd_sipush dd_93_46 (by decide)
theorem dd_93_49 : decode (mi 93).2.1 49 = .ok (.aload_n 0, 1) := by decide +kernel
theorem st_93_49 : Sd 93 49 1 (i_ldR 0) := sd_aload_n (j := 0) dd_93_49 rfl
theorem dd_93_50 : decode (mi 93).2.1 50 = .ok (.invokevirtual 104, 3) := by decide +kernel
theorem st_93_50 : Sd 93 50 3 (i_cV [(3, 80)] 1 2 []) := sd_virt ⟨"ContractDesk$Reader", "digit", "()I"⟩ dd_93_50 (by rw [mc_93]; exact tw_643) (fun t j h => by simp only [List.mem_cons, List.not_mem_nil, or_false, Prod.mk.injEq] at h; obtain ⟨rfl, rfl⟩ := h; exact mn_80) (fun t j h => by simp only [List.mem_cons, List.not_mem_nil, or_false, Prod.mk.injEq] at h; obtain ⟨rfl, rfl⟩ := h; exact ⟨by rw [mn_80]; exact tw_645, by rw [mn_80]; exact tw_644, mt_80, by decide, by decide⟩) (by unfold prm; decide +kernel) ml_93 (HsOk.nil (by decide +kernel))
theorem dd_93_53 : decode (mi 93).2.1 53 = .ok (.iadd, 1) := by decide +kernel
theorem st_93_53 : Sd 93 53 1 (i_iadd) := sd_iadd dd_93_53
def bk_93_46 : Tr := sq (i_ic 1000) (sq (i_ldR 0) (sq (i_cV [(3, 80)] 1 2 []) (sq (i_iadd) (i_fall 54))))
theorem sb_93_46 : Sd 93 46 8 bk_93_46 := Sd.sq st_93_46 (Sd.sq st_93_49 (Sd.sq st_93_50 (Sd.sq st_93_53 (sd_fall rfl))))
theorem dd_93_54 : decode (mi 93).2.1 54 = .ok (.istore_n 1, 1) := by decide +kernel
theorem st_93_54 : Sd 93 54 1 (i_stI 1) := sd_istore_n (j := 1) dd_93_54 rfl
theorem dd_93_55 : decode (mi 93).2.1 55 = .ok (.aload_n 0, 1) := by decide +kernel
theorem st_93_55 : Sd 93 55 1 (i_ldR 0) := sd_aload_n (j := 0) dd_93_55 rfl
theorem dd_93_56 : decode (mi 93).2.1 56 = .ok (.bipush 93, 2) := by decide +kernel
theorem st_93_56 : Sd 93 56 2 (i_ic 93) := sd_bipush dd_93_56 (by decide)
theorem dd_93_58 : decode (mi 93).2.1 58 = .ok (.invokevirtual 95, 3) := by decide +kernel
theorem st_93_58 : Sd 93 58 3 (i_cV [(3, 83)] 2 2 []) := sd_virt ⟨"ContractDesk$Reader", "expect", "(C)V"⟩ dd_93_58 (by rw [mc_93]; exact tw_612) (fun t j h => by simp only [List.mem_cons, List.not_mem_nil, or_false, Prod.mk.injEq] at h; obtain ⟨rfl, rfl⟩ := h; exact mn_83) (fun t j h => by simp only [List.mem_cons, List.not_mem_nil, or_false, Prod.mk.injEq] at h; obtain ⟨rfl, rfl⟩ := h; exact ⟨by rw [mn_83]; exact tw_614, by rw [mn_83]; exact tw_613, mt_83, by decide, by decide⟩) (by unfold prm; decide +kernel) ml_93 (HsOk.nil (by decide +kernel))
theorem dd_93_61 : decode (mi 93).2.1 61 = .ok (.iload_n 1, 1) := by decide +kernel
theorem st_93_61 : Sd 93 61 1 (i_ldI 1) := sd_iload_n (j := 1) dd_93_61 rfl
theorem dd_93_62 : decode (mi 93).2.1 62 = .ok (.ireturn, 1) := by decide +kernel
theorem st_93_62 : Sd 93 62 1 (i_rI 0) := sd_ireturn dd_93_62 (by decide) mr_93
def bk_93_54 : Tr := sq (i_stI 1) (sq (i_ldR 0) (sq (i_ic 93) (sq (i_cV [(3, 83)] 2 2 []) (sq (i_ldI 1) (i_rI 0)))))
theorem sb_93_54 : Sd 93 54 9 bk_93_54 := Sd.sq st_93_54 (Sd.sq st_93_55 (Sd.sq st_93_56 (Sd.sq st_93_58 (Sd.sq st_93_61 (st_93_62)))))
theorem dd_94_0 : decode (mi 94).2.1 0 = .ok (.iconst 0, 1) := by decide +kernel
theorem st_94_0 : Sd 94 0 1 (i_ic 0) := sd_iconst dd_94_0
theorem dd_94_1 : decode (mi 94).2.1 1 = .ok (.istore_n 2, 1) := by decide +kernel
theorem st_94_1 : Sd 94 1 1 (i_stI 2) := sd_istore_n (j := 2) dd_94_1 rfl
theorem dd_94_2 : decode (mi 94).2.1 2 = .ok (.aload_n 0, 1) := by decide +kernel
theorem st_94_2 : Sd 94 2 1 (i_ldR 0) := sd_aload_n (j := 0) dd_94_2 rfl
theorem dd_94_3 : decode (mi 94).2.1 3 = .ok (.bipush 36, 2) := by decide +kernel
theorem st_94_3 : Sd 94 3 2 (i_ic 36) := sd_bipush dd_94_3 (by decide)
theorem dd_94_5 : decode (mi 94).2.1 5 = .ok (.invokevirtual 95, 3) := by decide +kernel
theorem st_94_5 : Sd 94 5 3 (i_cV [(3, 83)] 2 3 []) := sd_virt ⟨"ContractDesk$Reader", "expect", "(C)V"⟩ dd_94_5 (by rw [mc_94]; exact tw_612) (fun t j h => by simp only [List.mem_cons, List.not_mem_nil, or_false, Prod.mk.injEq] at h; obtain ⟨rfl, rfl⟩ := h; exact mn_83) (fun t j h => by simp only [List.mem_cons, List.not_mem_nil, or_false, Prod.mk.injEq] at h; obtain ⟨rfl, rfl⟩ := h; exact ⟨by rw [mn_83]; exact tw_614, by rw [mn_83]; exact tw_613, mt_83, by decide, by decide⟩) (by unfold prm; decide +kernel) ml_94 (HsOk.nil (by decide +kernel))
def bk_94_0 : Tr := sq (i_ic 0) (sq (i_stI 2) (sq (i_ldR 0) (sq (i_ic 36) (sq (i_cV [(3, 83)] 2 3 []) (i_fall 8)))))
theorem sb_94_0 : Sd 94 0 8 bk_94_0 := Sd.sq st_94_0 (Sd.sq st_94_1 (Sd.sq st_94_2 (Sd.sq st_94_3 (Sd.sq st_94_5 (sd_fall rfl)))))
theorem dd_94_8 : decode (mi 94).2.1 8 = .ok (.aload_n 0, 1) := by decide +kernel
theorem st_94_8 : Sd 94 8 1 (i_ldR 0) := sd_aload_n (j := 0) dd_94_8 rfl
theorem dd_94_9 : decode (mi 94).2.1 9 = .ok (.getfield 35, 3) := by decide +kernel
theorem st_94_9 : Sd 94 9 3 (i_gI 1 [3]) := sd_gI (ref := "ContractDesk$Reader") (decl := "ContractDesk$Reader") (name := "at") (desc := "I") dd_94_9 (by rw [mc_94]; exact tw_158) (Or.inl rfl) (by decide +kernel)
theorem dd_94_12 : decode (mi 94).2.1 12 = .ok (.aload_n 0, 1) := by decide +kernel
theorem st_94_12 : Sd 94 12 1 (i_ldR 0) := sd_aload_n (j := 0) dd_94_12 rfl
theorem dd_94_13 : decode (mi 94).2.1 13 = .ok (.getfield 14, 3) := by decide +kernel
theorem st_94_13 : Sd 94 13 3 (i_gR 0 [3]) := sd_gR (ref := "ContractDesk$Reader") (decl := "ContractDesk$Reader") (name := "s") (desc := "Ljava/lang/StringBuilder;") dd_94_13 (by rw [mc_94]; exact tw_157) (Or.inl rfl) (by decide +kernel)
theorem dd_94_16 : decode (mi 94).2.1 16 = .ok (.invokevirtual 23, 3) := by decide +kernel
theorem st_94_16 : Sd 94 16 3 (i_cV [(15, 15)] 1 3 []) := sd_virt ⟨"java/lang/StringBuilder", "length", "()I"⟩ dd_94_16 (by rw [mc_94]; exact tw_596) (fun t j h => by simp only [List.mem_cons, List.not_mem_nil, or_false, Prod.mk.injEq] at h; obtain ⟨rfl, rfl⟩ := h; exact mn_15) (fun t j h => by simp only [List.mem_cons, List.not_mem_nil, or_false, Prod.mk.injEq] at h; obtain ⟨rfl, rfl⟩ := h; exact ⟨by rw [mn_15]; exact tw_1600, by rw [mn_15]; exact tw_392, mt_15, by decide, by decide⟩) (by unfold prm; decide +kernel) ml_94 (HsOk.nil (by decide +kernel))
theorem dd_94_19 : decode (mi 94).2.1 19 = .ok (.if_icmp .ge 32, 3) := by decide +kernel
theorem st_94_19 : Sd 94 19 3 (i_cge 51) := sd_icmp_ge dd_94_19 (by decide)
theorem dd_94_22 : decode (mi 94).2.1 22 = .ok (.aload_n 1, 1) := by decide +kernel
theorem st_94_22 : Sd 94 22 1 (i_ldR 1) := sd_aload_n (j := 1) dd_94_22 rfl
theorem dd_94_23 : decode (mi 94).2.1 23 = .ok (.iload_n 2, 1) := by decide +kernel
theorem st_94_23 : Sd 94 23 1 (i_ldI 2) := sd_iload_n (j := 2) dd_94_23 rfl
theorem dd_94_24 : decode (mi 94).2.1 24 = .ok (.aload_n 0, 1) := by decide +kernel
theorem st_94_24 : Sd 94 24 1 (i_ldR 0) := sd_aload_n (j := 0) dd_94_24 rfl
theorem dd_94_25 : decode (mi 94).2.1 25 = .ok (.bipush 46, 2) := by decide +kernel
theorem st_94_25 : Sd 94 25 2 (i_ic 46) := sd_bipush dd_94_25 (by decide)
theorem dd_94_27 : decode (mi 94).2.1 27 = .ok (.invokevirtual 43, 3) := by decide +kernel
theorem st_94_27 : Sd 94 27 3 (i_cV [(3, 98)] 2 3 []) := sd_virt ⟨"ContractDesk$Reader", "takes", "(C)Z"⟩ dd_94_27 (by rw [mc_94]; exact tw_616) (fun t j h => by simp only [List.mem_cons, List.not_mem_nil, or_false, Prod.mk.injEq] at h; obtain ⟨rfl, rfl⟩ := h; exact mn_98) (fun t j h => by simp only [List.mem_cons, List.not_mem_nil, or_false, Prod.mk.injEq] at h; obtain ⟨rfl, rfl⟩ := h; exact ⟨by rw [mn_98]; exact tw_618, by rw [mn_98]; exact tw_617, mt_98, by decide, by decide⟩) (by unfold prm; decide +kernel) ml_94 (HsOk.nil (by decide +kernel))
theorem dd_94_30 : decode (mi 94).2.1 30 = .ok (.ifCond .eq 10, 3) := by decide +kernel
theorem st_94_30 : Sd 94 30 3 (i_zeq 40) := sd_if_eq dd_94_30 (by decide)
theorem dd_94_33 : decode (mi 94).2.1 33 = .ok (.aload_n 0, 1) := by decide +kernel
theorem st_94_33 : Sd 94 33 1 (i_ldR 0) := sd_aload_n (j := 0) dd_94_33 rfl
theorem dd_94_34 : decode (mi 94).2.1 34 = .ok (.invokevirtual 119, 3) := by decide +kernel
theorem st_94_34 : Sd 94 34 3 (i_cV [(3, 90)] 1 3 []) := sd_virt ⟨"ContractDesk$Reader", "letter", "()C"⟩ dd_94_34 (by rw [mc_94]; exact tw_635) (fun t j h => by simp only [List.mem_cons, List.not_mem_nil, or_false, Prod.mk.injEq] at h; obtain ⟨rfl, rfl⟩ := h; exact mn_90) (fun t j h => by simp only [List.mem_cons, List.not_mem_nil, or_false, Prod.mk.injEq] at h; obtain ⟨rfl, rfl⟩ := h; exact ⟨by rw [mn_90]; exact tw_637, by rw [mn_90]; exact tw_636, mt_90, by decide, by decide⟩) (by unfold prm; decide +kernel) ml_94 (HsOk.nil (by decide +kernel))
theorem dd_94_37 : decode (mi 94).2.1 37 = .ok (.goto 7, 3) := by decide +kernel
theorem st_94_37 : Sd 94 37 3 (i_goto 44) := sd_goto dd_94_37 (by decide)
def bk_94_8 : Tr := sq (i_ldR 0) (sq (i_gI 1 [3]) (sq (i_ldR 0) (sq (i_gR 0 [3]) (sq (i_cV [(15, 15)] 1 3 []) (sq (i_cge 51) (sq (i_ldR 1) (sq (i_ldI 2) (sq (i_ldR 0) (sq (i_ic 46) (sq (i_cV [(3, 98)] 2 3 []) (sq (i_zeq 40) (sq (i_ldR 0) (sq (i_cV [(3, 90)] 1 3 []) (i_goto 44))))))))))))))
theorem sb_94_8 : Sd 94 8 32 bk_94_8 := Sd.sq st_94_8 (Sd.sq st_94_9 (Sd.sq st_94_12 (Sd.sq st_94_13 (Sd.sq st_94_16 (Sd.sq st_94_19 (Sd.sq st_94_22 (Sd.sq st_94_23 (Sd.sq st_94_24 (Sd.sq st_94_25 (Sd.sq st_94_27 (Sd.sq st_94_30 (Sd.sq st_94_33 (Sd.sq st_94_34 (st_94_37))))))))))))))
theorem dd_94_40 : decode (mi 94).2.1 40 = .ok (.aload_n 0, 1) := by decide +kernel
theorem st_94_40 : Sd 94 40 1 (i_ldR 0) := sd_aload_n (j := 0) dd_94_40 rfl
theorem dd_94_41 : decode (mi 94).2.1 41 = .ok (.invokevirtual 205, 3) := by decide +kernel
theorem st_94_41 : Sd 94 41 3 (i_cV [(3, 81)] 1 3 []) := sd_virt ⟨"ContractDesk$Reader", "element", "()I"⟩ dd_94_41 (by rw [mc_94]; exact tw_639) (fun t j h => by simp only [List.mem_cons, List.not_mem_nil, or_false, Prod.mk.injEq] at h; obtain ⟨rfl, rfl⟩ := h; exact mn_81) (fun t j h => by simp only [List.mem_cons, List.not_mem_nil, or_false, Prod.mk.injEq] at h; obtain ⟨rfl, rfl⟩ := h; exact ⟨by rw [mn_81]; exact tw_2, by rw [mn_81]; exact tw_641, mt_81, by decide, by decide⟩) (by unfold prm; decide +kernel) ml_94 (HsOk.nil (by decide +kernel))
def bk_94_40 : Tr := sq (i_ldR 0) (sq (i_cV [(3, 81)] 1 3 []) (i_fall 44))
theorem sb_94_40 : Sd 94 40 4 bk_94_40 := Sd.sq st_94_40 (Sd.sq st_94_41 (sd_fall rfl))
theorem dd_94_44 : decode (mi 94).2.1 44 = .ok (.iastore, 1) := by decide +kernel
theorem st_94_44 : Sd 94 44 1 (i_sI [20] 0) := sd_iastore dd_94_44 (by decide)
theorem dd_94_45 : decode (mi 94).2.1 45 = .ok (.iinc 2 1, 3) := by decide +kernel
theorem st_94_45 : Sd 94 45 3 (i_inc 2 1) := sd_iinc dd_94_45
theorem dd_94_48 : decode (mi 94).2.1 48 = .ok (.goto (-40), 3) := by decide +kernel
theorem st_94_48 : Sd 94 48 3 (i_goto 8) := sd_goto dd_94_48 (by decide)
def bk_94_44 : Tr := sq (i_sI [20] 0) (sq (i_inc 2 1) (i_goto 8))
theorem sb_94_44 : Sd 94 44 7 bk_94_44 := Sd.sq st_94_44 (Sd.sq st_94_45 (st_94_48))
theorem dd_94_51 : decode (mi 94).2.1 51 = .ok (.iload_n 2, 1) := by decide +kernel
theorem st_94_51 : Sd 94 51 1 (i_ldI 2) := sd_iload_n (j := 2) dd_94_51 rfl
theorem dd_94_52 : decode (mi 94).2.1 52 = .ok (.ireturn, 1) := by decide +kernel
theorem st_94_52 : Sd 94 52 1 (i_rI 0) := sd_ireturn dd_94_52 (by decide) mr_94
def bk_94_51 : Tr := sq (i_ldI 2) (i_rI 0)
theorem sb_94_51 : Sd 94 51 2 bk_94_51 := Sd.sq st_94_51 (st_94_52)
theorem dd_95_0 : decode (mi 95).2.1 0 = .ok (.new 150, 3) := by decide +kernel
theorem st_95_0 : Sd 95 0 3 (i_new 5) := sd_new dd_95_0 (by rw [mc_95]; exact tw_1013) (by exact tw_101) (by exact tw_1014) (by decide) (by decide)
theorem dd_95_3 : decode (mi 95).2.1 3 = .ok (.dup, 1) := by decide +kernel
theorem st_95_3 : Sd 95 3 1 (i_dup) := sd_dup dd_95_3
theorem dd_95_4 : decode (mi 95).2.1 4 = .ok (.invokespecial 152, 3) := by decide +kernel
theorem st_95_4 : Sd 95 4 3 (i_cI 103 1 3 []) := sd_initN (host := "ContractDesk") dd_95_4 (by rw [mc_95, mn_103]; exact tw_1015) (by rw [mn_103]; exact tw_1016) mt_103 pm_103 (by rw [mn_103]) (by decide +kernel) ml_95 (HsOk.nil (by decide +kernel))
theorem dd_95_7 : decode (mi 95).2.1 7 = .ok (.astore_n 1, 1) := by decide +kernel
theorem st_95_7 : Sd 95 7 1 (i_stR 1) := sd_astore_n (j := 1) dd_95_7 rfl
theorem dd_95_8 : decode (mi 95).2.1 8 = .ok (.aload_n 0, 1) := by decide +kernel
theorem st_95_8 : Sd 95 8 1 (i_ldR 0) := sd_aload_n (j := 0) dd_95_8 rfl
theorem dd_95_9 : decode (mi 95).2.1 9 = .ok (.bipush 36, 2) := by decide +kernel
theorem st_95_9 : Sd 95 9 2 (i_ic 36) := sd_bipush dd_95_9 (by decide)
theorem dd_95_11 : decode (mi 95).2.1 11 = .ok (.invokevirtual 95, 3) := by decide +kernel
theorem st_95_11 : Sd 95 11 3 (i_cV [(3, 83)] 2 3 []) := sd_virt ⟨"ContractDesk$Reader", "expect", "(C)V"⟩ dd_95_11 (by rw [mc_95]; exact tw_612) (fun t j h => by simp only [List.mem_cons, List.not_mem_nil, or_false, Prod.mk.injEq] at h; obtain ⟨rfl, rfl⟩ := h; exact mn_83) (fun t j h => by simp only [List.mem_cons, List.not_mem_nil, or_false, Prod.mk.injEq] at h; obtain ⟨rfl, rfl⟩ := h; exact ⟨by rw [mn_83]; exact tw_614, by rw [mn_83]; exact tw_613, mt_83, by decide, by decide⟩) (by unfold prm; decide +kernel) ml_95 (HsOk.nil (by decide +kernel))
theorem dd_95_14 : decode (mi 95).2.1 14 = .ok (.aload_n 1, 1) := by decide +kernel
theorem st_95_14 : Sd 95 14 1 (i_ldR 1) := sd_aload_n (j := 1) dd_95_14 rfl
theorem dd_95_15 : decode (mi 95).2.1 15 = .ok (.iconst 2, 1) := by decide +kernel
theorem st_95_15 : Sd 95 15 1 (i_ic 2) := sd_iconst dd_95_15
theorem dd_95_16 : decode (mi 95).2.1 16 = .ok (.putfield 153, 3) := by decide +kernel
theorem st_95_16 : Sd 95 16 3 (i_pI 2 [5] 0) := sd_pI (ref := "ContractDesk$Rule") (decl := "ContractDesk$Rule") (name := "weight") (desc := "I") dd_95_16 (by rw [mc_95]; exact tw_1024) (Or.inl rfl) (by decide +kernel) (by decide +kernel) (by decide)
def bk_95_0 : Tr := sq (i_new 5) (sq (i_dup) (sq (i_cI 103 1 3 []) (sq (i_stR 1) (sq (i_ldR 0) (sq (i_ic 36) (sq (i_cV [(3, 83)] 2 3 []) (sq (i_ldR 1) (sq (i_ic 2) (sq (i_pI 2 [5] 0) (i_fall 19))))))))))
theorem sb_95_0 : Sd 95 0 19 bk_95_0 := Sd.sq st_95_0 (Sd.sq st_95_3 (Sd.sq st_95_4 (Sd.sq st_95_7 (Sd.sq st_95_8 (Sd.sq st_95_9 (Sd.sq st_95_11 (Sd.sq st_95_14 (Sd.sq st_95_15 (Sd.sq st_95_16 (sd_fall rfl))))))))))
theorem dd_95_19 : decode (mi 95).2.1 19 = .ok (.aload_n 0, 1) := by decide +kernel
theorem st_95_19 : Sd 95 19 1 (i_ldR 0) := sd_aload_n (j := 0) dd_95_19 rfl
theorem dd_95_20 : decode (mi 95).2.1 20 = .ok (.invokevirtual 39, 3) := by decide +kernel
theorem st_95_20 : Sd 95 20 3 (i_cV [(3, 85)] 1 3 []) := sd_virt ⟨"ContractDesk$Reader", "here", "()C"⟩ dd_95_20 (by rw [mc_95]; exact tw_620) (fun t j h => by simp only [List.mem_cons, List.not_mem_nil, or_false, Prod.mk.injEq] at h; obtain ⟨rfl, rfl⟩ := h; exact mn_85) (fun t j h => by simp only [List.mem_cons, List.not_mem_nil, or_false, Prod.mk.injEq] at h; obtain ⟨rfl, rfl⟩ := h; exact ⟨by rw [mn_85]; exact tw_622, by rw [mn_85]; exact tw_621, mt_85, by decide, by decide⟩) (by unfold prm; decide +kernel) ml_95 (HsOk.nil (by decide +kernel))
theorem dd_95_23 : decode (mi 95).2.1 23 = .ok (.bipush 46, 2) := by decide +kernel
theorem st_95_23 : Sd 95 23 2 (i_ic 46) := sd_bipush dd_95_23 (by decide)
theorem dd_95_25 : decode (mi 95).2.1 25 = .ok (.if_icmp .eq 12, 3) := by decide +kernel
theorem st_95_25 : Sd 95 25 3 (i_ceq 37) := sd_icmp_eq dd_95_25 (by decide)
theorem dd_95_28 : decode (mi 95).2.1 28 = .ok (.aload_n 0, 1) := by decide +kernel
theorem st_95_28 : Sd 95 28 1 (i_ldR 0) := sd_aload_n (j := 0) dd_95_28 rfl
theorem dd_95_29 : decode (mi 95).2.1 29 = .ok (.invokevirtual 39, 3) := by decide +kernel
theorem st_95_29 : Sd 95 29 3 (i_cV [(3, 85)] 1 3 []) := sd_virt ⟨"ContractDesk$Reader", "here", "()C"⟩ dd_95_29 (by rw [mc_95]; exact tw_620) (fun t j h => by simp only [List.mem_cons, List.not_mem_nil, or_false, Prod.mk.injEq] at h; obtain ⟨rfl, rfl⟩ := h; exact mn_85) (fun t j h => by simp only [List.mem_cons, List.not_mem_nil, or_false, Prod.mk.injEq] at h; obtain ⟨rfl, rfl⟩ := h; exact ⟨by rw [mn_85]; exact tw_622, by rw [mn_85]; exact tw_621, mt_85, by decide, by decide⟩) (by unfold prm; decide +kernel) ml_95 (HsOk.nil (by decide +kernel))
theorem dd_95_32 : decode (mi 95).2.1 32 = .ok (.bipush 91, 2) := by decide +kernel
theorem st_95_32 : Sd 95 32 2 (i_ic 91) := sd_bipush dd_95_32 (by decide)
theorem dd_95_34 : decode (mi 95).2.1 34 = .ok (.if_icmp .ne 71, 3) := by decide +kernel
theorem st_95_34 : Sd 95 34 3 (i_cne 105) := sd_icmp_ne dd_95_34 (by decide)
def bk_95_19 : Tr := sq (i_ldR 0) (sq (i_cV [(3, 85)] 1 3 []) (sq (i_ic 46) (sq (i_ceq 37) (sq (i_ldR 0) (sq (i_cV [(3, 85)] 1 3 []) (sq (i_ic 91) (sq (i_cne 105) (i_fall 37))))))))
theorem sb_95_19 : Sd 95 19 18 bk_95_19 := Sd.sq st_95_19 (Sd.sq st_95_20 (Sd.sq st_95_23 (Sd.sq st_95_25 (Sd.sq st_95_28 (Sd.sq st_95_29 (Sd.sq st_95_32 (Sd.sq st_95_34 (sd_fall rfl))))))))
theorem dd_95_37 : decode (mi 95).2.1 37 = .ok (.aload_n 1, 1) := by decide +kernel
theorem st_95_37 : Sd 95 37 1 (i_ldR 1) := sd_aload_n (j := 1) dd_95_37 rfl
theorem dd_95_38 : decode (mi 95).2.1 38 = .ok (.getfield 156, 3) := by decide +kernel
theorem st_95_38 : Sd 95 38 3 (i_gI 1 [5]) := sd_gI (ref := "ContractDesk$Rule") (decl := "ContractDesk$Rule") (name := "size") (desc := "I") dd_95_38 (by rw [mc_95]; exact tw_1022) (Or.inl rfl) (by decide +kernel)
theorem dd_95_41 : decode (mi 95).2.1 41 = .ok (.iconst 5, 1) := by decide +kernel
theorem st_95_41 : Sd 95 41 1 (i_ic 5) := sd_iconst dd_95_41
theorem dd_95_42 : decode (mi 95).2.1 42 = .ok (.if_icmp .ne 11, 3) := by decide +kernel
theorem st_95_42 : Sd 95 42 3 (i_cne 53) := sd_icmp_ne dd_95_42 (by decide)
theorem dd_95_45 : decode (mi 95).2.1 45 = .ok (.new 47, 3) := by decide +kernel
theorem st_95_45 : Sd 95 45 3 (i_new 17) := sd_new dd_95_45 (by rw [mc_95]; exact tw_624) (by exact tw_82) (by exact tw_181) (by decide) (by decide)
theorem dd_95_48 : decode (mi 95).2.1 48 = .ok (.dup, 1) := by decide +kernel
theorem st_95_48 : Sd 95 48 1 (i_dup) := sd_dup dd_95_48
theorem dd_95_49 : decode (mi 95).2.1 49 = .ok (.invokespecial 49, 3) := by decide +kernel
theorem st_95_49 : Sd 95 49 3 (i_exc 17 3) := sd_exc dd_95_49 (by decide) (by rw [mc_95]; exact tw_625) ml_95
theorem dd_95_52 : decode (mi 95).2.1 52 = .ok (.athrow, 1) := by decide +kernel
theorem st_95_52 : Sd 95 52 1 (i_throw) := sd_athrow dd_95_52 (by decide +kernel)
def bk_95_37 : Tr := sq (i_ldR 1) (sq (i_gI 1 [5]) (sq (i_ic 5) (sq (i_cne 53) (sq (i_new 17) (sq (i_dup) (sq (i_exc 17 3) (i_throw)))))))
theorem sb_95_37 : Sd 95 37 16 bk_95_37 := Sd.sq st_95_37 (Sd.sq st_95_38 (Sd.sq st_95_41 (Sd.sq st_95_42 (Sd.sq st_95_45 (Sd.sq st_95_48 (Sd.sq st_95_49 (st_95_52)))))))
theorem dd_95_53 : decode (mi 95).2.1 53 = .ok (.aload_n 0, 1) := by decide +kernel
theorem st_95_53 : Sd 95 53 1 (i_ldR 0) := sd_aload_n (j := 0) dd_95_53 rfl
theorem dd_95_54 : decode (mi 95).2.1 54 = .ok (.invokevirtual 159, 3) := by decide +kernel
theorem st_95_54 : Sd 95 54 3 (i_cV [(3, 93)] 1 3 []) := sd_virt ⟨"ContractDesk$Reader", "patternStep", "()I"⟩ dd_95_54 (by rw [mc_95]; exact tw_1042) (fun t j h => by simp only [List.mem_cons, List.not_mem_nil, or_false, Prod.mk.injEq] at h; obtain ⟨rfl, rfl⟩ := h; exact mn_93) (fun t j h => by simp only [List.mem_cons, List.not_mem_nil, or_false, Prod.mk.injEq] at h; obtain ⟨rfl, rfl⟩ := h; exact ⟨by rw [mn_93]; exact tw_13, by rw [mn_93]; exact tw_1044, mt_93, by decide, by decide⟩) (by unfold prm; decide +kernel) ml_95 (HsOk.nil (by decide +kernel))
theorem dd_95_57 : decode (mi 95).2.1 57 = .ok (.istore_n 2, 1) := by decide +kernel
theorem st_95_57 : Sd 95 57 1 (i_stI 2) := sd_istore_n (j := 2) dd_95_57 rfl
theorem dd_95_58 : decode (mi 95).2.1 58 = .ok (.aload_n 1, 1) := by decide +kernel
theorem st_95_58 : Sd 95 58 1 (i_ldR 1) := sd_aload_n (j := 1) dd_95_58 rfl
theorem dd_95_59 : decode (mi 95).2.1 59 = .ok (.getfield 162, 3) := by decide +kernel
theorem st_95_59 : Sd 95 59 3 (i_gR 0 [5]) := sd_gR (ref := "ContractDesk$Rule") (decl := "ContractDesk$Rule") (name := "steps") (desc := "[I") dd_95_59 (by rw [mc_95]; exact tw_1020) (Or.inl rfl) (by decide +kernel)
theorem dd_95_62 : decode (mi 95).2.1 62 = .ok (.aload_n 1, 1) := by decide +kernel
theorem st_95_62 : Sd 95 62 1 (i_ldR 1) := sd_aload_n (j := 1) dd_95_62 rfl
theorem dd_95_63 : decode (mi 95).2.1 63 = .ok (.getfield 156, 3) := by decide +kernel
theorem st_95_63 : Sd 95 63 3 (i_gI 1 [5]) := sd_gI (ref := "ContractDesk$Rule") (decl := "ContractDesk$Rule") (name := "size") (desc := "I") dd_95_63 (by rw [mc_95]; exact tw_1022) (Or.inl rfl) (by decide +kernel)
theorem dd_95_66 : decode (mi 95).2.1 66 = .ok (.iload_n 2, 1) := by decide +kernel
theorem st_95_66 : Sd 95 66 1 (i_ldI 2) := sd_iload_n (j := 2) dd_95_66 rfl
theorem dd_95_67 : decode (mi 95).2.1 67 = .ok (.iastore, 1) := by decide +kernel
theorem st_95_67 : Sd 95 67 1 (i_sI [20] 0) := sd_iastore dd_95_67 (by decide)
theorem dd_95_68 : decode (mi 95).2.1 68 = .ok (.aload_n 1, 1) := by decide +kernel
theorem st_95_68 : Sd 95 68 1 (i_ldR 1) := sd_aload_n (j := 1) dd_95_68 rfl
theorem dd_95_69 : decode (mi 95).2.1 69 = .ok (.dup, 1) := by decide +kernel
theorem st_95_69 : Sd 95 69 1 (i_dup) := sd_dup dd_95_69
theorem dd_95_70 : decode (mi 95).2.1 70 = .ok (.getfield 156, 3) := by decide +kernel
theorem st_95_70 : Sd 95 70 3 (i_gI 1 [5]) := sd_gI (ref := "ContractDesk$Rule") (decl := "ContractDesk$Rule") (name := "size") (desc := "I") dd_95_70 (by rw [mc_95]; exact tw_1022) (Or.inl rfl) (by decide +kernel)
theorem dd_95_73 : decode (mi 95).2.1 73 = .ok (.iconst 1, 1) := by decide +kernel
theorem st_95_73 : Sd 95 73 1 (i_ic 1) := sd_iconst dd_95_73
theorem dd_95_74 : decode (mi 95).2.1 74 = .ok (.iadd, 1) := by decide +kernel
theorem st_95_74 : Sd 95 74 1 (i_iadd) := sd_iadd dd_95_74
theorem dd_95_75 : decode (mi 95).2.1 75 = .ok (.putfield 156, 3) := by decide +kernel
theorem st_95_75 : Sd 95 75 3 (i_pI 1 [5] 0) := sd_pI (ref := "ContractDesk$Rule") (decl := "ContractDesk$Rule") (name := "size") (desc := "I") dd_95_75 (by rw [mc_95]; exact tw_1022) (Or.inl rfl) (by decide +kernel) (by decide +kernel) (by decide)
theorem dd_95_78 : decode (mi 95).2.1 78 = .ok (.aload_n 1, 1) := by decide +kernel
theorem st_95_78 : Sd 95 78 1 (i_ldR 1) := sd_aload_n (j := 1) dd_95_78 rfl
theorem dd_95_79 : decode (mi 95).2.1 79 = .ok (.dup, 1) := by decide +kernel
theorem st_95_79 : Sd 95 79 1 (i_dup) := sd_dup dd_95_79
theorem dd_95_80 : decode (mi 95).2.1 80 = .ok (.getfield 153, 3) := by decide +kernel
theorem st_95_80 : Sd 95 80 3 (i_gI 2 [5]) := sd_gI (ref := "ContractDesk$Rule") (decl := "ContractDesk$Rule") (name := "weight") (desc := "I") dd_95_80 (by rw [mc_95]; exact tw_1024) (Or.inl rfl) (by decide +kernel)
theorem dd_95_83 : decode (mi 95).2.1 83 = .ok (.iload_n 2, 1) := by decide +kernel
theorem st_95_83 : Sd 95 83 1 (i_ldI 2) := sd_iload_n (j := 2) dd_95_83 rfl
theorem dd_95_84 : decode (mi 95).2.1 84 = .ok (.iconst 1, 1) := by decide +kernel
theorem st_95_84 : Sd 95 84 1 (i_ic 1) := sd_iconst dd_95_84
theorem dd_95_85 : decode (mi 95).2.1 85 = .ok (.if_icmp .eq 8, 3) := by decide +kernel
theorem st_95_85 : Sd 95 85 3 (i_ceq 93) := sd_icmp_eq dd_95_85 (by decide)
theorem dd_95_88 : decode (mi 95).2.1 88 = .ok (.iload_n 2, 1) := by decide +kernel
theorem st_95_88 : Sd 95 88 1 (i_ldI 2) := sd_iload_n (j := 2) dd_95_88 rfl
theorem dd_95_89 : decode (mi 95).2.1 89 = .ok (.iconst 2, 1) := by decide +kernel
theorem st_95_89 : Sd 95 89 1 (i_ic 2) := sd_iconst dd_95_89
theorem dd_95_90 : decode (mi 95).2.1 90 = .ok (.if_icmp .ne 7, 3) := by decide +kernel
theorem st_95_90 : Sd 95 90 3 (i_cne 97) := sd_icmp_ne dd_95_90 (by decide)
def bk_95_53 : Tr := sq (i_ldR 0) (sq (i_cV [(3, 93)] 1 3 []) (sq (i_stI 2) (sq (i_ldR 1) (sq (i_gR 0 [5]) (sq (i_ldR 1) (sq (i_gI 1 [5]) (sq (i_ldI 2) (sq (i_sI [20] 0) (sq (i_ldR 1) (sq (i_dup) (sq (i_gI 1 [5]) (sq (i_ic 1) (sq (i_iadd) (sq (i_pI 1 [5] 0) (sq (i_ldR 1) (sq (i_dup) (sq (i_gI 2 [5]) (sq (i_ldI 2) (sq (i_ic 1) (sq (i_ceq 93) (sq (i_ldI 2) (sq (i_ic 2) (sq (i_cne 97) (i_fall 93))))))))))))))))))))))))
theorem sb_95_53 : Sd 95 53 40 bk_95_53 := Sd.sq st_95_53 (Sd.sq st_95_54 (Sd.sq st_95_57 (Sd.sq st_95_58 (Sd.sq st_95_59 (Sd.sq st_95_62 (Sd.sq st_95_63 (Sd.sq st_95_66 (Sd.sq st_95_67 (Sd.sq st_95_68 (Sd.sq st_95_69 (Sd.sq st_95_70 (Sd.sq st_95_73 (Sd.sq st_95_74 (Sd.sq st_95_75 (Sd.sq st_95_78 (Sd.sq st_95_79 (Sd.sq st_95_80 (Sd.sq st_95_83 (Sd.sq st_95_84 (Sd.sq st_95_85 (Sd.sq st_95_88 (Sd.sq st_95_89 (Sd.sq st_95_90 (sd_fall rfl))))))))))))))))))))))))
theorem dd_95_93 : decode (mi 95).2.1 93 = .ok (.iconst 1, 1) := by decide +kernel
theorem st_95_93 : Sd 95 93 1 (i_ic 1) := sd_iconst dd_95_93
theorem dd_95_94 : decode (mi 95).2.1 94 = .ok (.goto 4, 3) := by decide +kernel
theorem st_95_94 : Sd 95 94 3 (i_goto 98) := sd_goto dd_95_94 (by decide)
def bk_95_93 : Tr := sq (i_ic 1) (i_goto 98)
theorem sb_95_93 : Sd 95 93 4 bk_95_93 := Sd.sq st_95_93 (st_95_94)
theorem dd_95_97 : decode (mi 95).2.1 97 = .ok (.iconst 2, 1) := by decide +kernel
theorem st_95_97 : Sd 95 97 1 (i_ic 2) := sd_iconst dd_95_97
def bk_95_97 : Tr := sq (i_ic 2) (i_fall 98)
theorem sb_95_97 : Sd 95 97 1 bk_95_97 := Sd.sq st_95_97 (sd_fall rfl)
theorem dd_95_98 : decode (mi 95).2.1 98 = .ok (.imul, 1) := by decide +kernel
theorem st_95_98 : Sd 95 98 1 (i_imul) := sd_imul dd_95_98
theorem dd_95_99 : decode (mi 95).2.1 99 = .ok (.putfield 153, 3) := by decide +kernel
theorem st_95_99 : Sd 95 99 3 (i_pI 2 [5] 0) := sd_pI (ref := "ContractDesk$Rule") (decl := "ContractDesk$Rule") (name := "weight") (desc := "I") dd_95_99 (by rw [mc_95]; exact tw_1024) (Or.inl rfl) (by decide +kernel) (by decide +kernel) (by decide)
theorem dd_95_102 : decode (mi 95).2.1 102 = .ok (.goto (-83), 3) := by decide +kernel
theorem st_95_102 : Sd 95 102 3 (i_goto 19) := sd_goto dd_95_102 (by decide)
def bk_95_98 : Tr := sq (i_imul) (sq (i_pI 2 [5] 0) (i_goto 19))
theorem sb_95_98 : Sd 95 98 7 bk_95_98 := Sd.sq st_95_98 (Sd.sq st_95_99 (st_95_102))
theorem dd_95_105 : decode (mi 95).2.1 105 = .ok (.aload_n 0, 1) := by decide +kernel
theorem st_95_105 : Sd 95 105 1 (i_ldR 0) := sd_aload_n (j := 0) dd_95_105 rfl
theorem dd_95_106 : decode (mi 95).2.1 106 = .ok (.bipush 58, 2) := by decide +kernel
theorem st_95_106 : Sd 95 106 2 (i_ic 58) := sd_bipush dd_95_106 (by decide)
theorem dd_95_108 : decode (mi 95).2.1 108 = .ok (.invokevirtual 95, 3) := by decide +kernel
theorem st_95_108 : Sd 95 108 3 (i_cV [(3, 83)] 2 3 []) := sd_virt ⟨"ContractDesk$Reader", "expect", "(C)V"⟩ dd_95_108 (by rw [mc_95]; exact tw_612) (fun t j h => by simp only [List.mem_cons, List.not_mem_nil, or_false, Prod.mk.injEq] at h; obtain ⟨rfl, rfl⟩ := h; exact mn_83) (fun t j h => by simp only [List.mem_cons, List.not_mem_nil, or_false, Prod.mk.injEq] at h; obtain ⟨rfl, rfl⟩ := h; exact ⟨by rw [mn_83]; exact tw_614, by rw [mn_83]; exact tw_613, mt_83, by decide, by decide⟩) (by unfold prm; decide +kernel) ml_95 (HsOk.nil (by decide +kernel))
theorem dd_95_111 : decode (mi 95).2.1 111 = .ok (.aload_n 1, 1) := by decide +kernel
theorem st_95_111 : Sd 95 111 1 (i_ldR 1) := sd_aload_n (j := 1) dd_95_111 rfl
theorem dd_95_112 : decode (mi 95).2.1 112 = .ok (.aload_n 0, 1) := by decide +kernel
theorem st_95_112 : Sd 95 112 1 (i_ldR 0) := sd_aload_n (j := 0) dd_95_112 rfl
theorem dd_95_113 : decode (mi 95).2.1 113 = .ok (.invokevirtual 166, 3) := by decide +kernel
theorem st_95_113 : Sd 95 113 3 (i_cV [(3, 91)] 1 3 []) := sd_virt ⟨"ContractDesk$Reader", "matcher", "()LContractDesk$Matcher;"⟩ dd_95_113 (by rw [mc_95]; exact tw_1046) (fun t j h => by simp only [List.mem_cons, List.not_mem_nil, or_false, Prod.mk.injEq] at h; obtain ⟨rfl, rfl⟩ := h; exact mn_91) (fun t j h => by simp only [List.mem_cons, List.not_mem_nil, or_false, Prod.mk.injEq] at h; obtain ⟨rfl, rfl⟩ := h; exact ⟨by rw [mn_91]; exact tw_14, by rw [mn_91]; exact tw_1048, mt_91, by decide, by decide⟩) (by unfold prm; decide +kernel) ml_95 (HsOk.nil (by decide +kernel))
theorem dd_95_116 : decode (mi 95).2.1 116 = .ok (.invokevirtual 170, 3) := by decide +kernel
theorem st_95_116 : Sd 95 116 3 (i_cV [(5, 104)] 2 3 []) := sd_virt ⟨"ContractDesk$Rule", "add", "(LContractDesk$Matcher;)V"⟩ dd_95_116 (by rw [mc_95]; exact tw_1120) (fun t j h => by simp only [List.mem_cons, List.not_mem_nil, or_false, Prod.mk.injEq] at h; obtain ⟨rfl, rfl⟩ := h; exact mn_104) (fun t j h => by simp only [List.mem_cons, List.not_mem_nil, or_false, Prod.mk.injEq] at h; obtain ⟨rfl, rfl⟩ := h; exact ⟨by rw [mn_104]; exact tw_1122, by rw [mn_104]; exact tw_1121, mt_104, by decide, by decide⟩) (by unfold prm; decide +kernel) ml_95 (HsOk.nil (by decide +kernel))
theorem dd_95_119 : decode (mi 95).2.1 119 = .ok (.aload_n 1, 1) := by decide +kernel
theorem st_95_119 : Sd 95 119 1 (i_ldR 1) := sd_aload_n (j := 1) dd_95_119 rfl
theorem dd_95_120 : decode (mi 95).2.1 120 = .ok (.aload_n 0, 1) := by decide +kernel
theorem st_95_120 : Sd 95 120 1 (i_ldR 0) := sd_aload_n (j := 0) dd_95_120 rfl
theorem dd_95_121 : decode (mi 95).2.1 121 = .ok (.invokevirtual 39, 3) := by decide +kernel
theorem st_95_121 : Sd 95 121 3 (i_cV [(3, 85)] 1 3 []) := sd_virt ⟨"ContractDesk$Reader", "here", "()C"⟩ dd_95_121 (by rw [mc_95]; exact tw_620) (fun t j h => by simp only [List.mem_cons, List.not_mem_nil, or_false, Prod.mk.injEq] at h; obtain ⟨rfl, rfl⟩ := h; exact mn_85) (fun t j h => by simp only [List.mem_cons, List.not_mem_nil, or_false, Prod.mk.injEq] at h; obtain ⟨rfl, rfl⟩ := h; exact ⟨by rw [mn_85]; exact tw_622, by rw [mn_85]; exact tw_621, mt_85, by decide, by decide⟩) (by unfold prm; decide +kernel) ml_95 (HsOk.nil (by decide +kernel))
theorem dd_95_124 : decode (mi 95).2.1 124 = .ok (.bipush 124, 2) := by decide +kernel
theorem st_95_124 : Sd 95 124 2 (i_ic 124) := sd_bipush dd_95_124 (by decide)
theorem dd_95_126 : decode (mi 95).2.1 126 = .ok (.if_icmp .ne 7, 3) := by decide +kernel
theorem st_95_126 : Sd 95 126 3 (i_cne 133) := sd_icmp_ne dd_95_126 (by decide)
theorem dd_95_129 : decode (mi 95).2.1 129 = .ok (.iconst 1, 1) := by decide +kernel
theorem st_95_129 : Sd 95 129 1 (i_ic 1) := sd_iconst dd_95_129
theorem dd_95_130 : decode (mi 95).2.1 130 = .ok (.goto 4, 3) := by decide +kernel
theorem st_95_130 : Sd 95 130 3 (i_goto 134) := sd_goto dd_95_130 (by decide)
def bk_95_105 : Tr := sq (i_ldR 0) (sq (i_ic 58) (sq (i_cV [(3, 83)] 2 3 []) (sq (i_ldR 1) (sq (i_ldR 0) (sq (i_cV [(3, 91)] 1 3 []) (sq (i_cV [(5, 104)] 2 3 []) (sq (i_ldR 1) (sq (i_ldR 0) (sq (i_cV [(3, 85)] 1 3 []) (sq (i_ic 124) (sq (i_cne 133) (sq (i_ic 1) (i_goto 134)))))))))))))
theorem sb_95_105 : Sd 95 105 28 bk_95_105 := Sd.sq st_95_105 (Sd.sq st_95_106 (Sd.sq st_95_108 (Sd.sq st_95_111 (Sd.sq st_95_112 (Sd.sq st_95_113 (Sd.sq st_95_116 (Sd.sq st_95_119 (Sd.sq st_95_120 (Sd.sq st_95_121 (Sd.sq st_95_124 (Sd.sq st_95_126 (Sd.sq st_95_129 (st_95_130)))))))))))))
theorem dd_95_133 : decode (mi 95).2.1 133 = .ok (.iconst 0, 1) := by decide +kernel
theorem st_95_133 : Sd 95 133 1 (i_ic 0) := sd_iconst dd_95_133
def bk_95_133 : Tr := sq (i_ic 0) (i_fall 134)
theorem sb_95_133 : Sd 95 133 1 bk_95_133 := Sd.sq st_95_133 (sd_fall rfl)
theorem dd_95_134 : decode (mi 95).2.1 134 = .ok (.putfield 173, 3) := by decide +kernel
theorem st_95_134 : Sd 95 134 3 (i_pI 3 [5] 2) := sd_pI (ref := "ContractDesk$Rule") (decl := "ContractDesk$Rule") (name := "any") (desc := "Z") dd_95_134 (by rw [mc_95]; exact tw_1026) (Or.inl rfl) (by decide +kernel) (by decide +kernel) (by decide)
def bk_95_134 : Tr := sq (i_pI 3 [5] 2) (i_fall 137)
theorem sb_95_134 : Sd 95 134 3 bk_95_134 := Sd.sq st_95_134 (sd_fall rfl)
theorem dd_95_137 : decode (mi 95).2.1 137 = .ok (.aload_n 0, 1) := by decide +kernel
theorem st_95_137 : Sd 95 137 1 (i_ldR 0) := sd_aload_n (j := 0) dd_95_137 rfl
theorem dd_95_138 : decode (mi 95).2.1 138 = .ok (.aload_n 1, 1) := by decide +kernel
theorem st_95_138 : Sd 95 138 1 (i_ldR 1) := sd_aload_n (j := 1) dd_95_138 rfl
theorem dd_95_139 : decode (mi 95).2.1 139 = .ok (.getfield 173, 3) := by decide +kernel
theorem st_95_139 : Sd 95 139 3 (i_gI 3 [5]) := sd_gI (ref := "ContractDesk$Rule") (decl := "ContractDesk$Rule") (name := "any") (desc := "Z") dd_95_139 (by rw [mc_95]; exact tw_1026) (Or.inl rfl) (by decide +kernel)
theorem dd_95_142 : decode (mi 95).2.1 142 = .ok (.ifCond .eq 8, 3) := by decide +kernel
theorem st_95_142 : Sd 95 142 3 (i_zeq 150) := sd_if_eq dd_95_142 (by decide)
theorem dd_95_145 : decode (mi 95).2.1 145 = .ok (.bipush 124, 2) := by decide +kernel
theorem st_95_145 : Sd 95 145 2 (i_ic 124) := sd_bipush dd_95_145 (by decide)
theorem dd_95_147 : decode (mi 95).2.1 147 = .ok (.goto 5, 3) := by decide +kernel
theorem st_95_147 : Sd 95 147 3 (i_goto 152) := sd_goto dd_95_147 (by decide)
def bk_95_137 : Tr := sq (i_ldR 0) (sq (i_ldR 1) (sq (i_gI 3 [5]) (sq (i_zeq 150) (sq (i_ic 124) (i_goto 152)))))
theorem sb_95_137 : Sd 95 137 13 bk_95_137 := Sd.sq st_95_137 (Sd.sq st_95_138 (Sd.sq st_95_139 (Sd.sq st_95_142 (Sd.sq st_95_145 (st_95_147)))))
theorem dd_95_150 : decode (mi 95).2.1 150 = .ok (.bipush 38, 2) := by decide +kernel
theorem st_95_150 : Sd 95 150 2 (i_ic 38) := sd_bipush dd_95_150 (by decide)
def bk_95_150 : Tr := sq (i_ic 38) (i_fall 152)
theorem sb_95_150 : Sd 95 150 2 bk_95_150 := Sd.sq st_95_150 (sd_fall rfl)
theorem dd_95_152 : decode (mi 95).2.1 152 = .ok (.invokevirtual 43, 3) := by decide +kernel
theorem st_95_152 : Sd 95 152 3 (i_cV [(3, 98)] 2 3 []) := sd_virt ⟨"ContractDesk$Reader", "takes", "(C)Z"⟩ dd_95_152 (by rw [mc_95]; exact tw_616) (fun t j h => by simp only [List.mem_cons, List.not_mem_nil, or_false, Prod.mk.injEq] at h; obtain ⟨rfl, rfl⟩ := h; exact mn_98) (fun t j h => by simp only [List.mem_cons, List.not_mem_nil, or_false, Prod.mk.injEq] at h; obtain ⟨rfl, rfl⟩ := h; exact ⟨by rw [mn_98]; exact tw_618, by rw [mn_98]; exact tw_617, mt_98, by decide, by decide⟩) (by unfold prm; decide +kernel) ml_95 (HsOk.nil (by decide +kernel))
theorem dd_95_155 : decode (mi 95).2.1 155 = .ok (.ifCond .eq 14, 3) := by decide +kernel
theorem st_95_155 : Sd 95 155 3 (i_zeq 169) := sd_if_eq dd_95_155 (by decide)
theorem dd_95_158 : decode (mi 95).2.1 158 = .ok (.aload_n 1, 1) := by decide +kernel
theorem st_95_158 : Sd 95 158 1 (i_ldR 1) := sd_aload_n (j := 1) dd_95_158 rfl
theorem dd_95_159 : decode (mi 95).2.1 159 = .ok (.aload_n 0, 1) := by decide +kernel
theorem st_95_159 : Sd 95 159 1 (i_ldR 0) := sd_aload_n (j := 0) dd_95_159 rfl
theorem dd_95_160 : decode (mi 95).2.1 160 = .ok (.invokevirtual 166, 3) := by decide +kernel
theorem st_95_160 : Sd 95 160 3 (i_cV [(3, 91)] 1 3 []) := sd_virt ⟨"ContractDesk$Reader", "matcher", "()LContractDesk$Matcher;"⟩ dd_95_160 (by rw [mc_95]; exact tw_1046) (fun t j h => by simp only [List.mem_cons, List.not_mem_nil, or_false, Prod.mk.injEq] at h; obtain ⟨rfl, rfl⟩ := h; exact mn_91) (fun t j h => by simp only [List.mem_cons, List.not_mem_nil, or_false, Prod.mk.injEq] at h; obtain ⟨rfl, rfl⟩ := h; exact ⟨by rw [mn_91]; exact tw_14, by rw [mn_91]; exact tw_1048, mt_91, by decide, by decide⟩) (by unfold prm; decide +kernel) ml_95 (HsOk.nil (by decide +kernel))
theorem dd_95_163 : decode (mi 95).2.1 163 = .ok (.invokevirtual 170, 3) := by decide +kernel
theorem st_95_163 : Sd 95 163 3 (i_cV [(5, 104)] 2 3 []) := sd_virt ⟨"ContractDesk$Rule", "add", "(LContractDesk$Matcher;)V"⟩ dd_95_163 (by rw [mc_95]; exact tw_1120) (fun t j h => by simp only [List.mem_cons, List.not_mem_nil, or_false, Prod.mk.injEq] at h; obtain ⟨rfl, rfl⟩ := h; exact mn_104) (fun t j h => by simp only [List.mem_cons, List.not_mem_nil, or_false, Prod.mk.injEq] at h; obtain ⟨rfl, rfl⟩ := h; exact ⟨by rw [mn_104]; exact tw_1122, by rw [mn_104]; exact tw_1121, mt_104, by decide, by decide⟩) (by unfold prm; decide +kernel) ml_95 (HsOk.nil (by decide +kernel))
theorem dd_95_166 : decode (mi 95).2.1 166 = .ok (.goto (-29), 3) := by decide +kernel
theorem st_95_166 : Sd 95 166 3 (i_goto 137) := sd_goto dd_95_166 (by decide)
def bk_95_152 : Tr := sq (i_cV [(3, 98)] 2 3 []) (sq (i_zeq 169) (sq (i_ldR 1) (sq (i_ldR 0) (sq (i_cV [(3, 91)] 1 3 []) (sq (i_cV [(5, 104)] 2 3 []) (i_goto 137))))))
theorem sb_95_152 : Sd 95 152 17 bk_95_152 := Sd.sq st_95_152 (Sd.sq st_95_155 (Sd.sq st_95_158 (Sd.sq st_95_159 (Sd.sq st_95_160 (Sd.sq st_95_163 (st_95_166))))))
theorem dd_95_169 : decode (mi 95).2.1 169 = .ok (.aload_n 0, 1) := by decide +kernel
theorem st_95_169 : Sd 95 169 1 (i_ldR 0) := sd_aload_n (j := 0) dd_95_169 rfl
theorem dd_95_170 : decode (mi 95).2.1 170 = .ok (.invokevirtual 58, 3) := by decide +kernel
theorem st_95_170 : Sd 95 170 3 (i_cV [(3, 82)] 1 3 []) := sd_virt ⟨"ContractDesk$Reader", "end", "()V"⟩ dd_95_170 (by rw [mc_95]; exact tw_941) (fun t j h => by simp only [List.mem_cons, List.not_mem_nil, or_false, Prod.mk.injEq] at h; obtain ⟨rfl, rfl⟩ := h; exact mn_82) (fun t j h => by simp only [List.mem_cons, List.not_mem_nil, or_false, Prod.mk.injEq] at h; obtain ⟨rfl, rfl⟩ := h; exact ⟨by rw [mn_82]; exact tw_943, by rw [mn_82]; exact tw_942, mt_82, by decide, by decide⟩) (by unfold prm; decide +kernel) ml_95 (HsOk.nil (by decide +kernel))
theorem dd_95_173 : decode (mi 95).2.1 173 = .ok (.aload_n 1, 1) := by decide +kernel
theorem st_95_173 : Sd 95 173 1 (i_ldR 1) := sd_aload_n (j := 1) dd_95_173 rfl
theorem dd_95_174 : decode (mi 95).2.1 174 = .ok (.areturn, 1) := by decide +kernel
theorem st_95_174 : Sd 95 174 1 (i_rR) := sd_areturn dd_95_174 mr_95 (Or.inl ⟨_, rfl⟩)
def bk_95_169 : Tr := sq (i_ldR 0) (sq (i_cV [(3, 82)] 1 3 []) (sq (i_ldR 1) (i_rR)))
theorem sb_95_169 : Sd 95 169 6 bk_95_169 := Sd.sq st_95_169 (Sd.sq st_95_170 (Sd.sq st_95_173 (st_95_174)))
theorem dd_96_0 : decode (mi 96).2.1 0 = .ok (.new 196, 3) := by decide +kernel
theorem st_96_0 : Sd 96 0 3 (i_new 9) := sd_new dd_96_0 (by rw [mc_96]; exact tw_1102) (by exact tw_106) (by exact tw_1103) (by decide) (by decide)
theorem dd_96_3 : decode (mi 96).2.1 3 = .ok (.dup, 1) := by decide +kernel
theorem st_96_3 : Sd 96 3 1 (i_dup) := sd_dup dd_96_3
theorem dd_96_4 : decode (mi 96).2.1 4 = .ok (.invokespecial 198, 3) := by decide +kernel
theorem st_96_4 : Sd 96 4 3 (i_cI 109 1 2 []) := sd_initN (host := "ContractDesk") dd_96_4 (by rw [mc_96, mn_109]; exact tw_1104) (by rw [mn_109]; exact tw_1105) mt_109 pm_109 (by rw [mn_109]) (by decide +kernel) ml_96 (HsOk.nil (by decide +kernel))
theorem dd_96_7 : decode (mi 96).2.1 7 = .ok (.astore_n 1, 1) := by decide +kernel
theorem st_96_7 : Sd 96 7 1 (i_stR 1) := sd_astore_n (j := 1) dd_96_7 rfl
def bk_96_0 : Tr := sq (i_new 9) (sq (i_dup) (sq (i_cI 109 1 2 []) (sq (i_stR 1) (i_fall 8))))
theorem sb_96_0 : Sd 96 0 8 bk_96_0 := Sd.sq st_96_0 (Sd.sq st_96_3 (Sd.sq st_96_4 (Sd.sq st_96_7 (sd_fall rfl))))
theorem dd_96_8 : decode (mi 96).2.1 8 = .ok (.aload_n 0, 1) := by decide +kernel
theorem st_96_8 : Sd 96 8 1 (i_ldR 0) := sd_aload_n (j := 0) dd_96_8 rfl
theorem dd_96_9 : decode (mi 96).2.1 9 = .ok (.bipush 47, 2) := by decide +kernel
theorem st_96_9 : Sd 96 9 2 (i_ic 47) := sd_bipush dd_96_9 (by decide)
theorem dd_96_11 : decode (mi 96).2.1 11 = .ok (.invokevirtual 43, 3) := by decide +kernel
theorem st_96_11 : Sd 96 11 3 (i_cV [(3, 98)] 2 2 []) := sd_virt ⟨"ContractDesk$Reader", "takes", "(C)Z"⟩ dd_96_11 (by rw [mc_96]; exact tw_616) (fun t j h => by simp only [List.mem_cons, List.not_mem_nil, or_false, Prod.mk.injEq] at h; obtain ⟨rfl, rfl⟩ := h; exact mn_98) (fun t j h => by simp only [List.mem_cons, List.not_mem_nil, or_false, Prod.mk.injEq] at h; obtain ⟨rfl, rfl⟩ := h; exact ⟨by rw [mn_98]; exact tw_618, by rw [mn_98]; exact tw_617, mt_98, by decide, by decide⟩) (by unfold prm; decide +kernel) ml_96 (HsOk.nil (by decide +kernel))
theorem dd_96_14 : decode (mi 96).2.1 14 = .ok (.ifCond .ne 90, 3) := by decide +kernel
theorem st_96_14 : Sd 96 14 3 (i_zne 104) := sd_if_ne dd_96_14 (by decide)
theorem dd_96_17 : decode (mi 96).2.1 17 = .ok (.aload_n 1, 1) := by decide +kernel
theorem st_96_17 : Sd 96 17 1 (i_ldR 1) := sd_aload_n (j := 1) dd_96_17 rfl
theorem dd_96_18 : decode (mi 96).2.1 18 = .ok (.getfield 199, 3) := by decide +kernel
theorem st_96_18 : Sd 96 18 3 (i_gR 1 [9]) := sd_gRN (decl := "ContractDesk$Shape") (name := "signs") (desc := "Ljava/lang/StringBuilder;") (host := "ContractDesk") dd_96_18 (by rw [mc_96]; exact tw_1111) (by decide +kernel)
theorem dd_96_21 : decode (mi 96).2.1 21 = .ok (.invokevirtual 23, 3) := by decide +kernel
theorem st_96_21 : Sd 96 21 3 (i_cV [(15, 15)] 1 2 []) := sd_virt ⟨"java/lang/StringBuilder", "length", "()I"⟩ dd_96_21 (by rw [mc_96]; exact tw_596) (fun t j h => by simp only [List.mem_cons, List.not_mem_nil, or_false, Prod.mk.injEq] at h; obtain ⟨rfl, rfl⟩ := h; exact mn_15) (fun t j h => by simp only [List.mem_cons, List.not_mem_nil, or_false, Prod.mk.injEq] at h; obtain ⟨rfl, rfl⟩ := h; exact ⟨by rw [mn_15]; exact tw_1600, by rw [mn_15]; exact tw_392, mt_15, by decide, by decide⟩) (by unfold prm; decide +kernel) ml_96 (HsOk.nil (by decide +kernel))
theorem dd_96_24 : decode (mi 96).2.1 24 = .ok (.bipush 8, 2) := by decide +kernel
theorem st_96_24 : Sd 96 24 2 (i_ic 8) := sd_bipush dd_96_24 (by decide)
theorem dd_96_26 : decode (mi 96).2.1 26 = .ok (.if_icmp .ne 11, 3) := by decide +kernel
theorem st_96_26 : Sd 96 26 3 (i_cne 37) := sd_icmp_ne dd_96_26 (by decide)
theorem dd_96_29 : decode (mi 96).2.1 29 = .ok (.new 47, 3) := by decide +kernel
theorem st_96_29 : Sd 96 29 3 (i_new 17) := sd_new dd_96_29 (by rw [mc_96]; exact tw_624) (by exact tw_82) (by exact tw_181) (by decide) (by decide)
theorem dd_96_32 : decode (mi 96).2.1 32 = .ok (.dup, 1) := by decide +kernel
theorem st_96_32 : Sd 96 32 1 (i_dup) := sd_dup dd_96_32
theorem dd_96_33 : decode (mi 96).2.1 33 = .ok (.invokespecial 49, 3) := by decide +kernel
theorem st_96_33 : Sd 96 33 3 (i_exc 17 2) := sd_exc dd_96_33 (by decide) (by rw [mc_96]; exact tw_625) ml_96
theorem dd_96_36 : decode (mi 96).2.1 36 = .ok (.athrow, 1) := by decide +kernel
theorem st_96_36 : Sd 96 36 1 (i_throw) := sd_athrow dd_96_36 (by decide +kernel)
def bk_96_8 : Tr := sq (i_ldR 0) (sq (i_ic 47) (sq (i_cV [(3, 98)] 2 2 []) (sq (i_zne 104) (sq (i_ldR 1) (sq (i_gR 1 [9]) (sq (i_cV [(15, 15)] 1 2 []) (sq (i_ic 8) (sq (i_cne 37) (sq (i_new 17) (sq (i_dup) (sq (i_exc 17 2) (i_throw))))))))))))
theorem sb_96_8 : Sd 96 8 29 bk_96_8 := Sd.sq st_96_8 (Sd.sq st_96_9 (Sd.sq st_96_11 (Sd.sq st_96_14 (Sd.sq st_96_17 (Sd.sq st_96_18 (Sd.sq st_96_21 (Sd.sq st_96_24 (Sd.sq st_96_26 (Sd.sq st_96_29 (Sd.sq st_96_32 (Sd.sq st_96_33 (st_96_36))))))))))))
theorem dd_96_37 : decode (mi 96).2.1 37 = .ok (.aload_n 1, 1) := by decide +kernel
theorem st_96_37 : Sd 96 37 1 (i_ldR 1) := sd_aload_n (j := 1) dd_96_37 rfl
theorem dd_96_38 : decode (mi 96).2.1 38 = .ok (.getfield 199, 3) := by decide +kernel
theorem st_96_38 : Sd 96 38 3 (i_gR 1 [9]) := sd_gRN (decl := "ContractDesk$Shape") (name := "signs") (desc := "Ljava/lang/StringBuilder;") (host := "ContractDesk") dd_96_38 (by rw [mc_96]; exact tw_1111) (by decide +kernel)
theorem dd_96_41 : decode (mi 96).2.1 41 = .ok (.aload_n 0, 1) := by decide +kernel
theorem st_96_41 : Sd 96 41 1 (i_ldR 0) := sd_aload_n (j := 0) dd_96_41 rfl
theorem dd_96_42 : decode (mi 96).2.1 42 = .ok (.bipush 46, 2) := by decide +kernel
theorem st_96_42 : Sd 96 42 2 (i_ic 46) := sd_bipush dd_96_42 (by decide)
theorem dd_96_44 : decode (mi 96).2.1 44 = .ok (.invokevirtual 43, 3) := by decide +kernel
theorem st_96_44 : Sd 96 44 3 (i_cV [(3, 98)] 2 2 []) := sd_virt ⟨"ContractDesk$Reader", "takes", "(C)Z"⟩ dd_96_44 (by rw [mc_96]; exact tw_616) (fun t j h => by simp only [List.mem_cons, List.not_mem_nil, or_false, Prod.mk.injEq] at h; obtain ⟨rfl, rfl⟩ := h; exact mn_98) (fun t j h => by simp only [List.mem_cons, List.not_mem_nil, or_false, Prod.mk.injEq] at h; obtain ⟨rfl, rfl⟩ := h; exact ⟨by rw [mn_98]; exact tw_618, by rw [mn_98]; exact tw_617, mt_98, by decide, by decide⟩) (by unfold prm; decide +kernel) ml_96 (HsOk.nil (by decide +kernel))
theorem dd_96_47 : decode (mi 96).2.1 47 = .ok (.ifCond .eq 8, 3) := by decide +kernel
theorem st_96_47 : Sd 96 47 3 (i_zeq 55) := sd_if_eq dd_96_47 (by decide)
theorem dd_96_50 : decode (mi 96).2.1 50 = .ok (.bipush 46, 2) := by decide +kernel
theorem st_96_50 : Sd 96 50 2 (i_ic 46) := sd_bipush dd_96_50 (by decide)
theorem dd_96_52 : decode (mi 96).2.1 52 = .ok (.goto 7, 3) := by decide +kernel
theorem st_96_52 : Sd 96 52 3 (i_goto 59) := sd_goto dd_96_52 (by decide)
def bk_96_37 : Tr := sq (i_ldR 1) (sq (i_gR 1 [9]) (sq (i_ldR 0) (sq (i_ic 46) (sq (i_cV [(3, 98)] 2 2 []) (sq (i_zeq 55) (sq (i_ic 46) (i_goto 59)))))))
theorem sb_96_37 : Sd 96 37 18 bk_96_37 := Sd.sq st_96_37 (Sd.sq st_96_38 (Sd.sq st_96_41 (Sd.sq st_96_42 (Sd.sq st_96_44 (Sd.sq st_96_47 (Sd.sq st_96_50 (st_96_52)))))))
theorem dd_96_55 : decode (mi 96).2.1 55 = .ok (.aload_n 0, 1) := by decide +kernel
theorem st_96_55 : Sd 96 55 1 (i_ldR 0) := sd_aload_n (j := 0) dd_96_55 rfl
theorem dd_96_56 : decode (mi 96).2.1 56 = .ok (.invokevirtual 119, 3) := by decide +kernel
theorem st_96_56 : Sd 96 56 3 (i_cV [(3, 90)] 1 2 []) := sd_virt ⟨"ContractDesk$Reader", "letter", "()C"⟩ dd_96_56 (by rw [mc_96]; exact tw_635) (fun t j h => by simp only [List.mem_cons, List.not_mem_nil, or_false, Prod.mk.injEq] at h; obtain ⟨rfl, rfl⟩ := h; exact mn_90) (fun t j h => by simp only [List.mem_cons, List.not_mem_nil, or_false, Prod.mk.injEq] at h; obtain ⟨rfl, rfl⟩ := h; exact ⟨by rw [mn_90]; exact tw_637, by rw [mn_90]; exact tw_636, mt_90, by decide, by decide⟩) (by unfold prm; decide +kernel) ml_96 (HsOk.nil (by decide +kernel))
def bk_96_55 : Tr := sq (i_ldR 0) (sq (i_cV [(3, 90)] 1 2 []) (i_fall 59))
theorem sb_96_55 : Sd 96 55 4 bk_96_55 := Sd.sq st_96_55 (Sd.sq st_96_56 (sd_fall rfl))
theorem dd_96_59 : decode (mi 96).2.1 59 = .ok (.invokevirtual 31, 3) := by decide +kernel
theorem st_96_59 : Sd 96 59 3 (i_cV [(15, 12)] 2 2 []) := sd_virt ⟨"java/lang/StringBuilder", "append", "(C)Ljava/lang/StringBuilder;"⟩ dd_96_59 (by rw [mc_96]; exact tw_607) (fun t j h => by simp only [List.mem_cons, List.not_mem_nil, or_false, Prod.mk.injEq] at h; obtain ⟨rfl, rfl⟩ := h; exact mn_12) (fun t j h => by simp only [List.mem_cons, List.not_mem_nil, or_false, Prod.mk.injEq] at h; obtain ⟨rfl, rfl⟩ := h; exact ⟨by rw [mn_12]; exact tw_515, by rw [mn_12]; exact tw_514, mt_12, by decide, by decide⟩) (by unfold prm; decide +kernel) ml_96 (HsOk.nil (by decide +kernel))
theorem dd_96_62 : decode (mi 96).2.1 62 = .ok (.pop, 1) := by decide +kernel
theorem st_96_62 : Sd 96 62 1 (i_pop) := sd_pop dd_96_62
theorem dd_96_63 : decode (mi 96).2.1 63 = .ok (.aload_n 1, 1) := by decide +kernel
theorem st_96_63 : Sd 96 63 1 (i_ldR 1) := sd_aload_n (j := 1) dd_96_63 rfl
theorem dd_96_64 : decode (mi 96).2.1 64 = .ok (.getfield 202, 3) := by decide +kernel
theorem st_96_64 : Sd 96 64 3 (i_gR 2 [9]) := sd_gRN (decl := "ContractDesk$Shape") (name := "often") (desc := "Ljava/lang/StringBuilder;") (host := "ContractDesk") dd_96_64 (by rw [mc_96]; exact tw_1113) (by decide +kernel)
theorem dd_96_67 : decode (mi 96).2.1 67 = .ok (.aload_n 0, 1) := by decide +kernel
theorem st_96_67 : Sd 96 67 1 (i_ldR 0) := sd_aload_n (j := 0) dd_96_67 rfl
theorem dd_96_68 : decode (mi 96).2.1 68 = .ok (.bipush 42, 2) := by decide +kernel
theorem st_96_68 : Sd 96 68 2 (i_ic 42) := sd_bipush dd_96_68 (by decide)
theorem dd_96_70 : decode (mi 96).2.1 70 = .ok (.invokevirtual 43, 3) := by decide +kernel
theorem st_96_70 : Sd 96 70 3 (i_cV [(3, 98)] 2 2 []) := sd_virt ⟨"ContractDesk$Reader", "takes", "(C)Z"⟩ dd_96_70 (by rw [mc_96]; exact tw_616) (fun t j h => by simp only [List.mem_cons, List.not_mem_nil, or_false, Prod.mk.injEq] at h; obtain ⟨rfl, rfl⟩ := h; exact mn_98) (fun t j h => by simp only [List.mem_cons, List.not_mem_nil, or_false, Prod.mk.injEq] at h; obtain ⟨rfl, rfl⟩ := h; exact ⟨by rw [mn_98]; exact tw_618, by rw [mn_98]; exact tw_617, mt_98, by decide, by decide⟩) (by unfold prm; decide +kernel) ml_96 (HsOk.nil (by decide +kernel))
theorem dd_96_73 : decode (mi 96).2.1 73 = .ok (.ifCond .eq 8, 3) := by decide +kernel
theorem st_96_73 : Sd 96 73 3 (i_zeq 81) := sd_if_eq dd_96_73 (by decide)
theorem dd_96_76 : decode (mi 96).2.1 76 = .ok (.bipush 42, 2) := by decide +kernel
theorem st_96_76 : Sd 96 76 2 (i_ic 42) := sd_bipush dd_96_76 (by decide)
theorem dd_96_78 : decode (mi 96).2.1 78 = .ok (.goto 19, 3) := by decide +kernel
theorem st_96_78 : Sd 96 78 3 (i_goto 97) := sd_goto dd_96_78 (by decide)
def bk_96_59 : Tr := sq (i_cV [(15, 12)] 2 2 []) (sq (i_pop) (sq (i_ldR 1) (sq (i_gR 2 [9]) (sq (i_ldR 0) (sq (i_ic 42) (sq (i_cV [(3, 98)] 2 2 []) (sq (i_zeq 81) (sq (i_ic 42) (i_goto 97)))))))))
theorem sb_96_59 : Sd 96 59 22 bk_96_59 := Sd.sq st_96_59 (Sd.sq st_96_62 (Sd.sq st_96_63 (Sd.sq st_96_64 (Sd.sq st_96_67 (Sd.sq st_96_68 (Sd.sq st_96_70 (Sd.sq st_96_73 (Sd.sq st_96_76 (st_96_78)))))))))
theorem dd_96_81 : decode (mi 96).2.1 81 = .ok (.aload_n 0, 1) := by decide +kernel
theorem st_96_81 : Sd 96 81 1 (i_ldR 0) := sd_aload_n (j := 0) dd_96_81 rfl
theorem dd_96_82 : decode (mi 96).2.1 82 = .ok (.bipush 43, 2) := by decide +kernel
theorem st_96_82 : Sd 96 82 2 (i_ic 43) := sd_bipush dd_96_82 (by decide)
theorem dd_96_84 : decode (mi 96).2.1 84 = .ok (.invokevirtual 43, 3) := by decide +kernel
theorem st_96_84 : Sd 96 84 3 (i_cV [(3, 98)] 2 2 []) := sd_virt ⟨"ContractDesk$Reader", "takes", "(C)Z"⟩ dd_96_84 (by rw [mc_96]; exact tw_616) (fun t j h => by simp only [List.mem_cons, List.not_mem_nil, or_false, Prod.mk.injEq] at h; obtain ⟨rfl, rfl⟩ := h; exact mn_98) (fun t j h => by simp only [List.mem_cons, List.not_mem_nil, or_false, Prod.mk.injEq] at h; obtain ⟨rfl, rfl⟩ := h; exact ⟨by rw [mn_98]; exact tw_618, by rw [mn_98]; exact tw_617, mt_98, by decide, by decide⟩) (by unfold prm; decide +kernel) ml_96 (HsOk.nil (by decide +kernel))
theorem dd_96_87 : decode (mi 96).2.1 87 = .ok (.ifCond .eq 8, 3) := by decide +kernel
theorem st_96_87 : Sd 96 87 3 (i_zeq 95) := sd_if_eq dd_96_87 (by decide)
theorem dd_96_90 : decode (mi 96).2.1 90 = .ok (.bipush 43, 2) := by decide +kernel
theorem st_96_90 : Sd 96 90 2 (i_ic 43) := sd_bipush dd_96_90 (by decide)
theorem dd_96_92 : decode (mi 96).2.1 92 = .ok (.goto 5, 3) := by decide +kernel
theorem st_96_92 : Sd 96 92 3 (i_goto 97) := sd_goto dd_96_92 (by decide)
def bk_96_81 : Tr := sq (i_ldR 0) (sq (i_ic 43) (sq (i_cV [(3, 98)] 2 2 []) (sq (i_zeq 95) (sq (i_ic 43) (i_goto 97)))))
theorem sb_96_81 : Sd 96 81 14 bk_96_81 := Sd.sq st_96_81 (Sd.sq st_96_82 (Sd.sq st_96_84 (Sd.sq st_96_87 (Sd.sq st_96_90 (st_96_92)))))
theorem dd_96_95 : decode (mi 96).2.1 95 = .ok (.bipush 49, 2) := by decide +kernel
theorem st_96_95 : Sd 96 95 2 (i_ic 49) := sd_bipush dd_96_95 (by decide)
def bk_96_95 : Tr := sq (i_ic 49) (i_fall 97)
theorem sb_96_95 : Sd 96 95 2 bk_96_95 := Sd.sq st_96_95 (sd_fall rfl)
theorem dd_96_97 : decode (mi 96).2.1 97 = .ok (.invokevirtual 31, 3) := by decide +kernel
theorem st_96_97 : Sd 96 97 3 (i_cV [(15, 12)] 2 2 []) := sd_virt ⟨"java/lang/StringBuilder", "append", "(C)Ljava/lang/StringBuilder;"⟩ dd_96_97 (by rw [mc_96]; exact tw_607) (fun t j h => by simp only [List.mem_cons, List.not_mem_nil, or_false, Prod.mk.injEq] at h; obtain ⟨rfl, rfl⟩ := h; exact mn_12) (fun t j h => by simp only [List.mem_cons, List.not_mem_nil, or_false, Prod.mk.injEq] at h; obtain ⟨rfl, rfl⟩ := h; exact ⟨by rw [mn_12]; exact tw_515, by rw [mn_12]; exact tw_514, mt_12, by decide, by decide⟩) (by unfold prm; decide +kernel) ml_96 (HsOk.nil (by decide +kernel))
theorem dd_96_100 : decode (mi 96).2.1 100 = .ok (.pop, 1) := by decide +kernel
theorem st_96_100 : Sd 96 100 1 (i_pop) := sd_pop dd_96_100
theorem dd_96_101 : decode (mi 96).2.1 101 = .ok (.goto (-93), 3) := by decide +kernel
theorem st_96_101 : Sd 96 101 3 (i_goto 8) := sd_goto dd_96_101 (by decide)
def bk_96_97 : Tr := sq (i_cV [(15, 12)] 2 2 []) (sq (i_pop) (i_goto 8))
theorem sb_96_97 : Sd 96 97 7 bk_96_97 := Sd.sq st_96_97 (Sd.sq st_96_100 (st_96_101))
theorem dd_96_104 : decode (mi 96).2.1 104 = .ok (.aload_n 1, 1) := by decide +kernel
theorem st_96_104 : Sd 96 104 1 (i_ldR 1) := sd_aload_n (j := 1) dd_96_104 rfl
theorem dd_96_105 : decode (mi 96).2.1 105 = .ok (.getfield 199, 3) := by decide +kernel
theorem st_96_105 : Sd 96 105 3 (i_gR 1 [9]) := sd_gRN (decl := "ContractDesk$Shape") (name := "signs") (desc := "Ljava/lang/StringBuilder;") (host := "ContractDesk") dd_96_105 (by rw [mc_96]; exact tw_1111) (by decide +kernel)
theorem dd_96_108 : decode (mi 96).2.1 108 = .ok (.invokevirtual 23, 3) := by decide +kernel
theorem st_96_108 : Sd 96 108 3 (i_cV [(15, 15)] 1 2 []) := sd_virt ⟨"java/lang/StringBuilder", "length", "()I"⟩ dd_96_108 (by rw [mc_96]; exact tw_596) (fun t j h => by simp only [List.mem_cons, List.not_mem_nil, or_false, Prod.mk.injEq] at h; obtain ⟨rfl, rfl⟩ := h; exact mn_15) (fun t j h => by simp only [List.mem_cons, List.not_mem_nil, or_false, Prod.mk.injEq] at h; obtain ⟨rfl, rfl⟩ := h; exact ⟨by rw [mn_15]; exact tw_1600, by rw [mn_15]; exact tw_392, mt_15, by decide, by decide⟩) (by unfold prm; decide +kernel) ml_96 (HsOk.nil (by decide +kernel))
theorem dd_96_111 : decode (mi 96).2.1 111 = .ok (.ifCond .ne 11, 3) := by decide +kernel
theorem st_96_111 : Sd 96 111 3 (i_zne 122) := sd_if_ne dd_96_111 (by decide)
theorem dd_96_114 : decode (mi 96).2.1 114 = .ok (.new 47, 3) := by decide +kernel
theorem st_96_114 : Sd 96 114 3 (i_new 17) := sd_new dd_96_114 (by rw [mc_96]; exact tw_624) (by exact tw_82) (by exact tw_181) (by decide) (by decide)
theorem dd_96_117 : decode (mi 96).2.1 117 = .ok (.dup, 1) := by decide +kernel
theorem st_96_117 : Sd 96 117 1 (i_dup) := sd_dup dd_96_117
theorem dd_96_118 : decode (mi 96).2.1 118 = .ok (.invokespecial 49, 3) := by decide +kernel
theorem st_96_118 : Sd 96 118 3 (i_exc 17 2) := sd_exc dd_96_118 (by decide) (by rw [mc_96]; exact tw_625) ml_96
theorem dd_96_121 : decode (mi 96).2.1 121 = .ok (.athrow, 1) := by decide +kernel
theorem st_96_121 : Sd 96 121 1 (i_throw) := sd_athrow dd_96_121 (by decide +kernel)
def bk_96_104 : Tr := sq (i_ldR 1) (sq (i_gR 1 [9]) (sq (i_cV [(15, 15)] 1 2 []) (sq (i_zne 122) (sq (i_new 17) (sq (i_dup) (sq (i_exc 17 2) (i_throw)))))))
theorem sb_96_104 : Sd 96 104 18 bk_96_104 := Sd.sq st_96_104 (Sd.sq st_96_105 (Sd.sq st_96_108 (Sd.sq st_96_111 (Sd.sq st_96_114 (Sd.sq st_96_117 (Sd.sq st_96_118 (st_96_121)))))))
theorem dd_96_122 : decode (mi 96).2.1 122 = .ok (.aload_n 1, 1) := by decide +kernel
theorem st_96_122 : Sd 96 122 1 (i_ldR 1) := sd_aload_n (j := 1) dd_96_122 rfl
theorem dd_96_123 : decode (mi 96).2.1 123 = .ok (.areturn, 1) := by decide +kernel
theorem st_96_123 : Sd 96 123 1 (i_rR) := sd_areturn dd_96_123 mr_96 (Or.inl ⟨_, rfl⟩)
def bk_96_122 : Tr := sq (i_ldR 1) (i_rR)
theorem sb_96_122 : Sd 96 122 2 bk_96_122 := Sd.sq st_96_122 (st_96_123)
theorem dd_97_0 : decode (mi 97).2.1 0 = .ok (.aload_n 0, 1) := by decide +kernel
theorem st_97_0 : Sd 97 0 1 (i_ldR 0) := sd_aload_n (j := 0) dd_97_0 rfl
theorem dd_97_1 : decode (mi 97).2.1 1 = .ok (.getfield 14, 3) := by decide +kernel
theorem st_97_1 : Sd 97 1 3 (i_gR 0 [3]) := sd_gR (ref := "ContractDesk$Reader") (decl := "ContractDesk$Reader") (name := "s") (desc := "Ljava/lang/StringBuilder;") dd_97_1 (by rw [mc_97]; exact tw_157) (Or.inl rfl) (by decide +kernel)
theorem dd_97_4 : decode (mi 97).2.1 4 = .ok (.iconst 0, 1) := by decide +kernel
theorem st_97_4 : Sd 97 4 1 (i_ic 0) := sd_iconst dd_97_4
theorem dd_97_5 : decode (mi 97).2.1 5 = .ok (.invokevirtual 20, 3) := by decide +kernel
theorem st_97_5 : Sd 97 5 3 (i_cV [(15, 17)] 2 3 []) := sd_virt ⟨"java/lang/StringBuilder", "setLength", "(I)V"⟩ dd_97_5 (by rw [mc_97]; exact tw_573) (fun t j h => by simp only [List.mem_cons, List.not_mem_nil, or_false, Prod.mk.injEq] at h; obtain ⟨rfl, rfl⟩ := h; exact mn_17) (fun t j h => by simp only [List.mem_cons, List.not_mem_nil, or_false, Prod.mk.injEq] at h; obtain ⟨rfl, rfl⟩ := h; exact ⟨by rw [mn_17]; exact tw_575, by rw [mn_17]; exact tw_574, mt_17, by decide, by decide⟩) (by unfold prm; decide +kernel) ml_97 (HsOk.nil (by decide +kernel))
theorem dd_97_8 : decode (mi 97).2.1 8 = .ok (.iconst 0, 1) := by decide +kernel
theorem st_97_8 : Sd 97 8 1 (i_ic 0) := sd_iconst dd_97_8
theorem dd_97_9 : decode (mi 97).2.1 9 = .ok (.istore_n 2, 1) := by decide +kernel
theorem st_97_9 : Sd 97 9 1 (i_stI 2) := sd_istore_n (j := 2) dd_97_9 rfl
def bk_97_0 : Tr := sq (i_ldR 0) (sq (i_gR 0 [3]) (sq (i_ic 0) (sq (i_cV [(15, 17)] 2 3 []) (sq (i_ic 0) (sq (i_stI 2) (i_fall 10))))))
theorem sb_97_0 : Sd 97 0 10 bk_97_0 := Sd.sq st_97_0 (Sd.sq st_97_1 (Sd.sq st_97_4 (Sd.sq st_97_5 (Sd.sq st_97_8 (Sd.sq st_97_9 (sd_fall rfl))))))
theorem dd_97_10 : decode (mi 97).2.1 10 = .ok (.iload_n 2, 1) := by decide +kernel
theorem st_97_10 : Sd 97 10 1 (i_ldI 2) := sd_iload_n (j := 2) dd_97_10 rfl
theorem dd_97_11 : decode (mi 97).2.1 11 = .ok (.aload_n 1, 1) := by decide +kernel
theorem st_97_11 : Sd 97 11 1 (i_ldR 1) := sd_aload_n (j := 1) dd_97_11 rfl
theorem dd_97_12 : decode (mi 97).2.1 12 = .ok (.invokevirtual 23, 3) := by decide +kernel
theorem st_97_12 : Sd 97 12 3 (i_cV [(15, 15)] 1 3 []) := sd_virt ⟨"java/lang/StringBuilder", "length", "()I"⟩ dd_97_12 (by rw [mc_97]; exact tw_596) (fun t j h => by simp only [List.mem_cons, List.not_mem_nil, or_false, Prod.mk.injEq] at h; obtain ⟨rfl, rfl⟩ := h; exact mn_15) (fun t j h => by simp only [List.mem_cons, List.not_mem_nil, or_false, Prod.mk.injEq] at h; obtain ⟨rfl, rfl⟩ := h; exact ⟨by rw [mn_15]; exact tw_1600, by rw [mn_15]; exact tw_392, mt_15, by decide, by decide⟩) (by unfold prm; decide +kernel) ml_97 (HsOk.nil (by decide +kernel))
theorem dd_97_15 : decode (mi 97).2.1 15 = .ok (.if_icmp .ge 22, 3) := by decide +kernel
theorem st_97_15 : Sd 97 15 3 (i_cge 37) := sd_icmp_ge dd_97_15 (by decide)
theorem dd_97_18 : decode (mi 97).2.1 18 = .ok (.aload_n 0, 1) := by decide +kernel
theorem st_97_18 : Sd 97 18 1 (i_ldR 0) := sd_aload_n (j := 0) dd_97_18 rfl
theorem dd_97_19 : decode (mi 97).2.1 19 = .ok (.getfield 14, 3) := by decide +kernel
theorem st_97_19 : Sd 97 19 3 (i_gR 0 [3]) := sd_gR (ref := "ContractDesk$Reader") (decl := "ContractDesk$Reader") (name := "s") (desc := "Ljava/lang/StringBuilder;") dd_97_19 (by rw [mc_97]; exact tw_157) (Or.inl rfl) (by decide +kernel)
theorem dd_97_22 : decode (mi 97).2.1 22 = .ok (.aload_n 1, 1) := by decide +kernel
theorem st_97_22 : Sd 97 22 1 (i_ldR 1) := sd_aload_n (j := 1) dd_97_22 rfl
theorem dd_97_23 : decode (mi 97).2.1 23 = .ok (.iload_n 2, 1) := by decide +kernel
theorem st_97_23 : Sd 97 23 1 (i_ldI 2) := sd_iload_n (j := 2) dd_97_23 rfl
theorem dd_97_24 : decode (mi 97).2.1 24 = .ok (.invokevirtual 27, 3) := by decide +kernel
theorem st_97_24 : Sd 97 24 3 (i_cV [(15, 19)] 2 3 []) := sd_virt ⟨"java/lang/StringBuilder", "charAt", "(I)C"⟩ dd_97_24 (by rw [mc_97]; exact tw_597) (fun t j h => by simp only [List.mem_cons, List.not_mem_nil, or_false, Prod.mk.injEq] at h; obtain ⟨rfl, rfl⟩ := h; exact mn_19) (fun t j h => by simp only [List.mem_cons, List.not_mem_nil, or_false, Prod.mk.injEq] at h; obtain ⟨rfl, rfl⟩ := h; exact ⟨by rw [mn_19]; exact tw_599, by rw [mn_19]; exact tw_598, mt_19, by decide, by decide⟩) (by unfold prm; decide +kernel) ml_97 (HsOk.nil (by decide +kernel))
theorem dd_97_27 : decode (mi 97).2.1 27 = .ok (.invokevirtual 31, 3) := by decide +kernel
theorem st_97_27 : Sd 97 27 3 (i_cV [(15, 12)] 2 3 []) := sd_virt ⟨"java/lang/StringBuilder", "append", "(C)Ljava/lang/StringBuilder;"⟩ dd_97_27 (by rw [mc_97]; exact tw_607) (fun t j h => by simp only [List.mem_cons, List.not_mem_nil, or_false, Prod.mk.injEq] at h; obtain ⟨rfl, rfl⟩ := h; exact mn_12) (fun t j h => by simp only [List.mem_cons, List.not_mem_nil, or_false, Prod.mk.injEq] at h; obtain ⟨rfl, rfl⟩ := h; exact ⟨by rw [mn_12]; exact tw_515, by rw [mn_12]; exact tw_514, mt_12, by decide, by decide⟩) (by unfold prm; decide +kernel) ml_97 (HsOk.nil (by decide +kernel))
theorem dd_97_30 : decode (mi 97).2.1 30 = .ok (.pop, 1) := by decide +kernel
theorem st_97_30 : Sd 97 30 1 (i_pop) := sd_pop dd_97_30
theorem dd_97_31 : decode (mi 97).2.1 31 = .ok (.iinc 2 1, 3) := by decide +kernel
theorem st_97_31 : Sd 97 31 3 (i_inc 2 1) := sd_iinc dd_97_31
theorem dd_97_34 : decode (mi 97).2.1 34 = .ok (.goto (-24), 3) := by decide +kernel
theorem st_97_34 : Sd 97 34 3 (i_goto 10) := sd_goto dd_97_34 (by decide)
def bk_97_10 : Tr := sq (i_ldI 2) (sq (i_ldR 1) (sq (i_cV [(15, 15)] 1 3 []) (sq (i_cge 37) (sq (i_ldR 0) (sq (i_gR 0 [3]) (sq (i_ldR 1) (sq (i_ldI 2) (sq (i_cV [(15, 19)] 2 3 []) (sq (i_cV [(15, 12)] 2 3 []) (sq (i_pop) (sq (i_inc 2 1) (i_goto 10))))))))))))
theorem sb_97_10 : Sd 97 10 27 bk_97_10 := Sd.sq st_97_10 (Sd.sq st_97_11 (Sd.sq st_97_12 (Sd.sq st_97_15 (Sd.sq st_97_18 (Sd.sq st_97_19 (Sd.sq st_97_22 (Sd.sq st_97_23 (Sd.sq st_97_24 (Sd.sq st_97_27 (Sd.sq st_97_30 (Sd.sq st_97_31 (st_97_34))))))))))))
theorem dd_97_37 : decode (mi 97).2.1 37 = .ok (.aload_n 1, 1) := by decide +kernel
theorem st_97_37 : Sd 97 37 1 (i_ldR 1) := sd_aload_n (j := 1) dd_97_37 rfl
theorem dd_97_38 : decode (mi 97).2.1 38 = .ok (.iconst 0, 1) := by decide +kernel
theorem st_97_38 : Sd 97 38 1 (i_ic 0) := sd_iconst dd_97_38
theorem dd_97_39 : decode (mi 97).2.1 39 = .ok (.invokevirtual 20, 3) := by decide +kernel
theorem st_97_39 : Sd 97 39 3 (i_cV [(15, 17)] 2 3 []) := sd_virt ⟨"java/lang/StringBuilder", "setLength", "(I)V"⟩ dd_97_39 (by rw [mc_97]; exact tw_573) (fun t j h => by simp only [List.mem_cons, List.not_mem_nil, or_false, Prod.mk.injEq] at h; obtain ⟨rfl, rfl⟩ := h; exact mn_17) (fun t j h => by simp only [List.mem_cons, List.not_mem_nil, or_false, Prod.mk.injEq] at h; obtain ⟨rfl, rfl⟩ := h; exact ⟨by rw [mn_17]; exact tw_575, by rw [mn_17]; exact tw_574, mt_17, by decide, by decide⟩) (by unfold prm; decide +kernel) ml_97 (HsOk.nil (by decide +kernel))
theorem dd_97_42 : decode (mi 97).2.1 42 = .ok (.aload_n 0, 1) := by decide +kernel
theorem st_97_42 : Sd 97 42 1 (i_ldR 0) := sd_aload_n (j := 0) dd_97_42 rfl
theorem dd_97_43 : decode (mi 97).2.1 43 = .ok (.iconst 0, 1) := by decide +kernel
theorem st_97_43 : Sd 97 43 1 (i_ic 0) := sd_iconst dd_97_43
theorem dd_97_44 : decode (mi 97).2.1 44 = .ok (.putfield 35, 3) := by decide +kernel
theorem st_97_44 : Sd 97 44 3 (i_pI 1 [3] 0) := sd_pI (ref := "ContractDesk$Reader") (decl := "ContractDesk$Reader") (name := "at") (desc := "I") dd_97_44 (by rw [mc_97]; exact tw_158) (Or.inl rfl) (by decide +kernel) (by decide +kernel) (by decide)
theorem dd_97_47 : decode (mi 97).2.1 47 = .ok (.return_, 1) := by decide +kernel
theorem st_97_47 : Sd 97 47 1 (i_ret) := sd_ret dd_97_47 mr_97
def bk_97_37 : Tr := sq (i_ldR 1) (sq (i_ic 0) (sq (i_cV [(15, 17)] 2 3 []) (sq (i_ldR 0) (sq (i_ic 0) (sq (i_pI 1 [3] 0) (i_ret))))))
theorem sb_97_37 : Sd 97 37 11 bk_97_37 := Sd.sq st_97_37 (Sd.sq st_97_38 (Sd.sq st_97_39 (Sd.sq st_97_42 (Sd.sq st_97_43 (Sd.sq st_97_44 (st_97_47))))))
theorem dd_98_0 : decode (mi 98).2.1 0 = .ok (.aload_n 0, 1) := by decide +kernel
theorem st_98_0 : Sd 98 0 1 (i_ldR 0) := sd_aload_n (j := 0) dd_98_0 rfl
theorem dd_98_1 : decode (mi 98).2.1 1 = .ok (.invokevirtual 39, 3) := by decide +kernel
theorem st_98_1 : Sd 98 1 3 (i_cV [(3, 85)] 1 2 []) := sd_virt ⟨"ContractDesk$Reader", "here", "()C"⟩ dd_98_1 (by rw [mc_98]; exact tw_620) (fun t j h => by simp only [List.mem_cons, List.not_mem_nil, or_false, Prod.mk.injEq] at h; obtain ⟨rfl, rfl⟩ := h; exact mn_85) (fun t j h => by simp only [List.mem_cons, List.not_mem_nil, or_false, Prod.mk.injEq] at h; obtain ⟨rfl, rfl⟩ := h; exact ⟨by rw [mn_85]; exact tw_622, by rw [mn_85]; exact tw_621, mt_85, by decide, by decide⟩) (by unfold prm; decide +kernel) ml_98 (HsOk.nil (by decide +kernel))
theorem dd_98_4 : decode (mi 98).2.1 4 = .ok (.iload_n 1, 1) := by decide +kernel
theorem st_98_4 : Sd 98 4 1 (i_ldI 1) := sd_iload_n (j := 1) dd_98_4 rfl
theorem dd_98_5 : decode (mi 98).2.1 5 = .ok (.if_icmp .eq 5, 3) := by decide +kernel
theorem st_98_5 : Sd 98 5 3 (i_ceq 10) := sd_icmp_eq dd_98_5 (by decide)
theorem dd_98_8 : decode (mi 98).2.1 8 = .ok (.iconst 0, 1) := by decide +kernel
theorem st_98_8 : Sd 98 8 1 (i_ic 0) := sd_iconst dd_98_8
theorem dd_98_9 : decode (mi 98).2.1 9 = .ok (.ireturn, 1) := by decide +kernel
theorem st_98_9 : Sd 98 9 1 (i_rI 2) := sd_ireturn dd_98_9 (by decide) mr_98
def bk_98_0 : Tr := sq (i_ldR 0) (sq (i_cV [(3, 85)] 1 2 []) (sq (i_ldI 1) (sq (i_ceq 10) (sq (i_ic 0) (i_rI 2)))))
theorem sb_98_0 : Sd 98 0 10 bk_98_0 := Sd.sq st_98_0 (Sd.sq st_98_1 (Sd.sq st_98_4 (Sd.sq st_98_5 (Sd.sq st_98_8 (st_98_9)))))
theorem dd_98_10 : decode (mi 98).2.1 10 = .ok (.aload_n 0, 1) := by decide +kernel
theorem st_98_10 : Sd 98 10 1 (i_ldR 0) := sd_aload_n (j := 0) dd_98_10 rfl
theorem dd_98_11 : decode (mi 98).2.1 11 = .ok (.dup, 1) := by decide +kernel
theorem st_98_11 : Sd 98 11 1 (i_dup) := sd_dup dd_98_11
theorem dd_98_12 : decode (mi 98).2.1 12 = .ok (.getfield 35, 3) := by decide +kernel
theorem st_98_12 : Sd 98 12 3 (i_gI 1 [3]) := sd_gI (ref := "ContractDesk$Reader") (decl := "ContractDesk$Reader") (name := "at") (desc := "I") dd_98_12 (by rw [mc_98]; exact tw_158) (Or.inl rfl) (by decide +kernel)
theorem dd_98_15 : decode (mi 98).2.1 15 = .ok (.iconst 1, 1) := by decide +kernel
theorem st_98_15 : Sd 98 15 1 (i_ic 1) := sd_iconst dd_98_15
theorem dd_98_16 : decode (mi 98).2.1 16 = .ok (.iadd, 1) := by decide +kernel
theorem st_98_16 : Sd 98 16 1 (i_iadd) := sd_iadd dd_98_16
theorem dd_98_17 : decode (mi 98).2.1 17 = .ok (.putfield 35, 3) := by decide +kernel
theorem st_98_17 : Sd 98 17 3 (i_pI 1 [3] 0) := sd_pI (ref := "ContractDesk$Reader") (decl := "ContractDesk$Reader") (name := "at") (desc := "I") dd_98_17 (by rw [mc_98]; exact tw_158) (Or.inl rfl) (by decide +kernel) (by decide +kernel) (by decide)
theorem dd_98_20 : decode (mi 98).2.1 20 = .ok (.iconst 1, 1) := by decide +kernel
theorem st_98_20 : Sd 98 20 1 (i_ic 1) := sd_iconst dd_98_20
theorem dd_98_21 : decode (mi 98).2.1 21 = .ok (.ireturn, 1) := by decide +kernel
theorem st_98_21 : Sd 98 21 1 (i_rI 2) := sd_ireturn dd_98_21 (by decide) mr_98
def bk_98_10 : Tr := sq (i_ldR 0) (sq (i_dup) (sq (i_gI 1 [3]) (sq (i_ic 1) (sq (i_iadd) (sq (i_pI 1 [3] 0) (sq (i_ic 1) (i_rI 2)))))))
theorem sb_98_10 : Sd 98 10 12 bk_98_10 := Sd.sq st_98_10 (Sd.sq st_98_11 (Sd.sq st_98_12 (Sd.sq st_98_15 (Sd.sq st_98_16 (Sd.sq st_98_17 (Sd.sq st_98_20 (st_98_21)))))))
theorem dd_99_0 : decode (mi 99).2.1 0 = .ok (.aload_n 0, 1) := by decide +kernel
theorem st_99_0 : Sd 99 0 1 (i_ldR 0) := sd_aload_n (j := 0) dd_99_0 rfl
theorem dd_99_1 : decode (mi 99).2.1 1 = .ok (.bipush 34, 2) := by decide +kernel
theorem st_99_1 : Sd 99 1 2 (i_ic 34) := sd_bipush dd_99_1 (by decide)
theorem dd_99_3 : decode (mi 99).2.1 3 = .ok (.invokevirtual 95, 3) := by decide +kernel
theorem st_99_3 : Sd 99 3 3 (i_cV [(3, 83)] 2 2 []) := sd_virt ⟨"ContractDesk$Reader", "expect", "(C)V"⟩ dd_99_3 (by rw [mc_99]; exact tw_612) (fun t j h => by simp only [List.mem_cons, List.not_mem_nil, or_false, Prod.mk.injEq] at h; obtain ⟨rfl, rfl⟩ := h; exact mn_83) (fun t j h => by simp only [List.mem_cons, List.not_mem_nil, or_false, Prod.mk.injEq] at h; obtain ⟨rfl, rfl⟩ := h; exact ⟨by rw [mn_83]; exact tw_614, by rw [mn_83]; exact tw_613, mt_83, by decide, by decide⟩) (by unfold prm; decide +kernel) ml_99 (HsOk.nil (by decide +kernel))
theorem dd_99_6 : decode (mi 99).2.1 6 = .ok (.new 110, 3) := by decide +kernel
theorem st_99_6 : Sd 99 6 3 (i_new 10) := sd_new dd_99_6 (by rw [mc_99]; exact tw_810) (by exact tw_95) (by exact tw_811) (by decide) (by decide)
theorem dd_99_9 : decode (mi 99).2.1 9 = .ok (.dup, 1) := by decide +kernel
theorem st_99_9 : Sd 99 9 1 (i_dup) := sd_dup dd_99_9
theorem dd_99_10 : decode (mi 99).2.1 10 = .ok (.invokespecial 112, 3) := by decide +kernel
theorem st_99_10 : Sd 99 10 3 (i_cI 117 1 2 []) := sd_initN (host := "ContractDesk") dd_99_10 (by rw [mc_99, mn_117]; exact tw_812) (by rw [mn_117]; exact tw_813) mt_117 pm_117 (by rw [mn_117]) (by decide +kernel) ml_99 (HsOk.nil (by decide +kernel))
theorem dd_99_13 : decode (mi 99).2.1 13 = .ok (.astore_n 1, 1) := by decide +kernel
theorem st_99_13 : Sd 99 13 1 (i_stR 1) := sd_astore_n (j := 1) dd_99_13 rfl
def bk_99_0 : Tr := sq (i_ldR 0) (sq (i_ic 34) (sq (i_cV [(3, 83)] 2 2 []) (sq (i_new 10) (sq (i_dup) (sq (i_cI 117 1 2 []) (sq (i_stR 1) (i_fall 14)))))))
theorem sb_99_0 : Sd 99 0 14 bk_99_0 := Sd.sq st_99_0 (Sd.sq st_99_1 (Sd.sq st_99_3 (Sd.sq st_99_6 (Sd.sq st_99_9 (Sd.sq st_99_10 (Sd.sq st_99_13 (sd_fall rfl)))))))
theorem dd_99_14 : decode (mi 99).2.1 14 = .ok (.aload_n 0, 1) := by decide +kernel
theorem st_99_14 : Sd 99 14 1 (i_ldR 0) := sd_aload_n (j := 0) dd_99_14 rfl
theorem dd_99_15 : decode (mi 99).2.1 15 = .ok (.invokevirtual 113, 3) := by decide +kernel
theorem st_99_15 : Sd 99 15 3 (i_cV [(3, 88)] 1 2 []) := sd_virt ⟨"ContractDesk$Reader", "isLetter", "()Z"⟩ dd_99_15 (by rw [mc_99]; exact tw_828) (fun t j h => by simp only [List.mem_cons, List.not_mem_nil, or_false, Prod.mk.injEq] at h; obtain ⟨rfl, rfl⟩ := h; exact mn_88) (fun t j h => by simp only [List.mem_cons, List.not_mem_nil, or_false, Prod.mk.injEq] at h; obtain ⟨rfl, rfl⟩ := h; exact ⟨by rw [mn_88]; exact tw_830, by rw [mn_88]; exact tw_829, mt_88, by decide, by decide⟩) (by unfold prm; decide +kernel) ml_99 (HsOk.nil (by decide +kernel))
theorem dd_99_18 : decode (mi 99).2.1 18 = .ok (.ifCond .eq 30, 3) := by decide +kernel
theorem st_99_18 : Sd 99 18 3 (i_zeq 48) := sd_if_eq dd_99_18 (by decide)
theorem dd_99_21 : decode (mi 99).2.1 21 = .ok (.aload_n 1, 1) := by decide +kernel
theorem st_99_21 : Sd 99 21 1 (i_ldR 1) := sd_aload_n (j := 1) dd_99_21 rfl
theorem dd_99_22 : decode (mi 99).2.1 22 = .ok (.getfield 116, 3) := by decide +kernel
theorem st_99_22 : Sd 99 22 3 (i_gR 0 [10]) := sd_gR (ref := "ContractDesk$Text") (decl := "ContractDesk$Text") (name := "letters") (desc := "Ljava/lang/StringBuilder;") dd_99_22 (by rw [mc_99]; exact tw_824) (Or.inl rfl) (by decide +kernel)
theorem dd_99_25 : decode (mi 99).2.1 25 = .ok (.invokevirtual 23, 3) := by decide +kernel
theorem st_99_25 : Sd 99 25 3 (i_cV [(15, 15)] 1 2 []) := sd_virt ⟨"java/lang/StringBuilder", "length", "()I"⟩ dd_99_25 (by rw [mc_99]; exact tw_596) (fun t j h => by simp only [List.mem_cons, List.not_mem_nil, or_false, Prod.mk.injEq] at h; obtain ⟨rfl, rfl⟩ := h; exact mn_15) (fun t j h => by simp only [List.mem_cons, List.not_mem_nil, or_false, Prod.mk.injEq] at h; obtain ⟨rfl, rfl⟩ := h; exact ⟨by rw [mn_15]; exact tw_1600, by rw [mn_15]; exact tw_392, mt_15, by decide, by decide⟩) (by unfold prm; decide +kernel) ml_99 (HsOk.nil (by decide +kernel))
theorem dd_99_28 : decode (mi 99).2.1 28 = .ok (.bipush 12, 2) := by decide +kernel
theorem st_99_28 : Sd 99 28 2 (i_ic 12) := sd_bipush dd_99_28 (by decide)
theorem dd_99_30 : decode (mi 99).2.1 30 = .ok (.if_icmp .ge 18, 3) := by decide +kernel
theorem st_99_30 : Sd 99 30 3 (i_cge 48) := sd_icmp_ge dd_99_30 (by decide)
theorem dd_99_33 : decode (mi 99).2.1 33 = .ok (.aload_n 1, 1) := by decide +kernel
theorem st_99_33 : Sd 99 33 1 (i_ldR 1) := sd_aload_n (j := 1) dd_99_33 rfl
theorem dd_99_34 : decode (mi 99).2.1 34 = .ok (.getfield 116, 3) := by decide +kernel
theorem st_99_34 : Sd 99 34 3 (i_gR 0 [10]) := sd_gR (ref := "ContractDesk$Text") (decl := "ContractDesk$Text") (name := "letters") (desc := "Ljava/lang/StringBuilder;") dd_99_34 (by rw [mc_99]; exact tw_824) (Or.inl rfl) (by decide +kernel)
theorem dd_99_37 : decode (mi 99).2.1 37 = .ok (.aload_n 0, 1) := by decide +kernel
theorem st_99_37 : Sd 99 37 1 (i_ldR 0) := sd_aload_n (j := 0) dd_99_37 rfl
theorem dd_99_38 : decode (mi 99).2.1 38 = .ok (.invokevirtual 119, 3) := by decide +kernel
theorem st_99_38 : Sd 99 38 3 (i_cV [(3, 90)] 1 2 []) := sd_virt ⟨"ContractDesk$Reader", "letter", "()C"⟩ dd_99_38 (by rw [mc_99]; exact tw_635) (fun t j h => by simp only [List.mem_cons, List.not_mem_nil, or_false, Prod.mk.injEq] at h; obtain ⟨rfl, rfl⟩ := h; exact mn_90) (fun t j h => by simp only [List.mem_cons, List.not_mem_nil, or_false, Prod.mk.injEq] at h; obtain ⟨rfl, rfl⟩ := h; exact ⟨by rw [mn_90]; exact tw_637, by rw [mn_90]; exact tw_636, mt_90, by decide, by decide⟩) (by unfold prm; decide +kernel) ml_99 (HsOk.nil (by decide +kernel))
theorem dd_99_41 : decode (mi 99).2.1 41 = .ok (.invokevirtual 31, 3) := by decide +kernel
theorem st_99_41 : Sd 99 41 3 (i_cV [(15, 12)] 2 2 []) := sd_virt ⟨"java/lang/StringBuilder", "append", "(C)Ljava/lang/StringBuilder;"⟩ dd_99_41 (by rw [mc_99]; exact tw_607) (fun t j h => by simp only [List.mem_cons, List.not_mem_nil, or_false, Prod.mk.injEq] at h; obtain ⟨rfl, rfl⟩ := h; exact mn_12) (fun t j h => by simp only [List.mem_cons, List.not_mem_nil, or_false, Prod.mk.injEq] at h; obtain ⟨rfl, rfl⟩ := h; exact ⟨by rw [mn_12]; exact tw_515, by rw [mn_12]; exact tw_514, mt_12, by decide, by decide⟩) (by unfold prm; decide +kernel) ml_99 (HsOk.nil (by decide +kernel))
theorem dd_99_44 : decode (mi 99).2.1 44 = .ok (.pop, 1) := by decide +kernel
theorem st_99_44 : Sd 99 44 1 (i_pop) := sd_pop dd_99_44
theorem dd_99_45 : decode (mi 99).2.1 45 = .ok (.goto (-31), 3) := by decide +kernel
theorem st_99_45 : Sd 99 45 3 (i_goto 14) := sd_goto dd_99_45 (by decide)
def bk_99_14 : Tr := sq (i_ldR 0) (sq (i_cV [(3, 88)] 1 2 []) (sq (i_zeq 48) (sq (i_ldR 1) (sq (i_gR 0 [10]) (sq (i_cV [(15, 15)] 1 2 []) (sq (i_ic 12) (sq (i_cge 48) (sq (i_ldR 1) (sq (i_gR 0 [10]) (sq (i_ldR 0) (sq (i_cV [(3, 90)] 1 2 []) (sq (i_cV [(15, 12)] 2 2 []) (sq (i_pop) (i_goto 14))))))))))))))
theorem sb_99_14 : Sd 99 14 34 bk_99_14 := Sd.sq st_99_14 (Sd.sq st_99_15 (Sd.sq st_99_18 (Sd.sq st_99_21 (Sd.sq st_99_22 (Sd.sq st_99_25 (Sd.sq st_99_28 (Sd.sq st_99_30 (Sd.sq st_99_33 (Sd.sq st_99_34 (Sd.sq st_99_37 (Sd.sq st_99_38 (Sd.sq st_99_41 (Sd.sq st_99_44 (st_99_45))))))))))))))
theorem dd_99_48 : decode (mi 99).2.1 48 = .ok (.aload_n 0, 1) := by decide +kernel
theorem st_99_48 : Sd 99 48 1 (i_ldR 0) := sd_aload_n (j := 0) dd_99_48 rfl
theorem dd_99_49 : decode (mi 99).2.1 49 = .ok (.bipush 34, 2) := by decide +kernel
theorem st_99_49 : Sd 99 49 2 (i_ic 34) := sd_bipush dd_99_49 (by decide)
theorem dd_99_51 : decode (mi 99).2.1 51 = .ok (.invokevirtual 95, 3) := by decide +kernel
theorem st_99_51 : Sd 99 51 3 (i_cV [(3, 83)] 2 2 []) := sd_virt ⟨"ContractDesk$Reader", "expect", "(C)V"⟩ dd_99_51 (by rw [mc_99]; exact tw_612) (fun t j h => by simp only [List.mem_cons, List.not_mem_nil, or_false, Prod.mk.injEq] at h; obtain ⟨rfl, rfl⟩ := h; exact mn_83) (fun t j h => by simp only [List.mem_cons, List.not_mem_nil, or_false, Prod.mk.injEq] at h; obtain ⟨rfl, rfl⟩ := h; exact ⟨by rw [mn_83]; exact tw_614, by rw [mn_83]; exact tw_613, mt_83, by decide, by decide⟩) (by unfold prm; decide +kernel) ml_99 (HsOk.nil (by decide +kernel))
theorem dd_99_54 : decode (mi 99).2.1 54 = .ok (.aload_n 1, 1) := by decide +kernel
theorem st_99_54 : Sd 99 54 1 (i_ldR 1) := sd_aload_n (j := 1) dd_99_54 rfl
theorem dd_99_55 : decode (mi 99).2.1 55 = .ok (.areturn, 1) := by decide +kernel
theorem st_99_55 : Sd 99 55 1 (i_rR) := sd_areturn dd_99_55 mr_99 (Or.inl ⟨_, rfl⟩)
def bk_99_48 : Tr := sq (i_ldR 0) (sq (i_ic 34) (sq (i_cV [(3, 83)] 2 2 []) (sq (i_ldR 1) (i_rR))))
theorem sb_99_48 : Sd 99 48 8 bk_99_48 := Sd.sq st_99_48 (Sd.sq st_99_49 (Sd.sq st_99_51 (Sd.sq st_99_54 (st_99_55))))
theorem dd_100_0 : decode (mi 100).2.1 0 = .ok (.aload_n 0, 1) := by decide +kernel
theorem st_100_0 : Sd 100 0 1 (i_ldR 0) := sd_aload_n (j := 0) dd_100_0 rfl
theorem dd_100_1 : decode (mi 100).2.1 1 = .ok (.invokevirtual 39, 3) := by decide +kernel
theorem st_100_1 : Sd 100 1 3 (i_cV [(3, 85)] 1 3 []) := sd_virt ⟨"ContractDesk$Reader", "here", "()C"⟩ dd_100_1 (by rw [mc_100]; exact tw_620) (fun t j h => by simp only [List.mem_cons, List.not_mem_nil, or_false, Prod.mk.injEq] at h; obtain ⟨rfl, rfl⟩ := h; exact mn_85) (fun t j h => by simp only [List.mem_cons, List.not_mem_nil, or_false, Prod.mk.injEq] at h; obtain ⟨rfl, rfl⟩ := h; exact ⟨by rw [mn_85]; exact tw_622, by rw [mn_85]; exact tw_621, mt_85, by decide, by decide⟩) (by unfold prm; decide +kernel) ml_100 (HsOk.nil (by decide +kernel))
theorem dd_100_4 : decode (mi 100).2.1 4 = .ok (.istore_n 2, 1) := by decide +kernel
theorem st_100_4 : Sd 100 4 1 (i_stI 2) := sd_istore_n (j := 2) dd_100_4 rfl
theorem dd_100_5 : decode (mi 100).2.1 5 = .ok (.iload_n 2, 1) := by decide +kernel
theorem st_100_5 : Sd 100 5 1 (i_ldI 2) := sd_iload_n (j := 2) dd_100_5 rfl
theorem dd_100_6 : decode (mi 100).2.1 6 = .ok (.bipush 34, 2) := by decide +kernel
theorem st_100_6 : Sd 100 6 2 (i_ic 34) := sd_bipush dd_100_6 (by decide)
theorem dd_100_8 : decode (mi 100).2.1 8 = .ok (.if_icmp .ne 8, 3) := by decide +kernel
theorem st_100_8 : Sd 100 8 3 (i_cne 16) := sd_icmp_ne dd_100_8 (by decide)
theorem dd_100_11 : decode (mi 100).2.1 11 = .ok (.aload_n 0, 1) := by decide +kernel
theorem st_100_11 : Sd 100 11 1 (i_ldR 0) := sd_aload_n (j := 0) dd_100_11 rfl
theorem dd_100_12 : decode (mi 100).2.1 12 = .ok (.invokevirtual 61, 3) := by decide +kernel
theorem st_100_12 : Sd 100 12 3 (i_cV [(3, 99)] 1 3 []) := sd_virt ⟨"ContractDesk$Reader", "text", "()LContractDesk$Value;"⟩ dd_100_12 (by rw [mc_100]; exact tw_806) (fun t j h => by simp only [List.mem_cons, List.not_mem_nil, or_false, Prod.mk.injEq] at h; obtain ⟨rfl, rfl⟩ := h; exact mn_99) (fun t j h => by simp only [List.mem_cons, List.not_mem_nil, or_false, Prod.mk.injEq] at h; obtain ⟨rfl, rfl⟩ := h; exact ⟨by rw [mn_99]; exact tw_8, by rw [mn_99]; exact tw_808, mt_99, by decide, by decide⟩) (by unfold prm; decide +kernel) ml_100 (HsOk.nil (by decide +kernel))
theorem dd_100_15 : decode (mi 100).2.1 15 = .ok (.areturn, 1) := by decide +kernel
theorem st_100_15 : Sd 100 15 1 (i_rR) := sd_areturn dd_100_15 mr_100 (Or.inl ⟨_, rfl⟩)
def bk_100_0 : Tr := sq (i_ldR 0) (sq (i_cV [(3, 85)] 1 3 []) (sq (i_stI 2) (sq (i_ldI 2) (sq (i_ic 34) (sq (i_cne 16) (sq (i_ldR 0) (sq (i_cV [(3, 99)] 1 3 []) (i_rR))))))))
theorem sb_100_0 : Sd 100 0 16 bk_100_0 := Sd.sq st_100_0 (Sd.sq st_100_1 (Sd.sq st_100_4 (Sd.sq st_100_5 (Sd.sq st_100_6 (Sd.sq st_100_8 (Sd.sq st_100_11 (Sd.sq st_100_12 (st_100_15))))))))
theorem dd_100_16 : decode (mi 100).2.1 16 = .ok (.iload_n 2, 1) := by decide +kernel
theorem st_100_16 : Sd 100 16 1 (i_ldI 2) := sd_iload_n (j := 2) dd_100_16 rfl
theorem dd_100_17 : decode (mi 100).2.1 17 = .ok (.bipush 91, 2) := by decide +kernel
theorem st_100_17 : Sd 100 17 2 (i_ic 91) := sd_bipush dd_100_17 (by decide)
theorem dd_100_19 : decode (mi 100).2.1 19 = .ok (.if_icmp .eq 9, 3) := by decide +kernel
theorem st_100_19 : Sd 100 19 3 (i_ceq 28) := sd_icmp_eq dd_100_19 (by decide)
theorem dd_100_22 : decode (mi 100).2.1 22 = .ok (.iload_n 2, 1) := by decide +kernel
theorem st_100_22 : Sd 100 22 1 (i_ldI 2) := sd_iload_n (j := 2) dd_100_22 rfl
theorem dd_100_23 : decode (mi 100).2.1 23 = .ok (.bipush 123, 2) := by decide +kernel
theorem st_100_23 : Sd 100 23 2 (i_ic 123) := sd_bipush dd_100_23 (by decide)
theorem dd_100_25 : decode (mi 100).2.1 25 = .ok (.if_icmp .ne 12, 3) := by decide +kernel
theorem st_100_25 : Sd 100 25 3 (i_cne 37) := sd_icmp_ne dd_100_25 (by decide)
def bk_100_16 : Tr := sq (i_ldI 2) (sq (i_ic 91) (sq (i_ceq 28) (sq (i_ldI 2) (sq (i_ic 123) (sq (i_cne 37) (i_fall 28))))))
theorem sb_100_16 : Sd 100 16 12 bk_100_16 := Sd.sq st_100_16 (Sd.sq st_100_17 (Sd.sq st_100_19 (Sd.sq st_100_22 (Sd.sq st_100_23 (Sd.sq st_100_25 (sd_fall rfl))))))
theorem dd_100_28 : decode (mi 100).2.1 28 = .ok (.aload_n 0, 1) := by decide +kernel
theorem st_100_28 : Sd 100 28 1 (i_ldR 0) := sd_aload_n (j := 0) dd_100_28 rfl
theorem dd_100_29 : decode (mi 100).2.1 29 = .ok (.iload_n 2, 1) := by decide +kernel
theorem st_100_29 : Sd 100 29 1 (i_ldI 2) := sd_iload_n (j := 2) dd_100_29 rfl
theorem dd_100_30 : decode (mi 100).2.1 30 = .ok (.iload_n 1, 1) := by decide +kernel
theorem st_100_30 : Sd 100 30 1 (i_ldI 1) := sd_iload_n (j := 1) dd_100_30 rfl
theorem dd_100_31 : decode (mi 100).2.1 31 = .ok (.iconst 1, 1) := by decide +kernel
theorem st_100_31 : Sd 100 31 1 (i_ic 1) := sd_iconst dd_100_31
theorem dd_100_32 : decode (mi 100).2.1 32 = .ok (.iadd, 1) := by decide +kernel
theorem st_100_32 : Sd 100 32 1 (i_iadd) := sd_iadd dd_100_32
theorem dd_100_33 : decode (mi 100).2.1 33 = .ok (.invokevirtual 65, 3) := by decide +kernel
theorem st_100_33 : Sd 100 33 3 (i_cV [(3, 84)] 3 3 []) := sd_virt ⟨"ContractDesk$Reader", "group", "(CI)LContractDesk$Value;"⟩ dd_100_33 (by rw [mc_100]; exact tw_832) (fun t j h => by simp only [List.mem_cons, List.not_mem_nil, or_false, Prod.mk.injEq] at h; obtain ⟨rfl, rfl⟩ := h; exact mn_84) (fun t j h => by simp only [List.mem_cons, List.not_mem_nil, or_false, Prod.mk.injEq] at h; obtain ⟨rfl, rfl⟩ := h; exact ⟨by rw [mn_84]; exact tw_9, by rw [mn_84]; exact tw_834, mt_84, by decide, by decide⟩) (by unfold prm; decide +kernel) ml_100 (HsOk.nil (by decide +kernel))
theorem dd_100_36 : decode (mi 100).2.1 36 = .ok (.areturn, 1) := by decide +kernel
theorem st_100_36 : Sd 100 36 1 (i_rR) := sd_areturn dd_100_36 mr_100 (Or.inl ⟨_, rfl⟩)
def bk_100_28 : Tr := sq (i_ldR 0) (sq (i_ldI 2) (sq (i_ldI 1) (sq (i_ic 1) (sq (i_iadd) (sq (i_cV [(3, 84)] 3 3 []) (i_rR))))))
theorem sb_100_28 : Sd 100 28 9 bk_100_28 := Sd.sq st_100_28 (Sd.sq st_100_29 (Sd.sq st_100_30 (Sd.sq st_100_31 (Sd.sq st_100_32 (Sd.sq st_100_33 (st_100_36))))))
theorem dd_100_37 : decode (mi 100).2.1 37 = .ok (.iload_n 2, 1) := by decide +kernel
theorem st_100_37 : Sd 100 37 1 (i_ldI 2) := sd_iload_n (j := 2) dd_100_37 rfl
theorem dd_100_38 : decode (mi 100).2.1 38 = .ok (.bipush 45, 2) := by decide +kernel
theorem st_100_38 : Sd 100 38 2 (i_ic 45) := sd_bipush dd_100_38 (by decide)
theorem dd_100_40 : decode (mi 100).2.1 40 = .ok (.if_icmp .eq 10, 3) := by decide +kernel
theorem st_100_40 : Sd 100 40 3 (i_ceq 50) := sd_icmp_eq dd_100_40 (by decide)
theorem dd_100_43 : decode (mi 100).2.1 43 = .ok (.aload_n 0, 1) := by decide +kernel
theorem st_100_43 : Sd 100 43 1 (i_ldR 0) := sd_aload_n (j := 0) dd_100_43 rfl
theorem dd_100_44 : decode (mi 100).2.1 44 = .ok (.invokevirtual 50, 3) := by decide +kernel
theorem st_100_44 : Sd 100 44 3 (i_cV [(3, 87)] 1 3 []) := sd_virt ⟨"ContractDesk$Reader", "isDigit", "()Z"⟩ dd_100_44 (by rw [mc_100]; exact tw_647) (fun t j h => by simp only [List.mem_cons, List.not_mem_nil, or_false, Prod.mk.injEq] at h; obtain ⟨rfl, rfl⟩ := h; exact mn_87) (fun t j h => by simp only [List.mem_cons, List.not_mem_nil, or_false, Prod.mk.injEq] at h; obtain ⟨rfl, rfl⟩ := h; exact ⟨by rw [mn_87]; exact tw_649, by rw [mn_87]; exact tw_648, mt_87, by decide, by decide⟩) (by unfold prm; decide +kernel) ml_100 (HsOk.nil (by decide +kernel))
theorem dd_100_47 : decode (mi 100).2.1 47 = .ok (.ifCond .eq 8, 3) := by decide +kernel
theorem st_100_47 : Sd 100 47 3 (i_zeq 55) := sd_if_eq dd_100_47 (by decide)
def bk_100_37 : Tr := sq (i_ldI 2) (sq (i_ic 45) (sq (i_ceq 50) (sq (i_ldR 0) (sq (i_cV [(3, 87)] 1 3 []) (sq (i_zeq 55) (i_fall 50))))))
theorem sb_100_37 : Sd 100 37 13 bk_100_37 := Sd.sq st_100_37 (Sd.sq st_100_38 (Sd.sq st_100_40 (Sd.sq st_100_43 (Sd.sq st_100_44 (Sd.sq st_100_47 (sd_fall rfl))))))
theorem dd_100_50 : decode (mi 100).2.1 50 = .ok (.aload_n 0, 1) := by decide +kernel
theorem st_100_50 : Sd 100 50 1 (i_ldR 0) := sd_aload_n (j := 0) dd_100_50 rfl
theorem dd_100_51 : decode (mi 100).2.1 51 = .ok (.invokevirtual 69, 3) := by decide +kernel
theorem st_100_51 : Sd 100 51 3 (i_cV [(3, 92)] 1 3 []) := sd_virt ⟨"ContractDesk$Reader", "number", "()LContractDesk$Value;"⟩ dd_100_51 (by rw [mc_100]; exact tw_895) (fun t j h => by simp only [List.mem_cons, List.not_mem_nil, or_false, Prod.mk.injEq] at h; obtain ⟨rfl, rfl⟩ := h; exact mn_92) (fun t j h => by simp only [List.mem_cons, List.not_mem_nil, or_false, Prod.mk.injEq] at h; obtain ⟨rfl, rfl⟩ := h; exact ⟨by rw [mn_92]; exact tw_11, by rw [mn_92]; exact tw_897, mt_92, by decide, by decide⟩) (by unfold prm; decide +kernel) ml_100 (HsOk.nil (by decide +kernel))
theorem dd_100_54 : decode (mi 100).2.1 54 = .ok (.areturn, 1) := by decide +kernel
theorem st_100_54 : Sd 100 54 1 (i_rR) := sd_areturn dd_100_54 mr_100 (Or.inl ⟨_, rfl⟩)
def bk_100_50 : Tr := sq (i_ldR 0) (sq (i_cV [(3, 92)] 1 3 []) (i_rR))
theorem sb_100_50 : Sd 100 50 5 bk_100_50 := Sd.sq st_100_50 (Sd.sq st_100_51 (st_100_54))
theorem dd_100_55 : decode (mi 100).2.1 55 = .ok (.iload_n 2, 1) := by decide +kernel
theorem st_100_55 : Sd 100 55 1 (i_ldI 2) := sd_iload_n (j := 2) dd_100_55 rfl
theorem dd_100_56 : decode (mi 100).2.1 56 = .ok (.bipush 110, 2) := by decide +kernel
theorem st_100_56 : Sd 100 56 2 (i_ic 110) := sd_bipush dd_100_56 (by decide)
theorem dd_100_58 : decode (mi 100).2.1 58 = .ok (.if_icmp .ne 14, 3) := by decide +kernel
theorem st_100_58 : Sd 100 58 3 (i_cne 72) := sd_icmp_ne dd_100_58 (by decide)
theorem dd_100_61 : decode (mi 100).2.1 61 = .ok (.aload_n 0, 1) := by decide +kernel
theorem st_100_61 : Sd 100 61 1 (i_ldR 0) := sd_aload_n (j := 0) dd_100_61 rfl
theorem dd_100_62 : decode (mi 100).2.1 62 = .ok (.getstatic 72, 3) := by decide +kernel
theorem st_100_62 : Sd 100 62 3 (i_gs 0) := sd_gs (n := 0) dd_100_62 (by rw [mc_100]; exact tw_914) (by decide)
theorem dd_100_65 : decode (mi 100).2.1 65 = .ok (.ldc 78, 2) := by decide +kernel
theorem st_100_65 : Sd 100 65 2 (i_str 78) := sd_ldcS dd_100_65 mc_100 (by decide)
theorem dd_100_67 : decode (mi 100).2.1 67 = .ok (.iconst 0, 1) := by decide +kernel
theorem st_100_67 : Sd 100 67 1 (i_ic 0) := sd_iconst dd_100_67
theorem dd_100_68 : decode (mi 100).2.1 68 = .ok (.invokevirtual 80, 3) := by decide +kernel
theorem st_100_68 : Sd 100 68 3 (i_cV [(3, 102)] 4 3 []) := sd_virt ⟨"ContractDesk$Reader", "word", "(LContractDesk$Kind;Ljava/lang/String;I)LContractDesk$Value;"⟩ dd_100_68 (by rw [mc_100]; exact tw_917) (fun t j h => by simp only [List.mem_cons, List.not_mem_nil, or_false, Prod.mk.injEq] at h; obtain ⟨rfl, rfl⟩ := h; exact mn_102) (fun t j h => by simp only [List.mem_cons, List.not_mem_nil, or_false, Prod.mk.injEq] at h; obtain ⟨rfl, rfl⟩ := h; exact ⟨by rw [mn_102]; exact tw_12, by rw [mn_102]; exact tw_919, mt_102, by decide, by decide⟩) (by unfold prm; decide +kernel) ml_100 (HsOk.nil (by decide +kernel))
theorem dd_100_71 : decode (mi 100).2.1 71 = .ok (.areturn, 1) := by decide +kernel
theorem st_100_71 : Sd 100 71 1 (i_rR) := sd_areturn dd_100_71 mr_100 (Or.inl ⟨_, rfl⟩)
def bk_100_55 : Tr := sq (i_ldI 2) (sq (i_ic 110) (sq (i_cne 72) (sq (i_ldR 0) (sq (i_gs 0) (sq (i_str 78) (sq (i_ic 0) (sq (i_cV [(3, 102)] 4 3 []) (i_rR))))))))
theorem sb_100_55 : Sd 100 55 17 bk_100_55 := Sd.sq st_100_55 (Sd.sq st_100_56 (Sd.sq st_100_58 (Sd.sq st_100_61 (Sd.sq st_100_62 (Sd.sq st_100_65 (Sd.sq st_100_67 (Sd.sq st_100_68 (st_100_71))))))))
theorem dd_100_72 : decode (mi 100).2.1 72 = .ok (.iload_n 2, 1) := by decide +kernel
theorem st_100_72 : Sd 100 72 1 (i_ldI 2) := sd_iload_n (j := 2) dd_100_72 rfl
theorem dd_100_73 : decode (mi 100).2.1 73 = .ok (.bipush 116, 2) := by decide +kernel
theorem st_100_73 : Sd 100 73 2 (i_ic 116) := sd_bipush dd_100_73 (by decide)
theorem dd_100_75 : decode (mi 100).2.1 75 = .ok (.if_icmp .ne 14, 3) := by decide +kernel
theorem st_100_75 : Sd 100 75 3 (i_cne 89) := sd_icmp_ne dd_100_75 (by decide)
theorem dd_100_78 : decode (mi 100).2.1 78 = .ok (.aload_n 0, 1) := by decide +kernel
theorem st_100_78 : Sd 100 78 1 (i_ldR 0) := sd_aload_n (j := 0) dd_100_78 rfl
theorem dd_100_79 : decode (mi 100).2.1 79 = .ok (.getstatic 84, 3) := by decide +kernel
theorem st_100_79 : Sd 100 79 3 (i_gs 1) := sd_gs (n := 1) dd_100_79 (by rw [mc_100]; exact tw_937) (by decide)
theorem dd_100_82 : decode (mi 100).2.1 82 = .ok (.ldc 87, 2) := by decide +kernel
theorem st_100_82 : Sd 100 82 2 (i_str 87) := sd_ldcS dd_100_82 mc_100 (by decide)
theorem dd_100_84 : decode (mi 100).2.1 84 = .ok (.iconst 1, 1) := by decide +kernel
theorem st_100_84 : Sd 100 84 1 (i_ic 1) := sd_iconst dd_100_84
theorem dd_100_85 : decode (mi 100).2.1 85 = .ok (.invokevirtual 80, 3) := by decide +kernel
theorem st_100_85 : Sd 100 85 3 (i_cV [(3, 102)] 4 3 []) := sd_virt ⟨"ContractDesk$Reader", "word", "(LContractDesk$Kind;Ljava/lang/String;I)LContractDesk$Value;"⟩ dd_100_85 (by rw [mc_100]; exact tw_917) (fun t j h => by simp only [List.mem_cons, List.not_mem_nil, or_false, Prod.mk.injEq] at h; obtain ⟨rfl, rfl⟩ := h; exact mn_102) (fun t j h => by simp only [List.mem_cons, List.not_mem_nil, or_false, Prod.mk.injEq] at h; obtain ⟨rfl, rfl⟩ := h; exact ⟨by rw [mn_102]; exact tw_12, by rw [mn_102]; exact tw_919, mt_102, by decide, by decide⟩) (by unfold prm; decide +kernel) ml_100 (HsOk.nil (by decide +kernel))
theorem dd_100_88 : decode (mi 100).2.1 88 = .ok (.areturn, 1) := by decide +kernel
theorem st_100_88 : Sd 100 88 1 (i_rR) := sd_areturn dd_100_88 mr_100 (Or.inl ⟨_, rfl⟩)
def bk_100_72 : Tr := sq (i_ldI 2) (sq (i_ic 116) (sq (i_cne 89) (sq (i_ldR 0) (sq (i_gs 1) (sq (i_str 87) (sq (i_ic 1) (sq (i_cV [(3, 102)] 4 3 []) (i_rR))))))))
theorem sb_100_72 : Sd 100 72 17 bk_100_72 := Sd.sq st_100_72 (Sd.sq st_100_73 (Sd.sq st_100_75 (Sd.sq st_100_78 (Sd.sq st_100_79 (Sd.sq st_100_82 (Sd.sq st_100_84 (Sd.sq st_100_85 (st_100_88))))))))
theorem dd_100_89 : decode (mi 100).2.1 89 = .ok (.aload_n 0, 1) := by decide +kernel
theorem st_100_89 : Sd 100 89 1 (i_ldR 0) := sd_aload_n (j := 0) dd_100_89 rfl
theorem dd_100_90 : decode (mi 100).2.1 90 = .ok (.getstatic 84, 3) := by decide +kernel
theorem st_100_90 : Sd 100 90 3 (i_gs 1) := sd_gs (n := 1) dd_100_90 (by rw [mc_100]; exact tw_937) (by decide)
theorem dd_100_93 : decode (mi 100).2.1 93 = .ok (.ldc 89, 2) := by decide +kernel
theorem st_100_93 : Sd 100 93 2 (i_str 89) := sd_ldcS dd_100_93 mc_100 (by decide)
theorem dd_100_95 : decode (mi 100).2.1 95 = .ok (.iconst 0, 1) := by decide +kernel
theorem st_100_95 : Sd 100 95 1 (i_ic 0) := sd_iconst dd_100_95
theorem dd_100_96 : decode (mi 100).2.1 96 = .ok (.invokevirtual 80, 3) := by decide +kernel
theorem st_100_96 : Sd 100 96 3 (i_cV [(3, 102)] 4 3 []) := sd_virt ⟨"ContractDesk$Reader", "word", "(LContractDesk$Kind;Ljava/lang/String;I)LContractDesk$Value;"⟩ dd_100_96 (by rw [mc_100]; exact tw_917) (fun t j h => by simp only [List.mem_cons, List.not_mem_nil, or_false, Prod.mk.injEq] at h; obtain ⟨rfl, rfl⟩ := h; exact mn_102) (fun t j h => by simp only [List.mem_cons, List.not_mem_nil, or_false, Prod.mk.injEq] at h; obtain ⟨rfl, rfl⟩ := h; exact ⟨by rw [mn_102]; exact tw_12, by rw [mn_102]; exact tw_919, mt_102, by decide, by decide⟩) (by unfold prm; decide +kernel) ml_100 (HsOk.nil (by decide +kernel))
theorem dd_100_99 : decode (mi 100).2.1 99 = .ok (.areturn, 1) := by decide +kernel
theorem st_100_99 : Sd 100 99 1 (i_rR) := sd_areturn dd_100_99 mr_100 (Or.inl ⟨_, rfl⟩)
def bk_100_89 : Tr := sq (i_ldR 0) (sq (i_gs 1) (sq (i_str 89) (sq (i_ic 0) (sq (i_cV [(3, 102)] 4 3 []) (i_rR)))))
theorem sb_100_89 : Sd 100 89 11 bk_100_89 := Sd.sq st_100_89 (Sd.sq st_100_90 (Sd.sq st_100_93 (Sd.sq st_100_95 (Sd.sq st_100_96 (st_100_99)))))
theorem dd_101_0 : decode (mi 101).2.1 0 = .ok (.aload_n 0, 1) := by decide +kernel
theorem st_101_0 : Sd 101 0 1 (i_ldR 0) := sd_aload_n (j := 0) dd_101_0 rfl
theorem dd_101_1 : decode (mi 101).2.1 1 = .ok (.iconst 0, 1) := by decide +kernel
theorem st_101_1 : Sd 101 1 1 (i_ic 0) := sd_iconst dd_101_1
theorem dd_101_2 : decode (mi 101).2.1 2 = .ok (.invokevirtual 54, 3) := by decide +kernel
theorem st_101_2 : Sd 101 2 3 (i_cV [(3, 100)] 2 2 []) := sd_virt ⟨"ContractDesk$Reader", "value", "(I)LContractDesk$Value;"⟩ dd_101_2 (by rw [mc_101]; exact tw_802) (fun t j h => by simp only [List.mem_cons, List.not_mem_nil, or_false, Prod.mk.injEq] at h; obtain ⟨rfl, rfl⟩ := h; exact mn_100) (fun t j h => by simp only [List.mem_cons, List.not_mem_nil, or_false, Prod.mk.injEq] at h; obtain ⟨rfl, rfl⟩ := h; exact ⟨by rw [mn_100]; exact tw_7, by rw [mn_100]; exact tw_804, mt_100, by decide, by decide⟩) (by unfold prm; decide +kernel) ml_101 (HsOk.nil (by decide +kernel))
theorem dd_101_5 : decode (mi 101).2.1 5 = .ok (.astore_n 1, 1) := by decide +kernel
theorem st_101_5 : Sd 101 5 1 (i_stR 1) := sd_astore_n (j := 1) dd_101_5 rfl
theorem dd_101_6 : decode (mi 101).2.1 6 = .ok (.aload_n 0, 1) := by decide +kernel
theorem st_101_6 : Sd 101 6 1 (i_ldR 0) := sd_aload_n (j := 0) dd_101_6 rfl
theorem dd_101_7 : decode (mi 101).2.1 7 = .ok (.invokevirtual 58, 3) := by decide +kernel
theorem st_101_7 : Sd 101 7 3 (i_cV [(3, 82)] 1 2 []) := sd_virt ⟨"ContractDesk$Reader", "end", "()V"⟩ dd_101_7 (by rw [mc_101]; exact tw_941) (fun t j h => by simp only [List.mem_cons, List.not_mem_nil, or_false, Prod.mk.injEq] at h; obtain ⟨rfl, rfl⟩ := h; exact mn_82) (fun t j h => by simp only [List.mem_cons, List.not_mem_nil, or_false, Prod.mk.injEq] at h; obtain ⟨rfl, rfl⟩ := h; exact ⟨by rw [mn_82]; exact tw_943, by rw [mn_82]; exact tw_942, mt_82, by decide, by decide⟩) (by unfold prm; decide +kernel) ml_101 (HsOk.nil (by decide +kernel))
theorem dd_101_10 : decode (mi 101).2.1 10 = .ok (.aload_n 1, 1) := by decide +kernel
theorem st_101_10 : Sd 101 10 1 (i_ldR 1) := sd_aload_n (j := 1) dd_101_10 rfl
theorem dd_101_11 : decode (mi 101).2.1 11 = .ok (.areturn, 1) := by decide +kernel
theorem st_101_11 : Sd 101 11 1 (i_rR) := sd_areturn dd_101_11 mr_101 (Or.inl ⟨_, rfl⟩)
def bk_101_0 : Tr := sq (i_ldR 0) (sq (i_ic 0) (sq (i_cV [(3, 100)] 2 2 []) (sq (i_stR 1) (sq (i_ldR 0) (sq (i_cV [(3, 82)] 1 2 []) (sq (i_ldR 1) (i_rR)))))))
theorem sb_101_0 : Sd 101 0 12 bk_101_0 := Sd.sq st_101_0 (Sd.sq st_101_1 (Sd.sq st_101_2 (Sd.sq st_101_5 (Sd.sq st_101_6 (Sd.sq st_101_7 (Sd.sq st_101_10 (st_101_11)))))))
theorem dd_102_0 : decode (mi 102).2.1 0 = .ok (.iconst 0, 1) := by decide +kernel
theorem st_102_0 : Sd 102 0 1 (i_ic 0) := sd_iconst dd_102_0
theorem dd_102_1 : decode (mi 102).2.1 1 = .ok (.istore 4, 2) := by decide +kernel
theorem st_102_1 : Sd 102 1 2 (i_stI 4) := sd_istore dd_102_1
def bk_102_0 : Tr := sq (i_ic 0) (sq (i_stI 4) (i_fall 3))
theorem sb_102_0 : Sd 102 0 3 bk_102_0 := Sd.sq st_102_0 (Sd.sq st_102_1 (sd_fall rfl))
theorem dd_102_3 : decode (mi 102).2.1 3 = .ok (.iload 4, 2) := by decide +kernel
theorem st_102_3 : Sd 102 3 2 (i_ldI 4) := sd_iload dd_102_3
theorem dd_102_5 : decode (mi 102).2.1 5 = .ok (.aload_n 2, 1) := by decide +kernel
theorem st_102_5 : Sd 102 5 1 (i_ldR 2) := sd_aload_n (j := 2) dd_102_5 rfl
theorem dd_102_6 : decode (mi 102).2.1 6 = .ok (.invokevirtual 91, 3) := by decide +kernel
theorem st_102_6 : Sd 102 6 3 (i_cV [(30, 29)] 1 5 []) := sd_virt ⟨"java/lang/String", "length", "()I"⟩ dd_102_6 (by rw [mc_102]; exact tw_921) (fun t j h => by simp only [List.mem_cons, List.not_mem_nil, or_false, Prod.mk.injEq] at h; obtain ⟨rfl, rfl⟩ := h; exact mn_29) (fun t j h => by simp only [List.mem_cons, List.not_mem_nil, or_false, Prod.mk.injEq] at h; obtain ⟨rfl, rfl⟩ := h; exact ⟨by rw [mn_29]; exact tw_304, by rw [mn_29]; exact tw_303, mt_29, by decide, by decide⟩) (by unfold prm; decide +kernel) ml_102 (HsOk.nil (by decide +kernel))
theorem dd_102_9 : decode (mi 102).2.1 9 = .ok (.if_icmp .ge 19, 3) := by decide +kernel
theorem st_102_9 : Sd 102 9 3 (i_cge 28) := sd_icmp_ge dd_102_9 (by decide)
theorem dd_102_12 : decode (mi 102).2.1 12 = .ok (.aload_n 0, 1) := by decide +kernel
theorem st_102_12 : Sd 102 12 1 (i_ldR 0) := sd_aload_n (j := 0) dd_102_12 rfl
theorem dd_102_13 : decode (mi 102).2.1 13 = .ok (.aload_n 2, 1) := by decide +kernel
theorem st_102_13 : Sd 102 13 1 (i_ldR 2) := sd_aload_n (j := 2) dd_102_13 rfl
theorem dd_102_14 : decode (mi 102).2.1 14 = .ok (.iload 4, 2) := by decide +kernel
theorem st_102_14 : Sd 102 14 2 (i_ldI 4) := sd_iload dd_102_14
theorem dd_102_16 : decode (mi 102).2.1 16 = .ok (.invokevirtual 94, 3) := by decide +kernel
theorem st_102_16 : Sd 102 16 3 (i_cV [(30, 31)] 2 5 []) := sd_virt ⟨"java/lang/String", "charAt", "(I)C"⟩ dd_102_16 (by rw [mc_102]; exact tw_922) (fun t j h => by simp only [List.mem_cons, List.not_mem_nil, or_false, Prod.mk.injEq] at h; obtain ⟨rfl, rfl⟩ := h; exact mn_31) (fun t j h => by simp only [List.mem_cons, List.not_mem_nil, or_false, Prod.mk.injEq] at h; obtain ⟨rfl, rfl⟩ := h; exact ⟨by rw [mn_31]; exact tw_924, by rw [mn_31]; exact tw_923, mt_31, by decide, by decide⟩) (by unfold prm; decide +kernel) ml_102 (HsOk.nil (by decide +kernel))
theorem dd_102_19 : decode (mi 102).2.1 19 = .ok (.invokevirtual 95, 3) := by decide +kernel
theorem st_102_19 : Sd 102 19 3 (i_cV [(3, 83)] 2 5 []) := sd_virt ⟨"ContractDesk$Reader", "expect", "(C)V"⟩ dd_102_19 (by rw [mc_102]; exact tw_612) (fun t j h => by simp only [List.mem_cons, List.not_mem_nil, or_false, Prod.mk.injEq] at h; obtain ⟨rfl, rfl⟩ := h; exact mn_83) (fun t j h => by simp only [List.mem_cons, List.not_mem_nil, or_false, Prod.mk.injEq] at h; obtain ⟨rfl, rfl⟩ := h; exact ⟨by rw [mn_83]; exact tw_614, by rw [mn_83]; exact tw_613, mt_83, by decide, by decide⟩) (by unfold prm; decide +kernel) ml_102 (HsOk.nil (by decide +kernel))
theorem dd_102_22 : decode (mi 102).2.1 22 = .ok (.iinc 4 1, 3) := by decide +kernel
theorem st_102_22 : Sd 102 22 3 (i_inc 4 1) := sd_iinc dd_102_22
theorem dd_102_25 : decode (mi 102).2.1 25 = .ok (.goto (-22), 3) := by decide +kernel
theorem st_102_25 : Sd 102 25 3 (i_goto 3) := sd_goto dd_102_25 (by decide)
def bk_102_3 : Tr := sq (i_ldI 4) (sq (i_ldR 2) (sq (i_cV [(30, 29)] 1 5 []) (sq (i_cge 28) (sq (i_ldR 0) (sq (i_ldR 2) (sq (i_ldI 4) (sq (i_cV [(30, 31)] 2 5 []) (sq (i_cV [(3, 83)] 2 5 []) (sq (i_inc 4 1) (i_goto 3))))))))))
theorem sb_102_3 : Sd 102 3 25 bk_102_3 := Sd.sq st_102_3 (Sd.sq st_102_5 (Sd.sq st_102_6 (Sd.sq st_102_9 (Sd.sq st_102_12 (Sd.sq st_102_13 (Sd.sq st_102_14 (Sd.sq st_102_16 (Sd.sq st_102_19 (Sd.sq st_102_22 (st_102_25))))))))))
theorem dd_102_28 : decode (mi 102).2.1 28 = .ok (.new 99, 3) := by decide +kernel
theorem st_102_28 : Sd 102 28 3 (i_new 11) := sd_new dd_102_28 (by rw [mc_102]; exact tw_899) (by exact tw_100) (by exact tw_900) (by decide) (by decide)
theorem dd_102_31 : decode (mi 102).2.1 31 = .ok (.dup, 1) := by decide +kernel
theorem st_102_31 : Sd 102 31 1 (i_dup) := sd_dup dd_102_31
theorem dd_102_32 : decode (mi 102).2.1 32 = .ok (.aload_n 1, 1) := by decide +kernel
theorem st_102_32 : Sd 102 32 1 (i_ldR 1) := sd_aload_n (j := 1) dd_102_32 rfl
theorem dd_102_33 : decode (mi 102).2.1 33 = .ok (.iload_n 3, 1) := by decide +kernel
theorem st_102_33 : Sd 102 33 1 (i_ldI 3) := sd_iload_n (j := 3) dd_102_33 rfl
theorem dd_102_34 : decode (mi 102).2.1 34 = .ok (.invokespecial 101, 3) := by decide +kernel
theorem st_102_34 : Sd 102 34 3 (i_cI 76 3 5 []) := sd_init dd_102_34 (by rw [mc_102, mn_76]; exact tw_903) (by rw [mn_76]; exact tw_904) mt_76 pm_76 (by rw [mn_76]) (by decide +kernel) ml_102 (HsOk.nil (by decide +kernel))
theorem dd_102_37 : decode (mi 102).2.1 37 = .ok (.areturn, 1) := by decide +kernel
theorem st_102_37 : Sd 102 37 1 (i_rR) := sd_areturn dd_102_37 mr_102 (Or.inl ⟨_, rfl⟩)
def bk_102_28 : Tr := sq (i_new 11) (sq (i_dup) (sq (i_ldR 1) (sq (i_ldI 3) (sq (i_cI 76 3 5 []) (i_rR)))))
theorem sb_102_28 : Sd 102 28 10 bk_102_28 := Sd.sq st_102_28 (Sd.sq st_102_31 (Sd.sq st_102_32 (Sd.sq st_102_33 (Sd.sq st_102_34 (st_102_37)))))
theorem dd_103_0 : decode (mi 103).2.1 0 = .ok (.aload_n 0, 1) := by decide +kernel
theorem st_103_0 : Sd 103 0 1 (i_ldR 0) := sd_aload_n (j := 0) dd_103_0 rfl
theorem dd_103_1 : decode (mi 103).2.1 1 = .ok (.invokespecial 3, 3) := by decide +kernel
theorem st_103_1 : Sd 103 1 3 (i_obj 1) := sd_obj dd_103_1 (by rw [mc_103]; exact tw_1018) ob_1 ob_2 ml_103
theorem dd_103_4 : decode (mi 103).2.1 4 = .ok (.aload_n 0, 1) := by decide +kernel
theorem st_103_4 : Sd 103 4 1 (i_ldR 0) := sd_aload_n (j := 0) dd_103_4 rfl
theorem dd_103_5 : decode (mi 103).2.1 5 = .ok (.iconst 5, 1) := by decide +kernel
theorem st_103_5 : Sd 103 5 1 (i_ic 5) := sd_iconst dd_103_5
theorem dd_103_6 : decode (mi 103).2.1 6 = .ok (.newarray .int, 2) := by decide +kernel
theorem st_103_6 : Sd 103 6 2 (i_na 20) := sd_newarray dd_103_6 (by exact tw_506) rfl (by decide)
theorem dd_103_8 : decode (mi 103).2.1 8 = .ok (.putfield 9, 3) := by decide +kernel
theorem st_103_8 : Sd 103 8 3 (i_pR 0 [5]) := sd_pR (ref := "ContractDesk$Rule") (decl := "ContractDesk$Rule") (name := "steps") (desc := "[I") dd_103_8 (by rw [mc_103]; exact tw_1019) (Or.inl rfl) (by decide +kernel) (by decide +kernel)
theorem dd_103_11 : decode (mi 103).2.1 11 = .ok (.return_, 1) := by decide +kernel
theorem st_103_11 : Sd 103 11 1 (i_ret) := sd_ret dd_103_11 mr_103
def bk_103_0 : Tr := sq (i_ldR 0) (sq (i_obj 1) (sq (i_ldR 0) (sq (i_ic 5) (sq (i_na 20) (sq (i_pR 0 [5]) (i_ret))))))
theorem sb_103_0 : Sd 103 0 12 bk_103_0 := Sd.sq st_103_0 (Sd.sq st_103_1 (Sd.sq st_103_4 (Sd.sq st_103_5 (Sd.sq st_103_6 (Sd.sq st_103_8 (st_103_11))))))
theorem dd_104_0 : decode (mi 104).2.1 0 = .ok (.aload_n 0, 1) := by decide +kernel
theorem st_104_0 : Sd 104 0 1 (i_ldR 0) := sd_aload_n (j := 0) dd_104_0 rfl
theorem dd_104_1 : decode (mi 104).2.1 1 = .ok (.getfield 15, 3) := by decide +kernel
theorem st_104_1 : Sd 104 1 3 (i_gR 5 [5]) := sd_gR (ref := "ContractDesk$Rule") (decl := "ContractDesk$Rule") (name := "last") (desc := "LContractDesk$Matcher;") dd_104_1 (by rw [mc_104]; exact tw_1028) (Or.inl rfl) (by decide +kernel)
theorem dd_104_4 : decode (mi 104).2.1 4 = .ok (.ifnonnull 11, 3) := by decide +kernel
theorem st_104_4 : Sd 104 4 3 (i_nol 15) := sd_ifnonnull dd_104_4 (by decide)
theorem dd_104_7 : decode (mi 104).2.1 7 = .ok (.aload_n 0, 1) := by decide +kernel
theorem st_104_7 : Sd 104 7 1 (i_ldR 0) := sd_aload_n (j := 0) dd_104_7 rfl
theorem dd_104_8 : decode (mi 104).2.1 8 = .ok (.aload_n 1, 1) := by decide +kernel
theorem st_104_8 : Sd 104 8 1 (i_ldR 1) := sd_aload_n (j := 1) dd_104_8 rfl
theorem dd_104_9 : decode (mi 104).2.1 9 = .ok (.putfield 19, 3) := by decide +kernel
theorem st_104_9 : Sd 104 9 3 (i_pR 4 [5]) := sd_pR (ref := "ContractDesk$Rule") (decl := "ContractDesk$Rule") (name := "first") (desc := "LContractDesk$Matcher;") dd_104_9 (by rw [mc_104]; exact tw_1027) (Or.inl rfl) (by decide +kernel) (by decide +kernel)
theorem dd_104_12 : decode (mi 104).2.1 12 = .ok (.goto 11, 3) := by decide +kernel
theorem st_104_12 : Sd 104 12 3 (i_goto 23) := sd_goto dd_104_12 (by decide)
def bk_104_0 : Tr := sq (i_ldR 0) (sq (i_gR 5 [5]) (sq (i_nol 15) (sq (i_ldR 0) (sq (i_ldR 1) (sq (i_pR 4 [5]) (i_goto 23))))))
theorem sb_104_0 : Sd 104 0 15 bk_104_0 := Sd.sq st_104_0 (Sd.sq st_104_1 (Sd.sq st_104_4 (Sd.sq st_104_7 (Sd.sq st_104_8 (Sd.sq st_104_9 (st_104_12))))))
theorem dd_104_15 : decode (mi 104).2.1 15 = .ok (.aload_n 0, 1) := by decide +kernel
theorem st_104_15 : Sd 104 15 1 (i_ldR 0) := sd_aload_n (j := 0) dd_104_15 rfl
theorem dd_104_16 : decode (mi 104).2.1 16 = .ok (.getfield 15, 3) := by decide +kernel
theorem st_104_16 : Sd 104 16 3 (i_gR 5 [5]) := sd_gR (ref := "ContractDesk$Rule") (decl := "ContractDesk$Rule") (name := "last") (desc := "LContractDesk$Matcher;") dd_104_16 (by rw [mc_104]; exact tw_1028) (Or.inl rfl) (by decide +kernel)
theorem dd_104_19 : decode (mi 104).2.1 19 = .ok (.aload_n 1, 1) := by decide +kernel
theorem st_104_19 : Sd 104 19 1 (i_ldR 1) := sd_aload_n (j := 1) dd_104_19 rfl
theorem dd_104_20 : decode (mi 104).2.1 20 = .ok (.putfield 22, 3) := by decide +kernel
theorem st_104_20 : Sd 104 20 3 (i_pR 0 [6, 7, 8, 9]) := sd_pR (ref := "ContractDesk$Matcher") (decl := "ContractDesk$Matcher") (name := "next") (desc := "LContractDesk$Matcher;") dd_104_20 (by rw [mc_104]; exact tw_1060) (Or.inl rfl) (by decide +kernel) (by decide +kernel)
def bk_104_15 : Tr := sq (i_ldR 0) (sq (i_gR 5 [5]) (sq (i_ldR 1) (sq (i_pR 0 [6, 7, 8, 9]) (i_fall 23))))
theorem sb_104_15 : Sd 104 15 8 bk_104_15 := Sd.sq st_104_15 (Sd.sq st_104_16 (Sd.sq st_104_19 (Sd.sq st_104_20 (sd_fall rfl))))
theorem dd_104_23 : decode (mi 104).2.1 23 = .ok (.aload_n 0, 1) := by decide +kernel
theorem st_104_23 : Sd 104 23 1 (i_ldR 0) := sd_aload_n (j := 0) dd_104_23 rfl
theorem dd_104_24 : decode (mi 104).2.1 24 = .ok (.aload_n 1, 1) := by decide +kernel
theorem st_104_24 : Sd 104 24 1 (i_ldR 1) := sd_aload_n (j := 1) dd_104_24 rfl
theorem dd_104_25 : decode (mi 104).2.1 25 = .ok (.putfield 15, 3) := by decide +kernel
theorem st_104_25 : Sd 104 25 3 (i_pR 5 [5]) := sd_pR (ref := "ContractDesk$Rule") (decl := "ContractDesk$Rule") (name := "last") (desc := "LContractDesk$Matcher;") dd_104_25 (by rw [mc_104]; exact tw_1028) (Or.inl rfl) (by decide +kernel) (by decide +kernel)
theorem dd_104_28 : decode (mi 104).2.1 28 = .ok (.return_, 1) := by decide +kernel
theorem st_104_28 : Sd 104 28 1 (i_ret) := sd_ret dd_104_28 mr_104
def bk_104_23 : Tr := sq (i_ldR 0) (sq (i_ldR 1) (sq (i_pR 5 [5]) (i_ret)))
theorem sb_104_23 : Sd 104 23 6 bk_104_23 := Sd.sq st_104_23 (Sd.sq st_104_24 (Sd.sq st_104_25 (st_104_28)))
theorem dd_105_0 : decode (mi 105).2.1 0 = .ok (.aload_n 0, 1) := by decide +kernel
theorem st_105_0 : Sd 105 0 1 (i_ldR 0) := sd_aload_n (j := 0) dd_105_0 rfl
theorem dd_105_1 : decode (mi 105).2.1 1 = .ok (.getfield 43, 3) := by decide +kernel
theorem st_105_1 : Sd 105 1 3 (i_gI 2 [5]) := sd_gI (ref := "ContractDesk$Rule") (decl := "ContractDesk$Rule") (name := "weight") (desc := "I") dd_105_1 (by rw [mc_105]; exact tw_1023) (Or.inl rfl) (by decide +kernel)
theorem dd_105_4 : decode (mi 105).2.1 4 = .ok (.aload_n 1, 1) := by decide +kernel
theorem st_105_4 : Sd 105 4 1 (i_ldR 1) := sd_aload_n (j := 1) dd_105_4 rfl
theorem dd_105_5 : decode (mi 105).2.1 5 = .ok (.getfield 43, 3) := by decide +kernel
theorem st_105_5 : Sd 105 5 3 (i_gI 2 [5]) := sd_gI (ref := "ContractDesk$Rule") (decl := "ContractDesk$Rule") (name := "weight") (desc := "I") dd_105_5 (by rw [mc_105]; exact tw_1023) (Or.inl rfl) (by decide +kernel)
theorem dd_105_8 : decode (mi 105).2.1 8 = .ok (.if_icmp .gt 25, 3) := by decide +kernel
theorem st_105_8 : Sd 105 8 3 (i_cgt 33) := sd_icmp_gt dd_105_8 (by decide)
theorem dd_105_11 : decode (mi 105).2.1 11 = .ok (.aload_n 0, 1) := by decide +kernel
theorem st_105_11 : Sd 105 11 1 (i_ldR 0) := sd_aload_n (j := 0) dd_105_11 rfl
theorem dd_105_12 : decode (mi 105).2.1 12 = .ok (.getfield 43, 3) := by decide +kernel
theorem st_105_12 : Sd 105 12 3 (i_gI 2 [5]) := sd_gI (ref := "ContractDesk$Rule") (decl := "ContractDesk$Rule") (name := "weight") (desc := "I") dd_105_12 (by rw [mc_105]; exact tw_1023) (Or.inl rfl) (by decide +kernel)
theorem dd_105_15 : decode (mi 105).2.1 15 = .ok (.aload_n 1, 1) := by decide +kernel
theorem st_105_15 : Sd 105 15 1 (i_ldR 1) := sd_aload_n (j := 1) dd_105_15 rfl
theorem dd_105_16 : decode (mi 105).2.1 16 = .ok (.getfield 43, 3) := by decide +kernel
theorem st_105_16 : Sd 105 16 3 (i_gI 2 [5]) := sd_gI (ref := "ContractDesk$Rule") (decl := "ContractDesk$Rule") (name := "weight") (desc := "I") dd_105_16 (by rw [mc_105]; exact tw_1023) (Or.inl rfl) (by decide +kernel)
theorem dd_105_19 : decode (mi 105).2.1 19 = .ok (.if_icmp .ne 18, 3) := by decide +kernel
theorem st_105_19 : Sd 105 19 3 (i_cne 37) := sd_icmp_ne dd_105_19 (by decide)
theorem dd_105_22 : decode (mi 105).2.1 22 = .ok (.aload_n 0, 1) := by decide +kernel
theorem st_105_22 : Sd 105 22 1 (i_ldR 0) := sd_aload_n (j := 0) dd_105_22 rfl
theorem dd_105_23 : decode (mi 105).2.1 23 = .ok (.getfield 39, 3) := by decide +kernel
theorem st_105_23 : Sd 105 23 3 (i_gI 1 [5]) := sd_gI (ref := "ContractDesk$Rule") (decl := "ContractDesk$Rule") (name := "size") (desc := "I") dd_105_23 (by rw [mc_105]; exact tw_1021) (Or.inl rfl) (by decide +kernel)
theorem dd_105_26 : decode (mi 105).2.1 26 = .ok (.aload_n 1, 1) := by decide +kernel
theorem st_105_26 : Sd 105 26 1 (i_ldR 1) := sd_aload_n (j := 1) dd_105_26 rfl
theorem dd_105_27 : decode (mi 105).2.1 27 = .ok (.getfield 39, 3) := by decide +kernel
theorem st_105_27 : Sd 105 27 3 (i_gI 1 [5]) := sd_gI (ref := "ContractDesk$Rule") (decl := "ContractDesk$Rule") (name := "size") (desc := "I") dd_105_27 (by rw [mc_105]; exact tw_1021) (Or.inl rfl) (by decide +kernel)
theorem dd_105_30 : decode (mi 105).2.1 30 = .ok (.if_icmp .le 7, 3) := by decide +kernel
theorem st_105_30 : Sd 105 30 3 (i_cle 37) := sd_icmp_le dd_105_30 (by decide)
def bk_105_0 : Tr := sq (i_ldR 0) (sq (i_gI 2 [5]) (sq (i_ldR 1) (sq (i_gI 2 [5]) (sq (i_cgt 33) (sq (i_ldR 0) (sq (i_gI 2 [5]) (sq (i_ldR 1) (sq (i_gI 2 [5]) (sq (i_cne 37) (sq (i_ldR 0) (sq (i_gI 1 [5]) (sq (i_ldR 1) (sq (i_gI 1 [5]) (sq (i_cle 37) (i_fall 33)))))))))))))))
theorem sb_105_0 : Sd 105 0 33 bk_105_0 := Sd.sq st_105_0 (Sd.sq st_105_1 (Sd.sq st_105_4 (Sd.sq st_105_5 (Sd.sq st_105_8 (Sd.sq st_105_11 (Sd.sq st_105_12 (Sd.sq st_105_15 (Sd.sq st_105_16 (Sd.sq st_105_19 (Sd.sq st_105_22 (Sd.sq st_105_23 (Sd.sq st_105_26 (Sd.sq st_105_27 (Sd.sq st_105_30 (sd_fall rfl)))))))))))))))
theorem dd_105_33 : decode (mi 105).2.1 33 = .ok (.iconst 1, 1) := by decide +kernel
theorem st_105_33 : Sd 105 33 1 (i_ic 1) := sd_iconst dd_105_33
theorem dd_105_34 : decode (mi 105).2.1 34 = .ok (.goto 4, 3) := by decide +kernel
theorem st_105_34 : Sd 105 34 3 (i_goto 38) := sd_goto dd_105_34 (by decide)
def bk_105_33 : Tr := sq (i_ic 1) (i_goto 38)
theorem sb_105_33 : Sd 105 33 4 bk_105_33 := Sd.sq st_105_33 (st_105_34)
theorem dd_105_37 : decode (mi 105).2.1 37 = .ok (.iconst 0, 1) := by decide +kernel
theorem st_105_37 : Sd 105 37 1 (i_ic 0) := sd_iconst dd_105_37
def bk_105_37 : Tr := sq (i_ic 0) (i_fall 38)
theorem sb_105_37 : Sd 105 37 1 bk_105_37 := Sd.sq st_105_37 (sd_fall rfl)
theorem dd_105_38 : decode (mi 105).2.1 38 = .ok (.ireturn, 1) := by decide +kernel
theorem st_105_38 : Sd 105 38 1 (i_rI 2) := sd_ireturn dd_105_38 (by decide) mr_105
def bk_105_38 : Tr := i_rI 2
theorem sb_105_38 : Sd 105 38 1 bk_105_38 := st_105_38
theorem dd_106_0 : decode (mi 106).2.1 0 = .ok (.aload_n 0, 1) := by decide +kernel
theorem st_106_0 : Sd 106 0 1 (i_ldR 0) := sd_aload_n (j := 0) dd_106_0 rfl
theorem dd_106_1 : decode (mi 106).2.1 1 = .ok (.getfield 39, 3) := by decide +kernel
theorem st_106_1 : Sd 106 1 3 (i_gI 1 [5]) := sd_gI (ref := "ContractDesk$Rule") (decl := "ContractDesk$Rule") (name := "size") (desc := "I") dd_106_1 (by rw [mc_106]; exact tw_1021) (Or.inl rfl) (by decide +kernel)
theorem dd_106_4 : decode (mi 106).2.1 4 = .ok (.iload_n 2, 1) := by decide +kernel
theorem st_106_4 : Sd 106 4 1 (i_ldI 2) := sd_iload_n (j := 2) dd_106_4 rfl
theorem dd_106_5 : decode (mi 106).2.1 5 = .ok (.if_icmp .le 5, 3) := by decide +kernel
theorem st_106_5 : Sd 106 5 3 (i_cle 10) := sd_icmp_le dd_106_5 (by decide)
theorem dd_106_8 : decode (mi 106).2.1 8 = .ok (.iconst 0, 1) := by decide +kernel
theorem st_106_8 : Sd 106 8 1 (i_ic 0) := sd_iconst dd_106_8
theorem dd_106_9 : decode (mi 106).2.1 9 = .ok (.ireturn, 1) := by decide +kernel
theorem st_106_9 : Sd 106 9 1 (i_rI 2) := sd_ireturn dd_106_9 (by decide) mr_106
def bk_106_0 : Tr := sq (i_ldR 0) (sq (i_gI 1 [5]) (sq (i_ldI 2) (sq (i_cle 10) (sq (i_ic 0) (i_rI 2)))))
theorem sb_106_0 : Sd 106 0 10 bk_106_0 := Sd.sq st_106_0 (Sd.sq st_106_1 (Sd.sq st_106_4 (Sd.sq st_106_5 (Sd.sq st_106_8 (st_106_9)))))
theorem dd_106_10 : decode (mi 106).2.1 10 = .ok (.iconst 0, 1) := by decide +kernel
theorem st_106_10 : Sd 106 10 1 (i_ic 0) := sd_iconst dd_106_10
theorem dd_106_11 : decode (mi 106).2.1 11 = .ok (.istore_n 3, 1) := by decide +kernel
theorem st_106_11 : Sd 106 11 1 (i_stI 3) := sd_istore_n (j := 3) dd_106_11 rfl
def bk_106_10 : Tr := sq (i_ic 0) (sq (i_stI 3) (i_fall 12))
theorem sb_106_10 : Sd 106 10 2 bk_106_10 := Sd.sq st_106_10 (Sd.sq st_106_11 (sd_fall rfl))
theorem dd_106_12 : decode (mi 106).2.1 12 = .ok (.iload_n 3, 1) := by decide +kernel
theorem st_106_12 : Sd 106 12 1 (i_ldI 3) := sd_iload_n (j := 3) dd_106_12 rfl
theorem dd_106_13 : decode (mi 106).2.1 13 = .ok (.aload_n 0, 1) := by decide +kernel
theorem st_106_13 : Sd 106 13 1 (i_ldR 0) := sd_aload_n (j := 0) dd_106_13 rfl
theorem dd_106_14 : decode (mi 106).2.1 14 = .ok (.getfield 39, 3) := by decide +kernel
theorem st_106_14 : Sd 106 14 3 (i_gI 1 [5]) := sd_gI (ref := "ContractDesk$Rule") (decl := "ContractDesk$Rule") (name := "size") (desc := "I") dd_106_14 (by rw [mc_106]; exact tw_1021) (Or.inl rfl) (by decide +kernel)
theorem dd_106_17 : decode (mi 106).2.1 17 = .ok (.if_icmp .ge 50, 3) := by decide +kernel
theorem st_106_17 : Sd 106 17 3 (i_cge 67) := sd_icmp_ge dd_106_17 (by decide)
theorem dd_106_20 : decode (mi 106).2.1 20 = .ok (.aload_n 1, 1) := by decide +kernel
theorem st_106_20 : Sd 106 20 1 (i_ldR 1) := sd_aload_n (j := 1) dd_106_20 rfl
theorem dd_106_21 : decode (mi 106).2.1 21 = .ok (.iload_n 3, 1) := by decide +kernel
theorem st_106_21 : Sd 106 21 1 (i_ldI 3) := sd_iload_n (j := 3) dd_106_21 rfl
theorem dd_106_22 : decode (mi 106).2.1 22 = .ok (.iaload, 1) := by decide +kernel
theorem st_106_22 : Sd 106 22 1 (i_aI [20]) := sd_iaload dd_106_22 (by decide)
theorem dd_106_23 : decode (mi 106).2.1 23 = .ok (.sipush 1000, 3) := by decide +kernel
theorem st_106_23 : Sd 106 23 3 (i_ic 1000) := sd_sipush dd_106_23 (by decide)
theorem dd_106_26 : decode (mi 106).2.1 26 = .ok (.if_icmp .lt 7, 3) := by decide +kernel
theorem st_106_26 : Sd 106 26 3 (i_clt 33) := sd_icmp_lt dd_106_26 (by decide)
theorem dd_106_29 : decode (mi 106).2.1 29 = .ok (.iconst 2, 1) := by decide +kernel
theorem st_106_29 : Sd 106 29 1 (i_ic 2) := sd_iconst dd_106_29
theorem dd_106_30 : decode (mi 106).2.1 30 = .ok (.goto 4, 3) := by decide +kernel
theorem st_106_30 : Sd 106 30 3 (i_goto 34) := sd_goto dd_106_30 (by decide)
def bk_106_12 : Tr := sq (i_ldI 3) (sq (i_ldR 0) (sq (i_gI 1 [5]) (sq (i_cge 67) (sq (i_ldR 1) (sq (i_ldI 3) (sq (i_aI [20]) (sq (i_ic 1000) (sq (i_clt 33) (sq (i_ic 2) (i_goto 34))))))))))
theorem sb_106_12 : Sd 106 12 21 bk_106_12 := Sd.sq st_106_12 (Sd.sq st_106_13 (Sd.sq st_106_14 (Sd.sq st_106_17 (Sd.sq st_106_20 (Sd.sq st_106_21 (Sd.sq st_106_22 (Sd.sq st_106_23 (Sd.sq st_106_26 (Sd.sq st_106_29 (st_106_30))))))))))
theorem dd_106_33 : decode (mi 106).2.1 33 = .ok (.iconst 1, 1) := by decide +kernel
theorem st_106_33 : Sd 106 33 1 (i_ic 1) := sd_iconst dd_106_33
def bk_106_33 : Tr := sq (i_ic 1) (i_fall 34)
theorem sb_106_33 : Sd 106 33 1 bk_106_33 := Sd.sq st_106_33 (sd_fall rfl)
theorem dd_106_34 : decode (mi 106).2.1 34 = .ok (.istore 4, 2) := by decide +kernel
theorem st_106_34 : Sd 106 34 2 (i_stI 4) := sd_istore dd_106_34
theorem dd_106_36 : decode (mi 106).2.1 36 = .ok (.aload_n 0, 1) := by decide +kernel
theorem st_106_36 : Sd 106 36 1 (i_ldR 0) := sd_aload_n (j := 0) dd_106_36 rfl
theorem dd_106_37 : decode (mi 106).2.1 37 = .ok (.getfield 9, 3) := by decide +kernel
theorem st_106_37 : Sd 106 37 3 (i_gR 0 [5]) := sd_gR (ref := "ContractDesk$Rule") (decl := "ContractDesk$Rule") (name := "steps") (desc := "[I") dd_106_37 (by rw [mc_106]; exact tw_1019) (Or.inl rfl) (by decide +kernel)
theorem dd_106_40 : decode (mi 106).2.1 40 = .ok (.iload_n 3, 1) := by decide +kernel
theorem st_106_40 : Sd 106 40 1 (i_ldI 3) := sd_iload_n (j := 3) dd_106_40 rfl
theorem dd_106_41 : decode (mi 106).2.1 41 = .ok (.iaload, 1) := by decide +kernel
theorem st_106_41 : Sd 106 41 1 (i_aI [20]) := sd_iaload dd_106_41 (by decide)
theorem dd_106_42 : decode (mi 106).2.1 42 = .ok (.aload_n 1, 1) := by decide +kernel
theorem st_106_42 : Sd 106 42 1 (i_ldR 1) := sd_aload_n (j := 1) dd_106_42 rfl
theorem dd_106_43 : decode (mi 106).2.1 43 = .ok (.iload_n 3, 1) := by decide +kernel
theorem st_106_43 : Sd 106 43 1 (i_ldI 3) := sd_iload_n (j := 3) dd_106_43 rfl
theorem dd_106_44 : decode (mi 106).2.1 44 = .ok (.iaload, 1) := by decide +kernel
theorem st_106_44 : Sd 106 44 1 (i_aI [20]) := sd_iaload dd_106_44 (by decide)
theorem dd_106_45 : decode (mi 106).2.1 45 = .ok (.if_icmp .eq 16, 3) := by decide +kernel
theorem st_106_45 : Sd 106 45 3 (i_ceq 61) := sd_icmp_eq dd_106_45 (by decide)
theorem dd_106_48 : decode (mi 106).2.1 48 = .ok (.aload_n 0, 1) := by decide +kernel
theorem st_106_48 : Sd 106 48 1 (i_ldR 0) := sd_aload_n (j := 0) dd_106_48 rfl
theorem dd_106_49 : decode (mi 106).2.1 49 = .ok (.getfield 9, 3) := by decide +kernel
theorem st_106_49 : Sd 106 49 3 (i_gR 0 [5]) := sd_gR (ref := "ContractDesk$Rule") (decl := "ContractDesk$Rule") (name := "steps") (desc := "[I") dd_106_49 (by rw [mc_106]; exact tw_1019) (Or.inl rfl) (by decide +kernel)
theorem dd_106_52 : decode (mi 106).2.1 52 = .ok (.iload_n 3, 1) := by decide +kernel
theorem st_106_52 : Sd 106 52 1 (i_ldI 3) := sd_iload_n (j := 3) dd_106_52 rfl
theorem dd_106_53 : decode (mi 106).2.1 53 = .ok (.iaload, 1) := by decide +kernel
theorem st_106_53 : Sd 106 53 1 (i_aI [20]) := sd_iaload dd_106_53 (by decide)
theorem dd_106_54 : decode (mi 106).2.1 54 = .ok (.iload 4, 2) := by decide +kernel
theorem st_106_54 : Sd 106 54 2 (i_ldI 4) := sd_iload dd_106_54
theorem dd_106_56 : decode (mi 106).2.1 56 = .ok (.if_icmp .eq 5, 3) := by decide +kernel
theorem st_106_56 : Sd 106 56 3 (i_ceq 61) := sd_icmp_eq dd_106_56 (by decide)
theorem dd_106_59 : decode (mi 106).2.1 59 = .ok (.iconst 0, 1) := by decide +kernel
theorem st_106_59 : Sd 106 59 1 (i_ic 0) := sd_iconst dd_106_59
theorem dd_106_60 : decode (mi 106).2.1 60 = .ok (.ireturn, 1) := by decide +kernel
theorem st_106_60 : Sd 106 60 1 (i_rI 2) := sd_ireturn dd_106_60 (by decide) mr_106
def bk_106_34 : Tr := sq (i_stI 4) (sq (i_ldR 0) (sq (i_gR 0 [5]) (sq (i_ldI 3) (sq (i_aI [20]) (sq (i_ldR 1) (sq (i_ldI 3) (sq (i_aI [20]) (sq (i_ceq 61) (sq (i_ldR 0) (sq (i_gR 0 [5]) (sq (i_ldI 3) (sq (i_aI [20]) (sq (i_ldI 4) (sq (i_ceq 61) (sq (i_ic 0) (i_rI 2))))))))))))))))
theorem sb_106_34 : Sd 106 34 27 bk_106_34 := Sd.sq st_106_34 (Sd.sq st_106_36 (Sd.sq st_106_37 (Sd.sq st_106_40 (Sd.sq st_106_41 (Sd.sq st_106_42 (Sd.sq st_106_43 (Sd.sq st_106_44 (Sd.sq st_106_45 (Sd.sq st_106_48 (Sd.sq st_106_49 (Sd.sq st_106_52 (Sd.sq st_106_53 (Sd.sq st_106_54 (Sd.sq st_106_56 (Sd.sq st_106_59 (st_106_60))))))))))))))))
theorem dd_106_61 : decode (mi 106).2.1 61 = .ok (.iinc 3 1, 3) := by decide +kernel
theorem st_106_61 : Sd 106 61 3 (i_inc 3 1) := sd_iinc dd_106_61
theorem dd_106_64 : decode (mi 106).2.1 64 = .ok (.goto (-52), 3) := by decide +kernel
theorem st_106_64 : Sd 106 64 3 (i_goto 12) := sd_goto dd_106_64 (by decide)
def bk_106_61 : Tr := sq (i_inc 3 1) (i_goto 12)
theorem sb_106_61 : Sd 106 61 6 bk_106_61 := Sd.sq st_106_61 (st_106_64)
theorem dd_106_67 : decode (mi 106).2.1 67 = .ok (.iconst 1, 1) := by decide +kernel
theorem st_106_67 : Sd 106 67 1 (i_ic 1) := sd_iconst dd_106_67
theorem dd_106_68 : decode (mi 106).2.1 68 = .ok (.ireturn, 1) := by decide +kernel
theorem st_106_68 : Sd 106 68 1 (i_rI 2) := sd_ireturn dd_106_68 (by decide) mr_106
def bk_106_67 : Tr := sq (i_ic 1) (i_rI 2)
theorem sb_106_67 : Sd 106 67 2 bk_106_67 := Sd.sq st_106_67 (st_106_68)
theorem dd_107_0 : decode (mi 107).2.1 0 = .ok (.aload_n 0, 1) := by decide +kernel
theorem st_107_0 : Sd 107 0 1 (i_ldR 0) := sd_aload_n (j := 0) dd_107_0 rfl
theorem dd_107_1 : decode (mi 107).2.1 1 = .ok (.getfield 19, 3) := by decide +kernel
theorem st_107_1 : Sd 107 1 3 (i_gR 4 [5]) := sd_gR (ref := "ContractDesk$Rule") (decl := "ContractDesk$Rule") (name := "first") (desc := "LContractDesk$Matcher;") dd_107_1 (by rw [mc_107]; exact tw_1027) (Or.inl rfl) (by decide +kernel)
theorem dd_107_4 : decode (mi 107).2.1 4 = .ok (.astore_n 3, 1) := by decide +kernel
theorem st_107_4 : Sd 107 4 1 (i_stR 3) := sd_astore_n (j := 3) dd_107_4 rfl
def bk_107_0 : Tr := sq (i_ldR 0) (sq (i_gR 4 [5]) (sq (i_stR 3) (i_fall 5)))
theorem sb_107_0 : Sd 107 0 5 bk_107_0 := Sd.sq st_107_0 (Sd.sq st_107_1 (Sd.sq st_107_4 (sd_fall rfl)))
theorem dd_107_5 : decode (mi 107).2.1 5 = .ok (.aload_n 3, 1) := by decide +kernel
theorem st_107_5 : Sd 107 5 1 (i_ldR 3) := sd_aload_n (j := 3) dd_107_5 rfl
theorem dd_107_6 : decode (mi 107).2.1 6 = .ok (.ifnull 29, 3) := by decide +kernel
theorem st_107_6 : Sd 107 6 3 (i_nul 35) := sd_ifnull dd_107_6 (by decide)
theorem dd_107_9 : decode (mi 107).2.1 9 = .ok (.aload_n 3, 1) := by decide +kernel
theorem st_107_9 : Sd 107 9 1 (i_ldR 3) := sd_aload_n (j := 3) dd_107_9 rfl
theorem dd_107_10 : decode (mi 107).2.1 10 = .ok (.aload_n 1, 1) := by decide +kernel
theorem st_107_10 : Sd 107 10 1 (i_ldR 1) := sd_aload_n (j := 1) dd_107_10 rfl
theorem dd_107_11 : decode (mi 107).2.1 11 = .ok (.aload_n 2, 1) := by decide +kernel
theorem st_107_11 : Sd 107 11 1 (i_ldR 2) := sd_aload_n (j := 2) dd_107_11 rfl
theorem dd_107_12 : decode (mi 107).2.1 12 = .ok (.invokevirtual 31, 3) := by decide +kernel
theorem st_107_12 : Sd 107 12 3 (i_cV [(6, 115), (7, 60), (8, 69), (9, 112)] 3 4 []) := sd_virtU ⟨"ContractDesk$Matcher", "holds", "(LContractDesk$Value;LContractDesk$Value;)Z"⟩ "ContractDesk$Matcher" dd_107_12 (by rw [mc_107]; exact tw_1163) (by exact tw_1165) (Or.inl tw_1164) (by decide) (fun t j h => by simp only [List.mem_cons, List.not_mem_nil, or_false, Prod.mk.injEq] at h; rcases h with ⟨rfl, rfl⟩ | ⟨rfl, rfl⟩ | ⟨rfl, rfl⟩ | ⟨rfl, rfl⟩; exact ⟨by rw [mn_115]; exact tw_1196, by rw [mn_115]; exact tw_1197, mt_115, by decide, by decide⟩; exact ⟨by rw [mn_60]; exact tw_1166, by rw [mn_60]; exact tw_1167, mt_60, by decide, by decide⟩; exact ⟨by rw [mn_69]; exact tw_1172, by rw [mn_69]; exact tw_1173, mt_69, by decide, by decide⟩; exact ⟨by rw [mn_112]; exact tw_1178, by rw [mn_112]; exact tw_1179, mt_112, by decide, by decide⟩) (by unfold prm; decide +kernel) ml_107 (HsOk.nil (by decide +kernel))
theorem dd_107_15 : decode (mi 107).2.1 15 = .ok (.aload_n 0, 1) := by decide +kernel
theorem st_107_15 : Sd 107 15 1 (i_ldR 0) := sd_aload_n (j := 0) dd_107_15 rfl
theorem dd_107_16 : decode (mi 107).2.1 16 = .ok (.getfield 35, 3) := by decide +kernel
theorem st_107_16 : Sd 107 16 3 (i_gI 3 [5]) := sd_gI (ref := "ContractDesk$Rule") (decl := "ContractDesk$Rule") (name := "any") (desc := "Z") dd_107_16 (by rw [mc_107]; exact tw_1025) (Or.inl rfl) (by decide +kernel)
theorem dd_107_19 : decode (mi 107).2.1 19 = .ok (.if_icmp .ne 8, 3) := by decide +kernel
theorem st_107_19 : Sd 107 19 3 (i_cne 27) := sd_icmp_ne dd_107_19 (by decide)
theorem dd_107_22 : decode (mi 107).2.1 22 = .ok (.aload_n 0, 1) := by decide +kernel
theorem st_107_22 : Sd 107 22 1 (i_ldR 0) := sd_aload_n (j := 0) dd_107_22 rfl
theorem dd_107_23 : decode (mi 107).2.1 23 = .ok (.getfield 35, 3) := by decide +kernel
theorem st_107_23 : Sd 107 23 3 (i_gI 3 [5]) := sd_gI (ref := "ContractDesk$Rule") (decl := "ContractDesk$Rule") (name := "any") (desc := "Z") dd_107_23 (by rw [mc_107]; exact tw_1025) (Or.inl rfl) (by decide +kernel)
theorem dd_107_26 : decode (mi 107).2.1 26 = .ok (.ireturn, 1) := by decide +kernel
theorem st_107_26 : Sd 107 26 1 (i_rI 2) := sd_ireturn dd_107_26 (by decide) mr_107
def bk_107_5 : Tr := sq (i_ldR 3) (sq (i_nul 35) (sq (i_ldR 3) (sq (i_ldR 1) (sq (i_ldR 2) (sq (i_cV [(6, 115), (7, 60), (8, 69), (9, 112)] 3 4 []) (sq (i_ldR 0) (sq (i_gI 3 [5]) (sq (i_cne 27) (sq (i_ldR 0) (sq (i_gI 3 [5]) (i_rI 2)))))))))))
theorem sb_107_5 : Sd 107 5 22 bk_107_5 := Sd.sq st_107_5 (Sd.sq st_107_6 (Sd.sq st_107_9 (Sd.sq st_107_10 (Sd.sq st_107_11 (Sd.sq st_107_12 (Sd.sq st_107_15 (Sd.sq st_107_16 (Sd.sq st_107_19 (Sd.sq st_107_22 (Sd.sq st_107_23 (st_107_26)))))))))))
theorem dd_107_27 : decode (mi 107).2.1 27 = .ok (.aload_n 3, 1) := by decide +kernel
theorem st_107_27 : Sd 107 27 1 (i_ldR 3) := sd_aload_n (j := 3) dd_107_27 rfl
theorem dd_107_28 : decode (mi 107).2.1 28 = .ok (.getfield 22, 3) := by decide +kernel
theorem st_107_28 : Sd 107 28 3 (i_gR 0 [6, 7, 8, 9]) := sd_gR (ref := "ContractDesk$Matcher") (decl := "ContractDesk$Matcher") (name := "next") (desc := "LContractDesk$Matcher;") dd_107_28 (by rw [mc_107]; exact tw_1060) (Or.inl rfl) (by decide +kernel)
theorem dd_107_31 : decode (mi 107).2.1 31 = .ok (.astore_n 3, 1) := by decide +kernel
theorem st_107_31 : Sd 107 31 1 (i_stR 3) := sd_astore_n (j := 3) dd_107_31 rfl
theorem dd_107_32 : decode (mi 107).2.1 32 = .ok (.goto (-27), 3) := by decide +kernel
theorem st_107_32 : Sd 107 32 3 (i_goto 5) := sd_goto dd_107_32 (by decide)
def bk_107_27 : Tr := sq (i_ldR 3) (sq (i_gR 0 [6, 7, 8, 9]) (sq (i_stR 3) (i_goto 5)))
theorem sb_107_27 : Sd 107 27 8 bk_107_27 := Sd.sq st_107_27 (Sd.sq st_107_28 (Sd.sq st_107_31 (st_107_32)))
theorem dd_107_35 : decode (mi 107).2.1 35 = .ok (.aload_n 0, 1) := by decide +kernel
theorem st_107_35 : Sd 107 35 1 (i_ldR 0) := sd_aload_n (j := 0) dd_107_35 rfl
theorem dd_107_36 : decode (mi 107).2.1 36 = .ok (.getfield 35, 3) := by decide +kernel
theorem st_107_36 : Sd 107 36 3 (i_gI 3 [5]) := sd_gI (ref := "ContractDesk$Rule") (decl := "ContractDesk$Rule") (name := "any") (desc := "Z") dd_107_36 (by rw [mc_107]; exact tw_1025) (Or.inl rfl) (by decide +kernel)
theorem dd_107_39 : decode (mi 107).2.1 39 = .ok (.ifCond .ne 7, 3) := by decide +kernel
theorem st_107_39 : Sd 107 39 3 (i_zne 46) := sd_if_ne dd_107_39 (by decide)
theorem dd_107_42 : decode (mi 107).2.1 42 = .ok (.iconst 1, 1) := by decide +kernel
theorem st_107_42 : Sd 107 42 1 (i_ic 1) := sd_iconst dd_107_42
theorem dd_107_43 : decode (mi 107).2.1 43 = .ok (.goto 4, 3) := by decide +kernel
theorem st_107_43 : Sd 107 43 3 (i_goto 47) := sd_goto dd_107_43 (by decide)
def bk_107_35 : Tr := sq (i_ldR 0) (sq (i_gI 3 [5]) (sq (i_zne 46) (sq (i_ic 1) (i_goto 47))))
theorem sb_107_35 : Sd 107 35 11 bk_107_35 := Sd.sq st_107_35 (Sd.sq st_107_36 (Sd.sq st_107_39 (Sd.sq st_107_42 (st_107_43))))
theorem dd_107_46 : decode (mi 107).2.1 46 = .ok (.iconst 0, 1) := by decide +kernel
theorem st_107_46 : Sd 107 46 1 (i_ic 0) := sd_iconst dd_107_46
def bk_107_46 : Tr := sq (i_ic 0) (i_fall 47)
theorem sb_107_46 : Sd 107 46 1 bk_107_46 := Sd.sq st_107_46 (sd_fall rfl)
theorem dd_107_47 : decode (mi 107).2.1 47 = .ok (.ireturn, 1) := by decide +kernel
theorem st_107_47 : Sd 107 47 1 (i_rI 2) := sd_ireturn dd_107_47 (by decide) mr_107
def bk_107_47 : Tr := i_rI 2
theorem sb_107_47 : Sd 107 47 1 bk_107_47 := st_107_47
