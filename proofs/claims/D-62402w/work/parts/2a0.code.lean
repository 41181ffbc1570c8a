theorem dd_0_0 : decode (mi 0).2.1 0 = .ok (.aload_n 0, 1) := by decide +kernel
theorem st_0_0 : Sd 0 0 1 (i_ldR 0) := sd_aload_n (j := 0) dd_0_0 rfl
theorem dd_0_1 : decode (mi 0).2.1 1 = .ok (.iload_n 1, 1) := by decide +kernel
theorem st_0_1 : Sd 0 1 1 (i_ldI 1) := sd_iload_n (j := 1) dd_0_1 rfl
theorem dd_0_2 : decode (mi 0).2.1 2 = .ok (.invokespecial 1, 3) := by decide +kernel
theorem st_0_2 : Sd 0 2 3 (i_cI 1 2 2 []) := sd_init dd_0_2 (by rw [mc_0, mn_1]; exact tw_121) (by rw [mn_1]; exact tw_122) mt_1 pm_1 (by rw [mn_1]) (by decide +kernel) ml_0 (HsOk.nil (by decide +kernel))
theorem dd_0_5 : decode (mi 0).2.1 5 = .ok (.return_, 1) := by decide +kernel
theorem st_0_5 : Sd 0 5 1 (i_ret) := sd_ret dd_0_5 mr_0
def bk_0_0 : Tr := sq (i_ldR 0) (sq (i_ldI 1) (sq (i_cI 1 2 2 []) (i_ret)))
theorem sb_0_0 : Sd 0 0 6 bk_0_0 := Sd.sq st_0_0 (Sd.sq st_0_1 (Sd.sq st_0_2 (st_0_5)))
theorem dd_1_0 : decode (mi 1).2.1 0 = .ok (.aload_n 0, 1) := by decide +kernel
theorem st_1_0 : Sd 1 0 1 (i_ldR 0) := sd_aload_n (j := 0) dd_1_0 rfl
theorem dd_1_1 : decode (mi 1).2.1 1 = .ok (.invokespecial 3, 3) := by decide +kernel
theorem st_1_1 : Sd 1 1 3 (i_obj 2) := sd_obj dd_1_1 (by rw [mc_1]; exact tw_124) ob_1 ob_2 ml_1
theorem dd_1_4 : decode (mi 1).2.1 4 = .ok (.getstatic 18, 3) := by decide +kernel
theorem st_1_4 : Sd 1 4 3 (i_ic 1) := sd_gsC dd_1_4 (by rw [mc_1]; exact tw_125)
theorem dd_1_7 : decode (mi 1).2.1 7 = .ok (.ifCond .eq 18, 3) := by decide +kernel
theorem st_1_7 : Sd 1 7 3 (i_zeq 25) := sd_if_eq dd_1_7 (by decide)
theorem dd_1_10 : decode (mi 1).2.1 10 = .ok (.aload_n 0, 1) := by decide +kernel
theorem st_1_10 : Sd 1 10 1 (i_ldR 0) := sd_aload_n (j := 0) dd_1_10 rfl
theorem dd_1_11 : decode (mi 1).2.1 11 = .ok (.iload_n 1, 1) := by decide +kernel
theorem st_1_11 : Sd 1 11 1 (i_ldI 1) := sd_iload_n (j := 1) dd_1_11 rfl
theorem dd_1_12 : decode (mi 1).2.1 12 = .ok (.newarray .byte, 2) := by decide +kernel
theorem st_1_12 : Sd 1 12 2 (i_na 23) := sd_newarray dd_1_12 (by exact tw_148) rfl (by decide)
theorem dd_1_14 : decode (mi 1).2.1 14 = .ok (.putfield 15, 3) := by decide +kernel
theorem st_1_14 : Sd 1 14 3 (i_pR 0 [15]) := sd_pR (ref := "java/lang/AbstractStringBuilder") (decl := "java/lang/AbstractStringBuilder") (name := "value") (desc := "[B") dd_1_14 (by rw [mc_1]; exact tw_134) (Or.inl rfl) (by decide +kernel) (by decide +kernel)
theorem dd_1_17 : decode (mi 1).2.1 17 = .ok (.aload_n 0, 1) := by decide +kernel
theorem st_1_17 : Sd 1 17 1 (i_ldR 0) := sd_aload_n (j := 0) dd_1_17 rfl
theorem dd_1_18 : decode (mi 1).2.1 18 = .ok (.iconst 0, 1) := by decide +kernel
theorem st_1_18 : Sd 1 18 1 (i_ic 0) := sd_iconst dd_1_18
theorem dd_1_19 : decode (mi 1).2.1 19 = .ok (.putfield 22, 3) := by decide +kernel
theorem st_1_19 : Sd 1 19 3 (i_pI 1 [15] 3) := sd_pI (ref := "java/lang/AbstractStringBuilder") (decl := "java/lang/AbstractStringBuilder") (name := "coder") (desc := "B") dd_1_19 (by rw [mc_1]; exact tw_135) (Or.inl rfl) (by decide +kernel) (by decide +kernel) (by decide)
theorem dd_1_22 : decode (mi 1).2.1 22 = .ok (.goto 16, 3) := by decide +kernel
theorem st_1_22 : Sd 1 22 3 (i_goto 38) := sd_goto dd_1_22 (by decide)
def bk_1_0 : Tr := sq (i_ldR 0) (sq (i_obj 2) (sq (i_ic 1) (sq (i_zeq 25) (sq (i_ldR 0) (sq (i_ldI 1) (sq (i_na 23) (sq (i_pR 0 [15]) (sq (i_ldR 0) (sq (i_ic 0) (sq (i_pI 1 [15] 3) (i_goto 38)))))))))))
theorem sb_1_0 : Sd 1 0 25 bk_1_0 := Sd.sq st_1_0 (Sd.sq st_1_1 (Sd.sq st_1_4 (Sd.sq st_1_7 (Sd.sq st_1_10 (Sd.sq st_1_11 (Sd.sq st_1_12 (Sd.sq st_1_14 (Sd.sq st_1_17 (Sd.sq st_1_18 (Sd.sq st_1_19 (st_1_22)))))))))))
theorem dd_1_25 : decode (mi 1).2.1 25 = .ok (.aload_n 0, 1) := by decide +kernel
theorem st_1_25 : Sd 1 25 1 (i_ldR 0) := sd_aload_n (j := 0) dd_1_25 rfl
theorem dd_1_26 : decode (mi 1).2.1 26 = .ok (.iload_n 1, 1) := by decide +kernel
theorem st_1_26 : Sd 1 26 1 (i_ldI 1) := sd_iload_n (j := 1) dd_1_26 rfl
def bk_1_25 : Tr := sq (i_ldR 0) (sq (i_ldI 1) (i_bad))
theorem sb_1_25 : Sd 1 25 2 bk_1_25 := Sd.sq st_1_25 (Sd.sq st_1_26 (sd_bad))
theorem dd_1_38 : decode (mi 1).2.1 38 = .ok (.return_, 1) := by decide +kernel
theorem st_1_38 : Sd 1 38 1 (i_ret) := sd_ret dd_1_38 mr_1
def bk_1_38 : Tr := i_ret
theorem sb_1_38 : Sd 1 38 1 bk_1_38 := st_1_38
theorem dd_2_0 : decode (mi 2).2.1 0 = .ok (.aload_n 0, 1) := by decide +kernel
theorem st_2_0 : Sd 2 0 1 (i_ldR 0) := sd_aload_n (j := 0) dd_2_0 rfl
theorem dd_2_1 : decode (mi 2).2.1 1 = .ok (.invokespecial 1, 3) := by decide +kernel
theorem st_2_1 : Sd 2 1 3 (i_cI 3 1 2 []) := sd_init dd_2_1 (by rw [mc_2, mn_3]; exact tw_169) (by rw [mn_3]; exact tw_170) mt_3 pm_3 (by rw [mn_3]) (by decide +kernel) ml_2 (HsOk.nil (by decide +kernel))
theorem dd_2_4 : decode (mi 2).2.1 4 = .ok (.iload_n 1, 1) := by decide +kernel
theorem st_2_4 : Sd 2 4 1 (i_ldI 1) := sd_iload_n (j := 1) dd_2_4 rfl
theorem dd_2_5 : decode (mi 2).2.1 5 = .ok (.ifCond .le 14, 3) := by decide +kernel
theorem st_2_5 : Sd 2 5 3 (i_zle 19) := sd_if_le dd_2_5 (by decide)
theorem dd_2_8 : decode (mi 2).2.1 8 = .ok (.aload_n 0, 1) := by decide +kernel
theorem st_2_8 : Sd 2 8 1 (i_ldR 0) := sd_aload_n (j := 0) dd_2_8 rfl
theorem dd_2_9 : decode (mi 2).2.1 9 = .ok (.iload_n 1, 1) := by decide +kernel
theorem st_2_9 : Sd 2 9 1 (i_ldI 1) := sd_iload_n (j := 1) dd_2_9 rfl
theorem dd_2_10 : decode (mi 2).2.1 10 = .ok (.anewarray 7, 3) := by decide +kernel
theorem st_2_10 : Sd 2 10 3 (i_an) := sd_anewarray dd_2_10 (by rw [mc_2]; exact tw_176) (by exact tw_177)
theorem dd_2_13 : decode (mi 2).2.1 13 = .ok (.putfield 9, 3) := by decide +kernel
theorem st_2_13 : Sd 2 13 3 (i_pR 0 [16]) := sd_pR (ref := "java/util/ArrayList") (decl := "java/util/ArrayList") (name := "elementData") (desc := "[Ljava/lang/Object;") dd_2_13 (by rw [mc_2]; exact tw_463) (Or.inl rfl) (by decide +kernel) (by decide +kernel)
theorem dd_2_16 : decode (mi 2).2.1 16 = .ok (.goto 44, 3) := by decide +kernel
theorem st_2_16 : Sd 2 16 3 (i_goto 60) := sd_goto dd_2_16 (by decide)
def bk_2_0 : Tr := sq (i_ldR 0) (sq (i_cI 3 1 2 []) (sq (i_ldI 1) (sq (i_zle 19) (sq (i_ldR 0) (sq (i_ldI 1) (sq (i_an) (sq (i_pR 0 [16]) (i_goto 60))))))))
theorem sb_2_0 : Sd 2 0 19 bk_2_0 := Sd.sq st_2_0 (Sd.sq st_2_1 (Sd.sq st_2_4 (Sd.sq st_2_5 (Sd.sq st_2_8 (Sd.sq st_2_9 (Sd.sq st_2_10 (Sd.sq st_2_13 (st_2_16))))))))
theorem dd_2_19 : decode (mi 2).2.1 19 = .ok (.iload_n 1, 1) := by decide +kernel
theorem st_2_19 : Sd 2 19 1 (i_ldI 1) := sd_iload_n (j := 1) dd_2_19 rfl
theorem dd_2_20 : decode (mi 2).2.1 20 = .ok (.ifCond .ne 13, 3) := by decide +kernel
theorem st_2_20 : Sd 2 20 3 (i_zne 33) := sd_if_ne dd_2_20 (by decide)
theorem dd_2_23 : decode (mi 2).2.1 23 = .ok (.aload_n 0, 1) := by decide +kernel
theorem st_2_23 : Sd 2 23 1 (i_ldR 0) := sd_aload_n (j := 0) dd_2_23 rfl
def bk_2_19 : Tr := sq (i_ldI 1) (sq (i_zne 33) (sq (i_ldR 0) (i_bad)))
theorem sb_2_19 : Sd 2 19 5 bk_2_19 := Sd.sq st_2_19 (Sd.sq st_2_20 (Sd.sq st_2_23 (sd_bad)))
theorem dd_2_33 : decode (mi 2).2.1 33 = .ok (.new 18, 3) := by decide +kernel
theorem st_2_33 : Sd 2 33 3 (i_new 17) := sd_new dd_2_33 (by rw [mc_2]; exact tw_180) (by exact tw_82) (by exact tw_181) (by decide) (by decide)
theorem dd_2_36 : decode (mi 2).2.1 36 = .ok (.dup, 1) := by decide +kernel
theorem st_2_36 : Sd 2 36 1 (i_dup) := sd_dup dd_2_36
theorem dd_2_37 : decode (mi 2).2.1 37 = .ok (.new 20, 3) := by decide +kernel
theorem st_2_37 : Sd 2 37 3 (i_new 15) := sd_new dd_2_37 (by rw [mc_2]; exact tw_220) (by exact tw_72) (by exact tw_117) (by decide) (by decide)
theorem dd_2_40 : decode (mi 2).2.1 40 = .ok (.dup, 1) := by decide +kernel
theorem st_2_40 : Sd 2 40 1 (i_dup) := sd_dup dd_2_40
def bk_2_33 : Tr := sq (i_new 17) (sq (i_dup) (sq (i_new 15) (sq (i_dup) (i_bad))))
theorem sb_2_33 : Sd 2 33 8 bk_2_33 := Sd.sq st_2_33 (Sd.sq st_2_36 (Sd.sq st_2_37 (Sd.sq st_2_40 (sd_bad))))
theorem dd_2_60 : decode (mi 2).2.1 60 = .ok (.return_, 1) := by decide +kernel
theorem st_2_60 : Sd 2 60 1 (i_ret) := sd_ret dd_2_60 mr_2
def bk_2_60 : Tr := i_ret
theorem sb_2_60 : Sd 2 60 1 bk_2_60 := st_2_60
theorem dd_3_0 : decode (mi 3).2.1 0 = .ok (.aload_n 0, 1) := by decide +kernel
theorem st_3_0 : Sd 3 0 1 (i_ldR 0) := sd_aload_n (j := 0) dd_3_0 rfl
theorem dd_3_1 : decode (mi 3).2.1 1 = .ok (.invokespecial 1, 3) := by decide +kernel
theorem st_3_1 : Sd 3 1 3 (i_cI 4 1 1 []) := sd_init dd_3_1 (by rw [mc_3, mn_4]; exact tw_172) (by rw [mn_4]; exact tw_173) mt_4 pm_4 (by rw [mn_4]) (by decide +kernel) ml_3 (HsOk.nil (by decide +kernel))
theorem dd_3_4 : decode (mi 3).2.1 4 = .ok (.aload_n 0, 1) := by decide +kernel
theorem st_3_4 : Sd 3 4 1 (i_ldR 0) := sd_aload_n (j := 0) dd_3_4 rfl
theorem dd_3_5 : decode (mi 3).2.1 5 = .ok (.iconst 0, 1) := by decide +kernel
theorem st_3_5 : Sd 3 5 1 (i_ic 0) := sd_iconst dd_3_5
theorem dd_3_6 : decode (mi 3).2.1 6 = .ok (.putfield 7, 3) := by decide +kernel
theorem st_3_6 : Sd 3 6 3 (i_pI 2 [16] 0) := sd_pI (ref := "java/util/AbstractList") (decl := "java/util/AbstractList") (name := "modCount") (desc := "I") dd_3_6 (by rw [mc_3]; exact tw_465) (Or.inl rfl) (by decide +kernel) (by decide +kernel) (by decide)
theorem dd_3_9 : decode (mi 3).2.1 9 = .ok (.return_, 1) := by decide +kernel
theorem st_3_9 : Sd 3 9 1 (i_ret) := sd_ret dd_3_9 mr_3
def bk_3_0 : Tr := sq (i_ldR 0) (sq (i_cI 4 1 1 []) (sq (i_ldR 0) (sq (i_ic 0) (sq (i_pI 2 [16] 0) (i_ret)))))
theorem sb_3_0 : Sd 3 0 10 bk_3_0 := Sd.sq st_3_0 (Sd.sq st_3_1 (Sd.sq st_3_4 (Sd.sq st_3_5 (Sd.sq st_3_6 (st_3_9)))))
theorem dd_4_0 : decode (mi 4).2.1 0 = .ok (.aload_n 0, 1) := by decide +kernel
theorem st_4_0 : Sd 4 0 1 (i_ldR 0) := sd_aload_n (j := 0) dd_4_0 rfl
theorem dd_4_1 : decode (mi 4).2.1 1 = .ok (.invokespecial 1, 3) := by decide +kernel
theorem st_4_1 : Sd 4 1 3 (i_obj 1) := sd_obj dd_4_1 (by rw [mc_4]; exact tw_175) ob_1 ob_2 ml_4
theorem dd_4_4 : decode (mi 4).2.1 4 = .ok (.return_, 1) := by decide +kernel
theorem st_4_4 : Sd 4 4 1 (i_ret) := sd_ret dd_4_4 mr_4
def bk_4_0 : Tr := sq (i_ldR 0) (sq (i_obj 1) (i_ret))
theorem sb_4_0 : Sd 4 0 5 bk_4_0 := Sd.sq st_4_0 (Sd.sq st_4_1 (st_4_4))
theorem dd_5_0 : decode (mi 5).2.1 0 = .ok (.aload_n 0, 1) := by decide +kernel
theorem st_5_0 : Sd 5 0 1 (i_ldR 0) := sd_aload_n (j := 0) dd_5_0 rfl
theorem dd_5_1 : decode (mi 5).2.1 1 = .ok (.getfield 15, 3) := by decide +kernel
theorem st_5_1 : Sd 5 1 3 (i_gR 0 [15]) := sd_gR (ref := "java/lang/AbstractStringBuilder") (decl := "java/lang/AbstractStringBuilder") (name := "value") (desc := "[B") dd_5_1 (by rw [mc_5]; exact tw_134) (Or.inl rfl) (by decide +kernel)
theorem dd_5_4 : decode (mi 5).2.1 4 = .ok (.arraylength, 1) := by decide +kernel
theorem st_5_4 : Sd 5 4 1 (i_len) := sd_len dd_5_4
theorem dd_5_5 : decode (mi 5).2.1 5 = .ok (.aload_n 0, 1) := by decide +kernel
theorem st_5_5 : Sd 5 5 1 (i_ldR 0) := sd_aload_n (j := 0) dd_5_5 rfl
theorem dd_5_6 : decode (mi 5).2.1 6 = .ok (.getfield 22, 3) := by decide +kernel
theorem st_5_6 : Sd 5 6 3 (i_gI 1 [15]) := sd_gI (ref := "java/lang/AbstractStringBuilder") (decl := "java/lang/AbstractStringBuilder") (name := "coder") (desc := "B") dd_5_6 (by rw [mc_5]; exact tw_135) (Or.inl rfl) (by decide +kernel)
theorem dd_5_9 : decode (mi 5).2.1 9 = .ok (.ishr, 1) := by decide +kernel
theorem st_5_9 : Sd 5 9 1 (i_ishr) := sd_ishr dd_5_9
theorem dd_5_10 : decode (mi 5).2.1 10 = .ok (.istore_n 2, 1) := by decide +kernel
theorem st_5_10 : Sd 5 10 1 (i_stI 2) := sd_istore_n (j := 2) dd_5_10 rfl
theorem dd_5_11 : decode (mi 5).2.1 11 = .ok (.iload_n 1, 1) := by decide +kernel
theorem st_5_11 : Sd 5 11 1 (i_ldI 1) := sd_iload_n (j := 1) dd_5_11 rfl
theorem dd_5_12 : decode (mi 5).2.1 12 = .ok (.iload_n 2, 1) := by decide +kernel
theorem st_5_12 : Sd 5 12 1 (i_ldI 2) := sd_iload_n (j := 2) dd_5_12 rfl
theorem dd_5_13 : decode (mi 5).2.1 13 = .ok (.isub, 1) := by decide +kernel
theorem st_5_13 : Sd 5 13 1 (i_isub) := sd_isub dd_5_13
theorem dd_5_14 : decode (mi 5).2.1 14 = .ok (.ifCond .le 24, 3) := by decide +kernel
theorem st_5_14 : Sd 5 14 3 (i_zle 38) := sd_if_le dd_5_14 (by decide)
theorem dd_5_17 : decode (mi 5).2.1 17 = .ok (.aload_n 0, 1) := by decide +kernel
theorem st_5_17 : Sd 5 17 1 (i_ldR 0) := sd_aload_n (j := 0) dd_5_17 rfl
theorem dd_5_18 : decode (mi 5).2.1 18 = .ok (.aload_n 0, 1) := by decide +kernel
theorem st_5_18 : Sd 5 18 1 (i_ldR 0) := sd_aload_n (j := 0) dd_5_18 rfl
theorem dd_5_19 : decode (mi 5).2.1 19 = .ok (.getfield 15, 3) := by decide +kernel
theorem st_5_19 : Sd 5 19 3 (i_gR 0 [15]) := sd_gR (ref := "java/lang/AbstractStringBuilder") (decl := "java/lang/AbstractStringBuilder") (name := "value") (desc := "[B") dd_5_19 (by rw [mc_5]; exact tw_134) (Or.inl rfl) (by decide +kernel)
theorem dd_5_22 : decode (mi 5).2.1 22 = .ok (.aload_n 0, 1) := by decide +kernel
theorem st_5_22 : Sd 5 22 1 (i_ldR 0) := sd_aload_n (j := 0) dd_5_22 rfl
theorem dd_5_23 : decode (mi 5).2.1 23 = .ok (.iload_n 1, 1) := by decide +kernel
theorem st_5_23 : Sd 5 23 1 (i_ldI 1) := sd_iload_n (j := 1) dd_5_23 rfl
theorem dd_5_24 : decode (mi 5).2.1 24 = .ok (.invokevirtual 104, 3) := by decide +kernel
theorem st_5_24 : Sd 5 24 3 (i_cV [(15, 6)] 2 3 []) := sd_virtP dd_5_24 (by rw [mc_5, mn_6]; exact tw_240) (by rw [mn_6]; exact tw_241) (by rw [mn_6]; exact tw_242) (by rw [mn_6]; exact tw_1595) mt_6 (by decide) (by decide) pm_6 ml_5 (HsOk.nil (by decide +kernel))
theorem dd_5_27 : decode (mi 5).2.1 27 = .ok (.aload_n 0, 1) := by decide +kernel
theorem st_5_27 : Sd 5 27 1 (i_ldR 0) := sd_aload_n (j := 0) dd_5_27 rfl
theorem dd_5_28 : decode (mi 5).2.1 28 = .ok (.getfield 22, 3) := by decide +kernel
theorem st_5_28 : Sd 5 28 3 (i_gI 1 [15]) := sd_gI (ref := "java/lang/AbstractStringBuilder") (decl := "java/lang/AbstractStringBuilder") (name := "coder") (desc := "B") dd_5_28 (by rw [mc_5]; exact tw_135) (Or.inl rfl) (by decide +kernel)
theorem dd_5_31 : decode (mi 5).2.1 31 = .ok (.ishl, 1) := by decide +kernel
theorem st_5_31 : Sd 5 31 1 (i_ishl) := sd_ishl dd_5_31
theorem dd_5_32 : decode (mi 5).2.1 32 = .ok (.invokestatic 108, 3) := by decide +kernel
theorem st_5_32 : Sd 5 32 3 (i_cS 9 2 3 []) := sd_static dd_5_32 (by rw [mc_5, mn_9]; exact tw_255) (by rw [mn_9]; exact tw_256) mt_9 pm_9 ml_5 (HsOk.nil (by decide +kernel))
theorem dd_5_35 : decode (mi 5).2.1 35 = .ok (.putfield 15, 3) := by decide +kernel
theorem st_5_35 : Sd 5 35 3 (i_pR 0 [15]) := sd_pR (ref := "java/lang/AbstractStringBuilder") (decl := "java/lang/AbstractStringBuilder") (name := "value") (desc := "[B") dd_5_35 (by rw [mc_5]; exact tw_134) (Or.inl rfl) (by decide +kernel) (by decide +kernel)
def bk_5_0 : Tr := sq (i_ldR 0) (sq (i_gR 0 [15]) (sq (i_len) (sq (i_ldR 0) (sq (i_gI 1 [15]) (sq (i_ishr) (sq (i_stI 2) (sq (i_ldI 1) (sq (i_ldI 2) (sq (i_isub) (sq (i_zle 38) (sq (i_ldR 0) (sq (i_ldR 0) (sq (i_gR 0 [15]) (sq (i_ldR 0) (sq (i_ldI 1) (sq (i_cV [(15, 6)] 2 3 []) (sq (i_ldR 0) (sq (i_gI 1 [15]) (sq (i_ishl) (sq (i_cS 9 2 3 []) (sq (i_pR 0 [15]) (i_fall 38))))))))))))))))))))))
theorem sb_5_0 : Sd 5 0 38 bk_5_0 := Sd.sq st_5_0 (Sd.sq st_5_1 (Sd.sq st_5_4 (Sd.sq st_5_5 (Sd.sq st_5_6 (Sd.sq st_5_9 (Sd.sq st_5_10 (Sd.sq st_5_11 (Sd.sq st_5_12 (Sd.sq st_5_13 (Sd.sq st_5_14 (Sd.sq st_5_17 (Sd.sq st_5_18 (Sd.sq st_5_19 (Sd.sq st_5_22 (Sd.sq st_5_23 (Sd.sq st_5_24 (Sd.sq st_5_27 (Sd.sq st_5_28 (Sd.sq st_5_31 (Sd.sq st_5_32 (Sd.sq st_5_35 (sd_fall rfl))))))))))))))))))))))
theorem dd_5_38 : decode (mi 5).2.1 38 = .ok (.return_, 1) := by decide +kernel
theorem st_5_38 : Sd 5 38 1 (i_ret) := sd_ret dd_5_38 mr_5
def bk_5_38 : Tr := i_ret
theorem sb_5_38 : Sd 5 38 1 bk_5_38 := st_5_38
theorem dd_6_0 : decode (mi 6).2.1 0 = .ok (.aload_n 0, 1) := by decide +kernel
theorem st_6_0 : Sd 6 0 1 (i_ldR 0) := sd_aload_n (j := 0) dd_6_0 rfl
theorem dd_6_1 : decode (mi 6).2.1 1 = .ok (.getfield 15, 3) := by decide +kernel
theorem st_6_1 : Sd 6 1 3 (i_gR 0 [15]) := sd_gR (ref := "java/lang/AbstractStringBuilder") (decl := "java/lang/AbstractStringBuilder") (name := "value") (desc := "[B") dd_6_1 (by rw [mc_6]; exact tw_134) (Or.inl rfl) (by decide +kernel)
theorem dd_6_4 : decode (mi 6).2.1 4 = .ok (.arraylength, 1) := by decide +kernel
theorem st_6_4 : Sd 6 4 1 (i_len) := sd_len dd_6_4
theorem dd_6_5 : decode (mi 6).2.1 5 = .ok (.istore_n 2, 1) := by decide +kernel
theorem st_6_5 : Sd 6 5 1 (i_stI 2) := sd_istore_n (j := 2) dd_6_5 rfl
theorem dd_6_6 : decode (mi 6).2.1 6 = .ok (.iload_n 1, 1) := by decide +kernel
theorem st_6_6 : Sd 6 6 1 (i_ldI 1) := sd_iload_n (j := 1) dd_6_6 rfl
theorem dd_6_7 : decode (mi 6).2.1 7 = .ok (.aload_n 0, 1) := by decide +kernel
theorem st_6_7 : Sd 6 7 1 (i_ldR 0) := sd_aload_n (j := 0) dd_6_7 rfl
theorem dd_6_8 : decode (mi 6).2.1 8 = .ok (.getfield 22, 3) := by decide +kernel
theorem st_6_8 : Sd 6 8 3 (i_gI 1 [15]) := sd_gI (ref := "java/lang/AbstractStringBuilder") (decl := "java/lang/AbstractStringBuilder") (name := "coder") (desc := "B") dd_6_8 (by rw [mc_6]; exact tw_135) (Or.inl rfl) (by decide +kernel)
theorem dd_6_11 : decode (mi 6).2.1 11 = .ok (.ishl, 1) := by decide +kernel
theorem st_6_11 : Sd 6 11 1 (i_ishl) := sd_ishl dd_6_11
theorem dd_6_12 : decode (mi 6).2.1 12 = .ok (.istore_n 3, 1) := by decide +kernel
theorem st_6_12 : Sd 6 12 1 (i_stI 3) := sd_istore_n (j := 3) dd_6_12 rfl
theorem dd_6_13 : decode (mi 6).2.1 13 = .ok (.iload_n 3, 1) := by decide +kernel
theorem st_6_13 : Sd 6 13 1 (i_ldI 3) := sd_iload_n (j := 3) dd_6_13 rfl
theorem dd_6_14 : decode (mi 6).2.1 14 = .ok (.iload_n 2, 1) := by decide +kernel
theorem st_6_14 : Sd 6 14 1 (i_ldI 2) := sd_iload_n (j := 2) dd_6_14 rfl
theorem dd_6_15 : decode (mi 6).2.1 15 = .ok (.isub, 1) := by decide +kernel
theorem st_6_15 : Sd 6 15 1 (i_isub) := sd_isub dd_6_15
theorem dd_6_16 : decode (mi 6).2.1 16 = .ok (.istore 4, 2) := by decide +kernel
theorem st_6_16 : Sd 6 16 2 (i_stI 4) := sd_istore dd_6_16
theorem dd_6_18 : decode (mi 6).2.1 18 = .ok (.iload_n 2, 1) := by decide +kernel
theorem st_6_18 : Sd 6 18 1 (i_ldI 2) := sd_iload_n (j := 2) dd_6_18 rfl
theorem dd_6_19 : decode (mi 6).2.1 19 = .ok (.iload 4, 2) := by decide +kernel
theorem st_6_19 : Sd 6 19 2 (i_ldI 4) := sd_iload dd_6_19
theorem dd_6_21 : decode (mi 6).2.1 21 = .ok (.iload_n 2, 1) := by decide +kernel
theorem st_6_21 : Sd 6 21 1 (i_ldI 2) := sd_iload_n (j := 2) dd_6_21 rfl
theorem dd_6_22 : decode (mi 6).2.1 22 = .ok (.iconst 2, 1) := by decide +kernel
theorem st_6_22 : Sd 6 22 1 (i_ic 2) := sd_iconst dd_6_22
theorem dd_6_23 : decode (mi 6).2.1 23 = .ok (.aload_n 0, 1) := by decide +kernel
theorem st_6_23 : Sd 6 23 1 (i_ldR 0) := sd_aload_n (j := 0) dd_6_23 rfl
theorem dd_6_24 : decode (mi 6).2.1 24 = .ok (.getfield 22, 3) := by decide +kernel
theorem st_6_24 : Sd 6 24 3 (i_gI 1 [15]) := sd_gI (ref := "java/lang/AbstractStringBuilder") (decl := "java/lang/AbstractStringBuilder") (name := "coder") (desc := "B") dd_6_24 (by rw [mc_6]; exact tw_135) (Or.inl rfl) (by decide +kernel)
theorem dd_6_27 : decode (mi 6).2.1 27 = .ok (.ishl, 1) := by decide +kernel
theorem st_6_27 : Sd 6 27 1 (i_ishl) := sd_ishl dd_6_27
theorem dd_6_28 : decode (mi 6).2.1 28 = .ok (.iadd, 1) := by decide +kernel
theorem st_6_28 : Sd 6 28 1 (i_iadd) := sd_iadd dd_6_28
theorem dd_6_29 : decode (mi 6).2.1 29 = .ok (.invokestatic 114, 3) := by decide +kernel
theorem st_6_29 : Sd 6 29 3 (i_cS 7 3 6 []) := sd_static dd_6_29 (by rw [mc_6, mn_7]; exact tw_244) (by rw [mn_7]; exact tw_245) mt_7 pm_7 ml_6 (HsOk.nil (by decide +kernel))
theorem dd_6_32 : decode (mi 6).2.1 32 = .ok (.istore 5, 2) := by decide +kernel
theorem st_6_32 : Sd 6 32 2 (i_stI 5) := sd_istore dd_6_32
theorem dd_6_34 : decode (mi 6).2.1 34 = .ok (.iload 5, 2) := by decide +kernel
theorem st_6_34 : Sd 6 34 2 (i_ldI 5) := sd_iload dd_6_34
theorem dd_6_36 : decode (mi 6).2.1 36 = .ok (.ldc 39, 2) := by decide +kernel
theorem st_6_36 : Sd 6 36 2 (i_ic 2147483647) := sd_ldc dd_6_36 (by rw [mc_6]; exact tw_254)
theorem dd_6_38 : decode (mi 6).2.1 38 = .ok (.if_icmp .ne 13, 3) := by decide +kernel
theorem st_6_38 : Sd 6 38 3 (i_cne 51) := sd_icmp_ne dd_6_38 (by decide)
def bk_6_0 : Tr := sq (i_ldR 0) (sq (i_gR 0 [15]) (sq (i_len) (sq (i_stI 2) (sq (i_ldI 1) (sq (i_ldR 0) (sq (i_gI 1 [15]) (sq (i_ishl) (sq (i_stI 3) (sq (i_ldI 3) (sq (i_ldI 2) (sq (i_isub) (sq (i_stI 4) (sq (i_ldI 2) (sq (i_ldI 4) (sq (i_ldI 2) (sq (i_ic 2) (sq (i_ldR 0) (sq (i_gI 1 [15]) (sq (i_ishl) (sq (i_iadd) (sq (i_cS 7 3 6 []) (sq (i_stI 5) (sq (i_ldI 5) (sq (i_ic 2147483647) (sq (i_cne 51) (i_bad))))))))))))))))))))))))))
theorem sb_6_0 : Sd 6 0 41 bk_6_0 := Sd.sq st_6_0 (Sd.sq st_6_1 (Sd.sq st_6_4 (Sd.sq st_6_5 (Sd.sq st_6_6 (Sd.sq st_6_7 (Sd.sq st_6_8 (Sd.sq st_6_11 (Sd.sq st_6_12 (Sd.sq st_6_13 (Sd.sq st_6_14 (Sd.sq st_6_15 (Sd.sq st_6_16 (Sd.sq st_6_18 (Sd.sq st_6_19 (Sd.sq st_6_21 (Sd.sq st_6_22 (Sd.sq st_6_23 (Sd.sq st_6_24 (Sd.sq st_6_27 (Sd.sq st_6_28 (Sd.sq st_6_29 (Sd.sq st_6_32 (Sd.sq st_6_34 (Sd.sq st_6_36 (Sd.sq st_6_38 (sd_bad))))))))))))))))))))))))))
theorem dd_6_51 : decode (mi 6).2.1 51 = .ok (.iload 5, 2) := by decide +kernel
theorem st_6_51 : Sd 6 51 2 (i_ldI 5) := sd_iload dd_6_51
theorem dd_6_53 : decode (mi 6).2.1 53 = .ok (.aload_n 0, 1) := by decide +kernel
theorem st_6_53 : Sd 6 53 1 (i_ldR 0) := sd_aload_n (j := 0) dd_6_53 rfl
theorem dd_6_54 : decode (mi 6).2.1 54 = .ok (.getfield 22, 3) := by decide +kernel
theorem st_6_54 : Sd 6 54 3 (i_gI 1 [15]) := sd_gI (ref := "java/lang/AbstractStringBuilder") (decl := "java/lang/AbstractStringBuilder") (name := "coder") (desc := "B") dd_6_54 (by rw [mc_6]; exact tw_135) (Or.inl rfl) (by decide +kernel)
theorem dd_6_57 : decode (mi 6).2.1 57 = .ok (.ishr, 1) := by decide +kernel
theorem st_6_57 : Sd 6 57 1 (i_ishr) := sd_ishr dd_6_57
theorem dd_6_58 : decode (mi 6).2.1 58 = .ok (.ireturn, 1) := by decide +kernel
theorem st_6_58 : Sd 6 58 1 (i_rI 0) := sd_ireturn dd_6_58 (by decide) mr_6
def bk_6_51 : Tr := sq (i_ldI 5) (sq (i_ldR 0) (sq (i_gI 1 [15]) (sq (i_ishr) (i_rI 0))))
theorem sb_6_51 : Sd 6 51 8 bk_6_51 := Sd.sq st_6_51 (Sd.sq st_6_53 (Sd.sq st_6_54 (Sd.sq st_6_57 (st_6_58))))
theorem dd_7_0 : decode (mi 7).2.1 0 = .ok (.iload_n 0, 1) := by decide +kernel
theorem st_7_0 : Sd 7 0 1 (i_ldI 0) := sd_iload_n (j := 0) dd_7_0 rfl
theorem dd_7_1 : decode (mi 7).2.1 1 = .ok (.iload_n 1, 1) := by decide +kernel
theorem st_7_1 : Sd 7 1 1 (i_ldI 1) := sd_iload_n (j := 1) dd_7_1 rfl
theorem dd_7_2 : decode (mi 7).2.1 2 = .ok (.iload_n 2, 1) := by decide +kernel
theorem st_7_2 : Sd 7 2 1 (i_ldI 2) := sd_iload_n (j := 2) dd_7_2 rfl
theorem dd_7_3 : decode (mi 7).2.1 3 = .ok (.invokestatic 194, 3) := by decide +kernel
theorem st_7_3 : Sd 7 3 3 (i_max 4) := sd_max dd_7_3 (by rw [mc_7]; exact tw_247) ml_7
theorem dd_7_6 : decode (mi 7).2.1 6 = .ok (.iadd, 1) := by decide +kernel
theorem st_7_6 : Sd 7 6 1 (i_iadd) := sd_iadd dd_7_6
theorem dd_7_7 : decode (mi 7).2.1 7 = .ok (.istore_n 3, 1) := by decide +kernel
theorem st_7_7 : Sd 7 7 1 (i_stI 3) := sd_istore_n (j := 3) dd_7_7 rfl
theorem dd_7_8 : decode (mi 7).2.1 8 = .ok (.iconst 0, 1) := by decide +kernel
theorem st_7_8 : Sd 7 8 1 (i_ic 0) := sd_iconst dd_7_8
theorem dd_7_9 : decode (mi 7).2.1 9 = .ok (.iload_n 3, 1) := by decide +kernel
theorem st_7_9 : Sd 7 9 1 (i_ldI 3) := sd_iload_n (j := 3) dd_7_9 rfl
theorem dd_7_10 : decode (mi 7).2.1 10 = .ok (.if_icmp .ge 11, 3) := by decide +kernel
theorem st_7_10 : Sd 7 10 3 (i_cge 21) := sd_icmp_ge dd_7_10 (by decide)
theorem dd_7_13 : decode (mi 7).2.1 13 = .ok (.iload_n 3, 1) := by decide +kernel
theorem st_7_13 : Sd 7 13 1 (i_ldI 3) := sd_iload_n (j := 3) dd_7_13 rfl
theorem dd_7_14 : decode (mi 7).2.1 14 = .ok (.ldc 200, 2) := by decide +kernel
theorem st_7_14 : Sd 7 14 2 (i_ic 2147483639) := sd_ldc dd_7_14 (by rw [mc_7]; exact tw_250)
theorem dd_7_16 : decode (mi 7).2.1 16 = .ok (.if_icmp .gt 5, 3) := by decide +kernel
theorem st_7_16 : Sd 7 16 3 (i_cgt 21) := sd_icmp_gt dd_7_16 (by decide)
theorem dd_7_19 : decode (mi 7).2.1 19 = .ok (.iload_n 3, 1) := by decide +kernel
theorem st_7_19 : Sd 7 19 1 (i_ldI 3) := sd_iload_n (j := 3) dd_7_19 rfl
theorem dd_7_20 : decode (mi 7).2.1 20 = .ok (.ireturn, 1) := by decide +kernel
theorem st_7_20 : Sd 7 20 1 (i_rI 0) := sd_ireturn dd_7_20 (by decide) mr_7
def bk_7_0 : Tr := sq (i_ldI 0) (sq (i_ldI 1) (sq (i_ldI 2) (sq (i_max 4) (sq (i_iadd) (sq (i_stI 3) (sq (i_ic 0) (sq (i_ldI 3) (sq (i_cge 21) (sq (i_ldI 3) (sq (i_ic 2147483639) (sq (i_cgt 21) (sq (i_ldI 3) (i_rI 0)))))))))))))
theorem sb_7_0 : Sd 7 0 21 bk_7_0 := Sd.sq st_7_0 (Sd.sq st_7_1 (Sd.sq st_7_2 (Sd.sq st_7_3 (Sd.sq st_7_6 (Sd.sq st_7_7 (Sd.sq st_7_8 (Sd.sq st_7_9 (Sd.sq st_7_10 (Sd.sq st_7_13 (Sd.sq st_7_14 (Sd.sq st_7_16 (Sd.sq st_7_19 (st_7_20)))))))))))))
theorem dd_7_21 : decode (mi 7).2.1 21 = .ok (.iload_n 0, 1) := by decide +kernel
theorem st_7_21 : Sd 7 21 1 (i_ldI 0) := sd_iload_n (j := 0) dd_7_21 rfl
theorem dd_7_22 : decode (mi 7).2.1 22 = .ok (.iload_n 1, 1) := by decide +kernel
theorem st_7_22 : Sd 7 22 1 (i_ldI 1) := sd_iload_n (j := 1) dd_7_22 rfl
def bk_7_21 : Tr := sq (i_ldI 0) (sq (i_ldI 1) (i_bad))
theorem sb_7_21 : Sd 7 21 2 bk_7_21 := Sd.sq st_7_21 (Sd.sq st_7_22 (sd_bad))
theorem dd_9_0 : decode (mi 9).2.1 0 = .ok (.iload_n 1, 1) := by decide +kernel
theorem st_9_0 : Sd 9 0 1 (i_ldI 1) := sd_iload_n (j := 1) dd_9_0 rfl
theorem dd_9_1 : decode (mi 9).2.1 1 = .ok (.aload_n 0, 1) := by decide +kernel
theorem st_9_1 : Sd 9 1 1 (i_ldR 0) := sd_aload_n (j := 0) dd_9_1 rfl
theorem dd_9_2 : decode (mi 9).2.1 2 = .ok (.arraylength, 1) := by decide +kernel
theorem st_9_2 : Sd 9 2 1 (i_len) := sd_len dd_9_2
theorem dd_9_3 : decode (mi 9).2.1 3 = .ok (.if_icmp .ne 11, 3) := by decide +kernel
theorem st_9_3 : Sd 9 3 3 (i_cne 14) := sd_icmp_ne dd_9_3 (by decide)
theorem dd_9_6 : decode (mi 9).2.1 6 = .ok (.aload_n 0, 1) := by decide +kernel
theorem st_9_6 : Sd 9 6 1 (i_ldR 0) := sd_aload_n (j := 0) dd_9_6 rfl
def bk_9_0 : Tr := sq (i_ldI 1) (sq (i_ldR 0) (sq (i_len) (sq (i_cne 14) (sq (i_ldR 0) (i_bad)))))
theorem sb_9_0 : Sd 9 0 7 bk_9_0 := Sd.sq st_9_0 (Sd.sq st_9_1 (Sd.sq st_9_2 (Sd.sq st_9_3 (Sd.sq st_9_6 (sd_bad)))))
theorem dd_9_14 : decode (mi 9).2.1 14 = .ok (.iload_n 1, 1) := by decide +kernel
theorem st_9_14 : Sd 9 14 1 (i_ldI 1) := sd_iload_n (j := 1) dd_9_14 rfl
theorem dd_9_15 : decode (mi 9).2.1 15 = .ok (.newarray .byte, 2) := by decide +kernel
theorem st_9_15 : Sd 9 15 2 (i_na 23) := sd_newarray dd_9_15 (by exact tw_148) rfl (by decide)
theorem dd_9_17 : decode (mi 9).2.1 17 = .ok (.astore_n 2, 1) := by decide +kernel
theorem st_9_17 : Sd 9 17 1 (i_stR 2) := sd_astore_n (j := 2) dd_9_17 rfl
theorem dd_9_18 : decode (mi 9).2.1 18 = .ok (.aload_n 0, 1) := by decide +kernel
theorem st_9_18 : Sd 9 18 1 (i_ldR 0) := sd_aload_n (j := 0) dd_9_18 rfl
theorem dd_9_19 : decode (mi 9).2.1 19 = .ok (.iconst 0, 1) := by decide +kernel
theorem st_9_19 : Sd 9 19 1 (i_ic 0) := sd_iconst dd_9_19
theorem dd_9_20 : decode (mi 9).2.1 20 = .ok (.aload_n 2, 1) := by decide +kernel
theorem st_9_20 : Sd 9 20 1 (i_ldR 2) := sd_aload_n (j := 2) dd_9_20 rfl
theorem dd_9_21 : decode (mi 9).2.1 21 = .ok (.iconst 0, 1) := by decide +kernel
theorem st_9_21 : Sd 9 21 1 (i_ic 0) := sd_iconst dd_9_21
theorem dd_9_22 : decode (mi 9).2.1 22 = .ok (.aload_n 0, 1) := by decide +kernel
theorem st_9_22 : Sd 9 22 1 (i_ldR 0) := sd_aload_n (j := 0) dd_9_22 rfl
theorem dd_9_23 : decode (mi 9).2.1 23 = .ok (.arraylength, 1) := by decide +kernel
theorem st_9_23 : Sd 9 23 1 (i_len) := sd_len dd_9_23
theorem dd_9_24 : decode (mi 9).2.1 24 = .ok (.iload_n 1, 1) := by decide +kernel
theorem st_9_24 : Sd 9 24 1 (i_ldI 1) := sd_iload_n (j := 1) dd_9_24 rfl
theorem dd_9_25 : decode (mi 9).2.1 25 = .ok (.invokestatic 304, 3) := by decide +kernel
theorem st_9_25 : Sd 9 25 3 (i_min 3) := sd_min dd_9_25 (by rw [mc_9]; exact tw_265) ml_9
theorem dd_9_28 : decode (mi 9).2.1 28 = .ok (.invokestatic 150, 3) := by decide +kernel
theorem st_9_28 : Sd 9 28 3 (i_acp [23] 3 3) := sd_acp dd_9_28 (by rw [mc_9]; exact tw_268) (by decide) (by decide) ml_9
theorem dd_9_31 : decode (mi 9).2.1 31 = .ok (.aload_n 2, 1) := by decide +kernel
theorem st_9_31 : Sd 9 31 1 (i_ldR 2) := sd_aload_n (j := 2) dd_9_31 rfl
theorem dd_9_32 : decode (mi 9).2.1 32 = .ok (.areturn, 1) := by decide +kernel
theorem st_9_32 : Sd 9 32 1 (i_rR) := sd_areturn dd_9_32 mr_9 (Or.inr ⟨_, rfl⟩)
def bk_9_14 : Tr := sq (i_ldI 1) (sq (i_na 23) (sq (i_stR 2) (sq (i_ldR 0) (sq (i_ic 0) (sq (i_ldR 2) (sq (i_ic 0) (sq (i_ldR 0) (sq (i_len) (sq (i_ldI 1) (sq (i_min 3) (sq (i_acp [23] 3 3) (sq (i_ldR 2) (i_rR)))))))))))))
theorem sb_9_14 : Sd 9 14 19 bk_9_14 := Sd.sq st_9_14 (Sd.sq st_9_15 (Sd.sq st_9_17 (Sd.sq st_9_18 (Sd.sq st_9_19 (Sd.sq st_9_20 (Sd.sq st_9_21 (Sd.sq st_9_22 (Sd.sq st_9_23 (Sd.sq st_9_24 (Sd.sq st_9_25 (Sd.sq st_9_28 (Sd.sq st_9_31 (st_9_32)))))))))))))
theorem dd_11_0 : decode (mi 11).2.1 0 = .ok (.getstatic 18, 3) := by decide +kernel
theorem st_11_0 : Sd 11 0 3 (i_ic 1) := sd_gsC dd_11_0 (by rw [mc_11]; exact tw_125)
theorem dd_11_3 : decode (mi 11).2.1 3 = .ok (.ifCond .eq 14, 3) := by decide +kernel
theorem st_11_3 : Sd 11 3 3 (i_zeq 17) := sd_if_eq dd_11_3 (by decide)
theorem dd_11_6 : decode (mi 11).2.1 6 = .ok (.aload_n 0, 1) := by decide +kernel
theorem st_11_6 : Sd 11 6 1 (i_ldR 0) := sd_aload_n (j := 0) dd_11_6 rfl
theorem dd_11_7 : decode (mi 11).2.1 7 = .ok (.getfield 22, 3) := by decide +kernel
theorem st_11_7 : Sd 11 7 3 (i_gI 1 [15]) := sd_gI (ref := "java/lang/AbstractStringBuilder") (decl := "java/lang/AbstractStringBuilder") (name := "coder") (desc := "B") dd_11_7 (by rw [mc_11]; exact tw_135) (Or.inl rfl) (by decide +kernel)
theorem dd_11_10 : decode (mi 11).2.1 10 = .ok (.ifCond .ne 7, 3) := by decide +kernel
theorem st_11_10 : Sd 11 10 3 (i_zne 17) := sd_if_ne dd_11_10 (by decide)
theorem dd_11_13 : decode (mi 11).2.1 13 = .ok (.iconst 1, 1) := by decide +kernel
theorem st_11_13 : Sd 11 13 1 (i_ic 1) := sd_iconst dd_11_13
theorem dd_11_14 : decode (mi 11).2.1 14 = .ok (.goto 4, 3) := by decide +kernel
theorem st_11_14 : Sd 11 14 3 (i_goto 18) := sd_goto dd_11_14 (by decide)
def bk_11_0 : Tr := sq (i_ic 1) (sq (i_zeq 17) (sq (i_ldR 0) (sq (i_gI 1 [15]) (sq (i_zne 17) (sq (i_ic 1) (i_goto 18))))))
theorem sb_11_0 : Sd 11 0 17 bk_11_0 := Sd.sq st_11_0 (Sd.sq st_11_3 (Sd.sq st_11_6 (Sd.sq st_11_7 (Sd.sq st_11_10 (Sd.sq st_11_13 (st_11_14))))))
theorem dd_11_17 : decode (mi 11).2.1 17 = .ok (.iconst 0, 1) := by decide +kernel
theorem st_11_17 : Sd 11 17 1 (i_ic 0) := sd_iconst dd_11_17
def bk_11_17 : Tr := sq (i_ic 0) (i_fall 18)
theorem sb_11_17 : Sd 11 17 1 bk_11_17 := Sd.sq st_11_17 (sd_fall rfl)
theorem dd_11_18 : decode (mi 11).2.1 18 = .ok (.ireturn, 1) := by decide +kernel
theorem st_11_18 : Sd 11 18 1 (i_rI 2) := sd_ireturn dd_11_18 (by decide) mr_11
def bk_11_18 : Tr := i_rI 2
theorem sb_11_18 : Sd 11 18 1 bk_11_18 := st_11_18
theorem dd_12_0 : decode (mi 12).2.1 0 = .ok (.aload_n 0, 1) := by decide +kernel
theorem st_12_0 : Sd 12 0 1 (i_ldR 0) := sd_aload_n (j := 0) dd_12_0 rfl
theorem dd_12_1 : decode (mi 12).2.1 1 = .ok (.iload_n 1, 1) := by decide +kernel
theorem st_12_1 : Sd 12 1 1 (i_ldI 1) := sd_iload_n (j := 1) dd_12_1 rfl
theorem dd_12_2 : decode (mi 12).2.1 2 = .ok (.invokespecial 50, 3) := by decide +kernel
theorem st_12_2 : Sd 12 2 3 (i_cU [15] 13 2 2 []) := sd_super dd_12_2 (by rw [mc_12, mn_13]; exact tw_517) (by rw [mn_13]; exact tw_1601) (by rw [mc_12, mn_13]; exact tw_147) (by rw [mn_13]; exact tw_518) mt_13 pm_13 (by rw [mn_13]; decide) (by decide) ml_12 (HsOk.nil (by decide +kernel))
theorem dd_12_5 : decode (mi 12).2.1 5 = .ok (.pop, 1) := by decide +kernel
theorem st_12_5 : Sd 12 5 1 (i_pop) := sd_pop dd_12_5
theorem dd_12_6 : decode (mi 12).2.1 6 = .ok (.aload_n 0, 1) := by decide +kernel
theorem st_12_6 : Sd 12 6 1 (i_ldR 0) := sd_aload_n (j := 0) dd_12_6 rfl
theorem dd_12_7 : decode (mi 12).2.1 7 = .ok (.areturn, 1) := by decide +kernel
theorem st_12_7 : Sd 12 7 1 (i_rR) := sd_areturn dd_12_7 mr_12 (Or.inl ⟨_, rfl⟩)
def bk_12_0 : Tr := sq (i_ldR 0) (sq (i_ldI 1) (sq (i_cU [15] 13 2 2 []) (sq (i_pop) (sq (i_ldR 0) (i_rR)))))
theorem sb_12_0 : Sd 12 0 8 bk_12_0 := Sd.sq st_12_0 (Sd.sq st_12_1 (Sd.sq st_12_2 (Sd.sq st_12_5 (Sd.sq st_12_6 (st_12_7)))))
theorem dd_13_0 : decode (mi 13).2.1 0 = .ok (.aload_n 0, 1) := by decide +kernel
theorem st_13_0 : Sd 13 0 1 (i_ldR 0) := sd_aload_n (j := 0) dd_13_0 rfl
theorem dd_13_1 : decode (mi 13).2.1 1 = .ok (.aload_n 0, 1) := by decide +kernel
theorem st_13_1 : Sd 13 1 1 (i_ldR 0) := sd_aload_n (j := 0) dd_13_1 rfl
theorem dd_13_2 : decode (mi 13).2.1 2 = .ok (.getfield 79, 3) := by decide +kernel
theorem st_13_2 : Sd 13 2 3 (i_gI 3 [15]) := sd_gI (ref := "java/lang/AbstractStringBuilder") (decl := "java/lang/AbstractStringBuilder") (name := "count") (desc := "I") dd_13_2 (by rw [mc_13]; exact tw_138) (Or.inl rfl) (by decide +kernel)
theorem dd_13_5 : decode (mi 13).2.1 5 = .ok (.iconst 1, 1) := by decide +kernel
theorem st_13_5 : Sd 13 5 1 (i_ic 1) := sd_iconst dd_13_5
theorem dd_13_6 : decode (mi 13).2.1 6 = .ok (.iadd, 1) := by decide +kernel
theorem st_13_6 : Sd 13 6 1 (i_iadd) := sd_iadd dd_13_6
theorem dd_13_7 : decode (mi 13).2.1 7 = .ok (.invokevirtual 100, 3) := by decide +kernel
theorem st_13_7 : Sd 13 7 3 (i_cV [(15, 5)] 2 2 []) := sd_virtP dd_13_7 (by rw [mc_13, mn_5]; exact tw_236) (by rw [mn_5]; exact tw_237) (by rw [mn_5]; exact tw_238) (by rw [mn_5]; exact tw_1594) mt_5 (by decide) (by decide) pm_5 ml_13 (HsOk.nil (by decide +kernel))
theorem dd_13_10 : decode (mi 13).2.1 10 = .ok (.aload_n 0, 1) := by decide +kernel
theorem st_13_10 : Sd 13 10 1 (i_ldR 0) := sd_aload_n (j := 0) dd_13_10 rfl
theorem dd_13_11 : decode (mi 13).2.1 11 = .ok (.invokevirtual 83, 3) := by decide +kernel
theorem st_13_11 : Sd 13 11 3 (i_cV [(15, 11)] 1 2 []) := sd_virt ⟨"java/lang/AbstractStringBuilder", "isLatin1", "()Z"⟩ dd_13_11 (by rw [mc_13]; exact tw_271) (fun t j h => by simp only [List.mem_cons, List.not_mem_nil, or_false, Prod.mk.injEq] at h; obtain ⟨rfl, rfl⟩ := h; exact mn_11) (fun t j h => by simp only [List.mem_cons, List.not_mem_nil, or_false, Prod.mk.injEq] at h; obtain ⟨rfl, rfl⟩ := h; exact ⟨by rw [mn_11]; exact tw_274, by rw [mn_11]; exact tw_272, mt_11, by decide, by decide⟩) (by unfold prm; decide +kernel) ml_13 (HsOk.nil (by decide +kernel))
theorem dd_13_14 : decode (mi 13).2.1 14 = .ok (.ifCond .eq 31, 3) := by decide +kernel
theorem st_13_14 : Sd 13 14 3 (i_zeq 45) := sd_if_eq dd_13_14 (by decide)
theorem dd_13_17 : decode (mi 13).2.1 17 = .ok (.iload_n 1, 1) := by decide +kernel
theorem st_13_17 : Sd 13 17 1 (i_ldI 1) := sd_iload_n (j := 1) dd_13_17 rfl
theorem dd_13_18 : decode (mi 13).2.1 18 = .ok (.invokestatic 191, 3) := by decide +kernel
theorem st_13_18 : Sd 13 18 3 (i_cS 14 1 2 []) := sd_static dd_13_18 (by rw [mc_13, mn_14]; exact tw_520) (by rw [mn_14]; exact tw_521) mt_14 pm_14 ml_13 (HsOk.nil (by decide +kernel))
theorem dd_13_21 : decode (mi 13).2.1 21 = .ok (.ifCond .eq 24, 3) := by decide +kernel
theorem st_13_21 : Sd 13 21 3 (i_zeq 45) := sd_if_eq dd_13_21 (by decide)
theorem dd_13_24 : decode (mi 13).2.1 24 = .ok (.aload_n 0, 1) := by decide +kernel
theorem st_13_24 : Sd 13 24 1 (i_ldR 0) := sd_aload_n (j := 0) dd_13_24 rfl
theorem dd_13_25 : decode (mi 13).2.1 25 = .ok (.getfield 15, 3) := by decide +kernel
theorem st_13_25 : Sd 13 25 3 (i_gR 0 [15]) := sd_gR (ref := "java/lang/AbstractStringBuilder") (decl := "java/lang/AbstractStringBuilder") (name := "value") (desc := "[B") dd_13_25 (by rw [mc_13]; exact tw_134) (Or.inl rfl) (by decide +kernel)
theorem dd_13_28 : decode (mi 13).2.1 28 = .ok (.aload_n 0, 1) := by decide +kernel
theorem st_13_28 : Sd 13 28 1 (i_ldR 0) := sd_aload_n (j := 0) dd_13_28 rfl
theorem dd_13_29 : decode (mi 13).2.1 29 = .ok (.dup, 1) := by decide +kernel
theorem st_13_29 : Sd 13 29 1 (i_dup) := sd_dup dd_13_29
theorem dd_13_30 : decode (mi 13).2.1 30 = .ok (.getfield 79, 3) := by decide +kernel
theorem st_13_30 : Sd 13 30 3 (i_gI 3 [15]) := sd_gI (ref := "java/lang/AbstractStringBuilder") (decl := "java/lang/AbstractStringBuilder") (name := "count") (desc := "I") dd_13_30 (by rw [mc_13]; exact tw_138) (Or.inl rfl) (by decide +kernel)
theorem dd_13_33 : decode (mi 13).2.1 33 = .ok (.dup_x1, 1) := by decide +kernel
theorem st_13_33 : Sd 13 33 1 (i_dup_x1) := sd_dup_x1 dd_13_33
theorem dd_13_34 : decode (mi 13).2.1 34 = .ok (.iconst 1, 1) := by decide +kernel
theorem st_13_34 : Sd 13 34 1 (i_ic 1) := sd_iconst dd_13_34
theorem dd_13_35 : decode (mi 13).2.1 35 = .ok (.iadd, 1) := by decide +kernel
theorem st_13_35 : Sd 13 35 1 (i_iadd) := sd_iadd dd_13_35
theorem dd_13_36 : decode (mi 13).2.1 36 = .ok (.putfield 79, 3) := by decide +kernel
theorem st_13_36 : Sd 13 36 3 (i_pI 3 [15] 0) := sd_pI (ref := "java/lang/AbstractStringBuilder") (decl := "java/lang/AbstractStringBuilder") (name := "count") (desc := "I") dd_13_36 (by rw [mc_13]; exact tw_138) (Or.inl rfl) (by decide +kernel) (by decide +kernel) (by decide)
theorem dd_13_39 : decode (mi 13).2.1 39 = .ok (.iload_n 1, 1) := by decide +kernel
theorem st_13_39 : Sd 13 39 1 (i_ldI 1) := sd_iload_n (j := 1) dd_13_39 rfl
theorem dd_13_40 : decode (mi 13).2.1 40 = .ok (.i2b, 1) := by decide +kernel
theorem st_13_40 : Sd 13 40 1 (i_i2b) := sd_i2b dd_13_40
theorem dd_13_41 : decode (mi 13).2.1 41 = .ok (.bastore, 1) := by decide +kernel
theorem st_13_41 : Sd 13 41 1 (i_sI [23] 3) := sd_bastore dd_13_41 (by decide)
theorem dd_13_42 : decode (mi 13).2.1 42 = .ok (.goto 33, 3) := by decide +kernel
theorem st_13_42 : Sd 13 42 3 (i_goto 75) := sd_goto dd_13_42 (by decide)
def bk_13_0 : Tr := sq (i_ldR 0) (sq (i_ldR 0) (sq (i_gI 3 [15]) (sq (i_ic 1) (sq (i_iadd) (sq (i_cV [(15, 5)] 2 2 []) (sq (i_ldR 0) (sq (i_cV [(15, 11)] 1 2 []) (sq (i_zeq 45) (sq (i_ldI 1) (sq (i_cS 14 1 2 []) (sq (i_zeq 45) (sq (i_ldR 0) (sq (i_gR 0 [15]) (sq (i_ldR 0) (sq (i_dup) (sq (i_gI 3 [15]) (sq (i_dup_x1) (sq (i_ic 1) (sq (i_iadd) (sq (i_pI 3 [15] 0) (sq (i_ldI 1) (sq (i_i2b) (sq (i_sI [23] 3) (i_goto 75))))))))))))))))))))))))
theorem sb_13_0 : Sd 13 0 45 bk_13_0 := Sd.sq st_13_0 (Sd.sq st_13_1 (Sd.sq st_13_2 (Sd.sq st_13_5 (Sd.sq st_13_6 (Sd.sq st_13_7 (Sd.sq st_13_10 (Sd.sq st_13_11 (Sd.sq st_13_14 (Sd.sq st_13_17 (Sd.sq st_13_18 (Sd.sq st_13_21 (Sd.sq st_13_24 (Sd.sq st_13_25 (Sd.sq st_13_28 (Sd.sq st_13_29 (Sd.sq st_13_30 (Sd.sq st_13_33 (Sd.sq st_13_34 (Sd.sq st_13_35 (Sd.sq st_13_36 (Sd.sq st_13_39 (Sd.sq st_13_40 (Sd.sq st_13_41 (st_13_42))))))))))))))))))))))))
theorem dd_13_45 : decode (mi 13).2.1 45 = .ok (.aload_n 0, 1) := by decide +kernel
theorem st_13_45 : Sd 13 45 1 (i_ldR 0) := sd_aload_n (j := 0) dd_13_45 rfl
theorem dd_13_46 : decode (mi 13).2.1 46 = .ok (.invokevirtual 83, 3) := by decide +kernel
theorem st_13_46 : Sd 13 46 3 (i_cV [(15, 11)] 1 2 []) := sd_virt ⟨"java/lang/AbstractStringBuilder", "isLatin1", "()Z"⟩ dd_13_46 (by rw [mc_13]; exact tw_271) (fun t j h => by simp only [List.mem_cons, List.not_mem_nil, or_false, Prod.mk.injEq] at h; obtain ⟨rfl, rfl⟩ := h; exact mn_11) (fun t j h => by simp only [List.mem_cons, List.not_mem_nil, or_false, Prod.mk.injEq] at h; obtain ⟨rfl, rfl⟩ := h; exact ⟨by rw [mn_11]; exact tw_274, by rw [mn_11]; exact tw_272, mt_11, by decide, by decide⟩) (by unfold prm; decide +kernel) ml_13 (HsOk.nil (by decide +kernel))
theorem dd_13_49 : decode (mi 13).2.1 49 = .ok (.ifCond .eq 7, 3) := by decide +kernel
theorem st_13_49 : Sd 13 49 3 (i_zeq 56) := sd_if_eq dd_13_49 (by decide)
theorem dd_13_52 : decode (mi 13).2.1 52 = .ok (.aload_n 0, 1) := by decide +kernel
theorem st_13_52 : Sd 13 52 1 (i_ldR 0) := sd_aload_n (j := 0) dd_13_52 rfl
def bk_13_45 : Tr := sq (i_ldR 0) (sq (i_cV [(15, 11)] 1 2 []) (sq (i_zeq 56) (sq (i_ldR 0) (i_bad))))
theorem sb_13_45 : Sd 13 45 8 bk_13_45 := Sd.sq st_13_45 (Sd.sq st_13_46 (Sd.sq st_13_49 (Sd.sq st_13_52 (sd_bad))))
theorem dd_13_56 : decode (mi 13).2.1 56 = .ok (.aload_n 0, 1) := by decide +kernel
theorem st_13_56 : Sd 13 56 1 (i_ldR 0) := sd_aload_n (j := 0) dd_13_56 rfl
theorem dd_13_57 : decode (mi 13).2.1 57 = .ok (.getfield 15, 3) := by decide +kernel
theorem st_13_57 : Sd 13 57 3 (i_gR 0 [15]) := sd_gR (ref := "java/lang/AbstractStringBuilder") (decl := "java/lang/AbstractStringBuilder") (name := "value") (desc := "[B") dd_13_57 (by rw [mc_13]; exact tw_134) (Or.inl rfl) (by decide +kernel)
theorem dd_13_60 : decode (mi 13).2.1 60 = .ok (.aload_n 0, 1) := by decide +kernel
theorem st_13_60 : Sd 13 60 1 (i_ldR 0) := sd_aload_n (j := 0) dd_13_60 rfl
theorem dd_13_61 : decode (mi 13).2.1 61 = .ok (.dup, 1) := by decide +kernel
theorem st_13_61 : Sd 13 61 1 (i_dup) := sd_dup dd_13_61
theorem dd_13_62 : decode (mi 13).2.1 62 = .ok (.getfield 79, 3) := by decide +kernel
theorem st_13_62 : Sd 13 62 3 (i_gI 3 [15]) := sd_gI (ref := "java/lang/AbstractStringBuilder") (decl := "java/lang/AbstractStringBuilder") (name := "count") (desc := "I") dd_13_62 (by rw [mc_13]; exact tw_138) (Or.inl rfl) (by decide +kernel)
theorem dd_13_65 : decode (mi 13).2.1 65 = .ok (.dup_x1, 1) := by decide +kernel
theorem st_13_65 : Sd 13 65 1 (i_dup_x1) := sd_dup_x1 dd_13_65
theorem dd_13_66 : decode (mi 13).2.1 66 = .ok (.iconst 1, 1) := by decide +kernel
theorem st_13_66 : Sd 13 66 1 (i_ic 1) := sd_iconst dd_13_66
theorem dd_13_67 : decode (mi 13).2.1 67 = .ok (.iadd, 1) := by decide +kernel
theorem st_13_67 : Sd 13 67 1 (i_iadd) := sd_iadd dd_13_67
theorem dd_13_68 : decode (mi 13).2.1 68 = .ok (.putfield 79, 3) := by decide +kernel
theorem st_13_68 : Sd 13 68 3 (i_pI 3 [15] 0) := sd_pI (ref := "java/lang/AbstractStringBuilder") (decl := "java/lang/AbstractStringBuilder") (name := "count") (desc := "I") dd_13_68 (by rw [mc_13]; exact tw_138) (Or.inl rfl) (by decide +kernel) (by decide +kernel) (by decide)
theorem dd_13_71 : decode (mi 13).2.1 71 = .ok (.iload_n 1, 1) := by decide +kernel
theorem st_13_71 : Sd 13 71 1 (i_ldI 1) := sd_iload_n (j := 1) dd_13_71 rfl
def bk_13_56 : Tr := sq (i_ldR 0) (sq (i_gR 0 [15]) (sq (i_ldR 0) (sq (i_dup) (sq (i_gI 3 [15]) (sq (i_dup_x1) (sq (i_ic 1) (sq (i_iadd) (sq (i_pI 3 [15] 0) (sq (i_ldI 1) (i_bad))))))))))
theorem sb_13_56 : Sd 13 56 16 bk_13_56 := Sd.sq st_13_56 (Sd.sq st_13_57 (Sd.sq st_13_60 (Sd.sq st_13_61 (Sd.sq st_13_62 (Sd.sq st_13_65 (Sd.sq st_13_66 (Sd.sq st_13_67 (Sd.sq st_13_68 (Sd.sq st_13_71 (sd_bad))))))))))
theorem dd_13_75 : decode (mi 13).2.1 75 = .ok (.aload_n 0, 1) := by decide +kernel
theorem st_13_75 : Sd 13 75 1 (i_ldR 0) := sd_aload_n (j := 0) dd_13_75 rfl
theorem dd_13_76 : decode (mi 13).2.1 76 = .ok (.areturn, 1) := by decide +kernel
theorem st_13_76 : Sd 13 76 1 (i_rR) := sd_areturn dd_13_76 mr_13 (Or.inl ⟨_, rfl⟩)
def bk_13_75 : Tr := sq (i_ldR 0) (i_rR)
theorem sb_13_75 : Sd 13 75 2 bk_13_75 := Sd.sq st_13_75 (st_13_76)
theorem dd_14_0 : decode (mi 14).2.1 0 = .ok (.iload_n 0, 1) := by decide +kernel
theorem st_14_0 : Sd 14 0 1 (i_ldI 0) := sd_iload_n (j := 0) dd_14_0 rfl
theorem dd_14_1 : decode (mi 14).2.1 1 = .ok (.sipush 255, 3) := by decide +kernel
theorem st_14_1 : Sd 14 1 3 (i_ic 255) := sd_sipush dd_14_1 (by decide)
theorem dd_14_4 : decode (mi 14).2.1 4 = .ok (.if_icmp .gt 7, 3) := by decide +kernel
theorem st_14_4 : Sd 14 4 3 (i_cgt 11) := sd_icmp_gt dd_14_4 (by decide)
theorem dd_14_7 : decode (mi 14).2.1 7 = .ok (.iconst 1, 1) := by decide +kernel
theorem st_14_7 : Sd 14 7 1 (i_ic 1) := sd_iconst dd_14_7
theorem dd_14_8 : decode (mi 14).2.1 8 = .ok (.goto 4, 3) := by decide +kernel
theorem st_14_8 : Sd 14 8 3 (i_goto 12) := sd_goto dd_14_8 (by decide)
def bk_14_0 : Tr := sq (i_ldI 0) (sq (i_ic 255) (sq (i_cgt 11) (sq (i_ic 1) (i_goto 12))))
theorem sb_14_0 : Sd 14 0 11 bk_14_0 := Sd.sq st_14_0 (Sd.sq st_14_1 (Sd.sq st_14_4 (Sd.sq st_14_7 (st_14_8))))
theorem dd_14_11 : decode (mi 14).2.1 11 = .ok (.iconst 0, 1) := by decide +kernel
theorem st_14_11 : Sd 14 11 1 (i_ic 0) := sd_iconst dd_14_11
def bk_14_11 : Tr := sq (i_ic 0) (i_fall 12)
theorem sb_14_11 : Sd 14 11 1 bk_14_11 := Sd.sq st_14_11 (sd_fall rfl)
theorem dd_14_12 : decode (mi 14).2.1 12 = .ok (.ireturn, 1) := by decide +kernel
theorem st_14_12 : Sd 14 12 1 (i_rI 2) := sd_ireturn dd_14_12 (by decide) mr_14
def bk_14_12 : Tr := i_rI 2
theorem sb_14_12 : Sd 14 12 1 bk_14_12 := st_14_12
theorem dd_15_0 : decode (mi 15).2.1 0 = .ok (.aload_n 0, 1) := by decide +kernel
theorem st_15_0 : Sd 15 0 1 (i_ldR 0) := sd_aload_n (j := 0) dd_15_0 rfl
theorem dd_15_1 : decode (mi 15).2.1 1 = .ok (.invokespecial 343, 3) := by decide +kernel
theorem st_15_1 : Sd 15 1 3 (i_cU [15] 16 1 1 []) := sd_super dd_15_1 (by rw [mc_15, mn_16]; exact tw_394) (by rw [mn_16]; exact tw_390) (by rw [mc_15, mn_16]; exact tw_147) (by rw [mn_16]; exact tw_389) mt_16 pm_16 (by rw [mn_16]; decide) (by decide) ml_15 (HsOk.nil (by decide +kernel))
theorem dd_15_4 : decode (mi 15).2.1 4 = .ok (.ireturn, 1) := by decide +kernel
theorem st_15_4 : Sd 15 4 1 (i_rI 0) := sd_ireturn dd_15_4 (by decide) mr_15
def bk_15_0 : Tr := sq (i_ldR 0) (sq (i_cU [15] 16 1 1 []) (i_rI 0))
theorem sb_15_0 : Sd 15 0 5 bk_15_0 := Sd.sq st_15_0 (Sd.sq st_15_1 (st_15_4))
theorem dd_16_0 : decode (mi 16).2.1 0 = .ok (.aload_n 0, 1) := by decide +kernel
theorem st_16_0 : Sd 16 0 1 (i_ldR 0) := sd_aload_n (j := 0) dd_16_0 rfl
theorem dd_16_1 : decode (mi 16).2.1 1 = .ok (.getfield 79, 3) := by decide +kernel
theorem st_16_1 : Sd 16 1 3 (i_gI 3 [15]) := sd_gI (ref := "java/lang/AbstractStringBuilder") (decl := "java/lang/AbstractStringBuilder") (name := "count") (desc := "I") dd_16_1 (by rw [mc_16]; exact tw_138) (Or.inl rfl) (by decide +kernel)
theorem dd_16_4 : decode (mi 16).2.1 4 = .ok (.ireturn, 1) := by decide +kernel
theorem st_16_4 : Sd 16 4 1 (i_rI 0) := sd_ireturn dd_16_4 (by decide) mr_16
def bk_16_0 : Tr := sq (i_ldR 0) (sq (i_gI 3 [15]) (i_rI 0))
theorem sb_16_0 : Sd 16 0 5 bk_16_0 := Sd.sq st_16_0 (Sd.sq st_16_1 (st_16_4))
theorem dd_17_0 : decode (mi 17).2.1 0 = .ok (.aload_n 0, 1) := by decide +kernel
theorem st_17_0 : Sd 17 0 1 (i_ldR 0) := sd_aload_n (j := 0) dd_17_0 rfl
theorem dd_17_1 : decode (mi 17).2.1 1 = .ok (.iload_n 1, 1) := by decide +kernel
theorem st_17_1 : Sd 17 1 1 (i_ldI 1) := sd_iload_n (j := 1) dd_17_1 rfl
theorem dd_17_2 : decode (mi 17).2.1 2 = .ok (.invokespecial 333, 3) := by decide +kernel
theorem st_17_2 : Sd 17 2 3 (i_cU [15] 18 2 2 []) := sd_super dd_17_2 (by rw [mc_17, mn_18]; exact tw_577) (by rw [mn_18]; exact tw_1602) (by rw [mc_17, mn_18]; exact tw_147) (by rw [mn_18]; exact tw_578) mt_18 pm_18 (by rw [mn_18]; decide) (by decide) ml_17 (HsOk.nil (by decide +kernel))
theorem dd_17_5 : decode (mi 17).2.1 5 = .ok (.return_, 1) := by decide +kernel
theorem st_17_5 : Sd 17 5 1 (i_ret) := sd_ret dd_17_5 mr_17
def bk_17_0 : Tr := sq (i_ldR 0) (sq (i_ldI 1) (sq (i_cU [15] 18 2 2 []) (i_ret)))
theorem sb_17_0 : Sd 17 0 6 bk_17_0 := Sd.sq st_17_0 (Sd.sq st_17_1 (Sd.sq st_17_2 (st_17_5)))
theorem dd_18_0 : decode (mi 18).2.1 0 = .ok (.iload_n 1, 1) := by decide +kernel
theorem st_18_0 : Sd 18 0 1 (i_ldI 1) := sd_iload_n (j := 1) dd_18_0 rfl
theorem dd_18_1 : decode (mi 18).2.1 1 = .ok (.ifCond .ge 12, 3) := by decide +kernel
theorem st_18_1 : Sd 18 1 3 (i_zge 13) := sd_if_ge dd_18_1 (by decide)
def bk_18_0 : Tr := sq (i_ldI 1) (sq (i_zge 13) (i_bad))
theorem sb_18_0 : Sd 18 0 4 bk_18_0 := Sd.sq st_18_0 (Sd.sq st_18_1 (sd_bad))
theorem dd_18_13 : decode (mi 18).2.1 13 = .ok (.aload_n 0, 1) := by decide +kernel
theorem st_18_13 : Sd 18 13 1 (i_ldR 0) := sd_aload_n (j := 0) dd_18_13 rfl
theorem dd_18_14 : decode (mi 18).2.1 14 = .ok (.iload_n 1, 1) := by decide +kernel
theorem st_18_14 : Sd 18 14 1 (i_ldI 1) := sd_iload_n (j := 1) dd_18_14 rfl
theorem dd_18_15 : decode (mi 18).2.1 15 = .ok (.invokevirtual 100, 3) := by decide +kernel
theorem st_18_15 : Sd 18 15 3 (i_cV [(15, 5)] 2 2 []) := sd_virtP dd_18_15 (by rw [mc_18, mn_5]; exact tw_236) (by rw [mn_5]; exact tw_237) (by rw [mn_5]; exact tw_238) (by rw [mn_5]; exact tw_1594) mt_5 (by decide) (by decide) pm_5 ml_18 (HsOk.nil (by decide +kernel))
theorem dd_18_18 : decode (mi 18).2.1 18 = .ok (.aload_n 0, 1) := by decide +kernel
theorem st_18_18 : Sd 18 18 1 (i_ldR 0) := sd_aload_n (j := 0) dd_18_18 rfl
theorem dd_18_19 : decode (mi 18).2.1 19 = .ok (.getfield 79, 3) := by decide +kernel
theorem st_18_19 : Sd 18 19 3 (i_gI 3 [15]) := sd_gI (ref := "java/lang/AbstractStringBuilder") (decl := "java/lang/AbstractStringBuilder") (name := "count") (desc := "I") dd_18_19 (by rw [mc_18]; exact tw_138) (Or.inl rfl) (by decide +kernel)
theorem dd_18_22 : decode (mi 18).2.1 22 = .ok (.iload_n 1, 1) := by decide +kernel
theorem st_18_22 : Sd 18 22 1 (i_ldI 1) := sd_iload_n (j := 1) dd_18_22 rfl
theorem dd_18_23 : decode (mi 18).2.1 23 = .ok (.if_icmp .ge 40, 3) := by decide +kernel
theorem st_18_23 : Sd 18 23 3 (i_cge 63) := sd_icmp_ge dd_18_23 (by decide)
theorem dd_18_26 : decode (mi 18).2.1 26 = .ok (.aload_n 0, 1) := by decide +kernel
theorem st_18_26 : Sd 18 26 1 (i_ldR 0) := sd_aload_n (j := 0) dd_18_26 rfl
theorem dd_18_27 : decode (mi 18).2.1 27 = .ok (.invokevirtual 83, 3) := by decide +kernel
theorem st_18_27 : Sd 18 27 3 (i_cV [(15, 11)] 1 2 []) := sd_virt ⟨"java/lang/AbstractStringBuilder", "isLatin1", "()Z"⟩ dd_18_27 (by rw [mc_18]; exact tw_271) (fun t j h => by simp only [List.mem_cons, List.not_mem_nil, or_false, Prod.mk.injEq] at h; obtain ⟨rfl, rfl⟩ := h; exact mn_11) (fun t j h => by simp only [List.mem_cons, List.not_mem_nil, or_false, Prod.mk.injEq] at h; obtain ⟨rfl, rfl⟩ := h; exact ⟨by rw [mn_11]; exact tw_274, by rw [mn_11]; exact tw_272, mt_11, by decide, by decide⟩) (by unfold prm; decide +kernel) ml_18 (HsOk.nil (by decide +kernel))
theorem dd_18_30 : decode (mi 18).2.1 30 = .ok (.ifCond .eq 18, 3) := by decide +kernel
theorem st_18_30 : Sd 18 30 3 (i_zeq 48) := sd_if_eq dd_18_30 (by decide)
theorem dd_18_33 : decode (mi 18).2.1 33 = .ok (.aload_n 0, 1) := by decide +kernel
theorem st_18_33 : Sd 18 33 1 (i_ldR 0) := sd_aload_n (j := 0) dd_18_33 rfl
theorem dd_18_34 : decode (mi 18).2.1 34 = .ok (.getfield 15, 3) := by decide +kernel
theorem st_18_34 : Sd 18 34 3 (i_gR 0 [15]) := sd_gR (ref := "java/lang/AbstractStringBuilder") (decl := "java/lang/AbstractStringBuilder") (name := "value") (desc := "[B") dd_18_34 (by rw [mc_18]; exact tw_134) (Or.inl rfl) (by decide +kernel)
theorem dd_18_37 : decode (mi 18).2.1 37 = .ok (.aload_n 0, 1) := by decide +kernel
theorem st_18_37 : Sd 18 37 1 (i_ldR 0) := sd_aload_n (j := 0) dd_18_37 rfl
theorem dd_18_38 : decode (mi 18).2.1 38 = .ok (.getfield 79, 3) := by decide +kernel
theorem st_18_38 : Sd 18 38 3 (i_gI 3 [15]) := sd_gI (ref := "java/lang/AbstractStringBuilder") (decl := "java/lang/AbstractStringBuilder") (name := "count") (desc := "I") dd_18_38 (by rw [mc_18]; exact tw_138) (Or.inl rfl) (by decide +kernel)
theorem dd_18_41 : decode (mi 18).2.1 41 = .ok (.iload_n 1, 1) := by decide +kernel
theorem st_18_41 : Sd 18 41 1 (i_ldI 1) := sd_iload_n (j := 1) dd_18_41 rfl
def bk_18_13 : Tr := sq (i_ldR 0) (sq (i_ldI 1) (sq (i_cV [(15, 5)] 2 2 []) (sq (i_ldR 0) (sq (i_gI 3 [15]) (sq (i_ldI 1) (sq (i_cge 63) (sq (i_ldR 0) (sq (i_cV [(15, 11)] 1 2 []) (sq (i_zeq 48) (sq (i_ldR 0) (sq (i_gR 0 [15]) (sq (i_ldR 0) (sq (i_gI 3 [15]) (sq (i_ldI 1) (i_bad)))))))))))))))
theorem sb_18_13 : Sd 18 13 29 bk_18_13 := Sd.sq st_18_13 (Sd.sq st_18_14 (Sd.sq st_18_15 (Sd.sq st_18_18 (Sd.sq st_18_19 (Sd.sq st_18_22 (Sd.sq st_18_23 (Sd.sq st_18_26 (Sd.sq st_18_27 (Sd.sq st_18_30 (Sd.sq st_18_33 (Sd.sq st_18_34 (Sd.sq st_18_37 (Sd.sq st_18_38 (Sd.sq st_18_41 (sd_bad)))))))))))))))
theorem dd_18_48 : decode (mi 18).2.1 48 = .ok (.aload_n 0, 1) := by decide +kernel
theorem st_18_48 : Sd 18 48 1 (i_ldR 0) := sd_aload_n (j := 0) dd_18_48 rfl
theorem dd_18_49 : decode (mi 18).2.1 49 = .ok (.getfield 15, 3) := by decide +kernel
theorem st_18_49 : Sd 18 49 3 (i_gR 0 [15]) := sd_gR (ref := "java/lang/AbstractStringBuilder") (decl := "java/lang/AbstractStringBuilder") (name := "value") (desc := "[B") dd_18_49 (by rw [mc_18]; exact tw_134) (Or.inl rfl) (by decide +kernel)
theorem dd_18_52 : decode (mi 18).2.1 52 = .ok (.aload_n 0, 1) := by decide +kernel
theorem st_18_52 : Sd 18 52 1 (i_ldR 0) := sd_aload_n (j := 0) dd_18_52 rfl
theorem dd_18_53 : decode (mi 18).2.1 53 = .ok (.getfield 79, 3) := by decide +kernel
theorem st_18_53 : Sd 18 53 3 (i_gI 3 [15]) := sd_gI (ref := "java/lang/AbstractStringBuilder") (decl := "java/lang/AbstractStringBuilder") (name := "count") (desc := "I") dd_18_53 (by rw [mc_18]; exact tw_138) (Or.inl rfl) (by decide +kernel)
theorem dd_18_56 : decode (mi 18).2.1 56 = .ok (.iload_n 1, 1) := by decide +kernel
theorem st_18_56 : Sd 18 56 1 (i_ldI 1) := sd_iload_n (j := 1) dd_18_56 rfl
def bk_18_48 : Tr := sq (i_ldR 0) (sq (i_gR 0 [15]) (sq (i_ldR 0) (sq (i_gI 3 [15]) (sq (i_ldI 1) (i_bad)))))
theorem sb_18_48 : Sd 18 48 9 bk_18_48 := Sd.sq st_18_48 (Sd.sq st_18_49 (Sd.sq st_18_52 (Sd.sq st_18_53 (Sd.sq st_18_56 (sd_bad)))))
theorem dd_18_63 : decode (mi 18).2.1 63 = .ok (.aload_n 0, 1) := by decide +kernel
theorem st_18_63 : Sd 18 63 1 (i_ldR 0) := sd_aload_n (j := 0) dd_18_63 rfl
theorem dd_18_64 : decode (mi 18).2.1 64 = .ok (.getfield 79, 3) := by decide +kernel
theorem st_18_64 : Sd 18 64 3 (i_gI 3 [15]) := sd_gI (ref := "java/lang/AbstractStringBuilder") (decl := "java/lang/AbstractStringBuilder") (name := "count") (desc := "I") dd_18_64 (by rw [mc_18]; exact tw_138) (Or.inl rfl) (by decide +kernel)
theorem dd_18_67 : decode (mi 18).2.1 67 = .ok (.iload_n 1, 1) := by decide +kernel
theorem st_18_67 : Sd 18 67 1 (i_ldI 1) := sd_iload_n (j := 1) dd_18_67 rfl
theorem dd_18_68 : decode (mi 18).2.1 68 = .ok (.if_icmp .le 8, 3) := by decide +kernel
theorem st_18_68 : Sd 18 68 3 (i_cle 76) := sd_icmp_le dd_18_68 (by decide)
theorem dd_18_71 : decode (mi 18).2.1 71 = .ok (.aload_n 0, 1) := by decide +kernel
theorem st_18_71 : Sd 18 71 1 (i_ldR 0) := sd_aload_n (j := 0) dd_18_71 rfl
theorem dd_18_72 : decode (mi 18).2.1 72 = .ok (.iconst 1, 1) := by decide +kernel
theorem st_18_72 : Sd 18 72 1 (i_ic 1) := sd_iconst dd_18_72
theorem dd_18_73 : decode (mi 18).2.1 73 = .ok (.putfield 73, 3) := by decide +kernel
theorem st_18_73 : Sd 18 73 3 (i_pI 2 [15] 2) := sd_pI (ref := "java/lang/AbstractStringBuilder") (decl := "java/lang/AbstractStringBuilder") (name := "maybeLatin1") (desc := "Z") dd_18_73 (by rw [mc_18]; exact tw_136) (Or.inl rfl) (by decide +kernel) (by decide +kernel) (by decide)
def bk_18_63 : Tr := sq (i_ldR 0) (sq (i_gI 3 [15]) (sq (i_ldI 1) (sq (i_cle 76) (sq (i_ldR 0) (sq (i_ic 1) (sq (i_pI 2 [15] 2) (i_fall 76)))))))
theorem sb_18_63 : Sd 18 63 13 bk_18_63 := Sd.sq st_18_63 (Sd.sq st_18_64 (Sd.sq st_18_67 (Sd.sq st_18_68 (Sd.sq st_18_71 (Sd.sq st_18_72 (Sd.sq st_18_73 (sd_fall rfl)))))))
theorem dd_18_76 : decode (mi 18).2.1 76 = .ok (.aload_n 0, 1) := by decide +kernel
theorem st_18_76 : Sd 18 76 1 (i_ldR 0) := sd_aload_n (j := 0) dd_18_76 rfl
theorem dd_18_77 : decode (mi 18).2.1 77 = .ok (.iload_n 1, 1) := by decide +kernel
theorem st_18_77 : Sd 18 77 1 (i_ldI 1) := sd_iload_n (j := 1) dd_18_77 rfl
theorem dd_18_78 : decode (mi 18).2.1 78 = .ok (.putfield 79, 3) := by decide +kernel
theorem st_18_78 : Sd 18 78 3 (i_pI 3 [15] 0) := sd_pI (ref := "java/lang/AbstractStringBuilder") (decl := "java/lang/AbstractStringBuilder") (name := "count") (desc := "I") dd_18_78 (by rw [mc_18]; exact tw_138) (Or.inl rfl) (by decide +kernel) (by decide +kernel) (by decide)
theorem dd_18_81 : decode (mi 18).2.1 81 = .ok (.return_, 1) := by decide +kernel
theorem st_18_81 : Sd 18 81 1 (i_ret) := sd_ret dd_18_81 mr_18
def bk_18_76 : Tr := sq (i_ldR 0) (sq (i_ldI 1) (sq (i_pI 3 [15] 0) (i_ret)))
theorem sb_18_76 : Sd 18 76 6 bk_18_76 := Sd.sq st_18_76 (Sd.sq st_18_77 (Sd.sq st_18_78 (st_18_81)))
theorem dd_19_0 : decode (mi 19).2.1 0 = .ok (.aload_n 0, 1) := by decide +kernel
theorem st_19_0 : Sd 19 0 1 (i_ldR 0) := sd_aload_n (j := 0) dd_19_0 rfl
theorem dd_19_1 : decode (mi 19).2.1 1 = .ok (.iload_n 1, 1) := by decide +kernel
theorem st_19_1 : Sd 19 1 1 (i_ldI 1) := sd_iload_n (j := 1) dd_19_1 rfl
theorem dd_19_2 : decode (mi 19).2.1 2 = .ok (.invokespecial 329, 3) := by decide +kernel
theorem st_19_2 : Sd 19 2 3 (i_cU [15] 20 2 2 []) := sd_super dd_19_2 (by rw [mc_19, mn_20]; exact tw_601) (by rw [mn_20]; exact tw_1603) (by rw [mc_19, mn_20]; exact tw_147) (by rw [mn_20]; exact tw_602) mt_20 pm_20 (by rw [mn_20]; decide) (by decide) ml_19 (HsOk.nil (by decide +kernel))
theorem dd_19_5 : decode (mi 19).2.1 5 = .ok (.ireturn, 1) := by decide +kernel
theorem st_19_5 : Sd 19 5 1 (i_rI 1) := sd_ireturn dd_19_5 (by decide) mr_19
def bk_19_0 : Tr := sq (i_ldR 0) (sq (i_ldI 1) (sq (i_cU [15] 20 2 2 []) (i_rI 1)))
theorem sb_19_0 : Sd 19 0 6 bk_19_0 := Sd.sq st_19_0 (Sd.sq st_19_1 (Sd.sq st_19_2 (st_19_5)))
theorem dd_20_0 : decode (mi 20).2.1 0 = .ok (.aload_n 0, 1) := by decide +kernel
theorem st_20_0 : Sd 20 0 1 (i_ldR 0) := sd_aload_n (j := 0) dd_20_0 rfl
theorem dd_20_1 : decode (mi 20).2.1 1 = .ok (.getfield 22, 3) := by decide +kernel
theorem st_20_1 : Sd 20 1 3 (i_gI 1 [15]) := sd_gI (ref := "java/lang/AbstractStringBuilder") (decl := "java/lang/AbstractStringBuilder") (name := "coder") (desc := "B") dd_20_1 (by rw [mc_20]; exact tw_135) (Or.inl rfl) (by decide +kernel)
theorem dd_20_4 : decode (mi 20).2.1 4 = .ok (.istore_n 2, 1) := by decide +kernel
theorem st_20_4 : Sd 20 4 1 (i_stI 2) := sd_istore_n (j := 2) dd_20_4 rfl
theorem dd_20_5 : decode (mi 20).2.1 5 = .ok (.aload_n 0, 1) := by decide +kernel
theorem st_20_5 : Sd 20 5 1 (i_ldR 0) := sd_aload_n (j := 0) dd_20_5 rfl
theorem dd_20_6 : decode (mi 20).2.1 6 = .ok (.getfield 15, 3) := by decide +kernel
theorem st_20_6 : Sd 20 6 3 (i_gR 0 [15]) := sd_gR (ref := "java/lang/AbstractStringBuilder") (decl := "java/lang/AbstractStringBuilder") (name := "value") (desc := "[B") dd_20_6 (by rw [mc_20]; exact tw_134) (Or.inl rfl) (by decide +kernel)
theorem dd_20_9 : decode (mi 20).2.1 9 = .ok (.astore_n 3, 1) := by decide +kernel
theorem st_20_9 : Sd 20 9 1 (i_stR 3) := sd_astore_n (j := 3) dd_20_9 rfl
theorem dd_20_10 : decode (mi 20).2.1 10 = .ok (.aload_n 0, 1) := by decide +kernel
theorem st_20_10 : Sd 20 10 1 (i_ldR 0) := sd_aload_n (j := 0) dd_20_10 rfl
theorem dd_20_11 : decode (mi 20).2.1 11 = .ok (.getfield 79, 3) := by decide +kernel
theorem st_20_11 : Sd 20 11 3 (i_gI 3 [15]) := sd_gI (ref := "java/lang/AbstractStringBuilder") (decl := "java/lang/AbstractStringBuilder") (name := "count") (desc := "I") dd_20_11 (by rw [mc_20]; exact tw_138) (Or.inl rfl) (by decide +kernel)
theorem dd_20_14 : decode (mi 20).2.1 14 = .ok (.aload_n 3, 1) := by decide +kernel
theorem st_20_14 : Sd 20 14 1 (i_ldR 3) := sd_aload_n (j := 3) dd_20_14 rfl
theorem dd_20_15 : decode (mi 20).2.1 15 = .ok (.arraylength, 1) := by decide +kernel
theorem st_20_15 : Sd 20 15 1 (i_len) := sd_len dd_20_15
theorem dd_20_16 : decode (mi 20).2.1 16 = .ok (.iload_n 2, 1) := by decide +kernel
theorem st_20_16 : Sd 20 16 1 (i_ldI 2) := sd_iload_n (j := 2) dd_20_16 rfl
theorem dd_20_17 : decode (mi 20).2.1 17 = .ok (.ishr, 1) := by decide +kernel
theorem st_20_17 : Sd 20 17 1 (i_ishr) := sd_ishr dd_20_17
theorem dd_20_18 : decode (mi 20).2.1 18 = .ok (.invokestatic 138, 3) := by decide +kernel
theorem st_20_18 : Sd 20 18 3 (i_min 5) := sd_min dd_20_18 (by rw [mc_20]; exact tw_604) ml_20
theorem dd_20_21 : decode (mi 20).2.1 21 = .ok (.istore 4, 2) := by decide +kernel
theorem st_20_21 : Sd 20 21 2 (i_stI 4) := sd_istore dd_20_21
theorem dd_20_23 : decode (mi 20).2.1 23 = .ok (.iload_n 1, 1) := by decide +kernel
theorem st_20_23 : Sd 20 23 1 (i_ldI 1) := sd_iload_n (j := 1) dd_20_23 rfl
theorem dd_20_24 : decode (mi 20).2.1 24 = .ok (.iload 4, 2) := by decide +kernel
theorem st_20_24 : Sd 20 24 2 (i_ldI 4) := sd_iload dd_20_24
theorem dd_20_26 : decode (mi 20).2.1 26 = .ok (.invokestatic 144, 3) := by decide +kernel
theorem st_20_26 : Sd 20 26 3 (i_cS 21 2 5 []) := sd_static dd_20_26 (by rw [mc_20, mn_21]; exact tw_605) (by rw [mn_21]; exact tw_530) mt_21 pm_21 ml_20 (HsOk.nil (by decide +kernel))
theorem dd_20_29 : decode (mi 20).2.1 29 = .ok (.iload_n 2, 1) := by decide +kernel
theorem st_20_29 : Sd 20 29 1 (i_ldI 2) := sd_iload_n (j := 2) dd_20_29 rfl
theorem dd_20_30 : decode (mi 20).2.1 30 = .ok (.ifCond .ne 12, 3) := by decide +kernel
theorem st_20_30 : Sd 20 30 3 (i_zne 42) := sd_if_ne dd_20_30 (by decide)
theorem dd_20_33 : decode (mi 20).2.1 33 = .ok (.aload_n 3, 1) := by decide +kernel
theorem st_20_33 : Sd 20 33 1 (i_ldR 3) := sd_aload_n (j := 3) dd_20_33 rfl
theorem dd_20_34 : decode (mi 20).2.1 34 = .ok (.iload_n 1, 1) := by decide +kernel
theorem st_20_34 : Sd 20 34 1 (i_ldI 1) := sd_iload_n (j := 1) dd_20_34 rfl
theorem dd_20_35 : decode (mi 20).2.1 35 = .ok (.baload, 1) := by decide +kernel
theorem st_20_35 : Sd 20 35 1 (i_aI [23, 43]) := sd_baload dd_20_35 (by decide)
theorem dd_20_36 : decode (mi 20).2.1 36 = .ok (.sipush 255, 3) := by decide +kernel
theorem st_20_36 : Sd 20 36 3 (i_ic 255) := sd_sipush dd_20_36 (by decide)
theorem dd_20_39 : decode (mi 20).2.1 39 = .ok (.iand, 1) := by decide +kernel
theorem st_20_39 : Sd 20 39 1 (i_iand) := sd_iand dd_20_39
theorem dd_20_40 : decode (mi 20).2.1 40 = .ok (.i2c, 1) := by decide +kernel
theorem st_20_40 : Sd 20 40 1 (i_i2c) := sd_i2c dd_20_40
theorem dd_20_41 : decode (mi 20).2.1 41 = .ok (.ireturn, 1) := by decide +kernel
theorem st_20_41 : Sd 20 41 1 (i_rI 1) := sd_ireturn dd_20_41 (by decide) mr_20
def bk_20_0 : Tr := sq (i_ldR 0) (sq (i_gI 1 [15]) (sq (i_stI 2) (sq (i_ldR 0) (sq (i_gR 0 [15]) (sq (i_stR 3) (sq (i_ldR 0) (sq (i_gI 3 [15]) (sq (i_ldR 3) (sq (i_len) (sq (i_ldI 2) (sq (i_ishr) (sq (i_min 5) (sq (i_stI 4) (sq (i_ldI 1) (sq (i_ldI 4) (sq (i_cS 21 2 5 []) (sq (i_ldI 2) (sq (i_zne 42) (sq (i_ldR 3) (sq (i_ldI 1) (sq (i_aI [23, 43]) (sq (i_ic 255) (sq (i_iand) (sq (i_i2c) (i_rI 1)))))))))))))))))))))))))
theorem sb_20_0 : Sd 20 0 42 bk_20_0 := Sd.sq st_20_0 (Sd.sq st_20_1 (Sd.sq st_20_4 (Sd.sq st_20_5 (Sd.sq st_20_6 (Sd.sq st_20_9 (Sd.sq st_20_10 (Sd.sq st_20_11 (Sd.sq st_20_14 (Sd.sq st_20_15 (Sd.sq st_20_16 (Sd.sq st_20_17 (Sd.sq st_20_18 (Sd.sq st_20_21 (Sd.sq st_20_23 (Sd.sq st_20_24 (Sd.sq st_20_26 (Sd.sq st_20_29 (Sd.sq st_20_30 (Sd.sq st_20_33 (Sd.sq st_20_34 (Sd.sq st_20_35 (Sd.sq st_20_36 (Sd.sq st_20_39 (Sd.sq st_20_40 (st_20_41)))))))))))))))))))))))))
theorem dd_20_42 : decode (mi 20).2.1 42 = .ok (.aload_n 3, 1) := by decide +kernel
theorem st_20_42 : Sd 20 42 1 (i_ldR 3) := sd_aload_n (j := 3) dd_20_42 rfl
theorem dd_20_43 : decode (mi 20).2.1 43 = .ok (.iload_n 1, 1) := by decide +kernel
theorem st_20_43 : Sd 20 43 1 (i_ldI 1) := sd_iload_n (j := 1) dd_20_43 rfl
def bk_20_42 : Tr := sq (i_ldR 3) (sq (i_ldI 1) (i_bad))
theorem sb_20_42 : Sd 20 42 2 bk_20_42 := Sd.sq st_20_42 (Sd.sq st_20_43 (sd_bad))
theorem dd_21_0 : decode (mi 21).2.1 0 = .ok (.iload_n 0, 1) := by decide +kernel
theorem st_21_0 : Sd 21 0 1 (i_ldI 0) := sd_iload_n (j := 0) dd_21_0 rfl
theorem dd_21_1 : decode (mi 21).2.1 1 = .ok (.iload_n 1, 1) := by decide +kernel
theorem st_21_1 : Sd 21 1 1 (i_ldI 1) := sd_iload_n (j := 1) dd_21_1 rfl
theorem dd_21_2 : decode (mi 21).2.1 2 = .ok (.getstatic 1053, 3) := by decide +kernel
theorem st_21_2 : Sd 21 2 3 (i_gs 6) := sd_gs (n := 6) dd_21_2 (by rw [mc_21]; exact tw_288) (by decide)
theorem dd_21_5 : decode (mi 21).2.1 5 = .ok (.invokestatic 1059, 3) := by decide +kernel
theorem st_21_5 : Sd 21 5 3 (i_cS 22 3 2 []) := sd_static dd_21_5 (by rw [mc_21, mn_22]; exact tw_532) (by rw [mn_22]; exact tw_533) mt_22 pm_22 ml_21 (HsOk.nil (by decide +kernel))
theorem dd_21_8 : decode (mi 21).2.1 8 = .ok (.pop, 1) := by decide +kernel
theorem st_21_8 : Sd 21 8 1 (i_pop) := sd_pop dd_21_8
theorem dd_21_9 : decode (mi 21).2.1 9 = .ok (.return_, 1) := by decide +kernel
theorem st_21_9 : Sd 21 9 1 (i_ret) := sd_ret dd_21_9 mr_21
def bk_21_0 : Tr := sq (i_ldI 0) (sq (i_ldI 1) (sq (i_gs 6) (sq (i_cS 22 3 2 []) (sq (i_pop) (i_ret)))))
theorem sb_21_0 : Sd 21 0 10 bk_21_0 := Sd.sq st_21_0 (Sd.sq st_21_1 (Sd.sq st_21_2 (Sd.sq st_21_5 (Sd.sq st_21_8 (st_21_9)))))
theorem dd_22_0 : decode (mi 22).2.1 0 = .ok (.iload_n 0, 1) := by decide +kernel
theorem st_22_0 : Sd 22 0 1 (i_ldI 0) := sd_iload_n (j := 0) dd_22_0 rfl
theorem dd_22_1 : decode (mi 22).2.1 1 = .ok (.ifCond .lt 8, 3) := by decide +kernel
theorem st_22_1 : Sd 22 1 3 (i_zlt 9) := sd_if_lt dd_22_1 (by decide)
theorem dd_22_4 : decode (mi 22).2.1 4 = .ok (.iload_n 0, 1) := by decide +kernel
theorem st_22_4 : Sd 22 4 1 (i_ldI 0) := sd_iload_n (j := 0) dd_22_4 rfl
theorem dd_22_5 : decode (mi 22).2.1 5 = .ok (.iload_n 1, 1) := by decide +kernel
theorem st_22_5 : Sd 22 5 1 (i_ldI 1) := sd_iload_n (j := 1) dd_22_5 rfl
theorem dd_22_6 : decode (mi 22).2.1 6 = .ok (.if_icmp .lt 10, 3) := by decide +kernel
theorem st_22_6 : Sd 22 6 3 (i_clt 16) := sd_icmp_lt dd_22_6 (by decide)
def bk_22_0 : Tr := sq (i_ldI 0) (sq (i_zlt 9) (sq (i_ldI 0) (sq (i_ldI 1) (sq (i_clt 16) (i_fall 9)))))
theorem sb_22_0 : Sd 22 0 9 bk_22_0 := Sd.sq st_22_0 (Sd.sq st_22_1 (Sd.sq st_22_4 (Sd.sq st_22_5 (Sd.sq st_22_6 (sd_fall rfl)))))
theorem dd_22_9 : decode (mi 22).2.1 9 = .ok (.aload_n 2, 1) := by decide +kernel
theorem st_22_9 : Sd 22 9 1 (i_ldR 2) := sd_aload_n (j := 2) dd_22_9 rfl
theorem dd_22_10 : decode (mi 22).2.1 10 = .ok (.iload_n 0, 1) := by decide +kernel
theorem st_22_10 : Sd 22 10 1 (i_ldI 0) := sd_iload_n (j := 0) dd_22_10 rfl
theorem dd_22_11 : decode (mi 22).2.1 11 = .ok (.iload_n 1, 1) := by decide +kernel
theorem st_22_11 : Sd 22 11 1 (i_ldI 1) := sd_iload_n (j := 1) dd_22_11 rfl
def bk_22_9 : Tr := sq (i_ldR 2) (sq (i_ldI 0) (sq (i_ldI 1) (i_bad)))
theorem sb_22_9 : Sd 22 9 3 bk_22_9 := Sd.sq st_22_9 (Sd.sq st_22_10 (Sd.sq st_22_11 (sd_bad)))
theorem dd_22_16 : decode (mi 22).2.1 16 = .ok (.iload_n 0, 1) := by decide +kernel
theorem st_22_16 : Sd 22 16 1 (i_ldI 0) := sd_iload_n (j := 0) dd_22_16 rfl
theorem dd_22_17 : decode (mi 22).2.1 17 = .ok (.ireturn, 1) := by decide +kernel
theorem st_22_17 : Sd 22 17 1 (i_rI 0) := sd_ireturn dd_22_17 (by decide) mr_22
def bk_22_16 : Tr := sq (i_ldI 0) (i_rI 0)
theorem sb_22_16 : Sd 22 16 2 bk_22_16 := Sd.sq st_22_16 (st_22_17)
theorem dd_23_0 : decode (mi 23).2.1 0 = .ok (.aload_n 0, 1) := by decide +kernel
theorem st_23_0 : Sd 23 0 1 (i_ldR 0) := sd_aload_n (j := 0) dd_23_0 rfl
theorem dd_23_1 : decode (mi 23).2.1 1 = .ok (.getfield 48, 3) := by decide +kernel
theorem st_23_1 : Sd 23 1 3 (i_gI 1 [16]) := sd_gI (ref := "java/util/ArrayList") (decl := "java/util/ArrayList") (name := "size") (desc := "I") dd_23_1 (by rw [mc_23]; exact tw_464) (Or.inl rfl) (by decide +kernel)
theorem dd_23_4 : decode (mi 23).2.1 4 = .ok (.ireturn, 1) := by decide +kernel
theorem st_23_4 : Sd 23 4 1 (i_rI 0) := sd_ireturn dd_23_4 (by decide) mr_23
def bk_23_0 : Tr := sq (i_ldR 0) (sq (i_gI 1 [16]) (i_rI 0))
theorem sb_23_0 : Sd 23 0 5 bk_23_0 := Sd.sq st_23_0 (Sd.sq st_23_1 (st_23_4))
theorem dd_24_0 : decode (mi 24).2.1 0 = .ok (.iload_n 1, 1) := by decide +kernel
theorem st_24_0 : Sd 24 0 1 (i_ldI 1) := sd_iload_n (j := 1) dd_24_0 rfl
theorem dd_24_1 : decode (mi 24).2.1 1 = .ok (.aload_n 0, 1) := by decide +kernel
theorem st_24_1 : Sd 24 1 1 (i_ldR 0) := sd_aload_n (j := 0) dd_24_1 rfl
theorem dd_24_2 : decode (mi 24).2.1 2 = .ok (.getfield 48, 3) := by decide +kernel
theorem st_24_2 : Sd 24 2 3 (i_gI 1 [16]) := sd_gI (ref := "java/util/ArrayList") (decl := "java/util/ArrayList") (name := "size") (desc := "I") dd_24_2 (by rw [mc_24]; exact tw_464) (Or.inl rfl) (by decide +kernel)
theorem dd_24_5 : decode (mi 24).2.1 5 = .ok (.invokestatic 118, 3) := by decide +kernel
theorem st_24_5 : Sd 24 5 3 (i_cS 25 2 2 []) := sd_static dd_24_5 (by rw [mc_24, mn_25]; exact tw_551) (by rw [mn_25]; exact tw_552) mt_25 pm_25 ml_24 (HsOk.nil (by decide +kernel))
theorem dd_24_8 : decode (mi 24).2.1 8 = .ok (.pop, 1) := by decide +kernel
theorem st_24_8 : Sd 24 8 1 (i_pop) := sd_pop dd_24_8
theorem dd_24_9 : decode (mi 24).2.1 9 = .ok (.aload_n 0, 1) := by decide +kernel
theorem st_24_9 : Sd 24 9 1 (i_ldR 0) := sd_aload_n (j := 0) dd_24_9 rfl
theorem dd_24_10 : decode (mi 24).2.1 10 = .ok (.iload_n 1, 1) := by decide +kernel
theorem st_24_10 : Sd 24 10 1 (i_ldI 1) := sd_iload_n (j := 1) dd_24_10 rfl
theorem dd_24_11 : decode (mi 24).2.1 11 = .ok (.invokevirtual 123, 3) := by decide +kernel
theorem st_24_11 : Sd 24 11 3 (i_cV [(16, 26)] 2 2 []) := sd_virt ⟨"java/util/ArrayList", "elementData", "(I)Ljava/lang/Object;"⟩ dd_24_11 (by rw [mc_24]; exact tw_555) (fun t j h => by simp only [List.mem_cons, List.not_mem_nil, or_false, Prod.mk.injEq] at h; obtain ⟨rfl, rfl⟩ := h; exact mn_26) (fun t j h => by simp only [List.mem_cons, List.not_mem_nil, or_false, Prod.mk.injEq] at h; obtain ⟨rfl, rfl⟩ := h; exact ⟨by rw [mn_26]; exact tw_557, by rw [mn_26]; exact tw_556, mt_26, by decide, by decide⟩) (by unfold prm; decide +kernel) ml_24 (HsOk.nil (by decide +kernel))
theorem dd_24_14 : decode (mi 24).2.1 14 = .ok (.areturn, 1) := by decide +kernel
theorem st_24_14 : Sd 24 14 1 (i_rR) := sd_areturn dd_24_14 mr_24 (Or.inl ⟨_, rfl⟩)
def bk_24_0 : Tr := sq (i_ldI 1) (sq (i_ldR 0) (sq (i_gI 1 [16]) (sq (i_cS 25 2 2 []) (sq (i_pop) (sq (i_ldR 0) (sq (i_ldI 1) (sq (i_cV [(16, 26)] 2 2 []) (i_rR))))))))
theorem sb_24_0 : Sd 24 0 15 bk_24_0 := Sd.sq st_24_0 (Sd.sq st_24_1 (Sd.sq st_24_2 (Sd.sq st_24_5 (Sd.sq st_24_8 (Sd.sq st_24_9 (Sd.sq st_24_10 (Sd.sq st_24_11 (st_24_14))))))))
theorem dd_25_0 : decode (mi 25).2.1 0 = .ok (.iload_n 0, 1) := by decide +kernel
theorem st_25_0 : Sd 25 0 1 (i_ldI 0) := sd_iload_n (j := 0) dd_25_0 rfl
theorem dd_25_1 : decode (mi 25).2.1 1 = .ok (.iload_n 1, 1) := by decide +kernel
theorem st_25_1 : Sd 25 1 1 (i_ldI 1) := sd_iload_n (j := 1) dd_25_1 rfl
theorem dd_25_2 : decode (mi 25).2.1 2 = .ok (.aconst_null, 1) := by decide +kernel
theorem st_25_2 : Sd 25 2 1 (i_null) := sd_null dd_25_2
theorem dd_25_3 : decode (mi 25).2.1 3 = .ok (.invokestatic 105, 3) := by decide +kernel
theorem st_25_3 : Sd 25 3 3 (i_cS 22 3 2 []) := sd_static dd_25_3 (by rw [mc_25, mn_22]; exact tw_554) (by rw [mn_22]; exact tw_533) mt_22 pm_22 ml_25 (HsOk.nil (by decide +kernel))
theorem dd_25_6 : decode (mi 25).2.1 6 = .ok (.ireturn, 1) := by decide +kernel
theorem st_25_6 : Sd 25 6 1 (i_rI 0) := sd_ireturn dd_25_6 (by decide) mr_25
def bk_25_0 : Tr := sq (i_ldI 0) (sq (i_ldI 1) (sq (i_null) (sq (i_cS 22 3 2 []) (i_rI 0))))
theorem sb_25_0 : Sd 25 0 7 bk_25_0 := Sd.sq st_25_0 (Sd.sq st_25_1 (Sd.sq st_25_2 (Sd.sq st_25_3 (st_25_6))))
theorem dd_26_0 : decode (mi 26).2.1 0 = .ok (.aload_n 0, 1) := by decide +kernel
theorem st_26_0 : Sd 26 0 1 (i_ldR 0) := sd_aload_n (j := 0) dd_26_0 rfl
theorem dd_26_1 : decode (mi 26).2.1 1 = .ok (.getfield 9, 3) := by decide +kernel
theorem st_26_1 : Sd 26 1 3 (i_gR 0 [16]) := sd_gR (ref := "java/util/ArrayList") (decl := "java/util/ArrayList") (name := "elementData") (desc := "[Ljava/lang/Object;") dd_26_1 (by rw [mc_26]; exact tw_463) (Or.inl rfl) (by decide +kernel)
theorem dd_26_4 : decode (mi 26).2.1 4 = .ok (.iload_n 1, 1) := by decide +kernel
theorem st_26_4 : Sd 26 4 1 (i_ldI 1) := sd_iload_n (j := 1) dd_26_4 rfl
theorem dd_26_5 : decode (mi 26).2.1 5 = .ok (.aaload, 1) := by decide +kernel
theorem st_26_5 : Sd 26 5 1 (i_aR [25]) := sd_aaload dd_26_5 (by decide)
theorem dd_26_6 : decode (mi 26).2.1 6 = .ok (.areturn, 1) := by decide +kernel
theorem st_26_6 : Sd 26 6 1 (i_rR) := sd_areturn dd_26_6 mr_26 (Or.inl ⟨_, rfl⟩)
def bk_26_0 : Tr := sq (i_ldR 0) (sq (i_gR 0 [16]) (sq (i_ldI 1) (sq (i_aR [25]) (i_rR))))
theorem sb_26_0 : Sd 26 0 7 bk_26_0 := Sd.sq st_26_0 (Sd.sq st_26_1 (Sd.sq st_26_4 (Sd.sq st_26_5 (st_26_6))))
theorem dd_27_0 : decode (mi 27).2.1 0 = .ok (.aload_n 0, 1) := by decide +kernel
theorem st_27_0 : Sd 27 0 1 (i_ldR 0) := sd_aload_n (j := 0) dd_27_0 rfl
theorem dd_27_1 : decode (mi 27).2.1 1 = .ok (.dup, 1) := by decide +kernel
theorem st_27_1 : Sd 27 1 1 (i_dup) := sd_dup dd_27_1
theorem dd_27_2 : decode (mi 27).2.1 2 = .ok (.getfield 63, 3) := by decide +kernel
theorem st_27_2 : Sd 27 2 3 (i_gI 2 [16]) := sd_gI (ref := "java/util/ArrayList") (decl := "java/util/AbstractList") (name := "modCount") (desc := "I") dd_27_2 (by rw [mc_27]; exact tw_466) (Or.inr tw_467) (by decide +kernel)
theorem dd_27_5 : decode (mi 27).2.1 5 = .ok (.iconst 1, 1) := by decide +kernel
theorem st_27_5 : Sd 27 5 1 (i_ic 1) := sd_iconst dd_27_5
theorem dd_27_6 : decode (mi 27).2.1 6 = .ok (.iadd, 1) := by decide +kernel
theorem st_27_6 : Sd 27 6 1 (i_iadd) := sd_iadd dd_27_6
theorem dd_27_7 : decode (mi 27).2.1 7 = .ok (.putfield 63, 3) := by decide +kernel
theorem st_27_7 : Sd 27 7 3 (i_pI 2 [16] 0) := sd_pI (ref := "java/util/ArrayList") (decl := "java/util/AbstractList") (name := "modCount") (desc := "I") dd_27_7 (by rw [mc_27]; exact tw_466) (Or.inr tw_467) (by decide +kernel) (by decide +kernel) (by decide)
theorem dd_27_10 : decode (mi 27).2.1 10 = .ok (.aload_n 0, 1) := by decide +kernel
theorem st_27_10 : Sd 27 10 1 (i_ldR 0) := sd_aload_n (j := 0) dd_27_10 rfl
theorem dd_27_11 : decode (mi 27).2.1 11 = .ok (.aload_n 1, 1) := by decide +kernel
theorem st_27_11 : Sd 27 11 1 (i_ldR 1) := sd_aload_n (j := 1) dd_27_11 rfl
theorem dd_27_12 : decode (mi 27).2.1 12 = .ok (.aload_n 0, 1) := by decide +kernel
theorem st_27_12 : Sd 27 12 1 (i_ldR 0) := sd_aload_n (j := 0) dd_27_12 rfl
theorem dd_27_13 : decode (mi 27).2.1 13 = .ok (.getfield 9, 3) := by decide +kernel
theorem st_27_13 : Sd 27 13 3 (i_gR 0 [16]) := sd_gR (ref := "java/util/ArrayList") (decl := "java/util/ArrayList") (name := "elementData") (desc := "[Ljava/lang/Object;") dd_27_13 (by rw [mc_27]; exact tw_463) (Or.inl rfl) (by decide +kernel)
theorem dd_27_16 : decode (mi 27).2.1 16 = .ok (.aload_n 0, 1) := by decide +kernel
theorem st_27_16 : Sd 27 16 1 (i_ldR 0) := sd_aload_n (j := 0) dd_27_16 rfl
theorem dd_27_17 : decode (mi 27).2.1 17 = .ok (.getfield 48, 3) := by decide +kernel
theorem st_27_17 : Sd 27 17 3 (i_gI 1 [16]) := sd_gI (ref := "java/util/ArrayList") (decl := "java/util/ArrayList") (name := "size") (desc := "I") dd_27_17 (by rw [mc_27]; exact tw_464) (Or.inl rfl) (by decide +kernel)
theorem dd_27_20 : decode (mi 27).2.1 20 = .ok (.invokevirtual 131, 3) := by decide +kernel
theorem st_27_20 : Sd 27 20 3 (i_cV [(16, 28)] 4 2 []) := sd_virt ⟨"java/util/ArrayList", "add", "(Ljava/lang/Object;[Ljava/lang/Object;I)V"⟩ dd_27_20 (by rw [mc_27]; exact tw_737) (fun t j h => by simp only [List.mem_cons, List.not_mem_nil, or_false, Prod.mk.injEq] at h; obtain ⟨rfl, rfl⟩ := h; exact mn_28) (fun t j h => by simp only [List.mem_cons, List.not_mem_nil, or_false, Prod.mk.injEq] at h; obtain ⟨rfl, rfl⟩ := h; exact ⟨by rw [mn_28]; exact tw_3, by rw [mn_28]; exact tw_739, mt_28, by decide, by decide⟩) (by unfold prm; decide +kernel) ml_27 (HsOk.nil (by decide +kernel))
theorem dd_27_23 : decode (mi 27).2.1 23 = .ok (.iconst 1, 1) := by decide +kernel
theorem st_27_23 : Sd 27 23 1 (i_ic 1) := sd_iconst dd_27_23
theorem dd_27_24 : decode (mi 27).2.1 24 = .ok (.ireturn, 1) := by decide +kernel
theorem st_27_24 : Sd 27 24 1 (i_rI 2) := sd_ireturn dd_27_24 (by decide) mr_27
def bk_27_0 : Tr := sq (i_ldR 0) (sq (i_dup) (sq (i_gI 2 [16]) (sq (i_ic 1) (sq (i_iadd) (sq (i_pI 2 [16] 0) (sq (i_ldR 0) (sq (i_ldR 1) (sq (i_ldR 0) (sq (i_gR 0 [16]) (sq (i_ldR 0) (sq (i_gI 1 [16]) (sq (i_cV [(16, 28)] 4 2 []) (sq (i_ic 1) (i_rI 2))))))))))))))
theorem sb_27_0 : Sd 27 0 25 bk_27_0 := Sd.sq st_27_0 (Sd.sq st_27_1 (Sd.sq st_27_2 (Sd.sq st_27_5 (Sd.sq st_27_6 (Sd.sq st_27_7 (Sd.sq st_27_10 (Sd.sq st_27_11 (Sd.sq st_27_12 (Sd.sq st_27_13 (Sd.sq st_27_16 (Sd.sq st_27_17 (Sd.sq st_27_20 (Sd.sq st_27_23 (st_27_24))))))))))))))
theorem dd_28_0 : decode (mi 28).2.1 0 = .ok (.iload_n 3, 1) := by decide +kernel
theorem st_28_0 : Sd 28 0 1 (i_ldI 3) := sd_iload_n (j := 3) dd_28_0 rfl
theorem dd_28_1 : decode (mi 28).2.1 1 = .ok (.aload_n 2, 1) := by decide +kernel
theorem st_28_1 : Sd 28 1 1 (i_ldR 2) := sd_aload_n (j := 2) dd_28_1 rfl
theorem dd_28_2 : decode (mi 28).2.1 2 = .ok (.arraylength, 1) := by decide +kernel
theorem st_28_2 : Sd 28 2 1 (i_len) := sd_len dd_28_2
theorem dd_28_3 : decode (mi 28).2.1 3 = .ok (.if_icmp .ne 8, 3) := by decide +kernel
theorem st_28_3 : Sd 28 3 3 (i_cne 11) := sd_icmp_ne dd_28_3 (by decide)
theorem dd_28_6 : decode (mi 28).2.1 6 = .ok (.aload_n 0, 1) := by decide +kernel
theorem st_28_6 : Sd 28 6 1 (i_ldR 0) := sd_aload_n (j := 0) dd_28_6 rfl
def bk_28_0 : Tr := sq (i_ldI 3) (sq (i_ldR 2) (sq (i_len) (sq (i_cne 11) (sq (i_ldR 0) (i_bad)))))
theorem sb_28_0 : Sd 28 0 7 bk_28_0 := Sd.sq st_28_0 (Sd.sq st_28_1 (Sd.sq st_28_2 (Sd.sq st_28_3 (Sd.sq st_28_6 (sd_bad)))))
theorem dd_28_11 : decode (mi 28).2.1 11 = .ok (.aload_n 2, 1) := by decide +kernel
theorem st_28_11 : Sd 28 11 1 (i_ldR 2) := sd_aload_n (j := 2) dd_28_11 rfl
theorem dd_28_12 : decode (mi 28).2.1 12 = .ok (.iload_n 3, 1) := by decide +kernel
theorem st_28_12 : Sd 28 12 1 (i_ldI 3) := sd_iload_n (j := 3) dd_28_12 rfl
theorem dd_28_13 : decode (mi 28).2.1 13 = .ok (.aload_n 1, 1) := by decide +kernel
theorem st_28_13 : Sd 28 13 1 (i_ldR 1) := sd_aload_n (j := 1) dd_28_13 rfl
theorem dd_28_14 : decode (mi 28).2.1 14 = .ok (.aastore, 1) := by decide +kernel
theorem st_28_14 : Sd 28 14 1 (i_sR [25] [4, 5, 14]) := sd_aastore dd_28_14 (by decide) ok_O
theorem dd_28_15 : decode (mi 28).2.1 15 = .ok (.aload_n 0, 1) := by decide +kernel
theorem st_28_15 : Sd 28 15 1 (i_ldR 0) := sd_aload_n (j := 0) dd_28_15 rfl
theorem dd_28_16 : decode (mi 28).2.1 16 = .ok (.iload_n 3, 1) := by decide +kernel
theorem st_28_16 : Sd 28 16 1 (i_ldI 3) := sd_iload_n (j := 3) dd_28_16 rfl
theorem dd_28_17 : decode (mi 28).2.1 17 = .ok (.iconst 1, 1) := by decide +kernel
theorem st_28_17 : Sd 28 17 1 (i_ic 1) := sd_iconst dd_28_17
theorem dd_28_18 : decode (mi 28).2.1 18 = .ok (.iadd, 1) := by decide +kernel
theorem st_28_18 : Sd 28 18 1 (i_iadd) := sd_iadd dd_28_18
theorem dd_28_19 : decode (mi 28).2.1 19 = .ok (.putfield 48, 3) := by decide +kernel
theorem st_28_19 : Sd 28 19 3 (i_pI 1 [16] 0) := sd_pI (ref := "java/util/ArrayList") (decl := "java/util/ArrayList") (name := "size") (desc := "I") dd_28_19 (by rw [mc_28]; exact tw_464) (Or.inl rfl) (by decide +kernel) (by decide +kernel) (by decide)
theorem dd_28_22 : decode (mi 28).2.1 22 = .ok (.return_, 1) := by decide +kernel
theorem st_28_22 : Sd 28 22 1 (i_ret) := sd_ret dd_28_22 mr_28
def bk_28_11 : Tr := sq (i_ldR 2) (sq (i_ldI 3) (sq (i_ldR 1) (sq (i_sR [25] [4, 5, 14]) (sq (i_ldR 0) (sq (i_ldI 3) (sq (i_ic 1) (sq (i_iadd) (sq (i_pI 1 [16] 0) (i_ret)))))))))
theorem sb_28_11 : Sd 28 11 12 bk_28_11 := Sd.sq st_28_11 (Sd.sq st_28_12 (Sd.sq st_28_13 (Sd.sq st_28_14 (Sd.sq st_28_15 (Sd.sq st_28_16 (Sd.sq st_28_17 (Sd.sq st_28_18 (Sd.sq st_28_19 (st_28_22)))))))))
theorem dd_29_0 : decode (mi 29).2.1 0 = .ok (.aload_n 0, 1) := by decide +kernel
theorem st_29_0 : Sd 29 0 1 (i_ldR 0) := sd_aload_n (j := 0) dd_29_0 rfl
theorem dd_29_1 : decode (mi 29).2.1 1 = .ok (.getfield 9, 3) := by decide +kernel
theorem st_29_1 : Sd 29 1 3 (i_gR 0 [30]) := sd_gR (ref := "java/lang/String") (decl := "java/lang/String") (name := "value") (desc := "[B") dd_29_1 (by rw [mc_29]; exact tw_451) (Or.inl rfl) (by decide +kernel)
theorem dd_29_4 : decode (mi 29).2.1 4 = .ok (.arraylength, 1) := by decide +kernel
theorem st_29_4 : Sd 29 4 1 (i_len) := sd_len dd_29_4
theorem dd_29_5 : decode (mi 29).2.1 5 = .ok (.aload_n 0, 1) := by decide +kernel
theorem st_29_5 : Sd 29 5 1 (i_ldR 0) := sd_aload_n (j := 0) dd_29_5 rfl
theorem dd_29_6 : decode (mi 29).2.1 6 = .ok (.invokevirtual 335, 3) := by decide +kernel
theorem st_29_6 : Sd 29 6 3 (i_cV [(30, 30)] 1 1 []) := sd_virt ⟨"java/lang/String", "coder", "()B"⟩ dd_29_6 (by rw [mc_29]; exact tw_306) (fun t j h => by simp only [List.mem_cons, List.not_mem_nil, or_false, Prod.mk.injEq] at h; obtain ⟨rfl, rfl⟩ := h; exact mn_30) (fun t j h => by simp only [List.mem_cons, List.not_mem_nil, or_false, Prod.mk.injEq] at h; obtain ⟨rfl, rfl⟩ := h; exact ⟨by rw [mn_30]; exact tw_308, by rw [mn_30]; exact tw_307, mt_30, by decide, by decide⟩) (by unfold prm; decide +kernel) ml_29 (HsOk.nil (by decide +kernel))
theorem dd_29_9 : decode (mi 29).2.1 9 = .ok (.ishr, 1) := by decide +kernel
theorem st_29_9 : Sd 29 9 1 (i_ishr) := sd_ishr dd_29_9
theorem dd_29_10 : decode (mi 29).2.1 10 = .ok (.ireturn, 1) := by decide +kernel
theorem st_29_10 : Sd 29 10 1 (i_rI 0) := sd_ireturn dd_29_10 (by decide) mr_29
def bk_29_0 : Tr := sq (i_ldR 0) (sq (i_gR 0 [30]) (sq (i_len) (sq (i_ldR 0) (sq (i_cV [(30, 30)] 1 1 []) (sq (i_ishr) (i_rI 0))))))
theorem sb_29_0 : Sd 29 0 11 bk_29_0 := Sd.sq st_29_0 (Sd.sq st_29_1 (Sd.sq st_29_4 (Sd.sq st_29_5 (Sd.sq st_29_6 (Sd.sq st_29_9 (st_29_10))))))
theorem dd_30_0 : decode (mi 30).2.1 0 = .ok (.getstatic 38, 3) := by decide +kernel
theorem st_30_0 : Sd 30 0 3 (i_ic 1) := sd_gsC dd_30_0 (by rw [mc_30]; exact tw_310)
theorem dd_30_3 : decode (mi 30).2.1 3 = .ok (.ifCond .eq 10, 3) := by decide +kernel
theorem st_30_3 : Sd 30 3 3 (i_zeq 13) := sd_if_eq dd_30_3 (by decide)
theorem dd_30_6 : decode (mi 30).2.1 6 = .ok (.aload_n 0, 1) := by decide +kernel
theorem st_30_6 : Sd 30 6 1 (i_ldR 0) := sd_aload_n (j := 0) dd_30_6 rfl
theorem dd_30_7 : decode (mi 30).2.1 7 = .ok (.getfield 15, 3) := by decide +kernel
theorem st_30_7 : Sd 30 7 3 (i_gI 1 [30]) := sd_gI (ref := "java/lang/String") (decl := "java/lang/String") (name := "coder") (desc := "B") dd_30_7 (by rw [mc_30]; exact tw_452) (Or.inl rfl) (by decide +kernel)
theorem dd_30_10 : decode (mi 30).2.1 10 = .ok (.goto 4, 3) := by decide +kernel
theorem st_30_10 : Sd 30 10 3 (i_goto 14) := sd_goto dd_30_10 (by decide)
def bk_30_0 : Tr := sq (i_ic 1) (sq (i_zeq 13) (sq (i_ldR 0) (sq (i_gI 1 [30]) (i_goto 14))))
theorem sb_30_0 : Sd 30 0 13 bk_30_0 := Sd.sq st_30_0 (Sd.sq st_30_3 (Sd.sq st_30_6 (Sd.sq st_30_7 (st_30_10))))
theorem dd_30_13 : decode (mi 30).2.1 13 = .ok (.iconst 1, 1) := by decide +kernel
theorem st_30_13 : Sd 30 13 1 (i_ic 1) := sd_iconst dd_30_13
def bk_30_13 : Tr := sq (i_ic 1) (i_fall 14)
theorem sb_30_13 : Sd 30 13 1 bk_30_13 := Sd.sq st_30_13 (sd_fall rfl)
theorem dd_30_14 : decode (mi 30).2.1 14 = .ok (.ireturn, 1) := by decide +kernel
theorem st_30_14 : Sd 30 14 1 (i_rI 3) := sd_ireturn dd_30_14 (by decide) mr_30
def bk_30_14 : Tr := i_rI 3
theorem sb_30_14 : Sd 30 14 1 bk_30_14 := st_30_14
theorem dd_31_0 : decode (mi 31).2.1 0 = .ok (.aload_n 0, 1) := by decide +kernel
theorem st_31_0 : Sd 31 0 1 (i_ldR 0) := sd_aload_n (j := 0) dd_31_0 rfl
theorem dd_31_1 : decode (mi 31).2.1 1 = .ok (.invokevirtual 492, 3) := by decide +kernel
theorem st_31_1 : Sd 31 1 3 (i_cV [(30, 32)] 1 2 []) := sd_virt ⟨"java/lang/String", "isLatin1", "()Z"⟩ dd_31_1 (by rw [mc_31]; exact tw_926) (fun t j h => by simp only [List.mem_cons, List.not_mem_nil, or_false, Prod.mk.injEq] at h; obtain ⟨rfl, rfl⟩ := h; exact mn_32) (fun t j h => by simp only [List.mem_cons, List.not_mem_nil, or_false, Prod.mk.injEq] at h; obtain ⟨rfl, rfl⟩ := h; exact ⟨by rw [mn_32]; exact tw_928, by rw [mn_32]; exact tw_927, mt_32, by decide, by decide⟩) (by unfold prm; decide +kernel) ml_31 (HsOk.nil (by decide +kernel))
theorem dd_31_4 : decode (mi 31).2.1 4 = .ok (.ifCond .eq 12, 3) := by decide +kernel
theorem st_31_4 : Sd 31 4 3 (i_zeq 16) := sd_if_eq dd_31_4 (by decide)
theorem dd_31_7 : decode (mi 31).2.1 7 = .ok (.aload_n 0, 1) := by decide +kernel
theorem st_31_7 : Sd 31 7 1 (i_ldR 0) := sd_aload_n (j := 0) dd_31_7 rfl
theorem dd_31_8 : decode (mi 31).2.1 8 = .ok (.getfield 9, 3) := by decide +kernel
theorem st_31_8 : Sd 31 8 3 (i_gR 0 [30]) := sd_gR (ref := "java/lang/String") (decl := "java/lang/String") (name := "value") (desc := "[B") dd_31_8 (by rw [mc_31]; exact tw_451) (Or.inl rfl) (by decide +kernel)
theorem dd_31_11 : decode (mi 31).2.1 11 = .ok (.iload_n 1, 1) := by decide +kernel
theorem st_31_11 : Sd 31 11 1 (i_ldI 1) := sd_iload_n (j := 1) dd_31_11 rfl
theorem dd_31_12 : decode (mi 31).2.1 12 = .ok (.invokestatic 495, 3) := by decide +kernel
theorem st_31_12 : Sd 31 12 3 (i_cS 33 2 2 []) := sd_static dd_31_12 (by rw [mc_31, mn_33]; exact tw_930) (by rw [mn_33]; exact tw_931) mt_33 pm_33 ml_31 (HsOk.nil (by decide +kernel))
theorem dd_31_15 : decode (mi 31).2.1 15 = .ok (.ireturn, 1) := by decide +kernel
theorem st_31_15 : Sd 31 15 1 (i_rI 1) := sd_ireturn dd_31_15 (by decide) mr_31
def bk_31_0 : Tr := sq (i_ldR 0) (sq (i_cV [(30, 32)] 1 2 []) (sq (i_zeq 16) (sq (i_ldR 0) (sq (i_gR 0 [30]) (sq (i_ldI 1) (sq (i_cS 33 2 2 []) (i_rI 1)))))))
theorem sb_31_0 : Sd 31 0 16 bk_31_0 := Sd.sq st_31_0 (Sd.sq st_31_1 (Sd.sq st_31_4 (Sd.sq st_31_7 (Sd.sq st_31_8 (Sd.sq st_31_11 (Sd.sq st_31_12 (st_31_15)))))))
theorem dd_31_16 : decode (mi 31).2.1 16 = .ok (.aload_n 0, 1) := by decide +kernel
theorem st_31_16 : Sd 31 16 1 (i_ldR 0) := sd_aload_n (j := 0) dd_31_16 rfl
theorem dd_31_17 : decode (mi 31).2.1 17 = .ok (.getfield 9, 3) := by decide +kernel
theorem st_31_17 : Sd 31 17 3 (i_gR 0 [30]) := sd_gR (ref := "java/lang/String") (decl := "java/lang/String") (name := "value") (desc := "[B") dd_31_17 (by rw [mc_31]; exact tw_451) (Or.inl rfl) (by decide +kernel)
theorem dd_31_20 : decode (mi 31).2.1 20 = .ok (.iload_n 1, 1) := by decide +kernel
theorem st_31_20 : Sd 31 20 1 (i_ldI 1) := sd_iload_n (j := 1) dd_31_20 rfl
def bk_31_16 : Tr := sq (i_ldR 0) (sq (i_gR 0 [30]) (sq (i_ldI 1) (i_bad)))
theorem sb_31_16 : Sd 31 16 5 bk_31_16 := Sd.sq st_31_16 (Sd.sq st_31_17 (Sd.sq st_31_20 (sd_bad)))
theorem dd_32_0 : decode (mi 32).2.1 0 = .ok (.getstatic 38, 3) := by decide +kernel
theorem st_32_0 : Sd 32 0 3 (i_ic 1) := sd_gsC dd_32_0 (by rw [mc_32]; exact tw_310)
theorem dd_32_3 : decode (mi 32).2.1 3 = .ok (.ifCond .eq 14, 3) := by decide +kernel
theorem st_32_3 : Sd 32 3 3 (i_zeq 17) := sd_if_eq dd_32_3 (by decide)
theorem dd_32_6 : decode (mi 32).2.1 6 = .ok (.aload_n 0, 1) := by decide +kernel
theorem st_32_6 : Sd 32 6 1 (i_ldR 0) := sd_aload_n (j := 0) dd_32_6 rfl
theorem dd_32_7 : decode (mi 32).2.1 7 = .ok (.getfield 15, 3) := by decide +kernel
theorem st_32_7 : Sd 32 7 3 (i_gI 1 [30]) := sd_gI (ref := "java/lang/String") (decl := "java/lang/String") (name := "coder") (desc := "B") dd_32_7 (by rw [mc_32]; exact tw_452) (Or.inl rfl) (by decide +kernel)
theorem dd_32_10 : decode (mi 32).2.1 10 = .ok (.ifCond .ne 7, 3) := by decide +kernel
theorem st_32_10 : Sd 32 10 3 (i_zne 17) := sd_if_ne dd_32_10 (by decide)
theorem dd_32_13 : decode (mi 32).2.1 13 = .ok (.iconst 1, 1) := by decide +kernel
theorem st_32_13 : Sd 32 13 1 (i_ic 1) := sd_iconst dd_32_13
theorem dd_32_14 : decode (mi 32).2.1 14 = .ok (.goto 4, 3) := by decide +kernel
theorem st_32_14 : Sd 32 14 3 (i_goto 18) := sd_goto dd_32_14 (by decide)
def bk_32_0 : Tr := sq (i_ic 1) (sq (i_zeq 17) (sq (i_ldR 0) (sq (i_gI 1 [30]) (sq (i_zne 17) (sq (i_ic 1) (i_goto 18))))))
theorem sb_32_0 : Sd 32 0 17 bk_32_0 := Sd.sq st_32_0 (Sd.sq st_32_3 (Sd.sq st_32_6 (Sd.sq st_32_7 (Sd.sq st_32_10 (Sd.sq st_32_13 (st_32_14))))))
theorem dd_32_17 : decode (mi 32).2.1 17 = .ok (.iconst 0, 1) := by decide +kernel
theorem st_32_17 : Sd 32 17 1 (i_ic 0) := sd_iconst dd_32_17
def bk_32_17 : Tr := sq (i_ic 0) (i_fall 18)
theorem sb_32_17 : Sd 32 17 1 bk_32_17 := Sd.sq st_32_17 (sd_fall rfl)
theorem dd_32_18 : decode (mi 32).2.1 18 = .ok (.ireturn, 1) := by decide +kernel
theorem st_32_18 : Sd 32 18 1 (i_rI 2) := sd_ireturn dd_32_18 (by decide) mr_32
def bk_32_18 : Tr := i_rI 2
theorem sb_32_18 : Sd 32 18 1 bk_32_18 := st_32_18
theorem dd_33_0 : decode (mi 33).2.1 0 = .ok (.iload_n 1, 1) := by decide +kernel
theorem st_33_0 : Sd 33 0 1 (i_ldI 1) := sd_iload_n (j := 1) dd_33_0 rfl
theorem dd_33_1 : decode (mi 33).2.1 1 = .ok (.aload_n 0, 1) := by decide +kernel
theorem st_33_1 : Sd 33 1 1 (i_ldR 0) := sd_aload_n (j := 0) dd_33_1 rfl
theorem dd_33_2 : decode (mi 33).2.1 2 = .ok (.arraylength, 1) := by decide +kernel
theorem st_33_2 : Sd 33 2 1 (i_len) := sd_len dd_33_2
theorem dd_33_3 : decode (mi 33).2.1 3 = .ok (.invokestatic 9, 3) := by decide +kernel
theorem st_33_3 : Sd 33 3 3 (i_cS 21 2 2 []) := sd_static dd_33_3 (by rw [mc_33, mn_21]; exact tw_933) (by rw [mn_21]; exact tw_530) mt_21 pm_21 ml_33 (HsOk.nil (by decide +kernel))
theorem dd_33_6 : decode (mi 33).2.1 6 = .ok (.aload_n 0, 1) := by decide +kernel
theorem st_33_6 : Sd 33 6 1 (i_ldR 0) := sd_aload_n (j := 0) dd_33_6 rfl
theorem dd_33_7 : decode (mi 33).2.1 7 = .ok (.iload_n 1, 1) := by decide +kernel
theorem st_33_7 : Sd 33 7 1 (i_ldI 1) := sd_iload_n (j := 1) dd_33_7 rfl
theorem dd_33_8 : decode (mi 33).2.1 8 = .ok (.baload, 1) := by decide +kernel
theorem st_33_8 : Sd 33 8 1 (i_aI [23, 43]) := sd_baload dd_33_8 (by decide)
theorem dd_33_9 : decode (mi 33).2.1 9 = .ok (.sipush 255, 3) := by decide +kernel
theorem st_33_9 : Sd 33 9 3 (i_ic 255) := sd_sipush dd_33_9 (by decide)
theorem dd_33_12 : decode (mi 33).2.1 12 = .ok (.iand, 1) := by decide +kernel
theorem st_33_12 : Sd 33 12 1 (i_iand) := sd_iand dd_33_12
theorem dd_33_13 : decode (mi 33).2.1 13 = .ok (.i2c, 1) := by decide +kernel
theorem st_33_13 : Sd 33 13 1 (i_i2c) := sd_i2c dd_33_13
theorem dd_33_14 : decode (mi 33).2.1 14 = .ok (.ireturn, 1) := by decide +kernel
theorem st_33_14 : Sd 33 14 1 (i_rI 1) := sd_ireturn dd_33_14 (by decide) mr_33
def bk_33_0 : Tr := sq (i_ldI 1) (sq (i_ldR 0) (sq (i_len) (sq (i_cS 21 2 2 []) (sq (i_ldR 0) (sq (i_ldI 1) (sq (i_aI [23, 43]) (sq (i_ic 255) (sq (i_iand) (sq (i_i2c) (i_rI 1))))))))))
theorem sb_33_0 : Sd 33 0 15 bk_33_0 := Sd.sq st_33_0 (Sd.sq st_33_1 (Sd.sq st_33_2 (Sd.sq st_33_3 (Sd.sq st_33_6 (Sd.sq st_33_7 (Sd.sq st_33_8 (Sd.sq st_33_9 (Sd.sq st_33_12 (Sd.sq st_33_13 (st_33_14))))))))))
