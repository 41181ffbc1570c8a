theorem dd_128_0 : decode (mi 128).2.1 0 = .ok (.aload_n 0, 1) := by decide +kernel
theorem st_128_0 : Sd 128 0 1 (i_ldR 0) := sd_aload_n (j := 0) dd_128_0 rfl
theorem dd_128_1 : decode (mi 128).2.1 1 = .ok (.invokespecial 1, 3) := by decide +kernel
theorem st_128_1 : Sd 128 1 3 (i_obj 1) := sd_obj dd_128_1 (by rw [mc_128]; exact tw_1259) ob_1 ob_2 ml_128
theorem dd_128_4 : decode (mi 128).2.1 4 = .ok (.aload_n 0, 1) := by decide +kernel
theorem st_128_4 : Sd 128 4 1 (i_ldR 0) := sd_aload_n (j := 0) dd_128_4 rfl
theorem dd_128_5 : decode (mi 128).2.1 5 = .ok (.sipush 3712, 3) := by decide +kernel
theorem st_128_5 : Sd 128 5 3 (i_ic 3712) := sd_sipush dd_128_5 (by decide)
theorem dd_128_8 : decode (mi 128).2.1 8 = .ok (.newarray .char, 2) := by decide +kernel
theorem st_128_8 : Sd 128 8 2 (i_na 21) := sd_newarray dd_128_8 (by exact tw_1366) rfl (by decide)
theorem dd_128_10 : decode (mi 128).2.1 10 = .ok (.putfield 7, 3) := by decide +kernel
theorem st_128_10 : Sd 128 10 3 (i_pR 1 [2]) := sd_pR (ref := "ContractDeskModel") (decl := "ContractDeskModel") (name := "all") (desc := "[C") dd_128_10 (by rw [mc_128]; exact tw_1261) (Or.inl rfl) (by decide +kernel) (by decide +kernel)
theorem dd_128_13 : decode (mi 128).2.1 13 = .ok (.aload_n 0, 1) := by decide +kernel
theorem st_128_13 : Sd 128 13 1 (i_ldR 0) := sd_aload_n (j := 0) dd_128_13 rfl
theorem dd_128_14 : decode (mi 128).2.1 14 = .ok (.iconst 4, 1) := by decide +kernel
theorem st_128_14 : Sd 128 14 1 (i_ic 4) := sd_iconst dd_128_14
theorem dd_128_15 : decode (mi 128).2.1 15 = .ok (.newarray .boolean, 2) := by decide +kernel
theorem st_128_15 : Sd 128 15 2 (i_na 22) := sd_newarray dd_128_15 (by exact tw_1367) rfl (by decide)
theorem dd_128_17 : decode (mi 128).2.1 17 = .ok (.putfield 13, 3) := by decide +kernel
theorem st_128_17 : Sd 128 17 3 (i_pR 4 [2]) := sd_pR (ref := "ContractDeskModel") (decl := "ContractDeskModel") (name := "strict") (desc := "[Z") dd_128_17 (by rw [mc_128]; exact tw_1264) (Or.inl rfl) (by decide +kernel) (by decide +kernel)
theorem dd_128_20 : decode (mi 128).2.1 20 = .ok (.aload_n 0, 1) := by decide +kernel
theorem st_128_20 : Sd 128 20 1 (i_ldR 0) := sd_aload_n (j := 0) dd_128_20 rfl
theorem dd_128_21 : decode (mi 128).2.1 21 = .ok (.iconst 4, 1) := by decide +kernel
theorem st_128_21 : Sd 128 21 1 (i_ic 4) := sd_iconst dd_128_21
theorem dd_128_22 : decode (mi 128).2.1 22 = .ok (.newarray .int, 2) := by decide +kernel
theorem st_128_22 : Sd 128 22 2 (i_na 20) := sd_newarray dd_128_22 (by exact tw_506) rfl (by decide)
theorem dd_128_24 : decode (mi 128).2.1 24 = .ok (.putfield 17, 3) := by decide +kernel
theorem st_128_24 : Sd 128 24 3 (i_pR 5 [2]) := sd_pR (ref := "ContractDeskModel") (decl := "ContractDeskModel") (name := "bodyLength") (desc := "[I") dd_128_24 (by rw [mc_128]; exact tw_1265) (Or.inl rfl) (by decide +kernel) (by decide +kernel)
theorem dd_128_27 : decode (mi 128).2.1 27 = .ok (.aload_n 0, 1) := by decide +kernel
theorem st_128_27 : Sd 128 27 1 (i_ldR 0) := sd_aload_n (j := 0) dd_128_27 rfl
theorem dd_128_28 : decode (mi 128).2.1 28 = .ok (.iconst 4, 1) := by decide +kernel
theorem st_128_28 : Sd 128 28 1 (i_ic 4) := sd_iconst dd_128_28
theorem dd_128_29 : decode (mi 128).2.1 29 = .ok (.newarray .int, 2) := by decide +kernel
theorem st_128_29 : Sd 128 29 2 (i_na 20) := sd_newarray dd_128_29 (by exact tw_506) rfl (by decide)
theorem dd_128_31 : decode (mi 128).2.1 31 = .ok (.putfield 21, 3) := by decide +kernel
theorem st_128_31 : Sd 128 31 3 (i_pR 6 [2]) := sd_pR (ref := "ContractDeskModel") (decl := "ContractDeskModel") (name := "rules") (desc := "[I") dd_128_31 (by rw [mc_128]; exact tw_1266) (Or.inl rfl) (by decide +kernel) (by decide +kernel)
theorem dd_128_34 : decode (mi 128).2.1 34 = .ok (.aload_n 0, 1) := by decide +kernel
theorem st_128_34 : Sd 128 34 1 (i_ldR 0) := sd_aload_n (j := 0) dd_128_34 rfl
theorem dd_128_35 : decode (mi 128).2.1 35 = .ok (.bipush 32, 2) := by decide +kernel
theorem st_128_35 : Sd 128 35 2 (i_ic 32) := sd_bipush dd_128_35 (by decide)
theorem dd_128_37 : decode (mi 128).2.1 37 = .ok (.newarray .int, 2) := by decide +kernel
theorem st_128_37 : Sd 128 37 2 (i_na 20) := sd_newarray dd_128_37 (by exact tw_506) rfl (by decide)
theorem dd_128_39 : decode (mi 128).2.1 39 = .ok (.putfield 24, 3) := by decide +kernel
theorem st_128_39 : Sd 128 39 3 (i_pR 7 [2]) := sd_pR (ref := "ContractDeskModel") (decl := "ContractDeskModel") (name := "ruleLength") (desc := "[I") dd_128_39 (by rw [mc_128]; exact tw_1267) (Or.inl rfl) (by decide +kernel) (by decide +kernel)
theorem dd_128_42 : decode (mi 128).2.1 42 = .ok (.aload_n 0, 1) := by decide +kernel
theorem st_128_42 : Sd 128 42 1 (i_ldR 0) := sd_aload_n (j := 0) dd_128_42 rfl
theorem dd_128_43 : decode (mi 128).2.1 43 = .ok (.iconst 4, 1) := by decide +kernel
theorem st_128_43 : Sd 128 43 1 (i_ic 4) := sd_iconst dd_128_43
theorem dd_128_44 : decode (mi 128).2.1 44 = .ok (.newarray .int, 2) := by decide +kernel
theorem st_128_44 : Sd 128 44 2 (i_na 20) := sd_newarray dd_128_44 (by exact tw_506) rfl (by decide)
theorem dd_128_46 : decode (mi 128).2.1 46 = .ok (.putfield 27, 3) := by decide +kernel
theorem st_128_46 : Sd 128 46 3 (i_pR 8 [2]) := sd_pR (ref := "ContractDeskModel") (decl := "ContractDeskModel") (name := "needCount") (desc := "[I") dd_128_46 (by rw [mc_128]; exact tw_1268) (Or.inl rfl) (by decide +kernel) (by decide +kernel)
theorem dd_128_49 : decode (mi 128).2.1 49 = .ok (.aload_n 0, 1) := by decide +kernel
theorem st_128_49 : Sd 128 49 1 (i_ldR 0) := sd_aload_n (j := 0) dd_128_49 rfl
theorem dd_128_50 : decode (mi 128).2.1 50 = .ok (.bipush 12, 2) := by decide +kernel
theorem st_128_50 : Sd 128 50 2 (i_ic 12) := sd_bipush dd_128_50 (by decide)
theorem dd_128_52 : decode (mi 128).2.1 52 = .ok (.newarray .int, 2) := by decide +kernel
theorem st_128_52 : Sd 128 52 2 (i_na 20) := sd_newarray dd_128_52 (by exact tw_506) rfl (by decide)
theorem dd_128_54 : decode (mi 128).2.1 54 = .ok (.putfield 30, 3) := by decide +kernel
theorem st_128_54 : Sd 128 54 3 (i_pR 9 [2]) := sd_pR (ref := "ContractDeskModel") (decl := "ContractDeskModel") (name := "need") (desc := "[I") dd_128_54 (by rw [mc_128]; exact tw_1269) (Or.inl rfl) (by decide +kernel) (by decide +kernel)
theorem dd_128_57 : decode (mi 128).2.1 57 = .ok (.aload_n 0, 1) := by decide +kernel
theorem st_128_57 : Sd 128 57 1 (i_ldR 0) := sd_aload_n (j := 0) dd_128_57 rfl
theorem dd_128_58 : decode (mi 128).2.1 58 = .ok (.bipush 6, 2) := by decide +kernel
theorem st_128_58 : Sd 128 58 2 (i_ic 6) := sd_bipush dd_128_58 (by decide)
theorem dd_128_60 : decode (mi 128).2.1 60 = .ok (.newarray .int, 2) := by decide +kernel
theorem st_128_60 : Sd 128 60 2 (i_na 20) := sd_newarray dd_128_60 (by exact tw_506) rfl (by decide)
theorem dd_128_62 : decode (mi 128).2.1 62 = .ok (.putfield 33, 3) := by decide +kernel
theorem st_128_62 : Sd 128 62 3 (i_pR 10 [2]) := sd_pR (ref := "ContractDeskModel") (decl := "ContractDeskModel") (name := "handlers") (desc := "[I") dd_128_62 (by rw [mc_128]; exact tw_1270) (Or.inl rfl) (by decide +kernel) (by decide +kernel)
theorem dd_128_65 : decode (mi 128).2.1 65 = .ok (.aload_n 0, 1) := by decide +kernel
theorem st_128_65 : Sd 128 65 1 (i_ldR 0) := sd_aload_n (j := 0) dd_128_65 rfl
theorem dd_128_66 : decode (mi 128).2.1 66 = .ok (.sipush 3100, 3) := by decide +kernel
theorem st_128_66 : Sd 128 66 3 (i_ic 3100) := sd_sipush dd_128_66 (by decide)
theorem dd_128_69 : decode (mi 128).2.1 69 = .ok (.newarray .int, 2) := by decide +kernel
theorem st_128_69 : Sd 128 69 2 (i_na 20) := sd_newarray dd_128_69 (by exact tw_506) rfl (by decide)
theorem dd_128_71 : decode (mi 128).2.1 71 = .ok (.putfield 36, 3) := by decide +kernel
theorem st_128_71 : Sd 128 71 3 (i_pR 12 [2]) := sd_pR (ref := "ContractDeskModel") (decl := "ContractDeskModel") (name := "eventRow") (desc := "[I") dd_128_71 (by rw [mc_128]; exact tw_1272) (Or.inl rfl) (by decide +kernel) (by decide +kernel)
theorem dd_128_74 : decode (mi 128).2.1 74 = .ok (.aload_n 0, 1) := by decide +kernel
theorem st_128_74 : Sd 128 74 1 (i_ldR 0) := sd_aload_n (j := 0) dd_128_74 rfl
theorem dd_128_75 : decode (mi 128).2.1 75 = .ok (.bipush 30, 2) := by decide +kernel
theorem st_128_75 : Sd 128 75 2 (i_ic 30) := sd_bipush dd_128_75 (by decide)
theorem dd_128_77 : decode (mi 128).2.1 77 = .ok (.newarray .int, 2) := by decide +kernel
theorem st_128_77 : Sd 128 77 2 (i_na 20) := sd_newarray dd_128_77 (by exact tw_506) rfl (by decide)
theorem dd_128_79 : decode (mi 128).2.1 79 = .ok (.putfield 39, 3) := by decide +kernel
theorem st_128_79 : Sd 128 79 3 (i_pR 14 [2]) := sd_pR (ref := "ContractDeskModel") (decl := "ContractDeskModel") (name := "kinds") (desc := "[I") dd_128_79 (by rw [mc_128]; exact tw_1274) (Or.inl rfl) (by decide +kernel) (by decide +kernel)
theorem dd_128_82 : decode (mi 128).2.1 82 = .ok (.aload_n 0, 1) := by decide +kernel
theorem st_128_82 : Sd 128 82 1 (i_ldR 0) := sd_aload_n (j := 0) dd_128_82 rfl
theorem dd_128_83 : decode (mi 128).2.1 83 = .ok (.bipush 30, 2) := by decide +kernel
theorem st_128_83 : Sd 128 83 2 (i_ic 30) := sd_bipush dd_128_83 (by decide)
theorem dd_128_85 : decode (mi 128).2.1 85 = .ok (.newarray .int, 2) := by decide +kernel
theorem st_128_85 : Sd 128 85 2 (i_na 20) := sd_newarray dd_128_85 (by exact tw_506) rfl (by decide)
theorem dd_128_87 : decode (mi 128).2.1 87 = .ok (.putfield 42, 3) := by decide +kernel
theorem st_128_87 : Sd 128 87 3 (i_pR 15 [2]) := sd_pR (ref := "ContractDeskModel") (decl := "ContractDeskModel") (name := "letters") (desc := "[I") dd_128_87 (by rw [mc_128]; exact tw_1275) (Or.inl rfl) (by decide +kernel) (by decide +kernel)
theorem dd_128_90 : decode (mi 128).2.1 90 = .ok (.aload_n 0, 1) := by decide +kernel
theorem st_128_90 : Sd 128 90 1 (i_ldR 0) := sd_aload_n (j := 0) dd_128_90 rfl
theorem dd_128_91 : decode (mi 128).2.1 91 = .ok (.sipush 720, 3) := by decide +kernel
theorem st_128_91 : Sd 128 91 3 (i_ic 720) := sd_sipush dd_128_91 (by decide)
theorem dd_128_94 : decode (mi 128).2.1 94 = .ok (.newarray .char, 2) := by decide +kernel
theorem st_128_94 : Sd 128 94 2 (i_na 21) := sd_newarray dd_128_94 (by exact tw_1366) rfl (by decide)
theorem dd_128_96 : decode (mi 128).2.1 96 = .ok (.putfield 45, 3) := by decide +kernel
theorem st_128_96 : Sd 128 96 3 (i_pR 16 [2]) := sd_pR (ref := "ContractDeskModel") (decl := "ContractDeskModel") (name := "places") (desc := "[C") dd_128_96 (by rw [mc_128]; exact tw_1276) (Or.inl rfl) (by decide +kernel) (by decide +kernel)
theorem dd_128_99 : decode (mi 128).2.1 99 = .ok (.aload_n 0, 1) := by decide +kernel
theorem st_128_99 : Sd 128 99 1 (i_ldR 0) := sd_aload_n (j := 0) dd_128_99 rfl
theorem dd_128_100 : decode (mi 128).2.1 100 = .ok (.bipush 6, 2) := by decide +kernel
theorem st_128_100 : Sd 128 100 2 (i_ic 6) := sd_bipush dd_128_100 (by decide)
theorem dd_128_102 : decode (mi 128).2.1 102 = .ok (.newarray .char, 2) := by decide +kernel
theorem st_128_102 : Sd 128 102 2 (i_na 21) := sd_newarray dd_128_102 (by exact tw_1366) rfl (by decide)
theorem dd_128_104 : decode (mi 128).2.1 104 = .ok (.putfield 48, 3) := by decide +kernel
theorem st_128_104 : Sd 128 104 3 (i_pR 17 [2]) := sd_pR (ref := "ContractDeskModel") (decl := "ContractDeskModel") (name := "open") (desc := "[C") dd_128_104 (by rw [mc_128]; exact tw_1277) (Or.inl rfl) (by decide +kernel) (by decide +kernel)
theorem dd_128_107 : decode (mi 128).2.1 107 = .ok (.aload_n 0, 1) := by decide +kernel
theorem st_128_107 : Sd 128 107 1 (i_ldR 0) := sd_aload_n (j := 0) dd_128_107 rfl
theorem dd_128_108 : decode (mi 128).2.1 108 = .ok (.bipush 6, 2) := by decide +kernel
theorem st_128_108 : Sd 128 108 2 (i_ic 6) := sd_bipush dd_128_108 (by decide)
theorem dd_128_110 : decode (mi 128).2.1 110 = .ok (.newarray .int, 2) := by decide +kernel
theorem st_128_110 : Sd 128 110 2 (i_na 20) := sd_newarray dd_128_110 (by exact tw_506) rfl (by decide)
theorem dd_128_112 : decode (mi 128).2.1 112 = .ok (.putfield 51, 3) := by decide +kernel
theorem st_128_112 : Sd 128 112 3 (i_pR 18 [2]) := sd_pR (ref := "ContractDeskModel") (decl := "ContractDeskModel") (name := "keys") (desc := "[I") dd_128_112 (by rw [mc_128]; exact tw_1278) (Or.inl rfl) (by decide +kernel) (by decide +kernel)
theorem dd_128_115 : decode (mi 128).2.1 115 = .ok (.aload_n 0, 1) := by decide +kernel
theorem st_128_115 : Sd 128 115 1 (i_ldR 0) := sd_aload_n (j := 0) dd_128_115 rfl
theorem dd_128_116 : decode (mi 128).2.1 116 = .ok (.sipush 768, 3) := by decide +kernel
theorem st_128_116 : Sd 128 116 3 (i_ic 768) := sd_sipush dd_128_116 (by decide)
theorem dd_128_119 : decode (mi 128).2.1 119 = .ok (.newarray .int, 2) := by decide +kernel
theorem st_128_119 : Sd 128 119 2 (i_na 20) := sd_newarray dd_128_119 (by exact tw_506) rfl (by decide)
theorem dd_128_121 : decode (mi 128).2.1 121 = .ok (.putfield 54, 3) := by decide +kernel
theorem st_128_121 : Sd 128 121 3 (i_pR 20 [2]) := sd_pR (ref := "ContractDeskModel") (decl := "ContractDeskModel") (name := "around") (desc := "[I") dd_128_121 (by rw [mc_128]; exact tw_1280) (Or.inl rfl) (by decide +kernel) (by decide +kernel)
theorem dd_128_124 : decode (mi 128).2.1 124 = .ok (.aload_n 0, 1) := by decide +kernel
theorem st_128_124 : Sd 128 124 1 (i_ldR 0) := sd_aload_n (j := 0) dd_128_124 rfl
theorem dd_128_125 : decode (mi 128).2.1 125 = .ok (.sipush 768, 3) := by decide +kernel
theorem st_128_125 : Sd 128 125 3 (i_ic 768) := sd_sipush dd_128_125 (by decide)
theorem dd_128_128 : decode (mi 128).2.1 128 = .ok (.newarray .int, 2) := by decide +kernel
theorem st_128_128 : Sd 128 128 2 (i_na 20) := sd_newarray dd_128_128 (by exact tw_506) rfl (by decide)
theorem dd_128_130 : decode (mi 128).2.1 130 = .ok (.putfield 57, 3) := by decide +kernel
theorem st_128_130 : Sd 128 130 3 (i_pR 21 [2]) := sd_pR (ref := "ContractDeskModel") (decl := "ContractDeskModel") (name := "step") (desc := "[I") dd_128_130 (by rw [mc_128]; exact tw_1281) (Or.inl rfl) (by decide +kernel) (by decide +kernel)
theorem dd_128_133 : decode (mi 128).2.1 133 = .ok (.aload_n 0, 1) := by decide +kernel
theorem st_128_133 : Sd 128 133 1 (i_ldR 0) := sd_aload_n (j := 0) dd_128_133 rfl
theorem dd_128_134 : decode (mi 128).2.1 134 = .ok (.sipush 256, 3) := by decide +kernel
theorem st_128_134 : Sd 128 134 3 (i_ic 256) := sd_sipush dd_128_134 (by decide)
theorem dd_128_137 : decode (mi 128).2.1 137 = .ok (.newarray .int, 2) := by decide +kernel
theorem st_128_137 : Sd 128 137 2 (i_na 20) := sd_newarray dd_128_137 (by exact tw_506) rfl (by decide)
theorem dd_128_139 : decode (mi 128).2.1 139 = .ok (.putfield 60, 3) := by decide +kernel
theorem st_128_139 : Sd 128 139 3 (i_pR 23 [2]) := sd_pR (ref := "ContractDeskModel") (decl := "ContractDeskModel") (name := "job") (desc := "[I") dd_128_139 (by rw [mc_128]; exact tw_1283) (Or.inl rfl) (by decide +kernel) (by decide +kernel)
theorem dd_128_142 : decode (mi 128).2.1 142 = .ok (.aload_n 0, 1) := by decide +kernel
theorem st_128_142 : Sd 128 142 1 (i_ldR 0) := sd_aload_n (j := 0) dd_128_142 rfl
theorem dd_128_143 : decode (mi 128).2.1 143 = .ok (.sipush 256, 3) := by decide +kernel
theorem st_128_143 : Sd 128 143 3 (i_ic 256) := sd_sipush dd_128_143 (by decide)
theorem dd_128_146 : decode (mi 128).2.1 146 = .ok (.newarray .int, 2) := by decide +kernel
theorem st_128_146 : Sd 128 146 2 (i_na 20) := sd_newarray dd_128_146 (by exact tw_506) rfl (by decide)
theorem dd_128_148 : decode (mi 128).2.1 148 = .ok (.putfield 63, 3) := by decide +kernel
theorem st_128_148 : Sd 128 148 3 (i_pR 24 [2]) := sd_pR (ref := "ContractDeskModel") (decl := "ContractDeskModel") (name := "left") (desc := "[I") dd_128_148 (by rw [mc_128]; exact tw_1284) (Or.inl rfl) (by decide +kernel) (by decide +kernel)
theorem dd_128_151 : decode (mi 128).2.1 151 = .ok (.aload_n 0, 1) := by decide +kernel
theorem st_128_151 : Sd 128 151 1 (i_ldR 0) := sd_aload_n (j := 0) dd_128_151 rfl
theorem dd_128_152 : decode (mi 128).2.1 152 = .ok (.sipush 256, 3) := by decide +kernel
theorem st_128_152 : Sd 128 152 3 (i_ic 256) := sd_sipush dd_128_152 (by decide)
theorem dd_128_155 : decode (mi 128).2.1 155 = .ok (.newarray .int, 2) := by decide +kernel
theorem st_128_155 : Sd 128 155 2 (i_na 20) := sd_newarray dd_128_155 (by exact tw_506) rfl (by decide)
theorem dd_128_157 : decode (mi 128).2.1 157 = .ok (.putfield 66, 3) := by decide +kernel
theorem st_128_157 : Sd 128 157 3 (i_pR 25 [2]) := sd_pR (ref := "ContractDeskModel") (decl := "ContractDeskModel") (name := "right") (desc := "[I") dd_128_157 (by rw [mc_128]; exact tw_1285) (Or.inl rfl) (by decide +kernel) (by decide +kernel)
theorem dd_128_160 : decode (mi 128).2.1 160 = .ok (.aload_n 0, 1) := by decide +kernel
theorem st_128_160 : Sd 128 160 1 (i_ldR 0) := sd_aload_n (j := 0) dd_128_160 rfl
theorem dd_128_161 : decode (mi 128).2.1 161 = .ok (.sipush 256, 3) := by decide +kernel
theorem st_128_161 : Sd 128 161 3 (i_ic 256) := sd_sipush dd_128_161 (by decide)
theorem dd_128_164 : decode (mi 128).2.1 164 = .ok (.newarray .int, 2) := by decide +kernel
theorem st_128_164 : Sd 128 164 2 (i_na 20) := sd_newarray dd_128_164 (by exact tw_506) rfl (by decide)
theorem dd_128_166 : decode (mi 128).2.1 166 = .ok (.putfield 69, 3) := by decide +kernel
theorem st_128_166 : Sd 128 166 3 (i_pR 26 [2]) := sd_pR (ref := "ContractDeskModel") (decl := "ContractDeskModel") (name := "spot") (desc := "[I") dd_128_166 (by rw [mc_128]; exact tw_1286) (Or.inl rfl) (by decide +kernel) (by decide +kernel)
theorem dd_128_169 : decode (mi 128).2.1 169 = .ok (.aload_n 0, 1) := by decide +kernel
theorem st_128_169 : Sd 128 169 1 (i_ldR 0) := sd_aload_n (j := 0) dd_128_169 rfl
theorem dd_128_170 : decode (mi 128).2.1 170 = .ok (.bipush 64, 2) := by decide +kernel
theorem st_128_170 : Sd 128 170 2 (i_ic 64) := sd_bipush dd_128_170 (by decide)
theorem dd_128_172 : decode (mi 128).2.1 172 = .ok (.newarray .int, 2) := by decide +kernel
theorem st_128_172 : Sd 128 172 2 (i_na 20) := sd_newarray dd_128_172 (by exact tw_506) rfl (by decide)
theorem dd_128_174 : decode (mi 128).2.1 174 = .ok (.putfield 72, 3) := by decide +kernel
theorem st_128_174 : Sd 128 174 3 (i_pR 28 [2]) := sd_pR (ref := "ContractDeskModel") (decl := "ContractDeskModel") (name := "stepRow") (desc := "[I") dd_128_174 (by rw [mc_128]; exact tw_1288) (Or.inl rfl) (by decide +kernel) (by decide +kernel)
theorem dd_128_177 : decode (mi 128).2.1 177 = .ok (.aload_n 0, 1) := by decide +kernel
theorem st_128_177 : Sd 128 177 1 (i_ldR 0) := sd_aload_n (j := 0) dd_128_177 rfl
theorem dd_128_178 : decode (mi 128).2.1 178 = .ok (.bipush 9, 2) := by decide +kernel
theorem st_128_178 : Sd 128 178 2 (i_ic 9) := sd_bipush dd_128_178 (by decide)
theorem dd_128_180 : decode (mi 128).2.1 180 = .ok (.newarray .boolean, 2) := by decide +kernel
theorem st_128_180 : Sd 128 180 2 (i_na 22) := sd_newarray dd_128_180 (by exact tw_1367) rfl (by decide)
theorem dd_128_182 : decode (mi 128).2.1 182 = .ok (.putfield 75, 3) := by decide +kernel
theorem st_128_182 : Sd 128 182 3 (i_pR 29 [2]) := sd_pR (ref := "ContractDeskModel") (decl := "ContractDeskModel") (name := "here") (desc := "[Z") dd_128_182 (by rw [mc_128]; exact tw_1289) (Or.inl rfl) (by decide +kernel) (by decide +kernel)
theorem dd_128_185 : decode (mi 128).2.1 185 = .ok (.aload_n 0, 1) := by decide +kernel
theorem st_128_185 : Sd 128 185 1 (i_ldR 0) := sd_aload_n (j := 0) dd_128_185 rfl
theorem dd_128_186 : decode (mi 128).2.1 186 = .ok (.bipush 9, 2) := by decide +kernel
theorem st_128_186 : Sd 128 186 2 (i_ic 9) := sd_bipush dd_128_186 (by decide)
theorem dd_128_188 : decode (mi 128).2.1 188 = .ok (.newarray .boolean, 2) := by decide +kernel
theorem st_128_188 : Sd 128 188 2 (i_na 22) := sd_newarray dd_128_188 (by exact tw_1367) rfl (by decide)
theorem dd_128_190 : decode (mi 128).2.1 190 = .ok (.putfield 78, 3) := by decide +kernel
theorem st_128_190 : Sd 128 190 3 (i_pR 30 [2]) := sd_pR (ref := "ContractDeskModel") (decl := "ContractDeskModel") (name := "there") (desc := "[Z") dd_128_190 (by rw [mc_128]; exact tw_1290) (Or.inl rfl) (by decide +kernel) (by decide +kernel)
theorem dd_128_193 : decode (mi 128).2.1 193 = .ok (.aload_n 0, 1) := by decide +kernel
theorem st_128_193 : Sd 128 193 1 (i_ldR 0) := sd_aload_n (j := 0) dd_128_193 rfl
theorem dd_128_194 : decode (mi 128).2.1 194 = .ok (.bipush 8, 2) := by decide +kernel
theorem st_128_194 : Sd 128 194 2 (i_ic 8) := sd_bipush dd_128_194 (by decide)
theorem dd_128_196 : decode (mi 128).2.1 196 = .ok (.newarray .char, 2) := by decide +kernel
theorem st_128_196 : Sd 128 196 2 (i_na 21) := sd_newarray dd_128_196 (by exact tw_1366) rfl (by decide)
theorem dd_128_198 : decode (mi 128).2.1 198 = .ok (.putfield 81, 3) := by decide +kernel
theorem st_128_198 : Sd 128 198 3 (i_pR 31 [2]) := sd_pR (ref := "ContractDeskModel") (decl := "ContractDeskModel") (name := "items") (desc := "[C") dd_128_198 (by rw [mc_128]; exact tw_1291) (Or.inl rfl) (by decide +kernel) (by decide +kernel)
theorem dd_128_201 : decode (mi 128).2.1 201 = .ok (.aload_n 0, 1) := by decide +kernel
theorem st_128_201 : Sd 128 201 1 (i_ldR 0) := sd_aload_n (j := 0) dd_128_201 rfl
theorem dd_128_202 : decode (mi 128).2.1 202 = .ok (.bipush 8, 2) := by decide +kernel
theorem st_128_202 : Sd 128 202 2 (i_ic 8) := sd_bipush dd_128_202 (by decide)
theorem dd_128_204 : decode (mi 128).2.1 204 = .ok (.newarray .char, 2) := by decide +kernel
theorem st_128_204 : Sd 128 204 2 (i_na 21) := sd_newarray dd_128_204 (by exact tw_1366) rfl (by decide)
theorem dd_128_206 : decode (mi 128).2.1 206 = .ok (.putfield 84, 3) := by decide +kernel
theorem st_128_206 : Sd 128 206 3 (i_pR 32 [2]) := sd_pR (ref := "ContractDeskModel") (decl := "ContractDeskModel") (name := "often") (desc := "[C") dd_128_206 (by rw [mc_128]; exact tw_1292) (Or.inl rfl) (by decide +kernel) (by decide +kernel)
theorem dd_128_209 : decode (mi 128).2.1 209 = .ok (.aload_n 0, 1) := by decide +kernel
theorem st_128_209 : Sd 128 209 1 (i_ldR 0) := sd_aload_n (j := 0) dd_128_209 rfl
theorem dd_128_210 : decode (mi 128).2.1 210 = .ok (.sipush 128, 3) := by decide +kernel
theorem st_128_210 : Sd 128 210 3 (i_ic 128) := sd_sipush dd_128_210 (by decide)
theorem dd_128_213 : decode (mi 128).2.1 213 = .ok (.newarray .int, 2) := by decide +kernel
theorem st_128_213 : Sd 128 213 2 (i_na 20) := sd_newarray dd_128_213 (by exact tw_506) rfl (by decide)
theorem dd_128_215 : decode (mi 128).2.1 215 = .ok (.putfield 87, 3) := by decide +kernel
theorem st_128_215 : Sd 128 215 3 (i_pR 33 [2]) := sd_pR (ref := "ContractDeskModel") (decl := "ContractDeskModel") (name := "one") (desc := "[I") dd_128_215 (by rw [mc_128]; exact tw_1293) (Or.inl rfl) (by decide +kernel) (by decide +kernel)
theorem dd_128_218 : decode (mi 128).2.1 218 = .ok (.aload_n 0, 1) := by decide +kernel
theorem st_128_218 : Sd 128 218 1 (i_ldR 0) := sd_aload_n (j := 0) dd_128_218 rfl
theorem dd_128_219 : decode (mi 128).2.1 219 = .ok (.sipush 128, 3) := by decide +kernel
theorem st_128_219 : Sd 128 219 3 (i_ic 128) := sd_sipush dd_128_219 (by decide)
theorem dd_128_222 : decode (mi 128).2.1 222 = .ok (.newarray .int, 2) := by decide +kernel
theorem st_128_222 : Sd 128 222 2 (i_na 20) := sd_newarray dd_128_222 (by exact tw_506) rfl (by decide)
theorem dd_128_224 : decode (mi 128).2.1 224 = .ok (.putfield 90, 3) := by decide +kernel
theorem st_128_224 : Sd 128 224 3 (i_pR 34 [2]) := sd_pR (ref := "ContractDeskModel") (decl := "ContractDeskModel") (name := "other") (desc := "[I") dd_128_224 (by rw [mc_128]; exact tw_1294) (Or.inl rfl) (by decide +kernel) (by decide +kernel)
theorem dd_128_227 : decode (mi 128).2.1 227 = .ok (.return_, 1) := by decide +kernel
theorem st_128_227 : Sd 128 227 1 (i_ret) := sd_ret dd_128_227 mr_128
def bk_128_0 : Tr := sq (i_ldR 0) (sq (i_obj 1) (sq (i_ldR 0) (sq (i_ic 3712) (sq (i_na 21) (sq (i_pR 1 [2]) (sq (i_ldR 0) (sq (i_ic 4) (sq (i_na 22) (sq (i_pR 4 [2]) (sq (i_ldR 0) (sq (i_ic 4) (sq (i_na 20) (sq (i_pR 5 [2]) (sq (i_ldR 0) (sq (i_ic 4) (sq (i_na 20) (sq (i_pR 6 [2]) (sq (i_ldR 0) (sq (i_ic 32) (sq (i_na 20) (sq (i_pR 7 [2]) (sq (i_ldR 0) (sq (i_ic 4) (sq (i_na 20) (sq (i_pR 8 [2]) (sq (i_ldR 0) (sq (i_ic 12) (sq (i_na 20) (sq (i_pR 9 [2]) (sq (i_ldR 0) (sq (i_ic 6) (sq (i_na 20) (sq (i_pR 10 [2]) (sq (i_ldR 0) (sq (i_ic 3100) (sq (i_na 20) (sq (i_pR 12 [2]) (sq (i_ldR 0) (sq (i_ic 30) (sq (i_na 20) (sq (i_pR 14 [2]) (sq (i_ldR 0) (sq (i_ic 30) (sq (i_na 20) (sq (i_pR 15 [2]) (sq (i_ldR 0) (sq (i_ic 720) (sq (i_na 21) (sq (i_pR 16 [2]) (sq (i_ldR 0) (sq (i_ic 6) (sq (i_na 21) (sq (i_pR 17 [2]) (sq (i_ldR 0) (sq (i_ic 6) (sq (i_na 20) (sq (i_pR 18 [2]) (sq (i_ldR 0) (sq (i_ic 768) (sq (i_na 20) (sq (i_pR 20 [2]) (sq (i_ldR 0) (sq (i_ic 768) (sq (i_na 20) (sq (i_pR 21 [2]) (sq (i_ldR 0) (sq (i_ic 256) (sq (i_na 20) (sq (i_pR 23 [2]) (sq (i_ldR 0) (sq (i_ic 256) (sq (i_na 20) (sq (i_pR 24 [2]) (sq (i_ldR 0) (sq (i_ic 256) (sq (i_na 20) (sq (i_pR 25 [2]) (sq (i_ldR 0) (sq (i_ic 256) (sq (i_na 20) (sq (i_pR 26 [2]) (sq (i_ldR 0) (sq (i_ic 64) (sq (i_na 20) (sq (i_pR 28 [2]) (sq (i_ldR 0) (sq (i_ic 9) (sq (i_na 22) (sq (i_pR 29 [2]) (sq (i_ldR 0) (sq (i_ic 9) (sq (i_na 22) (sq (i_pR 30 [2]) (sq (i_ldR 0) (sq (i_ic 8) (sq (i_na 21) (sq (i_pR 31 [2]) (sq (i_ldR 0) (sq (i_ic 8) (sq (i_na 21) (sq (i_pR 32 [2]) (sq (i_ldR 0) (sq (i_ic 128) (sq (i_na 20) (sq (i_pR 33 [2]) (sq (i_ldR 0) (sq (i_ic 128) (sq (i_na 20) (sq (i_pR 34 [2]) (i_ret))))))))))))))))))))))))))))))))))))))))))))))))))))))))))))))))))))))))))))))))))))))))))))))))))))))))))))))
theorem sb_128_0 : Sd 128 0 228 bk_128_0 := Sd.sq st_128_0 (Sd.sq st_128_1 (Sd.sq st_128_4 (Sd.sq st_128_5 (Sd.sq st_128_8 (Sd.sq st_128_10 (Sd.sq st_128_13 (Sd.sq st_128_14 (Sd.sq st_128_15 (Sd.sq st_128_17 (Sd.sq st_128_20 (Sd.sq st_128_21 (Sd.sq st_128_22 (Sd.sq st_128_24 (Sd.sq st_128_27 (Sd.sq st_128_28 (Sd.sq st_128_29 (Sd.sq st_128_31 (Sd.sq st_128_34 (Sd.sq st_128_35 (Sd.sq st_128_37 (Sd.sq st_128_39 (Sd.sq st_128_42 (Sd.sq st_128_43 (Sd.sq st_128_44 (Sd.sq st_128_46 (Sd.sq st_128_49 (Sd.sq st_128_50 (Sd.sq st_128_52 (Sd.sq st_128_54 (Sd.sq st_128_57 (Sd.sq st_128_58 (Sd.sq st_128_60 (Sd.sq st_128_62 (Sd.sq st_128_65 (Sd.sq st_128_66 (Sd.sq st_128_69 (Sd.sq st_128_71 (Sd.sq st_128_74 (Sd.sq st_128_75 (Sd.sq st_128_77 (Sd.sq st_128_79 (Sd.sq st_128_82 (Sd.sq st_128_83 (Sd.sq st_128_85 (Sd.sq st_128_87 (Sd.sq st_128_90 (Sd.sq st_128_91 (Sd.sq st_128_94 (Sd.sq st_128_96 (Sd.sq st_128_99 (Sd.sq st_128_100 (Sd.sq st_128_102 (Sd.sq st_128_104 (Sd.sq st_128_107 (Sd.sq st_128_108 (Sd.sq st_128_110 (Sd.sq st_128_112 (Sd.sq st_128_115 (Sd.sq st_128_116 (Sd.sq st_128_119 (Sd.sq st_128_121 (Sd.sq st_128_124 (Sd.sq st_128_125 (Sd.sq st_128_128 (Sd.sq st_128_130 (Sd.sq st_128_133 (Sd.sq st_128_134 (Sd.sq st_128_137 (Sd.sq st_128_139 (Sd.sq st_128_142 (Sd.sq st_128_143 (Sd.sq st_128_146 (Sd.sq st_128_148 (Sd.sq st_128_151 (Sd.sq st_128_152 (Sd.sq st_128_155 (Sd.sq st_128_157 (Sd.sq st_128_160 (Sd.sq st_128_161 (Sd.sq st_128_164 (Sd.sq st_128_166 (Sd.sq st_128_169 (Sd.sq st_128_170 (Sd.sq st_128_172 (Sd.sq st_128_174 (Sd.sq st_128_177 (Sd.sq st_128_178 (Sd.sq st_128_180 (Sd.sq st_128_182 (Sd.sq st_128_185 (Sd.sq st_128_186 (Sd.sq st_128_188 (Sd.sq st_128_190 (Sd.sq st_128_193 (Sd.sq st_128_194 (Sd.sq st_128_196 (Sd.sq st_128_198 (Sd.sq st_128_201 (Sd.sq st_128_202 (Sd.sq st_128_204 (Sd.sq st_128_206 (Sd.sq st_128_209 (Sd.sq st_128_210 (Sd.sq st_128_213 (Sd.sq st_128_215 (Sd.sq st_128_218 (Sd.sq st_128_219 (Sd.sq st_128_222 (Sd.sq st_128_224 (st_128_227))))))))))))))))))))))))))))))))))))))))))))))))))))))))))))))))))))))))))))))))))))))))))))))))))))))))))))))
theorem dd_129_0 : decode (mi 129).2.1 0 = .ok (.iload_n 1, 1) := by decide +kernel
theorem st_129_0 : Sd 129 0 1 (i_ldI 1) := sd_iload_n (j := 1) dd_129_0 rfl
theorem dd_129_1 : decode (mi 129).2.1 1 = .ok (.sipush 400, 3) := by decide +kernel
theorem st_129_1 : Sd 129 1 3 (i_ic 400) := sd_sipush dd_129_1 (by decide)
theorem dd_129_4 : decode (mi 129).2.1 4 = .ok (.if_icmp .lt 24, 3) := by decide +kernel
theorem st_129_4 : Sd 129 4 3 (i_clt 28) := sd_icmp_lt dd_129_4 (by decide)
theorem dd_129_7 : decode (mi 129).2.1 7 = .ok (.iload_n 1, 1) := by decide +kernel
theorem st_129_7 : Sd 129 7 1 (i_ldI 1) := sd_iload_n (j := 1) dd_129_7 rfl
theorem dd_129_8 : decode (mi 129).2.1 8 = .ok (.sipush 400, 3) := by decide +kernel
theorem st_129_8 : Sd 129 8 3 (i_ic 400) := sd_sipush dd_129_8 (by decide)
theorem dd_129_11 : decode (mi 129).2.1 11 = .ok (.aload_n 0, 1) := by decide +kernel
theorem st_129_11 : Sd 129 11 1 (i_ldR 0) := sd_aload_n (j := 0) dd_129_11 rfl
theorem dd_129_12 : decode (mi 129).2.1 12 = .ok (.getfield 97, 3) := by decide +kernel
theorem st_129_12 : Sd 129 12 3 (i_gI 2 [2]) := sd_gI (ref := "ContractDeskModel") (decl := "ContractDeskModel") (name := "typed") (desc := "I") dd_129_12 (by rw [mc_129]; exact tw_1262) (Or.inl rfl) (by decide +kernel)
theorem dd_129_15 : decode (mi 129).2.1 15 = .ok (.iadd, 1) := by decide +kernel
theorem st_129_15 : Sd 129 15 1 (i_iadd) := sd_iadd dd_129_15
theorem dd_129_16 : decode (mi 129).2.1 16 = .ok (.if_icmp .ge 12, 3) := by decide +kernel
theorem st_129_16 : Sd 129 16 3 (i_cge 28) := sd_icmp_ge dd_129_16 (by decide)
theorem dd_129_19 : decode (mi 129).2.1 19 = .ok (.aload_n 0, 1) := by decide +kernel
theorem st_129_19 : Sd 129 19 1 (i_ldR 0) := sd_aload_n (j := 0) dd_129_19 rfl
theorem dd_129_20 : decode (mi 129).2.1 20 = .ok (.getfield 7, 3) := by decide +kernel
theorem st_129_20 : Sd 129 20 3 (i_gR 1 [2]) := sd_gR (ref := "ContractDeskModel") (decl := "ContractDeskModel") (name := "all") (desc := "[C") dd_129_20 (by rw [mc_129]; exact tw_1261) (Or.inl rfl) (by decide +kernel)
theorem dd_129_23 : decode (mi 129).2.1 23 = .ok (.iload_n 1, 1) := by decide +kernel
theorem st_129_23 : Sd 129 23 1 (i_ldI 1) := sd_iload_n (j := 1) dd_129_23 rfl
theorem dd_129_24 : decode (mi 129).2.1 24 = .ok (.caload, 1) := by decide +kernel
theorem st_129_24 : Sd 129 24 1 (i_aI [21]) := sd_caload dd_129_24 (by decide)
theorem dd_129_25 : decode (mi 129).2.1 25 = .ok (.goto 5, 3) := by decide +kernel
theorem st_129_25 : Sd 129 25 3 (i_goto 30) := sd_goto dd_129_25 (by decide)
def bk_129_0 : Tr := sq (i_ldI 1) (sq (i_ic 400) (sq (i_clt 28) (sq (i_ldI 1) (sq (i_ic 400) (sq (i_ldR 0) (sq (i_gI 2 [2]) (sq (i_iadd) (sq (i_cge 28) (sq (i_ldR 0) (sq (i_gR 1 [2]) (sq (i_ldI 1) (sq (i_aI [21]) (i_goto 30)))))))))))))
theorem sb_129_0 : Sd 129 0 28 bk_129_0 := Sd.sq st_129_0 (Sd.sq st_129_1 (Sd.sq st_129_4 (Sd.sq st_129_7 (Sd.sq st_129_8 (Sd.sq st_129_11 (Sd.sq st_129_12 (Sd.sq st_129_15 (Sd.sq st_129_16 (Sd.sq st_129_19 (Sd.sq st_129_20 (Sd.sq st_129_23 (Sd.sq st_129_24 (st_129_25)))))))))))))
theorem dd_129_28 : decode (mi 129).2.1 28 = .ok (.bipush 32, 2) := by decide +kernel
theorem st_129_28 : Sd 129 28 2 (i_ic 32) := sd_bipush dd_129_28 (by decide)
def bk_129_28 : Tr := sq (i_ic 32) (i_fall 30)
theorem sb_129_28 : Sd 129 28 2 bk_129_28 := Sd.sq st_129_28 (sd_fall rfl)
theorem dd_129_30 : decode (mi 129).2.1 30 = .ok (.ireturn, 1) := by decide +kernel
theorem st_129_30 : Sd 129 30 1 (i_rI 1) := sd_ireturn dd_129_30 (by decide) mr_129
def bk_129_30 : Tr := i_rI 1
theorem sb_129_30 : Sd 129 30 1 bk_129_30 := st_129_30
theorem dd_130_0 : decode (mi 130).2.1 0 = .ok (.iload_n 1, 1) := by decide +kernel
theorem st_130_0 : Sd 130 0 1 (i_ldI 1) := sd_iload_n (j := 1) dd_130_0 rfl
theorem dd_130_1 : decode (mi 130).2.1 1 = .ok (.iconst 1, 1) := by decide +kernel
theorem st_130_1 : Sd 130 1 1 (i_ic 1) := sd_iconst dd_130_1
theorem dd_130_2 : decode (mi 130).2.1 2 = .ok (.iadd, 1) := by decide +kernel
theorem st_130_2 : Sd 130 2 1 (i_iadd) := sd_iadd dd_130_2
theorem dd_130_3 : decode (mi 130).2.1 3 = .ok (.istore_n 3, 1) := by decide +kernel
theorem st_130_3 : Sd 130 3 1 (i_stI 3) := sd_istore_n (j := 3) dd_130_3 rfl
theorem dd_130_4 : decode (mi 130).2.1 4 = .ok (.aload_n 0, 1) := by decide +kernel
theorem st_130_4 : Sd 130 4 1 (i_ldR 0) := sd_aload_n (j := 0) dd_130_4 rfl
theorem dd_130_5 : decode (mi 130).2.1 5 = .ok (.getfield 7, 3) := by decide +kernel
theorem st_130_5 : Sd 130 5 3 (i_gR 1 [2]) := sd_gR (ref := "ContractDeskModel") (decl := "ContractDeskModel") (name := "all") (desc := "[C") dd_130_5 (by rw [mc_130]; exact tw_1261) (Or.inl rfl) (by decide +kernel)
theorem dd_130_8 : decode (mi 130).2.1 8 = .ok (.iload_n 1, 1) := by decide +kernel
theorem st_130_8 : Sd 130 8 1 (i_ldI 1) := sd_iload_n (j := 1) dd_130_8 rfl
theorem dd_130_9 : decode (mi 130).2.1 9 = .ok (.caload, 1) := by decide +kernel
theorem st_130_9 : Sd 130 9 1 (i_aI [21]) := sd_caload dd_130_9 (by decide)
theorem dd_130_10 : decode (mi 130).2.1 10 = .ok (.bipush 47, 2) := by decide +kernel
theorem st_130_10 : Sd 130 10 2 (i_ic 47) := sd_bipush dd_130_10 (by decide)
theorem dd_130_12 : decode (mi 130).2.1 12 = .ok (.if_icmp .ne 24, 3) := by decide +kernel
theorem st_130_12 : Sd 130 12 3 (i_cne 36) := sd_icmp_ne dd_130_12 (by decide)
def bk_130_0 : Tr := sq (i_ldI 1) (sq (i_ic 1) (sq (i_iadd) (sq (i_stI 3) (sq (i_ldR 0) (sq (i_gR 1 [2]) (sq (i_ldI 1) (sq (i_aI [21]) (sq (i_ic 47) (sq (i_cne 36) (i_fall 15))))))))))
theorem sb_130_0 : Sd 130 0 15 bk_130_0 := Sd.sq st_130_0 (Sd.sq st_130_1 (Sd.sq st_130_2 (Sd.sq st_130_3 (Sd.sq st_130_4 (Sd.sq st_130_5 (Sd.sq st_130_8 (Sd.sq st_130_9 (Sd.sq st_130_10 (Sd.sq st_130_12 (sd_fall rfl))))))))))
theorem dd_130_15 : decode (mi 130).2.1 15 = .ok (.aload_n 0, 1) := by decide +kernel
theorem st_130_15 : Sd 130 15 1 (i_ldR 0) := sd_aload_n (j := 0) dd_130_15 rfl
theorem dd_130_16 : decode (mi 130).2.1 16 = .ok (.getfield 7, 3) := by decide +kernel
theorem st_130_16 : Sd 130 16 3 (i_gR 1 [2]) := sd_gR (ref := "ContractDeskModel") (decl := "ContractDeskModel") (name := "all") (desc := "[C") dd_130_16 (by rw [mc_130]; exact tw_1261) (Or.inl rfl) (by decide +kernel)
theorem dd_130_19 : decode (mi 130).2.1 19 = .ok (.iload_n 3, 1) := by decide +kernel
theorem st_130_19 : Sd 130 19 1 (i_ldI 3) := sd_iload_n (j := 3) dd_130_19 rfl
theorem dd_130_20 : decode (mi 130).2.1 20 = .ok (.caload, 1) := by decide +kernel
theorem st_130_20 : Sd 130 20 1 (i_aI [21]) := sd_caload dd_130_20 (by decide)
theorem dd_130_21 : decode (mi 130).2.1 21 = .ok (.bipush 47, 2) := by decide +kernel
theorem st_130_21 : Sd 130 21 2 (i_ic 47) := sd_bipush dd_130_21 (by decide)
theorem dd_130_23 : decode (mi 130).2.1 23 = .ok (.if_icmp .eq 9, 3) := by decide +kernel
theorem st_130_23 : Sd 130 23 3 (i_ceq 32) := sd_icmp_eq dd_130_23 (by decide)
theorem dd_130_26 : decode (mi 130).2.1 26 = .ok (.iinc 3 1, 3) := by decide +kernel
theorem st_130_26 : Sd 130 26 3 (i_inc 3 1) := sd_iinc dd_130_26
theorem dd_130_29 : decode (mi 130).2.1 29 = .ok (.goto (-14), 3) := by decide +kernel
theorem st_130_29 : Sd 130 29 3 (i_goto 15) := sd_goto dd_130_29 (by decide)
def bk_130_15 : Tr := sq (i_ldR 0) (sq (i_gR 1 [2]) (sq (i_ldI 3) (sq (i_aI [21]) (sq (i_ic 47) (sq (i_ceq 32) (sq (i_inc 3 1) (i_goto 15)))))))
theorem sb_130_15 : Sd 130 15 17 bk_130_15 := Sd.sq st_130_15 (Sd.sq st_130_16 (Sd.sq st_130_19 (Sd.sq st_130_20 (Sd.sq st_130_21 (Sd.sq st_130_23 (Sd.sq st_130_26 (st_130_29)))))))
theorem dd_130_32 : decode (mi 130).2.1 32 = .ok (.iload_n 3, 1) := by decide +kernel
theorem st_130_32 : Sd 130 32 1 (i_ldI 3) := sd_iload_n (j := 3) dd_130_32 rfl
theorem dd_130_33 : decode (mi 130).2.1 33 = .ok (.iconst 1, 1) := by decide +kernel
theorem st_130_33 : Sd 130 33 1 (i_ic 1) := sd_iconst dd_130_33
theorem dd_130_34 : decode (mi 130).2.1 34 = .ok (.iadd, 1) := by decide +kernel
theorem st_130_34 : Sd 130 34 1 (i_iadd) := sd_iadd dd_130_34
theorem dd_130_35 : decode (mi 130).2.1 35 = .ok (.ireturn, 1) := by decide +kernel
theorem st_130_35 : Sd 130 35 1 (i_rI 0) := sd_ireturn dd_130_35 (by decide) mr_130
def bk_130_32 : Tr := sq (i_ldI 3) (sq (i_ic 1) (sq (i_iadd) (i_rI 0)))
theorem sb_130_32 : Sd 130 32 4 bk_130_32 := Sd.sq st_130_32 (Sd.sq st_130_33 (Sd.sq st_130_34 (st_130_35)))
theorem dd_130_36 : decode (mi 130).2.1 36 = .ok (.iload_n 3, 1) := by decide +kernel
theorem st_130_36 : Sd 130 36 1 (i_ldI 3) := sd_iload_n (j := 3) dd_130_36 rfl
theorem dd_130_37 : decode (mi 130).2.1 37 = .ok (.iload_n 2, 1) := by decide +kernel
theorem st_130_37 : Sd 130 37 1 (i_ldI 2) := sd_iload_n (j := 2) dd_130_37 rfl
theorem dd_130_38 : decode (mi 130).2.1 38 = .ok (.if_icmp .ge 31, 3) := by decide +kernel
theorem st_130_38 : Sd 130 38 3 (i_cge 69) := sd_icmp_ge dd_130_38 (by decide)
theorem dd_130_41 : decode (mi 130).2.1 41 = .ok (.aload_n 0, 1) := by decide +kernel
theorem st_130_41 : Sd 130 41 1 (i_ldR 0) := sd_aload_n (j := 0) dd_130_41 rfl
theorem dd_130_42 : decode (mi 130).2.1 42 = .ok (.getfield 7, 3) := by decide +kernel
theorem st_130_42 : Sd 130 42 3 (i_gR 1 [2]) := sd_gR (ref := "ContractDeskModel") (decl := "ContractDeskModel") (name := "all") (desc := "[C") dd_130_42 (by rw [mc_130]; exact tw_1261) (Or.inl rfl) (by decide +kernel)
theorem dd_130_45 : decode (mi 130).2.1 45 = .ok (.iload_n 3, 1) := by decide +kernel
theorem st_130_45 : Sd 130 45 1 (i_ldI 3) := sd_iload_n (j := 3) dd_130_45 rfl
theorem dd_130_46 : decode (mi 130).2.1 46 = .ok (.caload, 1) := by decide +kernel
theorem st_130_46 : Sd 130 46 1 (i_aI [21]) := sd_caload dd_130_46 (by decide)
theorem dd_130_47 : decode (mi 130).2.1 47 = .ok (.bipush 38, 2) := by decide +kernel
theorem st_130_47 : Sd 130 47 2 (i_ic 38) := sd_bipush dd_130_47 (by decide)
theorem dd_130_49 : decode (mi 130).2.1 49 = .ok (.if_icmp .eq 20, 3) := by decide +kernel
theorem st_130_49 : Sd 130 49 3 (i_ceq 69) := sd_icmp_eq dd_130_49 (by decide)
theorem dd_130_52 : decode (mi 130).2.1 52 = .ok (.aload_n 0, 1) := by decide +kernel
theorem st_130_52 : Sd 130 52 1 (i_ldR 0) := sd_aload_n (j := 0) dd_130_52 rfl
theorem dd_130_53 : decode (mi 130).2.1 53 = .ok (.getfield 7, 3) := by decide +kernel
theorem st_130_53 : Sd 130 53 3 (i_gR 1 [2]) := sd_gR (ref := "ContractDeskModel") (decl := "ContractDeskModel") (name := "all") (desc := "[C") dd_130_53 (by rw [mc_130]; exact tw_1261) (Or.inl rfl) (by decide +kernel)
theorem dd_130_56 : decode (mi 130).2.1 56 = .ok (.iload_n 3, 1) := by decide +kernel
theorem st_130_56 : Sd 130 56 1 (i_ldI 3) := sd_iload_n (j := 3) dd_130_56 rfl
theorem dd_130_57 : decode (mi 130).2.1 57 = .ok (.caload, 1) := by decide +kernel
theorem st_130_57 : Sd 130 57 1 (i_aI [21]) := sd_caload dd_130_57 (by decide)
theorem dd_130_58 : decode (mi 130).2.1 58 = .ok (.bipush 124, 2) := by decide +kernel
theorem st_130_58 : Sd 130 58 2 (i_ic 124) := sd_bipush dd_130_58 (by decide)
theorem dd_130_60 : decode (mi 130).2.1 60 = .ok (.if_icmp .eq 9, 3) := by decide +kernel
theorem st_130_60 : Sd 130 60 3 (i_ceq 69) := sd_icmp_eq dd_130_60 (by decide)
theorem dd_130_63 : decode (mi 130).2.1 63 = .ok (.iinc 3 1, 3) := by decide +kernel
theorem st_130_63 : Sd 130 63 3 (i_inc 3 1) := sd_iinc dd_130_63
theorem dd_130_66 : decode (mi 130).2.1 66 = .ok (.goto (-30), 3) := by decide +kernel
theorem st_130_66 : Sd 130 66 3 (i_goto 36) := sd_goto dd_130_66 (by decide)
def bk_130_36 : Tr := sq (i_ldI 3) (sq (i_ldI 2) (sq (i_cge 69) (sq (i_ldR 0) (sq (i_gR 1 [2]) (sq (i_ldI 3) (sq (i_aI [21]) (sq (i_ic 38) (sq (i_ceq 69) (sq (i_ldR 0) (sq (i_gR 1 [2]) (sq (i_ldI 3) (sq (i_aI [21]) (sq (i_ic 124) (sq (i_ceq 69) (sq (i_inc 3 1) (i_goto 36))))))))))))))))
theorem sb_130_36 : Sd 130 36 33 bk_130_36 := Sd.sq st_130_36 (Sd.sq st_130_37 (Sd.sq st_130_38 (Sd.sq st_130_41 (Sd.sq st_130_42 (Sd.sq st_130_45 (Sd.sq st_130_46 (Sd.sq st_130_47 (Sd.sq st_130_49 (Sd.sq st_130_52 (Sd.sq st_130_53 (Sd.sq st_130_56 (Sd.sq st_130_57 (Sd.sq st_130_58 (Sd.sq st_130_60 (Sd.sq st_130_63 (st_130_66))))))))))))))))
theorem dd_130_69 : decode (mi 130).2.1 69 = .ok (.iload_n 3, 1) := by decide +kernel
theorem st_130_69 : Sd 130 69 1 (i_ldI 3) := sd_iload_n (j := 3) dd_130_69 rfl
theorem dd_130_70 : decode (mi 130).2.1 70 = .ok (.ireturn, 1) := by decide +kernel
theorem st_130_70 : Sd 130 70 1 (i_rI 0) := sd_ireturn dd_130_70 (by decide) mr_130
def bk_130_69 : Tr := sq (i_ldI 3) (i_rI 0)
theorem sb_130_69 : Sd 130 69 2 bk_130_69 := Sd.sq st_130_69 (st_130_70)
theorem dd_131_0 : decode (mi 131).2.1 0 = .ok (.aload_n 0, 1) := by decide +kernel
theorem st_131_0 : Sd 131 0 1 (i_ldR 0) := sd_aload_n (j := 0) dd_131_0 rfl
theorem dd_131_1 : decode (mi 131).2.1 1 = .ok (.invokevirtual 146, 3) := by decide +kernel
theorem st_131_1 : Sd 131 1 3 (i_cV [(2, 180)] 1 5 []) := sd_virt ⟨"ContractDeskModel", "values", "()I"⟩ dd_131_1 (by rw [mc_131]; exact tw_1384) (fun t j h => by simp only [List.mem_cons, List.not_mem_nil, or_false, Prod.mk.injEq] at h; obtain ⟨rfl, rfl⟩ := h; exact mn_180) (fun t j h => by simp only [List.mem_cons, List.not_mem_nil, or_false, Prod.mk.injEq] at h; obtain ⟨rfl, rfl⟩ := h; exact ⟨by rw [mn_180]; exact tw_29, by rw [mn_180]; exact tw_1386, mt_180, by decide, by decide⟩) (by unfold prm; decide +kernel) ml_131 (HsOk.nil (by decide +kernel))
theorem dd_131_4 : decode (mi 131).2.1 4 = .ok (.istore_n 2, 1) := by decide +kernel
theorem st_131_4 : Sd 131 4 1 (i_stI 2) := sd_istore_n (j := 2) dd_131_4 rfl
theorem dd_131_5 : decode (mi 131).2.1 5 = .ok (.aload_n 0, 1) := by decide +kernel
theorem st_131_5 : Sd 131 5 1 (i_ldR 0) := sd_aload_n (j := 0) dd_131_5 rfl
theorem dd_131_6 : decode (mi 131).2.1 6 = .ok (.invokevirtual 150, 3) := by decide +kernel
theorem st_131_6 : Sd 131 6 3 (i_cV [(2, 132)] 1 5 []) := sd_virt ⟨"ContractDeskModel", "close", "()V"⟩ dd_131_6 (by rw [mc_131]; exact tw_1406) (fun t j h => by simp only [List.mem_cons, List.not_mem_nil, or_false, Prod.mk.injEq] at h; obtain ⟨rfl, rfl⟩ := h; exact mn_132) (fun t j h => by simp only [List.mem_cons, List.not_mem_nil, or_false, Prod.mk.injEq] at h; obtain ⟨rfl, rfl⟩ := h; exact ⟨by rw [mn_132]; exact tw_33, by rw [mn_132]; exact tw_1408, mt_132, by decide, by decide⟩) (by unfold prm; decide +kernel) ml_131 (HsOk.nil (by decide +kernel))
theorem dd_131_9 : decode (mi 131).2.1 9 = .ok (.aload_n 0, 1) := by decide +kernel
theorem st_131_9 : Sd 131 9 1 (i_ldR 0) := sd_aload_n (j := 0) dd_131_9 rfl
theorem dd_131_10 : decode (mi 131).2.1 10 = .ok (.iload_n 1, 1) := by decide +kernel
theorem st_131_10 : Sd 131 10 1 (i_ldI 1) := sd_iload_n (j := 1) dd_131_10 rfl
theorem dd_131_11 : decode (mi 131).2.1 11 = .ok (.invokevirtual 153, 3) := by decide +kernel
theorem st_131_11 : Sd 131 11 3 (i_cV [(2, 147)] 2 5 []) := sd_virt ⟨"ContractDeskModel", "isInteraction", "(I)Z"⟩ dd_131_11 (by rw [mc_131]; exact tw_1410) (fun t j h => by simp only [List.mem_cons, List.not_mem_nil, or_false, Prod.mk.injEq] at h; obtain ⟨rfl, rfl⟩ := h; exact mn_147) (fun t j h => by simp only [List.mem_cons, List.not_mem_nil, or_false, Prod.mk.injEq] at h; obtain ⟨rfl, rfl⟩ := h; exact ⟨by rw [mn_147]; exact tw_34, by rw [mn_147]; exact tw_1412, mt_147, by decide, by decide⟩) (by unfold prm; decide +kernel) ml_131 (HsOk.nil (by decide +kernel))
theorem dd_131_14 : decode (mi 131).2.1 14 = .ok (.ifCond .eq 11, 3) := by decide +kernel
theorem st_131_14 : Sd 131 14 3 (i_zeq 25) := sd_if_eq dd_131_14 (by decide)
theorem dd_131_17 : decode (mi 131).2.1 17 = .ok (.iload_n 2, 1) := by decide +kernel
theorem st_131_17 : Sd 131 17 1 (i_ldI 2) := sd_iload_n (j := 2) dd_131_17 rfl
theorem dd_131_18 : decode (mi 131).2.1 18 = .ok (.ifCond .le 7, 3) := by decide +kernel
theorem st_131_18 : Sd 131 18 3 (i_zle 25) := sd_if_le dd_131_18 (by decide)
theorem dd_131_21 : decode (mi 131).2.1 21 = .ok (.iconst 1, 1) := by decide +kernel
theorem st_131_21 : Sd 131 21 1 (i_ic 1) := sd_iconst dd_131_21
theorem dd_131_22 : decode (mi 131).2.1 22 = .ok (.goto 4, 3) := by decide +kernel
theorem st_131_22 : Sd 131 22 3 (i_goto 26) := sd_goto dd_131_22 (by decide)
def bk_131_0 : Tr := sq (i_ldR 0) (sq (i_cV [(2, 180)] 1 5 []) (sq (i_stI 2) (sq (i_ldR 0) (sq (i_cV [(2, 132)] 1 5 []) (sq (i_ldR 0) (sq (i_ldI 1) (sq (i_cV [(2, 147)] 2 5 []) (sq (i_zeq 25) (sq (i_ldI 2) (sq (i_zle 25) (sq (i_ic 1) (i_goto 26))))))))))))
theorem sb_131_0 : Sd 131 0 25 bk_131_0 := Sd.sq st_131_0 (Sd.sq st_131_1 (Sd.sq st_131_4 (Sd.sq st_131_5 (Sd.sq st_131_6 (Sd.sq st_131_9 (Sd.sq st_131_10 (Sd.sq st_131_11 (Sd.sq st_131_14 (Sd.sq st_131_17 (Sd.sq st_131_18 (Sd.sq st_131_21 (st_131_22))))))))))))
theorem dd_131_25 : decode (mi 131).2.1 25 = .ok (.iconst 0, 1) := by decide +kernel
theorem st_131_25 : Sd 131 25 1 (i_ic 0) := sd_iconst dd_131_25
def bk_131_25 : Tr := sq (i_ic 0) (i_fall 26)
theorem sb_131_25 : Sd 131 25 1 bk_131_25 := Sd.sq st_131_25 (sd_fall rfl)
theorem dd_131_26 : decode (mi 131).2.1 26 = .ok (.istore_n 3, 1) := by decide +kernel
theorem st_131_26 : Sd 131 26 1 (i_stI 3) := sd_istore_n (j := 3) dd_131_26 rfl
theorem dd_131_27 : decode (mi 131).2.1 27 = .ok (.iload_n 3, 1) := by decide +kernel
theorem st_131_27 : Sd 131 27 1 (i_ldI 3) := sd_iload_n (j := 3) dd_131_27 rfl
theorem dd_131_28 : decode (mi 131).2.1 28 = .ok (.ifCond .eq 16, 3) := by decide +kernel
theorem st_131_28 : Sd 131 28 3 (i_zeq 44) := sd_if_eq dd_131_28 (by decide)
theorem dd_131_31 : decode (mi 131).2.1 31 = .ok (.aload_n 0, 1) := by decide +kernel
theorem st_131_31 : Sd 131 31 1 (i_ldR 0) := sd_aload_n (j := 0) dd_131_31 rfl
theorem dd_131_32 : decode (mi 131).2.1 32 = .ok (.getfield 17, 3) := by decide +kernel
theorem st_131_32 : Sd 131 32 3 (i_gR 5 [2]) := sd_gR (ref := "ContractDeskModel") (decl := "ContractDeskModel") (name := "bodyLength") (desc := "[I") dd_131_32 (by rw [mc_131]; exact tw_1265) (Or.inl rfl) (by decide +kernel)
theorem dd_131_35 : decode (mi 131).2.1 35 = .ok (.iload_n 1, 1) := by decide +kernel
theorem st_131_35 : Sd 131 35 1 (i_ldI 1) := sd_iload_n (j := 1) dd_131_35 rfl
theorem dd_131_36 : decode (mi 131).2.1 36 = .ok (.iaload, 1) := by decide +kernel
theorem st_131_36 : Sd 131 36 1 (i_aI [20]) := sd_iaload dd_131_36 (by decide)
theorem dd_131_37 : decode (mi 131).2.1 37 = .ok (.ifCond .le 7, 3) := by decide +kernel
theorem st_131_37 : Sd 131 37 3 (i_zle 44) := sd_if_le dd_131_37 (by decide)
theorem dd_131_40 : decode (mi 131).2.1 40 = .ok (.iconst 1, 1) := by decide +kernel
theorem st_131_40 : Sd 131 40 1 (i_ic 1) := sd_iconst dd_131_40
theorem dd_131_41 : decode (mi 131).2.1 41 = .ok (.goto 4, 3) := by decide +kernel
theorem st_131_41 : Sd 131 41 3 (i_goto 45) := sd_goto dd_131_41 (by decide)
def bk_131_26 : Tr := sq (i_stI 3) (sq (i_ldI 3) (sq (i_zeq 44) (sq (i_ldR 0) (sq (i_gR 5 [2]) (sq (i_ldI 1) (sq (i_aI [20]) (sq (i_zle 44) (sq (i_ic 1) (i_goto 45)))))))))
theorem sb_131_26 : Sd 131 26 18 bk_131_26 := Sd.sq st_131_26 (Sd.sq st_131_27 (Sd.sq st_131_28 (Sd.sq st_131_31 (Sd.sq st_131_32 (Sd.sq st_131_35 (Sd.sq st_131_36 (Sd.sq st_131_37 (Sd.sq st_131_40 (st_131_41)))))))))
theorem dd_131_44 : decode (mi 131).2.1 44 = .ok (.iconst 0, 1) := by decide +kernel
theorem st_131_44 : Sd 131 44 1 (i_ic 0) := sd_iconst dd_131_44
def bk_131_44 : Tr := sq (i_ic 0) (i_fall 45)
theorem sb_131_44 : Sd 131 44 1 bk_131_44 := Sd.sq st_131_44 (sd_fall rfl)
theorem dd_131_45 : decode (mi 131).2.1 45 = .ok (.istore 4, 2) := by decide +kernel
theorem st_131_45 : Sd 131 45 2 (i_stI 4) := sd_istore dd_131_45
theorem dd_131_47 : decode (mi 131).2.1 47 = .ok (.aload_n 0, 1) := by decide +kernel
theorem st_131_47 : Sd 131 47 1 (i_ldR 0) := sd_aload_n (j := 0) dd_131_47 rfl
theorem dd_131_48 : decode (mi 131).2.1 48 = .ok (.iload_n 3, 1) := by decide +kernel
theorem st_131_48 : Sd 131 48 1 (i_ldI 3) := sd_iload_n (j := 3) dd_131_48 rfl
theorem dd_131_49 : decode (mi 131).2.1 49 = .ok (.ifCond .ne 7, 3) := by decide +kernel
theorem st_131_49 : Sd 131 49 3 (i_zne 56) := sd_if_ne dd_131_49 (by decide)
theorem dd_131_52 : decode (mi 131).2.1 52 = .ok (.iconst 1, 1) := by decide +kernel
theorem st_131_52 : Sd 131 52 1 (i_ic 1) := sd_iconst dd_131_52
theorem dd_131_53 : decode (mi 131).2.1 53 = .ok (.goto 27, 3) := by decide +kernel
theorem st_131_53 : Sd 131 53 3 (i_goto 80) := sd_goto dd_131_53 (by decide)
def bk_131_45 : Tr := sq (i_stI 4) (sq (i_ldR 0) (sq (i_ldI 3) (sq (i_zne 56) (sq (i_ic 1) (i_goto 80)))))
theorem sb_131_45 : Sd 131 45 11 bk_131_45 := Sd.sq st_131_45 (Sd.sq st_131_47 (Sd.sq st_131_48 (Sd.sq st_131_49 (Sd.sq st_131_52 (st_131_53)))))
theorem dd_131_56 : decode (mi 131).2.1 56 = .ok (.iload 4, 2) := by decide +kernel
theorem st_131_56 : Sd 131 56 2 (i_ldI 4) := sd_iload dd_131_56
theorem dd_131_58 : decode (mi 131).2.1 58 = .ok (.ifCond .eq 21, 3) := by decide +kernel
theorem st_131_58 : Sd 131 58 3 (i_zeq 79) := sd_if_eq dd_131_58 (by decide)
theorem dd_131_61 : decode (mi 131).2.1 61 = .ok (.aload_n 0, 1) := by decide +kernel
theorem st_131_61 : Sd 131 61 1 (i_ldR 0) := sd_aload_n (j := 0) dd_131_61 rfl
theorem dd_131_62 : decode (mi 131).2.1 62 = .ok (.bipush 100, 2) := by decide +kernel
theorem st_131_62 : Sd 131 62 2 (i_ic 100) := sd_bipush dd_131_62 (by decide)
theorem dd_131_64 : decode (mi 131).2.1 64 = .ok (.iload_n 1, 1) := by decide +kernel
theorem st_131_64 : Sd 131 64 1 (i_ldI 1) := sd_iload_n (j := 1) dd_131_64 rfl
theorem dd_131_65 : decode (mi 131).2.1 65 = .ok (.imul, 1) := by decide +kernel
theorem st_131_65 : Sd 131 65 1 (i_imul) := sd_imul dd_131_65
theorem dd_131_66 : decode (mi 131).2.1 66 = .ok (.sipush 400, 3) := by decide +kernel
theorem st_131_66 : Sd 131 66 3 (i_ic 400) := sd_sipush dd_131_66 (by decide)
theorem dd_131_69 : decode (mi 131).2.1 69 = .ok (.invokevirtual 157, 3) := by decide +kernel
theorem st_131_69 : Sd 131 69 3 (i_cV [(2, 140)] 3 5 []) := sd_virt ⟨"ContractDeskModel", "equal", "(II)Z"⟩ dd_131_69 (by rw [mc_131]; exact tw_1414) (fun t j h => by simp only [List.mem_cons, List.not_mem_nil, or_false, Prod.mk.injEq] at h; obtain ⟨rfl, rfl⟩ := h; exact mn_140) (fun t j h => by simp only [List.mem_cons, List.not_mem_nil, or_false, Prod.mk.injEq] at h; obtain ⟨rfl, rfl⟩ := h; exact ⟨by rw [mn_140]; exact tw_35, by rw [mn_140]; exact tw_1416, mt_140, by decide, by decide⟩) (by unfold prm; decide +kernel) ml_131 (HsOk.nil (by decide +kernel))
theorem dd_131_72 : decode (mi 131).2.1 72 = .ok (.ifCond .ne 7, 3) := by decide +kernel
theorem st_131_72 : Sd 131 72 3 (i_zne 79) := sd_if_ne dd_131_72 (by decide)
theorem dd_131_75 : decode (mi 131).2.1 75 = .ok (.iconst 2, 1) := by decide +kernel
theorem st_131_75 : Sd 131 75 1 (i_ic 2) := sd_iconst dd_131_75
theorem dd_131_76 : decode (mi 131).2.1 76 = .ok (.goto 4, 3) := by decide +kernel
theorem st_131_76 : Sd 131 76 3 (i_goto 80) := sd_goto dd_131_76 (by decide)
def bk_131_56 : Tr := sq (i_ldI 4) (sq (i_zeq 79) (sq (i_ldR 0) (sq (i_ic 100) (sq (i_ldI 1) (sq (i_imul) (sq (i_ic 400) (sq (i_cV [(2, 140)] 3 5 []) (sq (i_zne 79) (sq (i_ic 2) (i_goto 80))))))))))
theorem sb_131_56 : Sd 131 56 23 bk_131_56 := Sd.sq st_131_56 (Sd.sq st_131_58 (Sd.sq st_131_61 (Sd.sq st_131_62 (Sd.sq st_131_64 (Sd.sq st_131_65 (Sd.sq st_131_66 (Sd.sq st_131_69 (Sd.sq st_131_72 (Sd.sq st_131_75 (st_131_76))))))))))
theorem dd_131_79 : decode (mi 131).2.1 79 = .ok (.iconst 0, 1) := by decide +kernel
theorem st_131_79 : Sd 131 79 1 (i_ic 0) := sd_iconst dd_131_79
def bk_131_79 : Tr := sq (i_ic 0) (i_fall 80)
theorem sb_131_79 : Sd 131 79 1 bk_131_79 := Sd.sq st_131_79 (sd_fall rfl)
theorem dd_131_80 : decode (mi 131).2.1 80 = .ok (.putfield 93, 3) := by decide +kernel
theorem st_131_80 : Sd 131 80 3 (i_pI 0 [2] 0) := sd_pI (ref := "ContractDeskModel") (decl := "ContractDeskModel") (name := "thrown") (desc := "I") dd_131_80 (by rw [mc_131]; exact tw_1260) (Or.inl rfl) (by decide +kernel) (by decide +kernel) (by decide)
theorem dd_131_83 : decode (mi 131).2.1 83 = .ok (.aload_n 0, 1) := by decide +kernel
theorem st_131_83 : Sd 131 83 1 (i_ldR 0) := sd_aload_n (j := 0) dd_131_83 rfl
theorem dd_131_84 : decode (mi 131).2.1 84 = .ok (.getfield 93, 3) := by decide +kernel
theorem st_131_84 : Sd 131 84 3 (i_gI 0 [2]) := sd_gI (ref := "ContractDeskModel") (decl := "ContractDeskModel") (name := "thrown") (desc := "I") dd_131_84 (by rw [mc_131]; exact tw_1260) (Or.inl rfl) (by decide +kernel)
theorem dd_131_87 : decode (mi 131).2.1 87 = .ok (.ifCond .ne 26, 3) := by decide +kernel
theorem st_131_87 : Sd 131 87 3 (i_zne 113) := sd_if_ne dd_131_87 (by decide)
theorem dd_131_90 : decode (mi 131).2.1 90 = .ok (.iload 4, 2) := by decide +kernel
theorem st_131_90 : Sd 131 90 2 (i_ldI 4) := sd_iload dd_131_90
theorem dd_131_92 : decode (mi 131).2.1 92 = .ok (.ifCond .ne 21, 3) := by decide +kernel
theorem st_131_92 : Sd 131 92 3 (i_zne 113) := sd_if_ne dd_131_92 (by decide)
theorem dd_131_95 : decode (mi 131).2.1 95 = .ok (.aload_n 0, 1) := by decide +kernel
theorem st_131_95 : Sd 131 95 1 (i_ldR 0) := sd_aload_n (j := 0) dd_131_95 rfl
theorem dd_131_96 : decode (mi 131).2.1 96 = .ok (.bipush 100, 2) := by decide +kernel
theorem st_131_96 : Sd 131 96 2 (i_ic 100) := sd_bipush dd_131_96 (by decide)
theorem dd_131_98 : decode (mi 131).2.1 98 = .ok (.iload_n 1, 1) := by decide +kernel
theorem st_131_98 : Sd 131 98 1 (i_ldI 1) := sd_iload_n (j := 1) dd_131_98 rfl
theorem dd_131_99 : decode (mi 131).2.1 99 = .ok (.imul, 1) := by decide +kernel
theorem st_131_99 : Sd 131 99 1 (i_imul) := sd_imul dd_131_99
theorem dd_131_100 : decode (mi 131).2.1 100 = .ok (.invokevirtual 160, 3) := by decide +kernel
theorem st_131_100 : Sd 131 100 3 (i_cV [(2, 151)] 2 5 []) := sd_virt ⟨"ContractDeskModel", "keep", "(I)V"⟩ dd_131_100 (by rw [mc_131]; exact tw_1445) (fun t j h => by simp only [List.mem_cons, List.not_mem_nil, or_false, Prod.mk.injEq] at h; obtain ⟨rfl, rfl⟩ := h; exact mn_151) (fun t j h => by simp only [List.mem_cons, List.not_mem_nil, or_false, Prod.mk.injEq] at h; obtain ⟨rfl, rfl⟩ := h; exact ⟨by rw [mn_151]; exact tw_42, by rw [mn_151]; exact tw_1447, mt_151, by decide, by decide⟩) (by unfold prm; decide +kernel) ml_131 (HsOk.nil (by decide +kernel))
theorem dd_131_103 : decode (mi 131).2.1 103 = .ok (.aload_n 0, 1) := by decide +kernel
theorem st_131_103 : Sd 131 103 1 (i_ldR 0) := sd_aload_n (j := 0) dd_131_103 rfl
theorem dd_131_104 : decode (mi 131).2.1 104 = .ok (.getfield 17, 3) := by decide +kernel
theorem st_131_104 : Sd 131 104 3 (i_gR 5 [2]) := sd_gR (ref := "ContractDeskModel") (decl := "ContractDeskModel") (name := "bodyLength") (desc := "[I") dd_131_104 (by rw [mc_131]; exact tw_1265) (Or.inl rfl) (by decide +kernel)
theorem dd_131_107 : decode (mi 131).2.1 107 = .ok (.iload_n 1, 1) := by decide +kernel
theorem st_131_107 : Sd 131 107 1 (i_ldI 1) := sd_iload_n (j := 1) dd_131_107 rfl
theorem dd_131_108 : decode (mi 131).2.1 108 = .ok (.aload_n 0, 1) := by decide +kernel
theorem st_131_108 : Sd 131 108 1 (i_ldR 0) := sd_aload_n (j := 0) dd_131_108 rfl
theorem dd_131_109 : decode (mi 131).2.1 109 = .ok (.getfield 97, 3) := by decide +kernel
theorem st_131_109 : Sd 131 109 3 (i_gI 2 [2]) := sd_gI (ref := "ContractDeskModel") (decl := "ContractDeskModel") (name := "typed") (desc := "I") dd_131_109 (by rw [mc_131]; exact tw_1262) (Or.inl rfl) (by decide +kernel)
theorem dd_131_112 : decode (mi 131).2.1 112 = .ok (.iastore, 1) := by decide +kernel
theorem st_131_112 : Sd 131 112 1 (i_sI [20] 0) := sd_iastore dd_131_112 (by decide)
def bk_131_80 : Tr := sq (i_pI 0 [2] 0) (sq (i_ldR 0) (sq (i_gI 0 [2]) (sq (i_zne 113) (sq (i_ldI 4) (sq (i_zne 113) (sq (i_ldR 0) (sq (i_ic 100) (sq (i_ldI 1) (sq (i_imul) (sq (i_cV [(2, 151)] 2 5 []) (sq (i_ldR 0) (sq (i_gR 5 [2]) (sq (i_ldI 1) (sq (i_ldR 0) (sq (i_gI 2 [2]) (sq (i_sI [20] 0) (i_fall 113)))))))))))))))))
theorem sb_131_80 : Sd 131 80 33 bk_131_80 := Sd.sq st_131_80 (Sd.sq st_131_83 (Sd.sq st_131_84 (Sd.sq st_131_87 (Sd.sq st_131_90 (Sd.sq st_131_92 (Sd.sq st_131_95 (Sd.sq st_131_96 (Sd.sq st_131_98 (Sd.sq st_131_99 (Sd.sq st_131_100 (Sd.sq st_131_103 (Sd.sq st_131_104 (Sd.sq st_131_107 (Sd.sq st_131_108 (Sd.sq st_131_109 (Sd.sq st_131_112 (sd_fall rfl)))))))))))))))))
theorem dd_131_113 : decode (mi 131).2.1 113 = .ok (.aload_n 0, 1) := by decide +kernel
theorem st_131_113 : Sd 131 113 1 (i_ldR 0) := sd_aload_n (j := 0) dd_131_113 rfl
theorem dd_131_114 : decode (mi 131).2.1 114 = .ok (.iconst 0, 1) := by decide +kernel
theorem st_131_114 : Sd 131 114 1 (i_ic 0) := sd_iconst dd_131_114
theorem dd_131_115 : decode (mi 131).2.1 115 = .ok (.putfield 97, 3) := by decide +kernel
theorem st_131_115 : Sd 131 115 3 (i_pI 2 [2] 0) := sd_pI (ref := "ContractDeskModel") (decl := "ContractDeskModel") (name := "typed") (desc := "I") dd_131_115 (by rw [mc_131]; exact tw_1262) (Or.inl rfl) (by decide +kernel) (by decide +kernel) (by decide)
theorem dd_131_118 : decode (mi 131).2.1 118 = .ok (.aload_n 0, 1) := by decide +kernel
theorem st_131_118 : Sd 131 118 1 (i_ldR 0) := sd_aload_n (j := 0) dd_131_118 rfl
theorem dd_131_119 : decode (mi 131).2.1 119 = .ok (.getfield 93, 3) := by decide +kernel
theorem st_131_119 : Sd 131 119 3 (i_gI 0 [2]) := sd_gI (ref := "ContractDeskModel") (decl := "ContractDeskModel") (name := "thrown") (desc := "I") dd_131_119 (by rw [mc_131]; exact tw_1260) (Or.inl rfl) (by decide +kernel)
theorem dd_131_122 : decode (mi 131).2.1 122 = .ok (.ifCond .ne 7, 3) := by decide +kernel
theorem st_131_122 : Sd 131 122 3 (i_zne 129) := sd_if_ne dd_131_122 (by decide)
theorem dd_131_125 : decode (mi 131).2.1 125 = .ok (.iload_n 2, 1) := by decide +kernel
theorem st_131_125 : Sd 131 125 1 (i_ldI 2) := sd_iload_n (j := 2) dd_131_125 rfl
theorem dd_131_126 : decode (mi 131).2.1 126 = .ok (.goto 4, 3) := by decide +kernel
theorem st_131_126 : Sd 131 126 3 (i_goto 130) := sd_goto dd_131_126 (by decide)
def bk_131_113 : Tr := sq (i_ldR 0) (sq (i_ic 0) (sq (i_pI 2 [2] 0) (sq (i_ldR 0) (sq (i_gI 0 [2]) (sq (i_zne 129) (sq (i_ldI 2) (i_goto 130)))))))
theorem sb_131_113 : Sd 131 113 16 bk_131_113 := Sd.sq st_131_113 (Sd.sq st_131_114 (Sd.sq st_131_115 (Sd.sq st_131_118 (Sd.sq st_131_119 (Sd.sq st_131_122 (Sd.sq st_131_125 (st_131_126)))))))
theorem dd_131_129 : decode (mi 131).2.1 129 = .ok (.iconst 0, 1) := by decide +kernel
theorem st_131_129 : Sd 131 129 1 (i_ic 0) := sd_iconst dd_131_129
def bk_131_129 : Tr := sq (i_ic 0) (i_fall 130)
theorem sb_131_129 : Sd 131 129 1 bk_131_129 := Sd.sq st_131_129 (sd_fall rfl)
theorem dd_131_130 : decode (mi 131).2.1 130 = .ok (.ireturn, 1) := by decide +kernel
theorem st_131_130 : Sd 131 130 1 (i_rI 0) := sd_ireturn dd_131_130 (by decide) mr_131
def bk_131_130 : Tr := i_rI 0
theorem sb_131_130 : Sd 131 130 1 bk_131_130 := st_131_130
theorem dd_132_0 : decode (mi 132).2.1 0 = .ok (.aload_n 0, 1) := by decide +kernel
theorem st_132_0 : Sd 132 0 1 (i_ldR 0) := sd_aload_n (j := 0) dd_132_0 rfl
theorem dd_132_1 : decode (mi 132).2.1 1 = .ok (.getfield 7, 3) := by decide +kernel
theorem st_132_1 : Sd 132 1 3 (i_gR 1 [2]) := sd_gR (ref := "ContractDeskModel") (decl := "ContractDeskModel") (name := "all") (desc := "[C") dd_132_1 (by rw [mc_132]; exact tw_1261) (Or.inl rfl) (by decide +kernel)
theorem dd_132_4 : decode (mi 132).2.1 4 = .ok (.sipush 400, 3) := by decide +kernel
theorem st_132_4 : Sd 132 4 3 (i_ic 400) := sd_sipush dd_132_4 (by decide)
theorem dd_132_7 : decode (mi 132).2.1 7 = .ok (.aload_n 0, 1) := by decide +kernel
theorem st_132_7 : Sd 132 7 1 (i_ldR 0) := sd_aload_n (j := 0) dd_132_7 rfl
theorem dd_132_8 : decode (mi 132).2.1 8 = .ok (.getfield 97, 3) := by decide +kernel
theorem st_132_8 : Sd 132 8 3 (i_gI 2 [2]) := sd_gI (ref := "ContractDeskModel") (decl := "ContractDeskModel") (name := "typed") (desc := "I") dd_132_8 (by rw [mc_132]; exact tw_1262) (Or.inl rfl) (by decide +kernel)
theorem dd_132_11 : decode (mi 132).2.1 11 = .ok (.iadd, 1) := by decide +kernel
theorem st_132_11 : Sd 132 11 1 (i_iadd) := sd_iadd dd_132_11
theorem dd_132_12 : decode (mi 132).2.1 12 = .ok (.iconst 0, 1) := by decide +kernel
theorem st_132_12 : Sd 132 12 1 (i_ic 0) := sd_iconst dd_132_12
theorem dd_132_13 : decode (mi 132).2.1 13 = .ok (.castore, 1) := by decide +kernel
theorem st_132_13 : Sd 132 13 1 (i_sI [21] 1) := sd_castore dd_132_13 (by decide)
theorem dd_132_14 : decode (mi 132).2.1 14 = .ok (.return_, 1) := by decide +kernel
theorem st_132_14 : Sd 132 14 1 (i_ret) := sd_ret dd_132_14 mr_132
def bk_132_0 : Tr := sq (i_ldR 0) (sq (i_gR 1 [2]) (sq (i_ic 400) (sq (i_ldR 0) (sq (i_gI 2 [2]) (sq (i_iadd) (sq (i_ic 0) (sq (i_sI [21] 1) (i_ret))))))))
theorem sb_132_0 : Sd 132 0 15 bk_132_0 := Sd.sq st_132_0 (Sd.sq st_132_1 (Sd.sq st_132_4 (Sd.sq st_132_7 (Sd.sq st_132_8 (Sd.sq st_132_11 (Sd.sq st_132_12 (Sd.sq st_132_13 (st_132_14))))))))
theorem dd_133_0 : decode (mi 133).2.1 0 = .ok (.sipush 510, 3) := by decide +kernel
theorem st_133_0 : Sd 133 0 3 (i_ic 510) := sd_sipush dd_133_0 (by decide)
theorem dd_133_3 : decode (mi 133).2.1 3 = .ok (.bipush 100, 2) := by decide +kernel
theorem st_133_3 : Sd 133 3 2 (i_ic 100) := sd_bipush dd_133_3 (by decide)
theorem dd_133_5 : decode (mi 133).2.1 5 = .ok (.iload_n 1, 1) := by decide +kernel
theorem st_133_5 : Sd 133 5 1 (i_ldI 1) := sd_iload_n (j := 1) dd_133_5 rfl
theorem dd_133_6 : decode (mi 133).2.1 6 = .ok (.imul, 1) := by decide +kernel
theorem st_133_6 : Sd 133 6 1 (i_imul) := sd_imul dd_133_6
theorem dd_133_7 : decode (mi 133).2.1 7 = .ok (.iadd, 1) := by decide +kernel
theorem st_133_7 : Sd 133 7 1 (i_iadd) := sd_iadd dd_133_7
theorem dd_133_8 : decode (mi 133).2.1 8 = .ok (.istore_n 2, 1) := by decide +kernel
theorem st_133_8 : Sd 133 8 1 (i_stI 2) := sd_istore_n (j := 2) dd_133_8 rfl
def bk_133_0 : Tr := sq (i_ic 510) (sq (i_ic 100) (sq (i_ldI 1) (sq (i_imul) (sq (i_iadd) (sq (i_stI 2) (i_fall 9))))))
theorem sb_133_0 : Sd 133 0 9 bk_133_0 := Sd.sq st_133_0 (Sd.sq st_133_3 (Sd.sq st_133_5 (Sd.sq st_133_6 (Sd.sq st_133_7 (Sd.sq st_133_8 (sd_fall rfl))))))
theorem dd_133_9 : decode (mi 133).2.1 9 = .ok (.aload_n 0, 1) := by decide +kernel
theorem st_133_9 : Sd 133 9 1 (i_ldR 0) := sd_aload_n (j := 0) dd_133_9 rfl
theorem dd_133_10 : decode (mi 133).2.1 10 = .ok (.getfield 7, 3) := by decide +kernel
theorem st_133_10 : Sd 133 10 3 (i_gR 1 [2]) := sd_gR (ref := "ContractDeskModel") (decl := "ContractDeskModel") (name := "all") (desc := "[C") dd_133_10 (by rw [mc_133]; exact tw_1261) (Or.inl rfl) (by decide +kernel)
theorem dd_133_13 : decode (mi 133).2.1 13 = .ok (.iload_n 2, 1) := by decide +kernel
theorem st_133_13 : Sd 133 13 1 (i_ldI 2) := sd_iload_n (j := 2) dd_133_13 rfl
theorem dd_133_14 : decode (mi 133).2.1 14 = .ok (.caload, 1) := by decide +kernel
theorem st_133_14 : Sd 133 14 1 (i_aI [21]) := sd_caload dd_133_14 (by decide)
theorem dd_133_15 : decode (mi 133).2.1 15 = .ok (.bipush 58, 2) := by decide +kernel
theorem st_133_15 : Sd 133 15 2 (i_ic 58) := sd_bipush dd_133_15 (by decide)
theorem dd_133_17 : decode (mi 133).2.1 17 = .ok (.if_icmp .eq 9, 3) := by decide +kernel
theorem st_133_17 : Sd 133 17 3 (i_ceq 26) := sd_icmp_eq dd_133_17 (by decide)
theorem dd_133_20 : decode (mi 133).2.1 20 = .ok (.iinc 2 1, 3) := by decide +kernel
theorem st_133_20 : Sd 133 20 3 (i_inc 2 1) := sd_iinc dd_133_20
theorem dd_133_23 : decode (mi 133).2.1 23 = .ok (.goto (-14), 3) := by decide +kernel
theorem st_133_23 : Sd 133 23 3 (i_goto 9) := sd_goto dd_133_23 (by decide)
def bk_133_9 : Tr := sq (i_ldR 0) (sq (i_gR 1 [2]) (sq (i_ldI 2) (sq (i_aI [21]) (sq (i_ic 58) (sq (i_ceq 26) (sq (i_inc 2 1) (i_goto 9)))))))
theorem sb_133_9 : Sd 133 9 17 bk_133_9 := Sd.sq st_133_9 (Sd.sq st_133_10 (Sd.sq st_133_13 (Sd.sq st_133_14 (Sd.sq st_133_15 (Sd.sq st_133_17 (Sd.sq st_133_20 (st_133_23)))))))
theorem dd_133_26 : decode (mi 133).2.1 26 = .ok (.iload_n 2, 1) := by decide +kernel
theorem st_133_26 : Sd 133 26 1 (i_ldI 2) := sd_iload_n (j := 2) dd_133_26 rfl
theorem dd_133_27 : decode (mi 133).2.1 27 = .ok (.ireturn, 1) := by decide +kernel
theorem st_133_27 : Sd 133 27 1 (i_rI 0) := sd_ireturn dd_133_27 (by decide) mr_133
def bk_133_26 : Tr := sq (i_ldI 2) (i_rI 0)
theorem sb_133_26 : Sd 133 26 2 bk_133_26 := Sd.sq st_133_26 (st_133_27)
theorem dd_134_0 : decode (mi 134).2.1 0 = .ok (.aload_n 0, 1) := by decide +kernel
theorem st_134_0 : Sd 134 0 1 (i_ldR 0) := sd_aload_n (j := 0) dd_134_0 rfl
theorem dd_134_1 : decode (mi 134).2.1 1 = .ok (.iconst 0, 1) := by decide +kernel
theorem st_134_1 : Sd 134 1 1 (i_ic 0) := sd_iconst dd_134_1
theorem dd_134_2 : decode (mi 134).2.1 2 = .ok (.putfield 215, 3) := by decide +kernel
theorem st_134_2 : Sd 134 2 3 (i_pI 13 [2] 0) := sd_pI (ref := "ContractDeskModel") (decl := "ContractDeskModel") (name := "listed") (desc := "I") dd_134_2 (by rw [mc_134]; exact tw_1273) (Or.inl rfl) (by decide +kernel) (by decide +kernel) (by decide)
theorem dd_134_5 : decode (mi 134).2.1 5 = .ok (.aload_n 0, 1) := by decide +kernel
theorem st_134_5 : Sd 134 5 1 (i_ldR 0) := sd_aload_n (j := 0) dd_134_5 rfl
theorem dd_134_6 : decode (mi 134).2.1 6 = .ok (.iconst 1, 1) := by decide +kernel
theorem st_134_6 : Sd 134 6 1 (i_ic 1) := sd_iconst dd_134_6
theorem dd_134_7 : decode (mi 134).2.1 7 = .ok (.putfield 212, 3) := by decide +kernel
theorem st_134_7 : Sd 134 7 3 (i_pI 19 [2] 0) := sd_pI (ref := "ContractDeskModel") (decl := "ContractDeskModel") (name := "spots") (desc := "I") dd_134_7 (by rw [mc_134]; exact tw_1279) (Or.inl rfl) (by decide +kernel) (by decide +kernel) (by decide)
theorem dd_134_10 : decode (mi 134).2.1 10 = .ok (.aload_n 0, 1) := by decide +kernel
theorem st_134_10 : Sd 134 10 1 (i_ldR 0) := sd_aload_n (j := 0) dd_134_10 rfl
theorem dd_134_11 : decode (mi 134).2.1 11 = .ok (.iconst 0, 1) := by decide +kernel
theorem st_134_11 : Sd 134 11 1 (i_ic 0) := sd_iconst dd_134_11
theorem dd_134_12 : decode (mi 134).2.1 12 = .ok (.putfield 209, 3) := by decide +kernel
theorem st_134_12 : Sd 134 12 3 (i_pI 22 [2] 0) := sd_pI (ref := "ContractDeskModel") (decl := "ContractDeskModel") (name := "pile") (desc := "I") dd_134_12 (by rw [mc_134]; exact tw_1282) (Or.inl rfl) (by decide +kernel) (by decide +kernel) (by decide)
theorem dd_134_15 : decode (mi 134).2.1 15 = .ok (.aload_n 0, 1) := by decide +kernel
theorem st_134_15 : Sd 134 15 1 (i_ldR 0) := sd_aload_n (j := 0) dd_134_15 rfl
theorem dd_134_16 : decode (mi 134).2.1 16 = .ok (.iconst 0, 1) := by decide +kernel
theorem st_134_16 : Sd 134 16 1 (i_ic 0) := sd_iconst dd_134_16
theorem dd_134_17 : decode (mi 134).2.1 17 = .ok (.bipush 100, 2) := by decide +kernel
theorem st_134_17 : Sd 134 17 2 (i_ic 100) := sd_bipush dd_134_17 (by decide)
theorem dd_134_19 : decode (mi 134).2.1 19 = .ok (.iload_n 1, 1) := by decide +kernel
theorem st_134_19 : Sd 134 19 1 (i_ldI 1) := sd_iload_n (j := 1) dd_134_19 rfl
theorem dd_134_20 : decode (mi 134).2.1 20 = .ok (.imul, 1) := by decide +kernel
theorem st_134_20 : Sd 134 20 1 (i_imul) := sd_imul dd_134_20
theorem dd_134_21 : decode (mi 134).2.1 21 = .ok (.sipush 400, 3) := by decide +kernel
theorem st_134_21 : Sd 134 21 3 (i_ic 400) := sd_sipush dd_134_21 (by decide)
theorem dd_134_24 : decode (mi 134).2.1 24 = .ok (.iconst 0, 1) := by decide +kernel
theorem st_134_24 : Sd 134 24 1 (i_ic 0) := sd_iconst dd_134_24
theorem dd_134_25 : decode (mi 134).2.1 25 = .ok (.invokevirtual 240, 3) := by decide +kernel
theorem st_134_25 : Sd 134 25 3 (i_cV [(2, 168)] 5 7 []) := sd_virt ⟨"ContractDeskModel", "push", "(IIII)V"⟩ dd_134_25 (by rw [mc_134]; exact tw_1513) (fun t j h => by simp only [List.mem_cons, List.not_mem_nil, or_false, Prod.mk.injEq] at h; obtain ⟨rfl, rfl⟩ := h; exact mn_168) (fun t j h => by simp only [List.mem_cons, List.not_mem_nil, or_false, Prod.mk.injEq] at h; obtain ⟨rfl, rfl⟩ := h; exact ⟨by rw [mn_168]; exact tw_54, by rw [mn_168]; exact tw_1515, mt_168, by decide, by decide⟩) (by unfold prm; decide +kernel) ml_134 (HsOk.nil (by decide +kernel))
theorem dd_134_28 : decode (mi 134).2.1 28 = .ok (.iconst 0, 1) := by decide +kernel
theorem st_134_28 : Sd 134 28 1 (i_ic 0) := sd_iconst dd_134_28
theorem dd_134_29 : decode (mi 134).2.1 29 = .ok (.istore_n 2, 1) := by decide +kernel
theorem st_134_29 : Sd 134 29 1 (i_stI 2) := sd_istore_n (j := 2) dd_134_29 rfl
def bk_134_0 : Tr := sq (i_ldR 0) (sq (i_ic 0) (sq (i_pI 13 [2] 0) (sq (i_ldR 0) (sq (i_ic 1) (sq (i_pI 19 [2] 0) (sq (i_ldR 0) (sq (i_ic 0) (sq (i_pI 22 [2] 0) (sq (i_ldR 0) (sq (i_ic 0) (sq (i_ic 100) (sq (i_ldI 1) (sq (i_imul) (sq (i_ic 400) (sq (i_ic 0) (sq (i_cV [(2, 168)] 5 7 []) (sq (i_ic 0) (sq (i_stI 2) (i_fall 30)))))))))))))))))))
theorem sb_134_0 : Sd 134 0 30 bk_134_0 := Sd.sq st_134_0 (Sd.sq st_134_1 (Sd.sq st_134_2 (Sd.sq st_134_5 (Sd.sq st_134_6 (Sd.sq st_134_7 (Sd.sq st_134_10 (Sd.sq st_134_11 (Sd.sq st_134_12 (Sd.sq st_134_15 (Sd.sq st_134_16 (Sd.sq st_134_17 (Sd.sq st_134_19 (Sd.sq st_134_20 (Sd.sq st_134_21 (Sd.sq st_134_24 (Sd.sq st_134_25 (Sd.sq st_134_28 (Sd.sq st_134_29 (sd_fall rfl)))))))))))))))))))
theorem dd_134_30 : decode (mi 134).2.1 30 = .ok (.aload_n 0, 1) := by decide +kernel
theorem st_134_30 : Sd 134 30 1 (i_ldR 0) := sd_aload_n (j := 0) dd_134_30 rfl
theorem dd_134_31 : decode (mi 134).2.1 31 = .ok (.getfield 209, 3) := by decide +kernel
theorem st_134_31 : Sd 134 31 3 (i_gI 22 [2]) := sd_gI (ref := "ContractDeskModel") (decl := "ContractDeskModel") (name := "pile") (desc := "I") dd_134_31 (by rw [mc_134]; exact tw_1282) (Or.inl rfl) (by decide +kernel)
theorem dd_134_34 : decode (mi 134).2.1 34 = .ok (.ifCond .le 94, 3) := by decide +kernel
theorem st_134_34 : Sd 134 34 3 (i_zle 128) := sd_if_le dd_134_34 (by decide)
theorem dd_134_37 : decode (mi 134).2.1 37 = .ok (.aload_n 0, 1) := by decide +kernel
theorem st_134_37 : Sd 134 37 1 (i_ldR 0) := sd_aload_n (j := 0) dd_134_37 rfl
theorem dd_134_38 : decode (mi 134).2.1 38 = .ok (.dup, 1) := by decide +kernel
theorem st_134_38 : Sd 134 38 1 (i_dup) := sd_dup dd_134_38
theorem dd_134_39 : decode (mi 134).2.1 39 = .ok (.getfield 209, 3) := by decide +kernel
theorem st_134_39 : Sd 134 39 3 (i_gI 22 [2]) := sd_gI (ref := "ContractDeskModel") (decl := "ContractDeskModel") (name := "pile") (desc := "I") dd_134_39 (by rw [mc_134]; exact tw_1282) (Or.inl rfl) (by decide +kernel)
theorem dd_134_42 : decode (mi 134).2.1 42 = .ok (.iconst 1, 1) := by decide +kernel
theorem st_134_42 : Sd 134 42 1 (i_ic 1) := sd_iconst dd_134_42
theorem dd_134_43 : decode (mi 134).2.1 43 = .ok (.isub, 1) := by decide +kernel
theorem st_134_43 : Sd 134 43 1 (i_isub) := sd_isub dd_134_43
theorem dd_134_44 : decode (mi 134).2.1 44 = .ok (.putfield 209, 3) := by decide +kernel
theorem st_134_44 : Sd 134 44 3 (i_pI 22 [2] 0) := sd_pI (ref := "ContractDeskModel") (decl := "ContractDeskModel") (name := "pile") (desc := "I") dd_134_44 (by rw [mc_134]; exact tw_1282) (Or.inl rfl) (by decide +kernel) (by decide +kernel) (by decide)
theorem dd_134_47 : decode (mi 134).2.1 47 = .ok (.aload_n 0, 1) := by decide +kernel
theorem st_134_47 : Sd 134 47 1 (i_ldR 0) := sd_aload_n (j := 0) dd_134_47 rfl
theorem dd_134_48 : decode (mi 134).2.1 48 = .ok (.getfield 60, 3) := by decide +kernel
theorem st_134_48 : Sd 134 48 3 (i_gR 23 [2]) := sd_gR (ref := "ContractDeskModel") (decl := "ContractDeskModel") (name := "job") (desc := "[I") dd_134_48 (by rw [mc_134]; exact tw_1283) (Or.inl rfl) (by decide +kernel)
theorem dd_134_51 : decode (mi 134).2.1 51 = .ok (.aload_n 0, 1) := by decide +kernel
theorem st_134_51 : Sd 134 51 1 (i_ldR 0) := sd_aload_n (j := 0) dd_134_51 rfl
theorem dd_134_52 : decode (mi 134).2.1 52 = .ok (.getfield 209, 3) := by decide +kernel
theorem st_134_52 : Sd 134 52 3 (i_gI 22 [2]) := sd_gI (ref := "ContractDeskModel") (decl := "ContractDeskModel") (name := "pile") (desc := "I") dd_134_52 (by rw [mc_134]; exact tw_1282) (Or.inl rfl) (by decide +kernel)
theorem dd_134_55 : decode (mi 134).2.1 55 = .ok (.iaload, 1) := by decide +kernel
theorem st_134_55 : Sd 134 55 1 (i_aI [20]) := sd_iaload dd_134_55 (by decide)
theorem dd_134_56 : decode (mi 134).2.1 56 = .ok (.istore_n 3, 1) := by decide +kernel
theorem st_134_56 : Sd 134 56 1 (i_stI 3) := sd_istore_n (j := 3) dd_134_56 rfl
theorem dd_134_57 : decode (mi 134).2.1 57 = .ok (.aload_n 0, 1) := by decide +kernel
theorem st_134_57 : Sd 134 57 1 (i_ldR 0) := sd_aload_n (j := 0) dd_134_57 rfl
theorem dd_134_58 : decode (mi 134).2.1 58 = .ok (.getfield 69, 3) := by decide +kernel
theorem st_134_58 : Sd 134 58 3 (i_gR 26 [2]) := sd_gR (ref := "ContractDeskModel") (decl := "ContractDeskModel") (name := "spot") (desc := "[I") dd_134_58 (by rw [mc_134]; exact tw_1286) (Or.inl rfl) (by decide +kernel)
theorem dd_134_61 : decode (mi 134).2.1 61 = .ok (.aload_n 0, 1) := by decide +kernel
theorem st_134_61 : Sd 134 61 1 (i_ldR 0) := sd_aload_n (j := 0) dd_134_61 rfl
theorem dd_134_62 : decode (mi 134).2.1 62 = .ok (.getfield 209, 3) := by decide +kernel
theorem st_134_62 : Sd 134 62 3 (i_gI 22 [2]) := sd_gI (ref := "ContractDeskModel") (decl := "ContractDeskModel") (name := "pile") (desc := "I") dd_134_62 (by rw [mc_134]; exact tw_1282) (Or.inl rfl) (by decide +kernel)
theorem dd_134_65 : decode (mi 134).2.1 65 = .ok (.iaload, 1) := by decide +kernel
theorem st_134_65 : Sd 134 65 1 (i_aI [20]) := sd_iaload dd_134_65 (by decide)
theorem dd_134_66 : decode (mi 134).2.1 66 = .ok (.istore 4, 2) := by decide +kernel
theorem st_134_66 : Sd 134 66 2 (i_stI 4) := sd_istore dd_134_66
theorem dd_134_68 : decode (mi 134).2.1 68 = .ok (.aload_n 0, 1) := by decide +kernel
theorem st_134_68 : Sd 134 68 1 (i_ldR 0) := sd_aload_n (j := 0) dd_134_68 rfl
theorem dd_134_69 : decode (mi 134).2.1 69 = .ok (.getfield 63, 3) := by decide +kernel
theorem st_134_69 : Sd 134 69 3 (i_gR 24 [2]) := sd_gR (ref := "ContractDeskModel") (decl := "ContractDeskModel") (name := "left") (desc := "[I") dd_134_69 (by rw [mc_134]; exact tw_1284) (Or.inl rfl) (by decide +kernel)
theorem dd_134_72 : decode (mi 134).2.1 72 = .ok (.aload_n 0, 1) := by decide +kernel
theorem st_134_72 : Sd 134 72 1 (i_ldR 0) := sd_aload_n (j := 0) dd_134_72 rfl
theorem dd_134_73 : decode (mi 134).2.1 73 = .ok (.getfield 209, 3) := by decide +kernel
theorem st_134_73 : Sd 134 73 3 (i_gI 22 [2]) := sd_gI (ref := "ContractDeskModel") (decl := "ContractDeskModel") (name := "pile") (desc := "I") dd_134_73 (by rw [mc_134]; exact tw_1282) (Or.inl rfl) (by decide +kernel)
theorem dd_134_76 : decode (mi 134).2.1 76 = .ok (.iaload, 1) := by decide +kernel
theorem st_134_76 : Sd 134 76 1 (i_aI [20]) := sd_iaload dd_134_76 (by decide)
theorem dd_134_77 : decode (mi 134).2.1 77 = .ok (.istore 5, 2) := by decide +kernel
theorem st_134_77 : Sd 134 77 2 (i_stI 5) := sd_istore dd_134_77
theorem dd_134_79 : decode (mi 134).2.1 79 = .ok (.aload_n 0, 1) := by decide +kernel
theorem st_134_79 : Sd 134 79 1 (i_ldR 0) := sd_aload_n (j := 0) dd_134_79 rfl
theorem dd_134_80 : decode (mi 134).2.1 80 = .ok (.getfield 66, 3) := by decide +kernel
theorem st_134_80 : Sd 134 80 3 (i_gR 25 [2]) := sd_gR (ref := "ContractDeskModel") (decl := "ContractDeskModel") (name := "right") (desc := "[I") dd_134_80 (by rw [mc_134]; exact tw_1285) (Or.inl rfl) (by decide +kernel)
theorem dd_134_83 : decode (mi 134).2.1 83 = .ok (.aload_n 0, 1) := by decide +kernel
theorem st_134_83 : Sd 134 83 1 (i_ldR 0) := sd_aload_n (j := 0) dd_134_83 rfl
theorem dd_134_84 : decode (mi 134).2.1 84 = .ok (.getfield 209, 3) := by decide +kernel
theorem st_134_84 : Sd 134 84 3 (i_gI 22 [2]) := sd_gI (ref := "ContractDeskModel") (decl := "ContractDeskModel") (name := "pile") (desc := "I") dd_134_84 (by rw [mc_134]; exact tw_1282) (Or.inl rfl) (by decide +kernel)
theorem dd_134_87 : decode (mi 134).2.1 87 = .ok (.iaload, 1) := by decide +kernel
theorem st_134_87 : Sd 134 87 1 (i_aI [20]) := sd_iaload dd_134_87 (by decide)
theorem dd_134_88 : decode (mi 134).2.1 88 = .ok (.istore 6, 2) := by decide +kernel
theorem st_134_88 : Sd 134 88 2 (i_stI 6) := sd_istore dd_134_88
theorem dd_134_90 : decode (mi 134).2.1 90 = .ok (.aload_n 0, 1) := by decide +kernel
theorem st_134_90 : Sd 134 90 1 (i_ldR 0) := sd_aload_n (j := 0) dd_134_90 rfl
theorem dd_134_91 : decode (mi 134).2.1 91 = .ok (.iload 4, 2) := by decide +kernel
theorem st_134_91 : Sd 134 91 2 (i_ldI 4) := sd_iload dd_134_91
theorem dd_134_93 : decode (mi 134).2.1 93 = .ok (.invokevirtual 243, 3) := by decide +kernel
theorem st_134_93 : Sd 134 93 3 (i_cV [(2, 153)] 2 7 []) := sd_virt ⟨"ContractDeskModel", "lay", "(I)V"⟩ dd_134_93 (by rw [mc_134]; exact tw_1517) (fun t j h => by simp only [List.mem_cons, List.not_mem_nil, or_false, Prod.mk.injEq] at h; obtain ⟨rfl, rfl⟩ := h; exact mn_153) (fun t j h => by simp only [List.mem_cons, List.not_mem_nil, or_false, Prod.mk.injEq] at h; obtain ⟨rfl, rfl⟩ := h; exact ⟨by rw [mn_153]; exact tw_55, by rw [mn_153]; exact tw_1519, mt_153, by decide, by decide⟩) (by unfold prm; decide +kernel) ml_134 (HsOk.nil (by decide +kernel))
theorem dd_134_96 : decode (mi 134).2.1 96 = .ok (.iload_n 3, 1) := by decide +kernel
theorem st_134_96 : Sd 134 96 1 (i_ldI 3) := sd_iload_n (j := 3) dd_134_96 rfl
theorem dd_134_97 : decode (mi 134).2.1 97 = .ok (.ifCond .le 14, 3) := by decide +kernel
theorem st_134_97 : Sd 134 97 3 (i_zle 111) := sd_if_le dd_134_97 (by decide)
theorem dd_134_100 : decode (mi 134).2.1 100 = .ok (.aload_n 0, 1) := by decide +kernel
theorem st_134_100 : Sd 134 100 1 (i_ldR 0) := sd_aload_n (j := 0) dd_134_100 rfl
theorem dd_134_101 : decode (mi 134).2.1 101 = .ok (.iload_n 3, 1) := by decide +kernel
theorem st_134_101 : Sd 134 101 1 (i_ldI 3) := sd_iload_n (j := 3) dd_134_101 rfl
theorem dd_134_102 : decode (mi 134).2.1 102 = .ok (.invokevirtual 226, 3) := by decide +kernel
theorem st_134_102 : Sd 134 102 3 (i_cV [(2, 155)] 2 7 []) := sd_virt ⟨"ContractDeskModel", "list", "(I)V"⟩ dd_134_102 (by rw [mc_134]; exact tw_1521) (fun t j h => by simp only [List.mem_cons, List.not_mem_nil, or_false, Prod.mk.injEq] at h; obtain ⟨rfl, rfl⟩ := h; exact mn_155) (fun t j h => by simp only [List.mem_cons, List.not_mem_nil, or_false, Prod.mk.injEq] at h; obtain ⟨rfl, rfl⟩ := h; exact ⟨by rw [mn_155]; exact tw_56, by rw [mn_155]; exact tw_1523, mt_155, by decide, by decide⟩) (by unfold prm; decide +kernel) ml_134 (HsOk.nil (by decide +kernel))
theorem dd_134_105 : decode (mi 134).2.1 105 = .ok (.iinc 2 1, 3) := by decide +kernel
theorem st_134_105 : Sd 134 105 3 (i_inc 2 1) := sd_iinc dd_134_105
theorem dd_134_108 : decode (mi 134).2.1 108 = .ok (.goto 17, 3) := by decide +kernel
theorem st_134_108 : Sd 134 108 3 (i_goto 125) := sd_goto dd_134_108 (by decide)
def bk_134_30 : Tr := sq (i_ldR 0) (sq (i_gI 22 [2]) (sq (i_zle 128) (sq (i_ldR 0) (sq (i_dup) (sq (i_gI 22 [2]) (sq (i_ic 1) (sq (i_isub) (sq (i_pI 22 [2] 0) (sq (i_ldR 0) (sq (i_gR 23 [2]) (sq (i_ldR 0) (sq (i_gI 22 [2]) (sq (i_aI [20]) (sq (i_stI 3) (sq (i_ldR 0) (sq (i_gR 26 [2]) (sq (i_ldR 0) (sq (i_gI 22 [2]) (sq (i_aI [20]) (sq (i_stI 4) (sq (i_ldR 0) (sq (i_gR 24 [2]) (sq (i_ldR 0) (sq (i_gI 22 [2]) (sq (i_aI [20]) (sq (i_stI 5) (sq (i_ldR 0) (sq (i_gR 25 [2]) (sq (i_ldR 0) (sq (i_gI 22 [2]) (sq (i_aI [20]) (sq (i_stI 6) (sq (i_ldR 0) (sq (i_ldI 4) (sq (i_cV [(2, 153)] 2 7 []) (sq (i_ldI 3) (sq (i_zle 111) (sq (i_ldR 0) (sq (i_ldI 3) (sq (i_cV [(2, 155)] 2 7 []) (sq (i_inc 2 1) (i_goto 125))))))))))))))))))))))))))))))))))))))))))
theorem sb_134_30 : Sd 134 30 81 bk_134_30 := Sd.sq st_134_30 (Sd.sq st_134_31 (Sd.sq st_134_34 (Sd.sq st_134_37 (Sd.sq st_134_38 (Sd.sq st_134_39 (Sd.sq st_134_42 (Sd.sq st_134_43 (Sd.sq st_134_44 (Sd.sq st_134_47 (Sd.sq st_134_48 (Sd.sq st_134_51 (Sd.sq st_134_52 (Sd.sq st_134_55 (Sd.sq st_134_56 (Sd.sq st_134_57 (Sd.sq st_134_58 (Sd.sq st_134_61 (Sd.sq st_134_62 (Sd.sq st_134_65 (Sd.sq st_134_66 (Sd.sq st_134_68 (Sd.sq st_134_69 (Sd.sq st_134_72 (Sd.sq st_134_73 (Sd.sq st_134_76 (Sd.sq st_134_77 (Sd.sq st_134_79 (Sd.sq st_134_80 (Sd.sq st_134_83 (Sd.sq st_134_84 (Sd.sq st_134_87 (Sd.sq st_134_88 (Sd.sq st_134_90 (Sd.sq st_134_91 (Sd.sq st_134_93 (Sd.sq st_134_96 (Sd.sq st_134_97 (Sd.sq st_134_100 (Sd.sq st_134_101 (Sd.sq st_134_102 (Sd.sq st_134_105 (st_134_108))))))))))))))))))))))))))))))))))))))))))
theorem dd_134_111 : decode (mi 134).2.1 111 = .ok (.iload_n 2, 1) := by decide +kernel
theorem st_134_111 : Sd 134 111 1 (i_ldI 2) := sd_iload_n (j := 2) dd_134_111 rfl
theorem dd_134_112 : decode (mi 134).2.1 112 = .ok (.aload_n 0, 1) := by decide +kernel
theorem st_134_112 : Sd 134 112 1 (i_ldR 0) := sd_aload_n (j := 0) dd_134_112 rfl
theorem dd_134_113 : decode (mi 134).2.1 113 = .ok (.iload_n 1, 1) := by decide +kernel
theorem st_134_113 : Sd 134 113 1 (i_ldI 1) := sd_iload_n (j := 1) dd_134_113 rfl
theorem dd_134_114 : decode (mi 134).2.1 114 = .ok (.iload 5, 2) := by decide +kernel
theorem st_134_114 : Sd 134 114 2 (i_ldI 5) := sd_iload dd_134_114
theorem dd_134_116 : decode (mi 134).2.1 116 = .ok (.iload 6, 2) := by decide +kernel
theorem st_134_116 : Sd 134 116 2 (i_ldI 6) := sd_iload dd_134_116
theorem dd_134_118 : decode (mi 134).2.1 118 = .ok (.iload 4, 2) := by decide +kernel
theorem st_134_118 : Sd 134 118 2 (i_ldI 4) := sd_iload dd_134_118
theorem dd_134_120 : decode (mi 134).2.1 120 = .ok (.invokevirtual 246, 3) := by decide +kernel
theorem st_134_120 : Sd 134 120 3 (i_cV [(2, 135)] 5 7 []) := sd_virt ⟨"ContractDeskModel", "compared", "(IIII)I"⟩ dd_134_120 (by rw [mc_134]; exact tw_1529) (fun t j h => by simp only [List.mem_cons, List.not_mem_nil, or_false, Prod.mk.injEq] at h; obtain ⟨rfl, rfl⟩ := h; exact mn_135) (fun t j h => by simp only [List.mem_cons, List.not_mem_nil, or_false, Prod.mk.injEq] at h; obtain ⟨rfl, rfl⟩ := h; exact ⟨by rw [mn_135]; exact tw_58, by rw [mn_135]; exact tw_1531, mt_135, by decide, by decide⟩) (by unfold prm; decide +kernel) ml_134 (HsOk.nil (by decide +kernel))
theorem dd_134_123 : decode (mi 134).2.1 123 = .ok (.iadd, 1) := by decide +kernel
theorem st_134_123 : Sd 134 123 1 (i_iadd) := sd_iadd dd_134_123
theorem dd_134_124 : decode (mi 134).2.1 124 = .ok (.istore_n 2, 1) := by decide +kernel
theorem st_134_124 : Sd 134 124 1 (i_stI 2) := sd_istore_n (j := 2) dd_134_124 rfl
def bk_134_111 : Tr := sq (i_ldI 2) (sq (i_ldR 0) (sq (i_ldI 1) (sq (i_ldI 5) (sq (i_ldI 6) (sq (i_ldI 4) (sq (i_cV [(2, 135)] 5 7 []) (sq (i_iadd) (sq (i_stI 2) (i_fall 125)))))))))
theorem sb_134_111 : Sd 134 111 14 bk_134_111 := Sd.sq st_134_111 (Sd.sq st_134_112 (Sd.sq st_134_113 (Sd.sq st_134_114 (Sd.sq st_134_116 (Sd.sq st_134_118 (Sd.sq st_134_120 (Sd.sq st_134_123 (Sd.sq st_134_124 (sd_fall rfl)))))))))
theorem dd_134_125 : decode (mi 134).2.1 125 = .ok (.goto (-95), 3) := by decide +kernel
theorem st_134_125 : Sd 134 125 3 (i_goto 30) := sd_goto dd_134_125 (by decide)
def bk_134_125 : Tr := i_goto 30
theorem sb_134_125 : Sd 134 125 3 bk_134_125 := st_134_125
theorem dd_134_128 : decode (mi 134).2.1 128 = .ok (.iload_n 2, 1) := by decide +kernel
theorem st_134_128 : Sd 134 128 1 (i_ldI 2) := sd_iload_n (j := 2) dd_134_128 rfl
theorem dd_134_129 : decode (mi 134).2.1 129 = .ok (.ireturn, 1) := by decide +kernel
theorem st_134_129 : Sd 134 129 1 (i_rI 0) := sd_ireturn dd_134_129 (by decide) mr_134
def bk_134_128 : Tr := sq (i_ldI 2) (i_rI 0)
theorem sb_134_128 : Sd 134 128 2 bk_134_128 := Sd.sq st_134_128 (st_134_129)
theorem dd_135_0 : decode (mi 135).2.1 0 = .ok (.aload_n 0, 1) := by decide +kernel
theorem st_135_0 : Sd 135 0 1 (i_ldR 0) := sd_aload_n (j := 0) dd_135_0 rfl
theorem dd_135_1 : decode (mi 135).2.1 1 = .ok (.iload_n 1, 1) := by decide +kernel
theorem st_135_1 : Sd 135 1 1 (i_ldI 1) := sd_iload_n (j := 1) dd_135_1 rfl
theorem dd_135_2 : decode (mi 135).2.1 2 = .ok (.invokevirtual 189, 3) := by decide +kernel
theorem st_135_2 : Sd 135 2 3 (i_cV [(2, 174)] 2 8 []) := sd_virt ⟨"ContractDeskModel", "selected", "(I)I"⟩ dd_135_2 (by rw [mc_135]; exact tw_1485) (fun t j h => by simp only [List.mem_cons, List.not_mem_nil, or_false, Prod.mk.injEq] at h; obtain ⟨rfl, rfl⟩ := h; exact mn_174) (fun t j h => by simp only [List.mem_cons, List.not_mem_nil, or_false, Prod.mk.injEq] at h; obtain ⟨rfl, rfl⟩ := h; exact ⟨by rw [mn_174]; exact tw_48, by rw [mn_174]; exact tw_1487, mt_174, by decide, by decide⟩) (by unfold prm; decide +kernel) ml_135 (HsOk.nil (by decide +kernel))
theorem dd_135_5 : decode (mi 135).2.1 5 = .ok (.istore 5, 2) := by decide +kernel
theorem st_135_5 : Sd 135 5 2 (i_stI 5) := sd_istore dd_135_5
theorem dd_135_7 : decode (mi 135).2.1 7 = .ok (.iload 5, 2) := by decide +kernel
theorem st_135_7 : Sd 135 7 2 (i_ldI 5) := sd_iload dd_135_7
theorem dd_135_9 : decode (mi 135).2.1 9 = .ok (.ifCond .ge 7, 3) := by decide +kernel
theorem st_135_9 : Sd 135 9 3 (i_zge 16) := sd_if_ge dd_135_9 (by decide)
theorem dd_135_12 : decode (mi 135).2.1 12 = .ok (.iconst 0, 1) := by decide +kernel
theorem st_135_12 : Sd 135 12 1 (i_ic 0) := sd_iconst dd_135_12
theorem dd_135_13 : decode (mi 135).2.1 13 = .ok (.goto 16, 3) := by decide +kernel
theorem st_135_13 : Sd 135 13 3 (i_goto 29) := sd_goto dd_135_13 (by decide)
def bk_135_0 : Tr := sq (i_ldR 0) (sq (i_ldI 1) (sq (i_cV [(2, 174)] 2 8 []) (sq (i_stI 5) (sq (i_ldI 5) (sq (i_zge 16) (sq (i_ic 0) (i_goto 29)))))))
theorem sb_135_0 : Sd 135 0 16 bk_135_0 := Sd.sq st_135_0 (Sd.sq st_135_1 (Sd.sq st_135_2 (Sd.sq st_135_5 (Sd.sq st_135_7 (Sd.sq st_135_9 (Sd.sq st_135_12 (st_135_13)))))))
theorem dd_135_16 : decode (mi 135).2.1 16 = .ok (.aload_n 0, 1) := by decide +kernel
theorem st_135_16 : Sd 135 16 1 (i_ldR 0) := sd_aload_n (j := 0) dd_135_16 rfl
theorem dd_135_17 : decode (mi 135).2.1 17 = .ok (.bipush 8, 2) := by decide +kernel
theorem st_135_17 : Sd 135 17 2 (i_ic 8) := sd_bipush dd_135_17 (by decide)
theorem dd_135_19 : decode (mi 135).2.1 19 = .ok (.iload_n 1, 1) := by decide +kernel
theorem st_135_19 : Sd 135 19 1 (i_ldI 1) := sd_iload_n (j := 1) dd_135_19 rfl
theorem dd_135_20 : decode (mi 135).2.1 20 = .ok (.imul, 1) := by decide +kernel
theorem st_135_20 : Sd 135 20 1 (i_imul) := sd_imul dd_135_20
theorem dd_135_21 : decode (mi 135).2.1 21 = .ok (.iload 5, 2) := by decide +kernel
theorem st_135_21 : Sd 135 21 2 (i_ldI 5) := sd_iload dd_135_21
theorem dd_135_23 : decode (mi 135).2.1 23 = .ok (.iadd, 1) := by decide +kernel
theorem st_135_23 : Sd 135 23 1 (i_iadd) := sd_iadd dd_135_23
theorem dd_135_24 : decode (mi 135).2.1 24 = .ok (.iload_n 2, 1) := by decide +kernel
theorem st_135_24 : Sd 135 24 1 (i_ldI 2) := sd_iload_n (j := 2) dd_135_24 rfl
theorem dd_135_25 : decode (mi 135).2.1 25 = .ok (.iload_n 3, 1) := by decide +kernel
theorem st_135_25 : Sd 135 25 1 (i_ldI 3) := sd_iload_n (j := 3) dd_135_25 rfl
theorem dd_135_26 : decode (mi 135).2.1 26 = .ok (.invokevirtual 222, 3) := by decide +kernel
theorem st_135_26 : Sd 135 26 3 (i_cV [(2, 163)] 4 8 []) := sd_virt ⟨"ContractDeskModel", "outcome", "(III)I"⟩ dd_135_26 (by rw [mc_135]; exact tw_1533) (fun t j h => by simp only [List.mem_cons, List.not_mem_nil, or_false, Prod.mk.injEq] at h; obtain ⟨rfl, rfl⟩ := h; exact mn_163) (fun t j h => by simp only [List.mem_cons, List.not_mem_nil, or_false, Prod.mk.injEq] at h; obtain ⟨rfl, rfl⟩ := h; exact ⟨by rw [mn_163]; exact tw_59, by rw [mn_163]; exact tw_1535, mt_163, by decide, by decide⟩) (by unfold prm; decide +kernel) ml_135 (HsOk.nil (by decide +kernel))
def bk_135_16 : Tr := sq (i_ldR 0) (sq (i_ic 8) (sq (i_ldI 1) (sq (i_imul) (sq (i_ldI 5) (sq (i_iadd) (sq (i_ldI 2) (sq (i_ldI 3) (sq (i_cV [(2, 163)] 4 8 []) (i_fall 29)))))))))
theorem sb_135_16 : Sd 135 16 13 bk_135_16 := Sd.sq st_135_16 (Sd.sq st_135_17 (Sd.sq st_135_19 (Sd.sq st_135_20 (Sd.sq st_135_21 (Sd.sq st_135_23 (Sd.sq st_135_24 (Sd.sq st_135_25 (Sd.sq st_135_26 (sd_fall rfl)))))))))
theorem dd_135_29 : decode (mi 135).2.1 29 = .ok (.istore 6, 2) := by decide +kernel
theorem st_135_29 : Sd 135 29 2 (i_stI 6) := sd_istore dd_135_29
theorem dd_135_31 : decode (mi 135).2.1 31 = .ok (.iload 5, 2) := by decide +kernel
theorem st_135_31 : Sd 135 31 2 (i_ldI 5) := sd_iload dd_135_31
theorem dd_135_33 : decode (mi 135).2.1 33 = .ok (.ifCond .lt 16, 3) := by decide +kernel
theorem st_135_33 : Sd 135 33 3 (i_zlt 49) := sd_if_lt dd_135_33 (by decide)
theorem dd_135_36 : decode (mi 135).2.1 36 = .ok (.iload 6, 2) := by decide +kernel
theorem st_135_36 : Sd 135 36 2 (i_ldI 6) := sd_iload dd_135_36
theorem dd_135_38 : decode (mi 135).2.1 38 = .ok (.ifCond .le 7, 3) := by decide +kernel
theorem st_135_38 : Sd 135 38 3 (i_zle 45) := sd_if_le dd_135_38 (by decide)
theorem dd_135_41 : decode (mi 135).2.1 41 = .ok (.iconst 1, 1) := by decide +kernel
theorem st_135_41 : Sd 135 41 1 (i_ic 1) := sd_iconst dd_135_41
theorem dd_135_42 : decode (mi 135).2.1 42 = .ok (.goto 43, 3) := by decide +kernel
theorem st_135_42 : Sd 135 42 3 (i_goto 85) := sd_goto dd_135_42 (by decide)
def bk_135_29 : Tr := sq (i_stI 6) (sq (i_ldI 5) (sq (i_zlt 49) (sq (i_ldI 6) (sq (i_zle 45) (sq (i_ic 1) (i_goto 85))))))
theorem sb_135_29 : Sd 135 29 16 bk_135_29 := Sd.sq st_135_29 (Sd.sq st_135_31 (Sd.sq st_135_33 (Sd.sq st_135_36 (Sd.sq st_135_38 (Sd.sq st_135_41 (st_135_42))))))
theorem dd_135_45 : decode (mi 135).2.1 45 = .ok (.iconst 0, 1) := by decide +kernel
theorem st_135_45 : Sd 135 45 1 (i_ic 0) := sd_iconst dd_135_45
theorem dd_135_46 : decode (mi 135).2.1 46 = .ok (.goto 39, 3) := by decide +kernel
theorem st_135_46 : Sd 135 46 3 (i_goto 85) := sd_goto dd_135_46 (by decide)
def bk_135_45 : Tr := sq (i_ic 0) (i_goto 85)
theorem sb_135_45 : Sd 135 45 4 bk_135_45 := Sd.sq st_135_45 (st_135_46)
theorem dd_135_49 : decode (mi 135).2.1 49 = .ok (.aload_n 0, 1) := by decide +kernel
theorem st_135_49 : Sd 135 49 1 (i_ldR 0) := sd_aload_n (j := 0) dd_135_49 rfl
theorem dd_135_50 : decode (mi 135).2.1 50 = .ok (.iload_n 2, 1) := by decide +kernel
theorem st_135_50 : Sd 135 50 1 (i_ldI 2) := sd_iload_n (j := 2) dd_135_50 rfl
theorem dd_135_51 : decode (mi 135).2.1 51 = .ok (.invokevirtual 125, 3) := by decide +kernel
theorem st_135_51 : Sd 135 51 3 (i_cV [(2, 152)] 2 8 []) := sd_virt ⟨"ContractDeskModel", "kind", "(I)I"⟩ dd_135_51 (by rw [mc_135]; exact tw_1418) (fun t j h => by simp only [List.mem_cons, List.not_mem_nil, or_false, Prod.mk.injEq] at h; obtain ⟨rfl, rfl⟩ := h; exact mn_152) (fun t j h => by simp only [List.mem_cons, List.not_mem_nil, or_false, Prod.mk.injEq] at h; obtain ⟨rfl, rfl⟩ := h; exact ⟨by rw [mn_152]; exact tw_36, by rw [mn_152]; exact tw_1420, mt_152, by decide, by decide⟩) (by unfold prm; decide +kernel) ml_135 (HsOk.nil (by decide +kernel))
theorem dd_135_54 : decode (mi 135).2.1 54 = .ok (.aload_n 0, 1) := by decide +kernel
theorem st_135_54 : Sd 135 54 1 (i_ldR 0) := sd_aload_n (j := 0) dd_135_54 rfl
theorem dd_135_55 : decode (mi 135).2.1 55 = .ok (.iload_n 3, 1) := by decide +kernel
theorem st_135_55 : Sd 135 55 1 (i_ldI 3) := sd_iload_n (j := 3) dd_135_55 rfl
theorem dd_135_56 : decode (mi 135).2.1 56 = .ok (.invokevirtual 125, 3) := by decide +kernel
theorem st_135_56 : Sd 135 56 3 (i_cV [(2, 152)] 2 8 []) := sd_virt ⟨"ContractDeskModel", "kind", "(I)I"⟩ dd_135_56 (by rw [mc_135]; exact tw_1418) (fun t j h => by simp only [List.mem_cons, List.not_mem_nil, or_false, Prod.mk.injEq] at h; obtain ⟨rfl, rfl⟩ := h; exact mn_152) (fun t j h => by simp only [List.mem_cons, List.not_mem_nil, or_false, Prod.mk.injEq] at h; obtain ⟨rfl, rfl⟩ := h; exact ⟨by rw [mn_152]; exact tw_36, by rw [mn_152]; exact tw_1420, mt_152, by decide, by decide⟩) (by unfold prm; decide +kernel) ml_135 (HsOk.nil (by decide +kernel))
theorem dd_135_59 : decode (mi 135).2.1 59 = .ok (.if_icmp .ne 25, 3) := by decide +kernel
theorem st_135_59 : Sd 135 59 3 (i_cne 84) := sd_icmp_ne dd_135_59 (by decide)
theorem dd_135_62 : decode (mi 135).2.1 62 = .ok (.aload_n 0, 1) := by decide +kernel
theorem st_135_62 : Sd 135 62 1 (i_ldR 0) := sd_aload_n (j := 0) dd_135_62 rfl
theorem dd_135_63 : decode (mi 135).2.1 63 = .ok (.iload_n 2, 1) := by decide +kernel
theorem st_135_63 : Sd 135 63 1 (i_ldI 2) := sd_iload_n (j := 2) dd_135_63 rfl
theorem dd_135_64 : decode (mi 135).2.1 64 = .ok (.invokevirtual 125, 3) := by decide +kernel
theorem st_135_64 : Sd 135 64 3 (i_cV [(2, 152)] 2 8 []) := sd_virt ⟨"ContractDeskModel", "kind", "(I)I"⟩ dd_135_64 (by rw [mc_135]; exact tw_1418) (fun t j h => by simp only [List.mem_cons, List.not_mem_nil, or_false, Prod.mk.injEq] at h; obtain ⟨rfl, rfl⟩ := h; exact mn_152) (fun t j h => by simp only [List.mem_cons, List.not_mem_nil, or_false, Prod.mk.injEq] at h; obtain ⟨rfl, rfl⟩ := h; exact ⟨by rw [mn_152]; exact tw_36, by rw [mn_152]; exact tw_1420, mt_152, by decide, by decide⟩) (by unfold prm; decide +kernel) ml_135 (HsOk.nil (by decide +kernel))
theorem dd_135_67 : decode (mi 135).2.1 67 = .ok (.iconst 3, 1) := by decide +kernel
theorem st_135_67 : Sd 135 67 1 (i_ic 3) := sd_iconst dd_135_67
theorem dd_135_68 : decode (mi 135).2.1 68 = .ok (.if_icmp .gt 12, 3) := by decide +kernel
theorem st_135_68 : Sd 135 68 3 (i_cgt 80) := sd_icmp_gt dd_135_68 (by decide)
theorem dd_135_71 : decode (mi 135).2.1 71 = .ok (.aload_n 0, 1) := by decide +kernel
theorem st_135_71 : Sd 135 71 1 (i_ldR 0) := sd_aload_n (j := 0) dd_135_71 rfl
theorem dd_135_72 : decode (mi 135).2.1 72 = .ok (.iload_n 2, 1) := by decide +kernel
theorem st_135_72 : Sd 135 72 1 (i_ldI 2) := sd_iload_n (j := 2) dd_135_72 rfl
theorem dd_135_73 : decode (mi 135).2.1 73 = .ok (.iload_n 3, 1) := by decide +kernel
theorem st_135_73 : Sd 135 73 1 (i_ldI 3) := sd_iload_n (j := 3) dd_135_73 rfl
theorem dd_135_74 : decode (mi 135).2.1 74 = .ok (.invokevirtual 138, 3) := by decide +kernel
theorem st_135_74 : Sd 135 74 3 (i_cV [(2, 172)] 3 8 []) := sd_virt ⟨"ContractDeskModel", "sameText", "(II)Z"⟩ dd_135_74 (by rw [mc_135]; exact tw_1422) (fun t j h => by simp only [List.mem_cons, List.not_mem_nil, or_false, Prod.mk.injEq] at h; obtain ⟨rfl, rfl⟩ := h; exact mn_172) (fun t j h => by simp only [List.mem_cons, List.not_mem_nil, or_false, Prod.mk.injEq] at h; obtain ⟨rfl, rfl⟩ := h; exact ⟨by rw [mn_172]; exact tw_37, by rw [mn_172]; exact tw_1424, mt_172, by decide, by decide⟩) (by unfold prm; decide +kernel) ml_135 (HsOk.nil (by decide +kernel))
theorem dd_135_77 : decode (mi 135).2.1 77 = .ok (.ifCond .eq 7, 3) := by decide +kernel
theorem st_135_77 : Sd 135 77 3 (i_zeq 84) := sd_if_eq dd_135_77 (by decide)
def bk_135_49 : Tr := sq (i_ldR 0) (sq (i_ldI 2) (sq (i_cV [(2, 152)] 2 8 []) (sq (i_ldR 0) (sq (i_ldI 3) (sq (i_cV [(2, 152)] 2 8 []) (sq (i_cne 84) (sq (i_ldR 0) (sq (i_ldI 2) (sq (i_cV [(2, 152)] 2 8 []) (sq (i_ic 3) (sq (i_cgt 80) (sq (i_ldR 0) (sq (i_ldI 2) (sq (i_ldI 3) (sq (i_cV [(2, 172)] 3 8 []) (sq (i_zeq 84) (i_fall 80)))))))))))))))))
theorem sb_135_49 : Sd 135 49 31 bk_135_49 := Sd.sq st_135_49 (Sd.sq st_135_50 (Sd.sq st_135_51 (Sd.sq st_135_54 (Sd.sq st_135_55 (Sd.sq st_135_56 (Sd.sq st_135_59 (Sd.sq st_135_62 (Sd.sq st_135_63 (Sd.sq st_135_64 (Sd.sq st_135_67 (Sd.sq st_135_68 (Sd.sq st_135_71 (Sd.sq st_135_72 (Sd.sq st_135_73 (Sd.sq st_135_74 (Sd.sq st_135_77 (sd_fall rfl)))))))))))))))))
theorem dd_135_80 : decode (mi 135).2.1 80 = .ok (.iconst 1, 1) := by decide +kernel
theorem st_135_80 : Sd 135 80 1 (i_ic 1) := sd_iconst dd_135_80
theorem dd_135_81 : decode (mi 135).2.1 81 = .ok (.goto 4, 3) := by decide +kernel
theorem st_135_81 : Sd 135 81 3 (i_goto 85) := sd_goto dd_135_81 (by decide)
def bk_135_80 : Tr := sq (i_ic 1) (i_goto 85)
theorem sb_135_80 : Sd 135 80 4 bk_135_80 := Sd.sq st_135_80 (st_135_81)
theorem dd_135_84 : decode (mi 135).2.1 84 = .ok (.iconst 0, 1) := by decide +kernel
theorem st_135_84 : Sd 135 84 1 (i_ic 0) := sd_iconst dd_135_84
def bk_135_84 : Tr := sq (i_ic 0) (i_fall 85)
theorem sb_135_84 : Sd 135 84 1 bk_135_84 := Sd.sq st_135_84 (sd_fall rfl)
theorem dd_135_85 : decode (mi 135).2.1 85 = .ok (.istore 7, 2) := by decide +kernel
theorem st_135_85 : Sd 135 85 2 (i_stI 7) := sd_istore dd_135_85
theorem dd_135_87 : decode (mi 135).2.1 87 = .ok (.iload 7, 2) := by decide +kernel
theorem st_135_87 : Sd 135 87 2 (i_ldI 7) := sd_iload dd_135_87
theorem dd_135_89 : decode (mi 135).2.1 89 = .ok (.ifCond .ne 19, 3) := by decide +kernel
theorem st_135_89 : Sd 135 89 3 (i_zne 108) := sd_if_ne dd_135_89 (by decide)
theorem dd_135_92 : decode (mi 135).2.1 92 = .ok (.aload_n 0, 1) := by decide +kernel
theorem st_135_92 : Sd 135 92 1 (i_ldR 0) := sd_aload_n (j := 0) dd_135_92 rfl
theorem dd_135_93 : decode (mi 135).2.1 93 = .ok (.iload 5, 2) := by decide +kernel
theorem st_135_93 : Sd 135 93 2 (i_ldI 5) := sd_iload dd_135_93
theorem dd_135_95 : decode (mi 135).2.1 95 = .ok (.ifCond .ge 7, 3) := by decide +kernel
theorem st_135_95 : Sd 135 95 3 (i_zge 102) := sd_if_ge dd_135_95 (by decide)
theorem dd_135_98 : decode (mi 135).2.1 98 = .ok (.iconst 1, 1) := by decide +kernel
theorem st_135_98 : Sd 135 98 1 (i_ic 1) := sd_iconst dd_135_98
theorem dd_135_99 : decode (mi 135).2.1 99 = .ok (.goto 4, 3) := by decide +kernel
theorem st_135_99 : Sd 135 99 3 (i_goto 103) := sd_goto dd_135_99 (by decide)
def bk_135_85 : Tr := sq (i_stI 7) (sq (i_ldI 7) (sq (i_zne 108) (sq (i_ldR 0) (sq (i_ldI 5) (sq (i_zge 102) (sq (i_ic 1) (i_goto 103)))))))
theorem sb_135_85 : Sd 135 85 17 bk_135_85 := Sd.sq st_135_85 (Sd.sq st_135_87 (Sd.sq st_135_89 (Sd.sq st_135_92 (Sd.sq st_135_93 (Sd.sq st_135_95 (Sd.sq st_135_98 (st_135_99)))))))
theorem dd_135_102 : decode (mi 135).2.1 102 = .ok (.iconst 5, 1) := by decide +kernel
theorem st_135_102 : Sd 135 102 1 (i_ic 5) := sd_iconst dd_135_102
def bk_135_102 : Tr := sq (i_ic 5) (i_fall 103)
theorem sb_135_102 : Sd 135 102 1 bk_135_102 := Sd.sq st_135_102 (sd_fall rfl)
theorem dd_135_103 : decode (mi 135).2.1 103 = .ok (.invokevirtual 226, 3) := by decide +kernel
theorem st_135_103 : Sd 135 103 3 (i_cV [(2, 155)] 2 8 []) := sd_virt ⟨"ContractDeskModel", "list", "(I)V"⟩ dd_135_103 (by rw [mc_135]; exact tw_1521) (fun t j h => by simp only [List.mem_cons, List.not_mem_nil, or_false, Prod.mk.injEq] at h; obtain ⟨rfl, rfl⟩ := h; exact mn_155) (fun t j h => by simp only [List.mem_cons, List.not_mem_nil, or_false, Prod.mk.injEq] at h; obtain ⟨rfl, rfl⟩ := h; exact ⟨by rw [mn_155]; exact tw_56, by rw [mn_155]; exact tw_1523, mt_155, by decide, by decide⟩) (by unfold prm; decide +kernel) ml_135 (HsOk.nil (by decide +kernel))
theorem dd_135_106 : decode (mi 135).2.1 106 = .ok (.iconst 1, 1) := by decide +kernel
theorem st_135_106 : Sd 135 106 1 (i_ic 1) := sd_iconst dd_135_106
theorem dd_135_107 : decode (mi 135).2.1 107 = .ok (.ireturn, 1) := by decide +kernel
theorem st_135_107 : Sd 135 107 1 (i_rI 0) := sd_ireturn dd_135_107 (by decide) mr_135
def bk_135_103 : Tr := sq (i_cV [(2, 155)] 2 8 []) (sq (i_ic 1) (i_rI 0))
theorem sb_135_103 : Sd 135 103 5 bk_135_103 := Sd.sq st_135_103 (Sd.sq st_135_106 (st_135_107))
theorem dd_135_108 : decode (mi 135).2.1 108 = .ok (.aload_n 0, 1) := by decide +kernel
theorem st_135_108 : Sd 135 108 1 (i_ldR 0) := sd_aload_n (j := 0) dd_135_108 rfl
theorem dd_135_109 : decode (mi 135).2.1 109 = .ok (.iload_n 2, 1) := by decide +kernel
theorem st_135_109 : Sd 135 109 1 (i_ldI 2) := sd_iload_n (j := 2) dd_135_109 rfl
theorem dd_135_110 : decode (mi 135).2.1 110 = .ok (.invokevirtual 125, 3) := by decide +kernel
theorem st_135_110 : Sd 135 110 3 (i_cV [(2, 152)] 2 8 []) := sd_virt ⟨"ContractDeskModel", "kind", "(I)I"⟩ dd_135_110 (by rw [mc_135]; exact tw_1418) (fun t j h => by simp only [List.mem_cons, List.not_mem_nil, or_false, Prod.mk.injEq] at h; obtain ⟨rfl, rfl⟩ := h; exact mn_152) (fun t j h => by simp only [List.mem_cons, List.not_mem_nil, or_false, Prod.mk.injEq] at h; obtain ⟨rfl, rfl⟩ := h; exact ⟨by rw [mn_152]; exact tw_36, by rw [mn_152]; exact tw_1420, mt_152, by decide, by decide⟩) (by unfold prm; decide +kernel) ml_135 (HsOk.nil (by decide +kernel))
theorem dd_135_113 : decode (mi 135).2.1 113 = .ok (.iconst 4, 1) := by decide +kernel
theorem st_135_113 : Sd 135 113 1 (i_ic 4) := sd_iconst dd_135_113
theorem dd_135_114 : decode (mi 135).2.1 114 = .ok (.if_icmp .ne 32, 3) := by decide +kernel
theorem st_135_114 : Sd 135 114 3 (i_cne 146) := sd_icmp_ne dd_135_114 (by decide)
theorem dd_135_117 : decode (mi 135).2.1 117 = .ok (.aload_n 0, 1) := by decide +kernel
theorem st_135_117 : Sd 135 117 1 (i_ldR 0) := sd_aload_n (j := 0) dd_135_117 rfl
theorem dd_135_118 : decode (mi 135).2.1 118 = .ok (.iload_n 3, 1) := by decide +kernel
theorem st_135_118 : Sd 135 118 1 (i_ldI 3) := sd_iload_n (j := 3) dd_135_118 rfl
theorem dd_135_119 : decode (mi 135).2.1 119 = .ok (.invokevirtual 125, 3) := by decide +kernel
theorem st_135_119 : Sd 135 119 3 (i_cV [(2, 152)] 2 8 []) := sd_virt ⟨"ContractDeskModel", "kind", "(I)I"⟩ dd_135_119 (by rw [mc_135]; exact tw_1418) (fun t j h => by simp only [List.mem_cons, List.not_mem_nil, or_false, Prod.mk.injEq] at h; obtain ⟨rfl, rfl⟩ := h; exact mn_152) (fun t j h => by simp only [List.mem_cons, List.not_mem_nil, or_false, Prod.mk.injEq] at h; obtain ⟨rfl, rfl⟩ := h; exact ⟨by rw [mn_152]; exact tw_36, by rw [mn_152]; exact tw_1420, mt_152, by decide, by decide⟩) (by unfold prm; decide +kernel) ml_135 (HsOk.nil (by decide +kernel))
theorem dd_135_122 : decode (mi 135).2.1 122 = .ok (.iconst 4, 1) := by decide +kernel
theorem st_135_122 : Sd 135 122 1 (i_ic 4) := sd_iconst dd_135_122
theorem dd_135_123 : decode (mi 135).2.1 123 = .ok (.if_icmp .ne 23, 3) := by decide +kernel
theorem st_135_123 : Sd 135 123 3 (i_cne 146) := sd_icmp_ne dd_135_123 (by decide)
theorem dd_135_126 : decode (mi 135).2.1 126 = .ok (.aload_n 0, 1) := by decide +kernel
theorem st_135_126 : Sd 135 126 1 (i_ldR 0) := sd_aload_n (j := 0) dd_135_126 rfl
theorem dd_135_127 : decode (mi 135).2.1 127 = .ok (.iload 6, 2) := by decide +kernel
theorem st_135_127 : Sd 135 127 2 (i_ldI 6) := sd_iload dd_135_127
theorem dd_135_129 : decode (mi 135).2.1 129 = .ok (.iconst 3, 1) := by decide +kernel
theorem st_135_129 : Sd 135 129 1 (i_ic 3) := sd_iconst dd_135_129
theorem dd_135_130 : decode (mi 135).2.1 130 = .ok (.if_icmp .ne 7, 3) := by decide +kernel
theorem st_135_130 : Sd 135 130 3 (i_cne 137) := sd_icmp_ne dd_135_130 (by decide)
theorem dd_135_133 : decode (mi 135).2.1 133 = .ok (.iconst 1, 1) := by decide +kernel
theorem st_135_133 : Sd 135 133 1 (i_ic 1) := sd_iconst dd_135_133
theorem dd_135_134 : decode (mi 135).2.1 134 = .ok (.goto 4, 3) := by decide +kernel
theorem st_135_134 : Sd 135 134 3 (i_goto 138) := sd_goto dd_135_134 (by decide)
def bk_135_108 : Tr := sq (i_ldR 0) (sq (i_ldI 2) (sq (i_cV [(2, 152)] 2 8 []) (sq (i_ic 4) (sq (i_cne 146) (sq (i_ldR 0) (sq (i_ldI 3) (sq (i_cV [(2, 152)] 2 8 []) (sq (i_ic 4) (sq (i_cne 146) (sq (i_ldR 0) (sq (i_ldI 6) (sq (i_ic 3) (sq (i_cne 137) (sq (i_ic 1) (i_goto 138)))))))))))))))
theorem sb_135_108 : Sd 135 108 29 bk_135_108 := Sd.sq st_135_108 (Sd.sq st_135_109 (Sd.sq st_135_110 (Sd.sq st_135_113 (Sd.sq st_135_114 (Sd.sq st_135_117 (Sd.sq st_135_118 (Sd.sq st_135_119 (Sd.sq st_135_122 (Sd.sq st_135_123 (Sd.sq st_135_126 (Sd.sq st_135_127 (Sd.sq st_135_129 (Sd.sq st_135_130 (Sd.sq st_135_133 (st_135_134)))))))))))))))
theorem dd_135_137 : decode (mi 135).2.1 137 = .ok (.iconst 0, 1) := by decide +kernel
theorem st_135_137 : Sd 135 137 1 (i_ic 0) := sd_iconst dd_135_137
def bk_135_137 : Tr := sq (i_ic 0) (i_fall 138)
theorem sb_135_137 : Sd 135 137 1 bk_135_137 := Sd.sq st_135_137 (sd_fall rfl)
theorem dd_135_138 : decode (mi 135).2.1 138 = .ok (.iload_n 2, 1) := by decide +kernel
theorem st_135_138 : Sd 135 138 1 (i_ldI 2) := sd_iload_n (j := 2) dd_135_138 rfl
theorem dd_135_139 : decode (mi 135).2.1 139 = .ok (.iload_n 3, 1) := by decide +kernel
theorem st_135_139 : Sd 135 139 1 (i_ldI 3) := sd_iload_n (j := 3) dd_135_139 rfl
theorem dd_135_140 : decode (mi 135).2.1 140 = .ok (.iload 4, 2) := by decide +kernel
theorem st_135_140 : Sd 135 140 2 (i_ldI 4) := sd_iload dd_135_140
theorem dd_135_142 : decode (mi 135).2.1 142 = .ok (.invokevirtual 229, 3) := by decide +kernel
theorem st_135_142 : Sd 135 142 3 (i_cV [(2, 138)] 5 8 []) := sd_virt ⟨"ContractDeskModel", "elements", "(ZIII)I"⟩ dd_135_142 (by rw [mc_135]; exact tw_1557) (fun t j h => by simp only [List.mem_cons, List.not_mem_nil, or_false, Prod.mk.injEq] at h; obtain ⟨rfl, rfl⟩ := h; exact mn_138) (fun t j h => by simp only [List.mem_cons, List.not_mem_nil, or_false, Prod.mk.injEq] at h; obtain ⟨rfl, rfl⟩ := h; exact ⟨by rw [mn_138]; exact tw_65, by rw [mn_138]; exact tw_1559, mt_138, by decide, by decide⟩) (by unfold prm; decide +kernel) ml_135 (HsOk.nil (by decide +kernel))
theorem dd_135_145 : decode (mi 135).2.1 145 = .ok (.ireturn, 1) := by decide +kernel
theorem st_135_145 : Sd 135 145 1 (i_rI 0) := sd_ireturn dd_135_145 (by decide) mr_135
def bk_135_138 : Tr := sq (i_ldI 2) (sq (i_ldI 3) (sq (i_ldI 4) (sq (i_cV [(2, 138)] 5 8 []) (i_rI 0))))
theorem sb_135_138 : Sd 135 138 8 bk_135_138 := Sd.sq st_135_138 (Sd.sq st_135_139 (Sd.sq st_135_140 (Sd.sq st_135_142 (st_135_145))))
theorem dd_135_146 : decode (mi 135).2.1 146 = .ok (.aload_n 0, 1) := by decide +kernel
theorem st_135_146 : Sd 135 146 1 (i_ldR 0) := sd_aload_n (j := 0) dd_135_146 rfl
theorem dd_135_147 : decode (mi 135).2.1 147 = .ok (.iload_n 2, 1) := by decide +kernel
theorem st_135_147 : Sd 135 147 1 (i_ldI 2) := sd_iload_n (j := 2) dd_135_147 rfl
theorem dd_135_148 : decode (mi 135).2.1 148 = .ok (.invokevirtual 125, 3) := by decide +kernel
theorem st_135_148 : Sd 135 148 3 (i_cV [(2, 152)] 2 8 []) := sd_virt ⟨"ContractDeskModel", "kind", "(I)I"⟩ dd_135_148 (by rw [mc_135]; exact tw_1418) (fun t j h => by simp only [List.mem_cons, List.not_mem_nil, or_false, Prod.mk.injEq] at h; obtain ⟨rfl, rfl⟩ := h; exact mn_152) (fun t j h => by simp only [List.mem_cons, List.not_mem_nil, or_false, Prod.mk.injEq] at h; obtain ⟨rfl, rfl⟩ := h; exact ⟨by rw [mn_152]; exact tw_36, by rw [mn_152]; exact tw_1420, mt_152, by decide, by decide⟩) (by unfold prm; decide +kernel) ml_135 (HsOk.nil (by decide +kernel))
theorem dd_135_151 : decode (mi 135).2.1 151 = .ok (.iconst 5, 1) := by decide +kernel
theorem st_135_151 : Sd 135 151 1 (i_ic 5) := sd_iconst dd_135_151
theorem dd_135_152 : decode (mi 135).2.1 152 = .ok (.if_icmp .ne 21, 3) := by decide +kernel
theorem st_135_152 : Sd 135 152 3 (i_cne 173) := sd_icmp_ne dd_135_152 (by decide)
theorem dd_135_155 : decode (mi 135).2.1 155 = .ok (.aload_n 0, 1) := by decide +kernel
theorem st_135_155 : Sd 135 155 1 (i_ldR 0) := sd_aload_n (j := 0) dd_135_155 rfl
theorem dd_135_156 : decode (mi 135).2.1 156 = .ok (.iload_n 3, 1) := by decide +kernel
theorem st_135_156 : Sd 135 156 1 (i_ldI 3) := sd_iload_n (j := 3) dd_135_156 rfl
theorem dd_135_157 : decode (mi 135).2.1 157 = .ok (.invokevirtual 125, 3) := by decide +kernel
theorem st_135_157 : Sd 135 157 3 (i_cV [(2, 152)] 2 8 []) := sd_virt ⟨"ContractDeskModel", "kind", "(I)I"⟩ dd_135_157 (by rw [mc_135]; exact tw_1418) (fun t j h => by simp only [List.mem_cons, List.not_mem_nil, or_false, Prod.mk.injEq] at h; obtain ⟨rfl, rfl⟩ := h; exact mn_152) (fun t j h => by simp only [List.mem_cons, List.not_mem_nil, or_false, Prod.mk.injEq] at h; obtain ⟨rfl, rfl⟩ := h; exact ⟨by rw [mn_152]; exact tw_36, by rw [mn_152]; exact tw_1420, mt_152, by decide, by decide⟩) (by unfold prm; decide +kernel) ml_135 (HsOk.nil (by decide +kernel))
theorem dd_135_160 : decode (mi 135).2.1 160 = .ok (.iconst 5, 1) := by decide +kernel
theorem st_135_160 : Sd 135 160 1 (i_ic 5) := sd_iconst dd_135_160
theorem dd_135_161 : decode (mi 135).2.1 161 = .ok (.if_icmp .ne 12, 3) := by decide +kernel
theorem st_135_161 : Sd 135 161 3 (i_cne 173) := sd_icmp_ne dd_135_161 (by decide)
theorem dd_135_164 : decode (mi 135).2.1 164 = .ok (.aload_n 0, 1) := by decide +kernel
theorem st_135_164 : Sd 135 164 1 (i_ldR 0) := sd_aload_n (j := 0) dd_135_164 rfl
theorem dd_135_165 : decode (mi 135).2.1 165 = .ok (.iload_n 1, 1) := by decide +kernel
theorem st_135_165 : Sd 135 165 1 (i_ldI 1) := sd_iload_n (j := 1) dd_135_165 rfl
theorem dd_135_166 : decode (mi 135).2.1 166 = .ok (.iload_n 2, 1) := by decide +kernel
theorem st_135_166 : Sd 135 166 1 (i_ldI 2) := sd_iload_n (j := 2) dd_135_166 rfl
theorem dd_135_167 : decode (mi 135).2.1 167 = .ok (.iload_n 3, 1) := by decide +kernel
theorem st_135_167 : Sd 135 167 1 (i_ldI 3) := sd_iload_n (j := 3) dd_135_167 rfl
theorem dd_135_168 : decode (mi 135).2.1 168 = .ok (.iload 4, 2) := by decide +kernel
theorem st_135_168 : Sd 135 168 2 (i_ldI 4) := sd_iload dd_135_168
theorem dd_135_170 : decode (mi 135).2.1 170 = .ok (.invokevirtual 233, 3) := by decide +kernel
theorem st_135_170 : Sd 135 170 3 (i_cV [(2, 160)] 5 8 []) := sd_virt ⟨"ContractDeskModel", "members", "(IIII)V"⟩ dd_135_170 (by rw [mc_135]; exact tw_1565) (fun t j h => by simp only [List.mem_cons, List.not_mem_nil, or_false, Prod.mk.injEq] at h; obtain ⟨rfl, rfl⟩ := h; exact mn_160) (fun t j h => by simp only [List.mem_cons, List.not_mem_nil, or_false, Prod.mk.injEq] at h; obtain ⟨rfl, rfl⟩ := h; exact ⟨by rw [mn_160]; exact tw_67, by rw [mn_160]; exact tw_1567, mt_160, by decide, by decide⟩) (by unfold prm; decide +kernel) ml_135 (HsOk.nil (by decide +kernel))
def bk_135_146 : Tr := sq (i_ldR 0) (sq (i_ldI 2) (sq (i_cV [(2, 152)] 2 8 []) (sq (i_ic 5) (sq (i_cne 173) (sq (i_ldR 0) (sq (i_ldI 3) (sq (i_cV [(2, 152)] 2 8 []) (sq (i_ic 5) (sq (i_cne 173) (sq (i_ldR 0) (sq (i_ldI 1) (sq (i_ldI 2) (sq (i_ldI 3) (sq (i_ldI 4) (sq (i_cV [(2, 160)] 5 8 []) (i_fall 173))))))))))))))))
theorem sb_135_146 : Sd 135 146 27 bk_135_146 := Sd.sq st_135_146 (Sd.sq st_135_147 (Sd.sq st_135_148 (Sd.sq st_135_151 (Sd.sq st_135_152 (Sd.sq st_135_155 (Sd.sq st_135_156 (Sd.sq st_135_157 (Sd.sq st_135_160 (Sd.sq st_135_161 (Sd.sq st_135_164 (Sd.sq st_135_165 (Sd.sq st_135_166 (Sd.sq st_135_167 (Sd.sq st_135_168 (Sd.sq st_135_170 (sd_fall rfl))))))))))))))))
theorem dd_135_173 : decode (mi 135).2.1 173 = .ok (.iconst 0, 1) := by decide +kernel
theorem st_135_173 : Sd 135 173 1 (i_ic 0) := sd_iconst dd_135_173
theorem dd_135_174 : decode (mi 135).2.1 174 = .ok (.ireturn, 1) := by decide +kernel
theorem st_135_174 : Sd 135 174 1 (i_rI 0) := sd_ireturn dd_135_174 (by decide) mr_135
def bk_135_173 : Tr := sq (i_ic 0) (i_rI 0)
theorem sb_135_173 : Sd 135 173 2 bk_135_173 := Sd.sq st_135_173 (st_135_174)
theorem dd_136_0 : decode (mi 136).2.1 0 = .ok (.iload_n 3, 1) := by decide +kernel
theorem st_136_0 : Sd 136 0 1 (i_ldI 3) := sd_iload_n (j := 3) dd_136_0 rfl
theorem dd_136_1 : decode (mi 136).2.1 1 = .ok (.iload_n 2, 1) := by decide +kernel
theorem st_136_1 : Sd 136 1 1 (i_ldI 2) := sd_iload_n (j := 2) dd_136_1 rfl
theorem dd_136_2 : decode (mi 136).2.1 2 = .ok (.isub, 1) := by decide +kernel
theorem st_136_2 : Sd 136 2 1 (i_isub) := sd_isub dd_136_2
theorem dd_136_3 : decode (mi 136).2.1 3 = .ok (.istore 4, 2) := by decide +kernel
theorem st_136_3 : Sd 136 3 2 (i_stI 4) := sd_istore dd_136_3
theorem dd_136_5 : decode (mi 136).2.1 5 = .ok (.aload_n 0, 1) := by decide +kernel
theorem st_136_5 : Sd 136 5 1 (i_ldR 0) := sd_aload_n (j := 0) dd_136_5 rfl
theorem dd_136_6 : decode (mi 136).2.1 6 = .ok (.iload_n 1, 1) := by decide +kernel
theorem st_136_6 : Sd 136 6 1 (i_ldI 1) := sd_iload_n (j := 1) dd_136_6 rfl
theorem dd_136_7 : decode (mi 136).2.1 7 = .ok (.invokevirtual 128, 3) := by decide +kernel
theorem st_136_7 : Sd 136 7 3 (i_cV [(2, 139)] 2 9 []) := sd_virt ⟨"ContractDeskModel", "end", "(I)I"⟩ dd_136_7 (by rw [mc_136]; exact tw_1426) (fun t j h => by simp only [List.mem_cons, List.not_mem_nil, or_false, Prod.mk.injEq] at h; obtain ⟨rfl, rfl⟩ := h; exact mn_139) (fun t j h => by simp only [List.mem_cons, List.not_mem_nil, or_false, Prod.mk.injEq] at h; obtain ⟨rfl, rfl⟩ := h; exact ⟨by rw [mn_139]; exact tw_38, by rw [mn_139]; exact tw_1428, mt_139, by decide, by decide⟩) (by unfold prm; decide +kernel) ml_136 (HsOk.nil (by decide +kernel))
theorem dd_136_10 : decode (mi 136).2.1 10 = .ok (.iconst 1, 1) := by decide +kernel
theorem st_136_10 : Sd 136 10 1 (i_ic 1) := sd_iconst dd_136_10
theorem dd_136_11 : decode (mi 136).2.1 11 = .ok (.isub, 1) := by decide +kernel
theorem st_136_11 : Sd 136 11 1 (i_isub) := sd_isub dd_136_11
theorem dd_136_12 : decode (mi 136).2.1 12 = .ok (.iload 4, 2) := by decide +kernel
theorem st_136_12 : Sd 136 12 2 (i_ldI 4) := sd_iload dd_136_12
theorem dd_136_14 : decode (mi 136).2.1 14 = .ok (.isub, 1) := by decide +kernel
theorem st_136_14 : Sd 136 14 1 (i_isub) := sd_isub dd_136_14
theorem dd_136_15 : decode (mi 136).2.1 15 = .ok (.istore 5, 2) := by decide +kernel
theorem st_136_15 : Sd 136 15 2 (i_stI 5) := sd_istore dd_136_15
theorem dd_136_17 : decode (mi 136).2.1 17 = .ok (.iload_n 1, 1) := by decide +kernel
theorem st_136_17 : Sd 136 17 1 (i_ldI 1) := sd_iload_n (j := 1) dd_136_17 rfl
theorem dd_136_18 : decode (mi 136).2.1 18 = .ok (.iconst 1, 1) := by decide +kernel
theorem st_136_18 : Sd 136 18 1 (i_ic 1) := sd_iconst dd_136_18
theorem dd_136_19 : decode (mi 136).2.1 19 = .ok (.iadd, 1) := by decide +kernel
theorem st_136_19 : Sd 136 19 1 (i_iadd) := sd_iadd dd_136_19
theorem dd_136_20 : decode (mi 136).2.1 20 = .ok (.istore 6, 2) := by decide +kernel
theorem st_136_20 : Sd 136 20 2 (i_stI 6) := sd_istore dd_136_20
def bk_136_0 : Tr := sq (i_ldI 3) (sq (i_ldI 2) (sq (i_isub) (sq (i_stI 4) (sq (i_ldR 0) (sq (i_ldI 1) (sq (i_cV [(2, 139)] 2 9 []) (sq (i_ic 1) (sq (i_isub) (sq (i_ldI 4) (sq (i_isub) (sq (i_stI 5) (sq (i_ldI 1) (sq (i_ic 1) (sq (i_iadd) (sq (i_stI 6) (i_fall 22))))))))))))))))
theorem sb_136_0 : Sd 136 0 22 bk_136_0 := Sd.sq st_136_0 (Sd.sq st_136_1 (Sd.sq st_136_2 (Sd.sq st_136_3 (Sd.sq st_136_5 (Sd.sq st_136_6 (Sd.sq st_136_7 (Sd.sq st_136_10 (Sd.sq st_136_11 (Sd.sq st_136_12 (Sd.sq st_136_14 (Sd.sq st_136_15 (Sd.sq st_136_17 (Sd.sq st_136_18 (Sd.sq st_136_19 (Sd.sq st_136_20 (sd_fall rfl))))))))))))))))
theorem dd_136_22 : decode (mi 136).2.1 22 = .ok (.iload 6, 2) := by decide +kernel
theorem st_136_22 : Sd 136 22 2 (i_ldI 6) := sd_iload dd_136_22
theorem dd_136_24 : decode (mi 136).2.1 24 = .ok (.iload 5, 2) := by decide +kernel
theorem st_136_24 : Sd 136 24 2 (i_ldI 5) := sd_iload dd_136_24
theorem dd_136_26 : decode (mi 136).2.1 26 = .ok (.if_icmp .gt 69, 3) := by decide +kernel
theorem st_136_26 : Sd 136 26 3 (i_cgt 95) := sd_icmp_gt dd_136_26 (by decide)
theorem dd_136_29 : decode (mi 136).2.1 29 = .ok (.iconst 1, 1) := by decide +kernel
theorem st_136_29 : Sd 136 29 1 (i_ic 1) := sd_iconst dd_136_29
theorem dd_136_30 : decode (mi 136).2.1 30 = .ok (.istore 7, 2) := by decide +kernel
theorem st_136_30 : Sd 136 30 2 (i_stI 7) := sd_istore dd_136_30
theorem dd_136_32 : decode (mi 136).2.1 32 = .ok (.iconst 0, 1) := by decide +kernel
theorem st_136_32 : Sd 136 32 1 (i_ic 0) := sd_iconst dd_136_32
theorem dd_136_33 : decode (mi 136).2.1 33 = .ok (.istore 8, 2) := by decide +kernel
theorem st_136_33 : Sd 136 33 2 (i_stI 8) := sd_istore dd_136_33
def bk_136_22 : Tr := sq (i_ldI 6) (sq (i_ldI 5) (sq (i_cgt 95) (sq (i_ic 1) (sq (i_stI 7) (sq (i_ic 0) (sq (i_stI 8) (i_fall 35)))))))
theorem sb_136_22 : Sd 136 22 13 bk_136_22 := Sd.sq st_136_22 (Sd.sq st_136_24 (Sd.sq st_136_26 (Sd.sq st_136_29 (Sd.sq st_136_30 (Sd.sq st_136_32 (Sd.sq st_136_33 (sd_fall rfl)))))))
theorem dd_136_35 : decode (mi 136).2.1 35 = .ok (.iload 8, 2) := by decide +kernel
theorem st_136_35 : Sd 136 35 2 (i_ldI 8) := sd_iload dd_136_35
theorem dd_136_37 : decode (mi 136).2.1 37 = .ok (.iload 4, 2) := by decide +kernel
theorem st_136_37 : Sd 136 37 2 (i_ldI 4) := sd_iload dd_136_37
theorem dd_136_39 : decode (mi 136).2.1 39 = .ok (.if_icmp .ge 43, 3) := by decide +kernel
theorem st_136_39 : Sd 136 39 3 (i_cge 82) := sd_icmp_ge dd_136_39 (by decide)
theorem dd_136_42 : decode (mi 136).2.1 42 = .ok (.iload 7, 2) := by decide +kernel
theorem st_136_42 : Sd 136 42 2 (i_ldI 7) := sd_iload dd_136_42
theorem dd_136_44 : decode (mi 136).2.1 44 = .ok (.ifCond .eq 29, 3) := by decide +kernel
theorem st_136_44 : Sd 136 44 3 (i_zeq 73) := sd_if_eq dd_136_44 (by decide)
theorem dd_136_47 : decode (mi 136).2.1 47 = .ok (.aload_n 0, 1) := by decide +kernel
theorem st_136_47 : Sd 136 47 1 (i_ldR 0) := sd_aload_n (j := 0) dd_136_47 rfl
theorem dd_136_48 : decode (mi 136).2.1 48 = .ok (.getfield 7, 3) := by decide +kernel
theorem st_136_48 : Sd 136 48 3 (i_gR 1 [2]) := sd_gR (ref := "ContractDeskModel") (decl := "ContractDeskModel") (name := "all") (desc := "[C") dd_136_48 (by rw [mc_136]; exact tw_1261) (Or.inl rfl) (by decide +kernel)
theorem dd_136_51 : decode (mi 136).2.1 51 = .ok (.iload 6, 2) := by decide +kernel
theorem st_136_51 : Sd 136 51 2 (i_ldI 6) := sd_iload dd_136_51
theorem dd_136_53 : decode (mi 136).2.1 53 = .ok (.iload 8, 2) := by decide +kernel
theorem st_136_53 : Sd 136 53 2 (i_ldI 8) := sd_iload dd_136_53
theorem dd_136_55 : decode (mi 136).2.1 55 = .ok (.iadd, 1) := by decide +kernel
theorem st_136_55 : Sd 136 55 1 (i_iadd) := sd_iadd dd_136_55
theorem dd_136_56 : decode (mi 136).2.1 56 = .ok (.caload, 1) := by decide +kernel
theorem st_136_56 : Sd 136 56 1 (i_aI [21]) := sd_caload dd_136_56 (by decide)
theorem dd_136_57 : decode (mi 136).2.1 57 = .ok (.aload_n 0, 1) := by decide +kernel
theorem st_136_57 : Sd 136 57 1 (i_ldR 0) := sd_aload_n (j := 0) dd_136_57 rfl
theorem dd_136_58 : decode (mi 136).2.1 58 = .ok (.getfield 7, 3) := by decide +kernel
theorem st_136_58 : Sd 136 58 3 (i_gR 1 [2]) := sd_gR (ref := "ContractDeskModel") (decl := "ContractDeskModel") (name := "all") (desc := "[C") dd_136_58 (by rw [mc_136]; exact tw_1261) (Or.inl rfl) (by decide +kernel)
theorem dd_136_61 : decode (mi 136).2.1 61 = .ok (.iload_n 2, 1) := by decide +kernel
theorem st_136_61 : Sd 136 61 1 (i_ldI 2) := sd_iload_n (j := 2) dd_136_61 rfl
theorem dd_136_62 : decode (mi 136).2.1 62 = .ok (.iload 8, 2) := by decide +kernel
theorem st_136_62 : Sd 136 62 2 (i_ldI 8) := sd_iload dd_136_62
theorem dd_136_64 : decode (mi 136).2.1 64 = .ok (.iadd, 1) := by decide +kernel
theorem st_136_64 : Sd 136 64 1 (i_iadd) := sd_iadd dd_136_64
theorem dd_136_65 : decode (mi 136).2.1 65 = .ok (.caload, 1) := by decide +kernel
theorem st_136_65 : Sd 136 65 1 (i_aI [21]) := sd_caload dd_136_65 (by decide)
theorem dd_136_66 : decode (mi 136).2.1 66 = .ok (.if_icmp .ne 7, 3) := by decide +kernel
theorem st_136_66 : Sd 136 66 3 (i_cne 73) := sd_icmp_ne dd_136_66 (by decide)
theorem dd_136_69 : decode (mi 136).2.1 69 = .ok (.iconst 1, 1) := by decide +kernel
theorem st_136_69 : Sd 136 69 1 (i_ic 1) := sd_iconst dd_136_69
theorem dd_136_70 : decode (mi 136).2.1 70 = .ok (.goto 4, 3) := by decide +kernel
theorem st_136_70 : Sd 136 70 3 (i_goto 74) := sd_goto dd_136_70 (by decide)
def bk_136_35 : Tr := sq (i_ldI 8) (sq (i_ldI 4) (sq (i_cge 82) (sq (i_ldI 7) (sq (i_zeq 73) (sq (i_ldR 0) (sq (i_gR 1 [2]) (sq (i_ldI 6) (sq (i_ldI 8) (sq (i_iadd) (sq (i_aI [21]) (sq (i_ldR 0) (sq (i_gR 1 [2]) (sq (i_ldI 2) (sq (i_ldI 8) (sq (i_iadd) (sq (i_aI [21]) (sq (i_cne 73) (sq (i_ic 1) (i_goto 74)))))))))))))))))))
theorem sb_136_35 : Sd 136 35 38 bk_136_35 := Sd.sq st_136_35 (Sd.sq st_136_37 (Sd.sq st_136_39 (Sd.sq st_136_42 (Sd.sq st_136_44 (Sd.sq st_136_47 (Sd.sq st_136_48 (Sd.sq st_136_51 (Sd.sq st_136_53 (Sd.sq st_136_55 (Sd.sq st_136_56 (Sd.sq st_136_57 (Sd.sq st_136_58 (Sd.sq st_136_61 (Sd.sq st_136_62 (Sd.sq st_136_64 (Sd.sq st_136_65 (Sd.sq st_136_66 (Sd.sq st_136_69 (st_136_70)))))))))))))))))))
theorem dd_136_73 : decode (mi 136).2.1 73 = .ok (.iconst 0, 1) := by decide +kernel
theorem st_136_73 : Sd 136 73 1 (i_ic 0) := sd_iconst dd_136_73
def bk_136_73 : Tr := sq (i_ic 0) (i_fall 74)
theorem sb_136_73 : Sd 136 73 1 bk_136_73 := Sd.sq st_136_73 (sd_fall rfl)
theorem dd_136_74 : decode (mi 136).2.1 74 = .ok (.istore 7, 2) := by decide +kernel
theorem st_136_74 : Sd 136 74 2 (i_stI 7) := sd_istore dd_136_74
theorem dd_136_76 : decode (mi 136).2.1 76 = .ok (.iinc 8 1, 3) := by decide +kernel
theorem st_136_76 : Sd 136 76 3 (i_inc 8 1) := sd_iinc dd_136_76
theorem dd_136_79 : decode (mi 136).2.1 79 = .ok (.goto (-44), 3) := by decide +kernel
theorem st_136_79 : Sd 136 79 3 (i_goto 35) := sd_goto dd_136_79 (by decide)
def bk_136_74 : Tr := sq (i_stI 7) (sq (i_inc 8 1) (i_goto 35))
theorem sb_136_74 : Sd 136 74 8 bk_136_74 := Sd.sq st_136_74 (Sd.sq st_136_76 (st_136_79))
theorem dd_136_82 : decode (mi 136).2.1 82 = .ok (.iload 7, 2) := by decide +kernel
theorem st_136_82 : Sd 136 82 2 (i_ldI 7) := sd_iload dd_136_82
theorem dd_136_84 : decode (mi 136).2.1 84 = .ok (.ifCond .eq 5, 3) := by decide +kernel
theorem st_136_84 : Sd 136 84 3 (i_zeq 89) := sd_if_eq dd_136_84 (by decide)
theorem dd_136_87 : decode (mi 136).2.1 87 = .ok (.iconst 1, 1) := by decide +kernel
theorem st_136_87 : Sd 136 87 1 (i_ic 1) := sd_iconst dd_136_87
theorem dd_136_88 : decode (mi 136).2.1 88 = .ok (.ireturn, 1) := by decide +kernel
theorem st_136_88 : Sd 136 88 1 (i_rI 2) := sd_ireturn dd_136_88 (by decide) mr_136
def bk_136_82 : Tr := sq (i_ldI 7) (sq (i_zeq 89) (sq (i_ic 1) (i_rI 2)))
theorem sb_136_82 : Sd 136 82 7 bk_136_82 := Sd.sq st_136_82 (Sd.sq st_136_84 (Sd.sq st_136_87 (st_136_88)))
theorem dd_136_89 : decode (mi 136).2.1 89 = .ok (.iinc 6 1, 3) := by decide +kernel
theorem st_136_89 : Sd 136 89 3 (i_inc 6 1) := sd_iinc dd_136_89
theorem dd_136_92 : decode (mi 136).2.1 92 = .ok (.goto (-70), 3) := by decide +kernel
theorem st_136_92 : Sd 136 92 3 (i_goto 22) := sd_goto dd_136_92 (by decide)
def bk_136_89 : Tr := sq (i_inc 6 1) (i_goto 22)
theorem sb_136_89 : Sd 136 89 6 bk_136_89 := Sd.sq st_136_89 (st_136_92)
theorem dd_136_95 : decode (mi 136).2.1 95 = .ok (.iconst 0, 1) := by decide +kernel
theorem st_136_95 : Sd 136 95 1 (i_ic 0) := sd_iconst dd_136_95
theorem dd_136_96 : decode (mi 136).2.1 96 = .ok (.ireturn, 1) := by decide +kernel
theorem st_136_96 : Sd 136 96 1 (i_rI 2) := sd_ireturn dd_136_96 (by decide) mr_136
def bk_136_95 : Tr := sq (i_ic 0) (i_rI 2)
theorem sb_136_95 : Sd 136 95 2 bk_136_95 := Sd.sq st_136_95 (st_136_96)
theorem dd_137_0 : decode (mi 137).2.1 0 = .ok (.iload_n 0, 1) := by decide +kernel
theorem st_137_0 : Sd 137 0 1 (i_ldI 0) := sd_iload_n (j := 0) dd_137_0 rfl
theorem dd_137_1 : decode (mi 137).2.1 1 = .ok (.bipush 48, 2) := by decide +kernel
theorem st_137_1 : Sd 137 1 2 (i_ic 48) := sd_bipush dd_137_1 (by decide)
theorem dd_137_3 : decode (mi 137).2.1 3 = .ok (.if_icmp .lt 13, 3) := by decide +kernel
theorem st_137_3 : Sd 137 3 3 (i_clt 16) := sd_icmp_lt dd_137_3 (by decide)
theorem dd_137_6 : decode (mi 137).2.1 6 = .ok (.iload_n 0, 1) := by decide +kernel
theorem st_137_6 : Sd 137 6 1 (i_ldI 0) := sd_iload_n (j := 0) dd_137_6 rfl
theorem dd_137_7 : decode (mi 137).2.1 7 = .ok (.bipush 57, 2) := by decide +kernel
theorem st_137_7 : Sd 137 7 2 (i_ic 57) := sd_bipush dd_137_7 (by decide)
theorem dd_137_9 : decode (mi 137).2.1 9 = .ok (.if_icmp .gt 7, 3) := by decide +kernel
theorem st_137_9 : Sd 137 9 3 (i_cgt 16) := sd_icmp_gt dd_137_9 (by decide)
theorem dd_137_12 : decode (mi 137).2.1 12 = .ok (.iconst 1, 1) := by decide +kernel
theorem st_137_12 : Sd 137 12 1 (i_ic 1) := sd_iconst dd_137_12
theorem dd_137_13 : decode (mi 137).2.1 13 = .ok (.goto 4, 3) := by decide +kernel
theorem st_137_13 : Sd 137 13 3 (i_goto 17) := sd_goto dd_137_13 (by decide)
def bk_137_0 : Tr := sq (i_ldI 0) (sq (i_ic 48) (sq (i_clt 16) (sq (i_ldI 0) (sq (i_ic 57) (sq (i_cgt 16) (sq (i_ic 1) (i_goto 17)))))))
theorem sb_137_0 : Sd 137 0 16 bk_137_0 := Sd.sq st_137_0 (Sd.sq st_137_1 (Sd.sq st_137_3 (Sd.sq st_137_6 (Sd.sq st_137_7 (Sd.sq st_137_9 (Sd.sq st_137_12 (st_137_13)))))))
theorem dd_137_16 : decode (mi 137).2.1 16 = .ok (.iconst 0, 1) := by decide +kernel
theorem st_137_16 : Sd 137 16 1 (i_ic 0) := sd_iconst dd_137_16
def bk_137_16 : Tr := sq (i_ic 0) (i_fall 17)
theorem sb_137_16 : Sd 137 16 1 bk_137_16 := Sd.sq st_137_16 (sd_fall rfl)
theorem dd_137_17 : decode (mi 137).2.1 17 = .ok (.ireturn, 1) := by decide +kernel
theorem st_137_17 : Sd 137 17 1 (i_rI 2) := sd_ireturn dd_137_17 (by decide) mr_137
def bk_137_17 : Tr := i_rI 2
theorem sb_137_17 : Sd 137 17 1 bk_137_17 := st_137_17
theorem dd_138_0 : decode (mi 138).2.1 0 = .ok (.aload_n 0, 1) := by decide +kernel
theorem st_138_0 : Sd 138 0 1 (i_ldR 0) := sd_aload_n (j := 0) dd_138_0 rfl
theorem dd_138_1 : decode (mi 138).2.1 1 = .ok (.iload_n 2, 1) := by decide +kernel
theorem st_138_1 : Sd 138 1 1 (i_ldI 2) := sd_iload_n (j := 2) dd_138_1 rfl
theorem dd_138_2 : decode (mi 138).2.1 2 = .ok (.invokevirtual 135, 3) := by decide +kernel
theorem st_138_2 : Sd 138 2 3 (i_cV [(2, 165)] 2 11 []) := sd_virt ⟨"ContractDeskModel", "parts", "(I)I"⟩ dd_138_2 (by rw [mc_138]; exact tw_1433) (fun t j h => by simp only [List.mem_cons, List.not_mem_nil, or_false, Prod.mk.injEq] at h; obtain ⟨rfl, rfl⟩ := h; exact mn_165) (fun t j h => by simp only [List.mem_cons, List.not_mem_nil, or_false, Prod.mk.injEq] at h; obtain ⟨rfl, rfl⟩ := h; exact ⟨by rw [mn_165]; exact tw_39, by rw [mn_165]; exact tw_1435, mt_165, by decide, by decide⟩) (by unfold prm; decide +kernel) ml_138 (HsOk.nil (by decide +kernel))
theorem dd_138_5 : decode (mi 138).2.1 5 = .ok (.istore 5, 2) := by decide +kernel
theorem st_138_5 : Sd 138 5 2 (i_stI 5) := sd_istore dd_138_5
theorem dd_138_7 : decode (mi 138).2.1 7 = .ok (.aload_n 0, 1) := by decide +kernel
theorem st_138_7 : Sd 138 7 1 (i_ldR 0) := sd_aload_n (j := 0) dd_138_7 rfl
theorem dd_138_8 : decode (mi 138).2.1 8 = .ok (.iload_n 3, 1) := by decide +kernel
theorem st_138_8 : Sd 138 8 1 (i_ldI 3) := sd_iload_n (j := 3) dd_138_8 rfl
theorem dd_138_9 : decode (mi 138).2.1 9 = .ok (.invokevirtual 135, 3) := by decide +kernel
theorem st_138_9 : Sd 138 9 3 (i_cV [(2, 165)] 2 11 []) := sd_virt ⟨"ContractDeskModel", "parts", "(I)I"⟩ dd_138_9 (by rw [mc_138]; exact tw_1433) (fun t j h => by simp only [List.mem_cons, List.not_mem_nil, or_false, Prod.mk.injEq] at h; obtain ⟨rfl, rfl⟩ := h; exact mn_165) (fun t j h => by simp only [List.mem_cons, List.not_mem_nil, or_false, Prod.mk.injEq] at h; obtain ⟨rfl, rfl⟩ := h; exact ⟨by rw [mn_165]; exact tw_39, by rw [mn_165]; exact tw_1435, mt_165, by decide, by decide⟩) (by unfold prm; decide +kernel) ml_138 (HsOk.nil (by decide +kernel))
theorem dd_138_12 : decode (mi 138).2.1 12 = .ok (.istore 6, 2) := by decide +kernel
theorem st_138_12 : Sd 138 12 2 (i_stI 6) := sd_istore dd_138_12
theorem dd_138_14 : decode (mi 138).2.1 14 = .ok (.iload_n 1, 1) := by decide +kernel
theorem st_138_14 : Sd 138 14 1 (i_ldI 1) := sd_iload_n (j := 1) dd_138_14 rfl
theorem dd_138_15 : decode (mi 138).2.1 15 = .ok (.ifCond .ne 14, 3) := by decide +kernel
theorem st_138_15 : Sd 138 15 3 (i_zne 29) := sd_if_ne dd_138_15 (by decide)
theorem dd_138_18 : decode (mi 138).2.1 18 = .ok (.iload 5, 2) := by decide +kernel
theorem st_138_18 : Sd 138 18 2 (i_ldI 5) := sd_iload dd_138_18
theorem dd_138_20 : decode (mi 138).2.1 20 = .ok (.iload 6, 2) := by decide +kernel
theorem st_138_20 : Sd 138 20 2 (i_ldI 6) := sd_iload dd_138_20
theorem dd_138_22 : decode (mi 138).2.1 22 = .ok (.if_icmp .eq 7, 3) := by decide +kernel
theorem st_138_22 : Sd 138 22 3 (i_ceq 29) := sd_icmp_eq dd_138_22 (by decide)
theorem dd_138_25 : decode (mi 138).2.1 25 = .ok (.iconst 1, 1) := by decide +kernel
theorem st_138_25 : Sd 138 25 1 (i_ic 1) := sd_iconst dd_138_25
theorem dd_138_26 : decode (mi 138).2.1 26 = .ok (.goto 4, 3) := by decide +kernel
theorem st_138_26 : Sd 138 26 3 (i_goto 30) := sd_goto dd_138_26 (by decide)
def bk_138_0 : Tr := sq (i_ldR 0) (sq (i_ldI 2) (sq (i_cV [(2, 165)] 2 11 []) (sq (i_stI 5) (sq (i_ldR 0) (sq (i_ldI 3) (sq (i_cV [(2, 165)] 2 11 []) (sq (i_stI 6) (sq (i_ldI 1) (sq (i_zne 29) (sq (i_ldI 5) (sq (i_ldI 6) (sq (i_ceq 29) (sq (i_ic 1) (i_goto 30))))))))))))))
theorem sb_138_0 : Sd 138 0 29 bk_138_0 := Sd.sq st_138_0 (Sd.sq st_138_1 (Sd.sq st_138_2 (Sd.sq st_138_5 (Sd.sq st_138_7 (Sd.sq st_138_8 (Sd.sq st_138_9 (Sd.sq st_138_12 (Sd.sq st_138_14 (Sd.sq st_138_15 (Sd.sq st_138_18 (Sd.sq st_138_20 (Sd.sq st_138_22 (Sd.sq st_138_25 (st_138_26))))))))))))))
theorem dd_138_29 : decode (mi 138).2.1 29 = .ok (.iconst 0, 1) := by decide +kernel
theorem st_138_29 : Sd 138 29 1 (i_ic 0) := sd_iconst dd_138_29
def bk_138_29 : Tr := sq (i_ic 0) (i_fall 30)
theorem sb_138_29 : Sd 138 29 1 bk_138_29 := Sd.sq st_138_29 (sd_fall rfl)
theorem dd_138_30 : decode (mi 138).2.1 30 = .ok (.istore 7, 2) := by decide +kernel
theorem st_138_30 : Sd 138 30 2 (i_stI 7) := sd_istore dd_138_30
theorem dd_138_32 : decode (mi 138).2.1 32 = .ok (.iload 7, 2) := by decide +kernel
theorem st_138_32 : Sd 138 32 2 (i_ldI 7) := sd_iload dd_138_32
theorem dd_138_34 : decode (mi 138).2.1 34 = .ok (.ifCond .eq 8, 3) := by decide +kernel
theorem st_138_34 : Sd 138 34 3 (i_zeq 42) := sd_if_eq dd_138_34 (by decide)
theorem dd_138_37 : decode (mi 138).2.1 37 = .ok (.aload_n 0, 1) := by decide +kernel
theorem st_138_37 : Sd 138 37 1 (i_ldR 0) := sd_aload_n (j := 0) dd_138_37 rfl
theorem dd_138_38 : decode (mi 138).2.1 38 = .ok (.iconst 2, 1) := by decide +kernel
theorem st_138_38 : Sd 138 38 1 (i_ic 2) := sd_iconst dd_138_38
theorem dd_138_39 : decode (mi 138).2.1 39 = .ok (.invokevirtual 226, 3) := by decide +kernel
theorem st_138_39 : Sd 138 39 3 (i_cV [(2, 155)] 2 11 []) := sd_virt ⟨"ContractDeskModel", "list", "(I)V"⟩ dd_138_39 (by rw [mc_138]; exact tw_1521) (fun t j h => by simp only [List.mem_cons, List.not_mem_nil, or_false, Prod.mk.injEq] at h; obtain ⟨rfl, rfl⟩ := h; exact mn_155) (fun t j h => by simp only [List.mem_cons, List.not_mem_nil, or_false, Prod.mk.injEq] at h; obtain ⟨rfl, rfl⟩ := h; exact ⟨by rw [mn_155]; exact tw_56, by rw [mn_155]; exact tw_1523, mt_155, by decide, by decide⟩) (by unfold prm; decide +kernel) ml_138 (HsOk.nil (by decide +kernel))
def bk_138_30 : Tr := sq (i_stI 7) (sq (i_ldI 7) (sq (i_zeq 42) (sq (i_ldR 0) (sq (i_ic 2) (sq (i_cV [(2, 155)] 2 11 []) (i_fall 42))))))
theorem sb_138_30 : Sd 138 30 12 bk_138_30 := Sd.sq st_138_30 (Sd.sq st_138_32 (Sd.sq st_138_34 (Sd.sq st_138_37 (Sd.sq st_138_38 (Sd.sq st_138_39 (sd_fall rfl))))))
theorem dd_138_42 : decode (mi 138).2.1 42 = .ok (.iload_n 1, 1) := by decide +kernel
theorem st_138_42 : Sd 138 42 1 (i_ldI 1) := sd_iload_n (j := 1) dd_138_42 rfl
theorem dd_138_43 : decode (mi 138).2.1 43 = .ok (.ifCond .eq 17, 3) := by decide +kernel
theorem st_138_43 : Sd 138 43 3 (i_zeq 60) := sd_if_eq dd_138_43 (by decide)
theorem dd_138_46 : decode (mi 138).2.1 46 = .ok (.iload 5, 2) := by decide +kernel
theorem st_138_46 : Sd 138 46 2 (i_ldI 5) := sd_iload dd_138_46
theorem dd_138_48 : decode (mi 138).2.1 48 = .ok (.ifCond .ne 7, 3) := by decide +kernel
theorem st_138_48 : Sd 138 48 3 (i_zne 55) := sd_if_ne dd_138_48 (by decide)
theorem dd_138_51 : decode (mi 138).2.1 51 = .ok (.iconst 0, 1) := by decide +kernel
theorem st_138_51 : Sd 138 51 1 (i_ic 0) := sd_iconst dd_138_51
theorem dd_138_52 : decode (mi 138).2.1 52 = .ok (.goto 22, 3) := by decide +kernel
theorem st_138_52 : Sd 138 52 3 (i_goto 74) := sd_goto dd_138_52 (by decide)
def bk_138_42 : Tr := sq (i_ldI 1) (sq (i_zeq 60) (sq (i_ldI 5) (sq (i_zne 55) (sq (i_ic 0) (i_goto 74)))))
theorem sb_138_42 : Sd 138 42 13 bk_138_42 := Sd.sq st_138_42 (Sd.sq st_138_43 (Sd.sq st_138_46 (Sd.sq st_138_48 (Sd.sq st_138_51 (st_138_52)))))
theorem dd_138_55 : decode (mi 138).2.1 55 = .ok (.iload 6, 2) := by decide +kernel
theorem st_138_55 : Sd 138 55 2 (i_ldI 6) := sd_iload dd_138_55
theorem dd_138_57 : decode (mi 138).2.1 57 = .ok (.goto 17, 3) := by decide +kernel
theorem st_138_57 : Sd 138 57 3 (i_goto 74) := sd_goto dd_138_57 (by decide)
def bk_138_55 : Tr := sq (i_ldI 6) (i_goto 74)
theorem sb_138_55 : Sd 138 55 5 bk_138_55 := Sd.sq st_138_55 (st_138_57)
theorem dd_138_60 : decode (mi 138).2.1 60 = .ok (.iload 5, 2) := by decide +kernel
theorem st_138_60 : Sd 138 60 2 (i_ldI 5) := sd_iload dd_138_60
theorem dd_138_62 : decode (mi 138).2.1 62 = .ok (.iload 6, 2) := by decide +kernel
theorem st_138_62 : Sd 138 62 2 (i_ldI 6) := sd_iload dd_138_62
theorem dd_138_64 : decode (mi 138).2.1 64 = .ok (.if_icmp .ge 8, 3) := by decide +kernel
theorem st_138_64 : Sd 138 64 3 (i_cge 72) := sd_icmp_ge dd_138_64 (by decide)
theorem dd_138_67 : decode (mi 138).2.1 67 = .ok (.iload 5, 2) := by decide +kernel
theorem st_138_67 : Sd 138 67 2 (i_ldI 5) := sd_iload dd_138_67
theorem dd_138_69 : decode (mi 138).2.1 69 = .ok (.goto 5, 3) := by decide +kernel
theorem st_138_69 : Sd 138 69 3 (i_goto 74) := sd_goto dd_138_69 (by decide)
def bk_138_60 : Tr := sq (i_ldI 5) (sq (i_ldI 6) (sq (i_cge 72) (sq (i_ldI 5) (i_goto 74))))
theorem sb_138_60 : Sd 138 60 12 bk_138_60 := Sd.sq st_138_60 (Sd.sq st_138_62 (Sd.sq st_138_64 (Sd.sq st_138_67 (st_138_69))))
theorem dd_138_72 : decode (mi 138).2.1 72 = .ok (.iload 6, 2) := by decide +kernel
theorem st_138_72 : Sd 138 72 2 (i_ldI 6) := sd_iload dd_138_72
def bk_138_72 : Tr := sq (i_ldI 6) (i_fall 74)
theorem sb_138_72 : Sd 138 72 2 bk_138_72 := Sd.sq st_138_72 (sd_fall rfl)
theorem dd_138_74 : decode (mi 138).2.1 74 = .ok (.istore 8, 2) := by decide +kernel
theorem st_138_74 : Sd 138 74 2 (i_stI 8) := sd_istore dd_138_74
theorem dd_138_76 : decode (mi 138).2.1 76 = .ok (.iload 8, 2) := by decide +kernel
theorem st_138_76 : Sd 138 76 2 (i_ldI 8) := sd_iload dd_138_76
theorem dd_138_78 : decode (mi 138).2.1 78 = .ok (.iconst 1, 1) := by decide +kernel
theorem st_138_78 : Sd 138 78 1 (i_ic 1) := sd_iconst dd_138_78
theorem dd_138_79 : decode (mi 138).2.1 79 = .ok (.isub, 1) := by decide +kernel
theorem st_138_79 : Sd 138 79 1 (i_isub) := sd_isub dd_138_79
theorem dd_138_80 : decode (mi 138).2.1 80 = .ok (.istore 9, 2) := by decide +kernel
theorem st_138_80 : Sd 138 80 2 (i_stI 9) := sd_istore dd_138_80
def bk_138_74 : Tr := sq (i_stI 8) (sq (i_ldI 8) (sq (i_ic 1) (sq (i_isub) (sq (i_stI 9) (i_fall 82)))))
theorem sb_138_74 : Sd 138 74 8 bk_138_74 := Sd.sq st_138_74 (Sd.sq st_138_76 (Sd.sq st_138_78 (Sd.sq st_138_79 (Sd.sq st_138_80 (sd_fall rfl)))))
theorem dd_138_82 : decode (mi 138).2.1 82 = .ok (.iload 9, 2) := by decide +kernel
theorem st_138_82 : Sd 138 82 2 (i_ldI 9) := sd_iload dd_138_82
theorem dd_138_84 : decode (mi 138).2.1 84 = .ok (.ifCond .lt 56, 3) := by decide +kernel
theorem st_138_84 : Sd 138 84 3 (i_zlt 140) := sd_if_lt dd_138_84 (by decide)
theorem dd_138_87 : decode (mi 138).2.1 87 = .ok (.aload_n 0, 1) := by decide +kernel
theorem st_138_87 : Sd 138 87 1 (i_ldR 0) := sd_aload_n (j := 0) dd_138_87 rfl
theorem dd_138_88 : decode (mi 138).2.1 88 = .ok (.iload 4, 2) := by decide +kernel
theorem st_138_88 : Sd 138 88 2 (i_ldI 4) := sd_iload dd_138_88
theorem dd_138_90 : decode (mi 138).2.1 90 = .ok (.iconst (-1), 1) := by decide +kernel
theorem st_138_90 : Sd 138 90 1 (i_ic (-1)) := sd_iconst dd_138_90
theorem dd_138_91 : decode (mi 138).2.1 91 = .ok (.iload 9, 2) := by decide +kernel
theorem st_138_91 : Sd 138 91 2 (i_ldI 9) := sd_iload dd_138_91
theorem dd_138_93 : decode (mi 138).2.1 93 = .ok (.isub, 1) := by decide +kernel
theorem st_138_93 : Sd 138 93 1 (i_isub) := sd_isub dd_138_93
theorem dd_138_94 : decode (mi 138).2.1 94 = .ok (.invokevirtual 237, 3) := by decide +kernel
theorem st_138_94 : Sd 138 94 3 (i_cV [(2, 166)] 3 11 []) := sd_virt ⟨"ContractDeskModel", "place", "(II)I"⟩ dd_138_94 (by rw [mc_138]; exact tw_1561) (fun t j h => by simp only [List.mem_cons, List.not_mem_nil, or_false, Prod.mk.injEq] at h; obtain ⟨rfl, rfl⟩ := h; exact mn_166) (fun t j h => by simp only [List.mem_cons, List.not_mem_nil, or_false, Prod.mk.injEq] at h; obtain ⟨rfl, rfl⟩ := h; exact ⟨by rw [mn_166]; exact tw_66, by rw [mn_166]; exact tw_1563, mt_166, by decide, by decide⟩) (by unfold prm; decide +kernel) ml_138 (HsOk.nil (by decide +kernel))
theorem dd_138_97 : decode (mi 138).2.1 97 = .ok (.istore 10, 2) := by decide +kernel
theorem st_138_97 : Sd 138 97 2 (i_stI 10) := sd_istore dd_138_97
theorem dd_138_99 : decode (mi 138).2.1 99 = .ok (.aload_n 0, 1) := by decide +kernel
theorem st_138_99 : Sd 138 99 1 (i_ldR 0) := sd_aload_n (j := 0) dd_138_99 rfl
theorem dd_138_100 : decode (mi 138).2.1 100 = .ok (.iconst 0, 1) := by decide +kernel
theorem st_138_100 : Sd 138 100 1 (i_ic 0) := sd_iconst dd_138_100
theorem dd_138_101 : decode (mi 138).2.1 101 = .ok (.aload_n 0, 1) := by decide +kernel
theorem st_138_101 : Sd 138 101 1 (i_ldR 0) := sd_aload_n (j := 0) dd_138_101 rfl
theorem dd_138_102 : decode (mi 138).2.1 102 = .ok (.iload_n 2, 1) := by decide +kernel
theorem st_138_102 : Sd 138 102 1 (i_ldI 2) := sd_iload_n (j := 2) dd_138_102 rfl
theorem dd_138_103 : decode (mi 138).2.1 103 = .ok (.iload 9, 2) := by decide +kernel
theorem st_138_103 : Sd 138 103 2 (i_ldI 9) := sd_iload dd_138_103
theorem dd_138_105 : decode (mi 138).2.1 105 = .ok (.iload 5, 2) := by decide +kernel
theorem st_138_105 : Sd 138 105 2 (i_ldI 5) := sd_iload dd_138_105
theorem dd_138_107 : decode (mi 138).2.1 107 = .ok (.if_icmp .ge 8, 3) := by decide +kernel
theorem st_138_107 : Sd 138 107 3 (i_cge 115) := sd_icmp_ge dd_138_107 (by decide)
theorem dd_138_110 : decode (mi 138).2.1 110 = .ok (.iload 9, 2) := by decide +kernel
theorem st_138_110 : Sd 138 110 2 (i_ldI 9) := sd_iload dd_138_110
theorem dd_138_112 : decode (mi 138).2.1 112 = .ok (.goto 7, 3) := by decide +kernel
theorem st_138_112 : Sd 138 112 3 (i_goto 119) := sd_goto dd_138_112 (by decide)
def bk_138_82 : Tr := sq (i_ldI 9) (sq (i_zlt 140) (sq (i_ldR 0) (sq (i_ldI 4) (sq (i_ic (-1)) (sq (i_ldI 9) (sq (i_isub) (sq (i_cV [(2, 166)] 3 11 []) (sq (i_stI 10) (sq (i_ldR 0) (sq (i_ic 0) (sq (i_ldR 0) (sq (i_ldI 2) (sq (i_ldI 9) (sq (i_ldI 5) (sq (i_cge 115) (sq (i_ldI 9) (i_goto 119)))))))))))))))))
theorem sb_138_82 : Sd 138 82 33 bk_138_82 := Sd.sq st_138_82 (Sd.sq st_138_84 (Sd.sq st_138_87 (Sd.sq st_138_88 (Sd.sq st_138_90 (Sd.sq st_138_91 (Sd.sq st_138_93 (Sd.sq st_138_94 (Sd.sq st_138_97 (Sd.sq st_138_99 (Sd.sq st_138_100 (Sd.sq st_138_101 (Sd.sq st_138_102 (Sd.sq st_138_103 (Sd.sq st_138_105 (Sd.sq st_138_107 (Sd.sq st_138_110 (st_138_112)))))))))))))))))
theorem dd_138_115 : decode (mi 138).2.1 115 = .ok (.iload 5, 2) := by decide +kernel
theorem st_138_115 : Sd 138 115 2 (i_ldI 5) := sd_iload dd_138_115
theorem dd_138_117 : decode (mi 138).2.1 117 = .ok (.iconst 1, 1) := by decide +kernel
theorem st_138_117 : Sd 138 117 1 (i_ic 1) := sd_iconst dd_138_117
theorem dd_138_118 : decode (mi 138).2.1 118 = .ok (.isub, 1) := by decide +kernel
theorem st_138_118 : Sd 138 118 1 (i_isub) := sd_isub dd_138_118
def bk_138_115 : Tr := sq (i_ldI 5) (sq (i_ic 1) (sq (i_isub) (i_fall 119)))
theorem sb_138_115 : Sd 138 115 4 bk_138_115 := Sd.sq st_138_115 (Sd.sq st_138_117 (Sd.sq st_138_118 (sd_fall rfl)))
theorem dd_138_119 : decode (mi 138).2.1 119 = .ok (.invokevirtual 131, 3) := by decide +kernel
theorem st_138_119 : Sd 138 119 3 (i_cV [(2, 164)] 3 11 []) := sd_virt ⟨"ContractDeskModel", "part", "(II)I"⟩ dd_138_119 (by rw [mc_138]; exact tw_1437) (fun t j h => by simp only [List.mem_cons, List.not_mem_nil, or_false, Prod.mk.injEq] at h; obtain ⟨rfl, rfl⟩ := h; exact mn_164) (fun t j h => by simp only [List.mem_cons, List.not_mem_nil, or_false, Prod.mk.injEq] at h; obtain ⟨rfl, rfl⟩ := h; exact ⟨by rw [mn_164]; exact tw_40, by rw [mn_164]; exact tw_1439, mt_164, by decide, by decide⟩) (by unfold prm; decide +kernel) ml_138 (HsOk.nil (by decide +kernel))
theorem dd_138_122 : decode (mi 138).2.1 122 = .ok (.aload_n 0, 1) := by decide +kernel
theorem st_138_122 : Sd 138 122 1 (i_ldR 0) := sd_aload_n (j := 0) dd_138_122 rfl
theorem dd_138_123 : decode (mi 138).2.1 123 = .ok (.iload_n 3, 1) := by decide +kernel
theorem st_138_123 : Sd 138 123 1 (i_ldI 3) := sd_iload_n (j := 3) dd_138_123 rfl
theorem dd_138_124 : decode (mi 138).2.1 124 = .ok (.iload 9, 2) := by decide +kernel
theorem st_138_124 : Sd 138 124 2 (i_ldI 9) := sd_iload dd_138_124
theorem dd_138_126 : decode (mi 138).2.1 126 = .ok (.invokevirtual 131, 3) := by decide +kernel
theorem st_138_126 : Sd 138 126 3 (i_cV [(2, 164)] 3 11 []) := sd_virt ⟨"ContractDeskModel", "part", "(II)I"⟩ dd_138_126 (by rw [mc_138]; exact tw_1437) (fun t j h => by simp only [List.mem_cons, List.not_mem_nil, or_false, Prod.mk.injEq] at h; obtain ⟨rfl, rfl⟩ := h; exact mn_164) (fun t j h => by simp only [List.mem_cons, List.not_mem_nil, or_false, Prod.mk.injEq] at h; obtain ⟨rfl, rfl⟩ := h; exact ⟨by rw [mn_164]; exact tw_40, by rw [mn_164]; exact tw_1439, mt_164, by decide, by decide⟩) (by unfold prm; decide +kernel) ml_138 (HsOk.nil (by decide +kernel))
theorem dd_138_129 : decode (mi 138).2.1 129 = .ok (.iload 10, 2) := by decide +kernel
theorem st_138_129 : Sd 138 129 2 (i_ldI 10) := sd_iload dd_138_129
theorem dd_138_131 : decode (mi 138).2.1 131 = .ok (.invokevirtual 240, 3) := by decide +kernel
theorem st_138_131 : Sd 138 131 3 (i_cV [(2, 168)] 5 11 []) := sd_virt ⟨"ContractDeskModel", "push", "(IIII)V"⟩ dd_138_131 (by rw [mc_138]; exact tw_1513) (fun t j h => by simp only [List.mem_cons, List.not_mem_nil, or_false, Prod.mk.injEq] at h; obtain ⟨rfl, rfl⟩ := h; exact mn_168) (fun t j h => by simp only [List.mem_cons, List.not_mem_nil, or_false, Prod.mk.injEq] at h; obtain ⟨rfl, rfl⟩ := h; exact ⟨by rw [mn_168]; exact tw_54, by rw [mn_168]; exact tw_1515, mt_168, by decide, by decide⟩) (by unfold prm; decide +kernel) ml_138 (HsOk.nil (by decide +kernel))
theorem dd_138_134 : decode (mi 138).2.1 134 = .ok (.iinc 9 (-1), 3) := by decide +kernel
theorem st_138_134 : Sd 138 134 3 (i_inc 9 (-1)) := sd_iinc dd_138_134
theorem dd_138_137 : decode (mi 138).2.1 137 = .ok (.goto (-55), 3) := by decide +kernel
theorem st_138_137 : Sd 138 137 3 (i_goto 82) := sd_goto dd_138_137 (by decide)
def bk_138_119 : Tr := sq (i_cV [(2, 164)] 3 11 []) (sq (i_ldR 0) (sq (i_ldI 3) (sq (i_ldI 9) (sq (i_cV [(2, 164)] 3 11 []) (sq (i_ldI 10) (sq (i_cV [(2, 168)] 5 11 []) (sq (i_inc 9 (-1)) (i_goto 82))))))))
theorem sb_138_119 : Sd 138 119 21 bk_138_119 := Sd.sq st_138_119 (Sd.sq st_138_122 (Sd.sq st_138_123 (Sd.sq st_138_124 (Sd.sq st_138_126 (Sd.sq st_138_129 (Sd.sq st_138_131 (Sd.sq st_138_134 (st_138_137))))))))
theorem dd_138_140 : decode (mi 138).2.1 140 = .ok (.iload 7, 2) := by decide +kernel
theorem st_138_140 : Sd 138 140 2 (i_ldI 7) := sd_iload dd_138_140
theorem dd_138_142 : decode (mi 138).2.1 142 = .ok (.ifCond .eq 7, 3) := by decide +kernel
theorem st_138_142 : Sd 138 142 3 (i_zeq 149) := sd_if_eq dd_138_142 (by decide)
theorem dd_138_145 : decode (mi 138).2.1 145 = .ok (.iconst 1, 1) := by decide +kernel
theorem st_138_145 : Sd 138 145 1 (i_ic 1) := sd_iconst dd_138_145
theorem dd_138_146 : decode (mi 138).2.1 146 = .ok (.goto 4, 3) := by decide +kernel
theorem st_138_146 : Sd 138 146 3 (i_goto 150) := sd_goto dd_138_146 (by decide)
def bk_138_140 : Tr := sq (i_ldI 7) (sq (i_zeq 149) (sq (i_ic 1) (i_goto 150)))
theorem sb_138_140 : Sd 138 140 9 bk_138_140 := Sd.sq st_138_140 (Sd.sq st_138_142 (Sd.sq st_138_145 (st_138_146)))
theorem dd_138_149 : decode (mi 138).2.1 149 = .ok (.iconst 0, 1) := by decide +kernel
theorem st_138_149 : Sd 138 149 1 (i_ic 0) := sd_iconst dd_138_149
def bk_138_149 : Tr := sq (i_ic 0) (i_fall 150)
theorem sb_138_149 : Sd 138 149 1 bk_138_149 := Sd.sq st_138_149 (sd_fall rfl)
theorem dd_138_150 : decode (mi 138).2.1 150 = .ok (.ireturn, 1) := by decide +kernel
theorem st_138_150 : Sd 138 150 1 (i_rI 0) := sd_ireturn dd_138_150 (by decide) mr_138
def bk_138_150 : Tr := i_rI 0
theorem sb_138_150 : Sd 138 150 1 bk_138_150 := st_138_150
theorem dd_139_0 : decode (mi 139).2.1 0 = .ok (.iconst 0, 1) := by decide +kernel
theorem st_139_0 : Sd 139 0 1 (i_ic 0) := sd_iconst dd_139_0
theorem dd_139_1 : decode (mi 139).2.1 1 = .ok (.istore_n 2, 1) := by decide +kernel
theorem st_139_1 : Sd 139 1 1 (i_stI 2) := sd_istore_n (j := 2) dd_139_1 rfl
theorem dd_139_2 : decode (mi 139).2.1 2 = .ok (.iload_n 1, 1) := by decide +kernel
theorem st_139_2 : Sd 139 2 1 (i_ldI 1) := sd_iload_n (j := 1) dd_139_2 rfl
theorem dd_139_3 : decode (mi 139).2.1 3 = .ok (.istore_n 3, 1) := by decide +kernel
theorem st_139_3 : Sd 139 3 1 (i_stI 3) := sd_istore_n (j := 3) dd_139_3 rfl
def bk_139_0 : Tr := sq (i_ic 0) (sq (i_stI 2) (sq (i_ldI 1) (sq (i_stI 3) (i_fall 4))))
theorem sb_139_0 : Sd 139 0 4 bk_139_0 := Sd.sq st_139_0 (Sd.sq st_139_1 (Sd.sq st_139_2 (Sd.sq st_139_3 (sd_fall rfl))))
theorem dd_139_4 : decode (mi 139).2.1 4 = .ok (.iload_n 3, 1) := by decide +kernel
theorem st_139_4 : Sd 139 4 1 (i_ldI 3) := sd_iload_n (j := 3) dd_139_4 rfl
theorem dd_139_5 : decode (mi 139).2.1 5 = .ok (.sipush 3712, 3) := by decide +kernel
theorem st_139_5 : Sd 139 5 3 (i_ic 3712) := sd_sipush dd_139_5 (by decide)
theorem dd_139_8 : decode (mi 139).2.1 8 = .ok (.if_icmp .ge 87, 3) := by decide +kernel
theorem st_139_8 : Sd 139 8 3 (i_cge 95) := sd_icmp_ge dd_139_8 (by decide)
theorem dd_139_11 : decode (mi 139).2.1 11 = .ok (.aload_n 0, 1) := by decide +kernel
theorem st_139_11 : Sd 139 11 1 (i_ldR 0) := sd_aload_n (j := 0) dd_139_11 rfl
theorem dd_139_12 : decode (mi 139).2.1 12 = .ok (.getfield 7, 3) := by decide +kernel
theorem st_139_12 : Sd 139 12 3 (i_gR 1 [2]) := sd_gR (ref := "ContractDeskModel") (decl := "ContractDeskModel") (name := "all") (desc := "[C") dd_139_12 (by rw [mc_139]; exact tw_1261) (Or.inl rfl) (by decide +kernel)
theorem dd_139_15 : decode (mi 139).2.1 15 = .ok (.iload_n 3, 1) := by decide +kernel
theorem st_139_15 : Sd 139 15 1 (i_ldI 3) := sd_iload_n (j := 3) dd_139_15 rfl
theorem dd_139_16 : decode (mi 139).2.1 16 = .ok (.caload, 1) := by decide +kernel
theorem st_139_16 : Sd 139 16 1 (i_aI [21]) := sd_caload dd_139_16 (by decide)
theorem dd_139_17 : decode (mi 139).2.1 17 = .ok (.istore 4, 2) := by decide +kernel
theorem st_139_17 : Sd 139 17 2 (i_stI 4) := sd_istore dd_139_17
theorem dd_139_19 : decode (mi 139).2.1 19 = .ok (.iload_n 2, 1) := by decide +kernel
theorem st_139_19 : Sd 139 19 1 (i_ldI 2) := sd_iload_n (j := 2) dd_139_19 rfl
theorem dd_139_20 : decode (mi 139).2.1 20 = .ok (.ifCond .ne 27, 3) := by decide +kernel
theorem st_139_20 : Sd 139 20 3 (i_zne 47) := sd_if_ne dd_139_20 (by decide)
theorem dd_139_23 : decode (mi 139).2.1 23 = .ok (.iload_n 3, 1) := by decide +kernel
theorem st_139_23 : Sd 139 23 1 (i_ldI 3) := sd_iload_n (j := 3) dd_139_23 rfl
theorem dd_139_24 : decode (mi 139).2.1 24 = .ok (.iload_n 1, 1) := by decide +kernel
theorem st_139_24 : Sd 139 24 1 (i_ldI 1) := sd_iload_n (j := 1) dd_139_24 rfl
theorem dd_139_25 : decode (mi 139).2.1 25 = .ok (.if_icmp .le 22, 3) := by decide +kernel
theorem st_139_25 : Sd 139 25 3 (i_cle 47) := sd_icmp_le dd_139_25 (by decide)
theorem dd_139_28 : decode (mi 139).2.1 28 = .ok (.iload 4, 2) := by decide +kernel
theorem st_139_28 : Sd 139 28 2 (i_ldI 4) := sd_iload dd_139_28
theorem dd_139_30 : decode (mi 139).2.1 30 = .ok (.invokestatic 122, 3) := by decide +kernel
theorem st_139_30 : Sd 139 30 3 (i_cS 177 1 5 []) := sd_static dd_139_30 (by rw [mc_139, mn_177]; exact tw_1430) (by rw [mn_177]; exact tw_1431) mt_177 pm_177 ml_139 (HsOk.nil (by decide +kernel))
theorem dd_139_33 : decode (mi 139).2.1 33 = .ok (.ifCond .ne 12, 3) := by decide +kernel
theorem st_139_33 : Sd 139 33 3 (i_zne 45) := sd_if_ne dd_139_33 (by decide)
theorem dd_139_36 : decode (mi 139).2.1 36 = .ok (.aload_n 0, 1) := by decide +kernel
theorem st_139_36 : Sd 139 36 1 (i_ldR 0) := sd_aload_n (j := 0) dd_139_36 rfl
theorem dd_139_37 : decode (mi 139).2.1 37 = .ok (.iload_n 1, 1) := by decide +kernel
theorem st_139_37 : Sd 139 37 1 (i_ldI 1) := sd_iload_n (j := 1) dd_139_37 rfl
theorem dd_139_38 : decode (mi 139).2.1 38 = .ok (.invokevirtual 125, 3) := by decide +kernel
theorem st_139_38 : Sd 139 38 3 (i_cV [(2, 152)] 2 5 []) := sd_virt ⟨"ContractDeskModel", "kind", "(I)I"⟩ dd_139_38 (by rw [mc_139]; exact tw_1418) (fun t j h => by simp only [List.mem_cons, List.not_mem_nil, or_false, Prod.mk.injEq] at h; obtain ⟨rfl, rfl⟩ := h; exact mn_152) (fun t j h => by simp only [List.mem_cons, List.not_mem_nil, or_false, Prod.mk.injEq] at h; obtain ⟨rfl, rfl⟩ := h; exact ⟨by rw [mn_152]; exact tw_36, by rw [mn_152]; exact tw_1420, mt_152, by decide, by decide⟩) (by unfold prm; decide +kernel) ml_139 (HsOk.nil (by decide +kernel))
theorem dd_139_41 : decode (mi 139).2.1 41 = .ok (.iconst 3, 1) := by decide +kernel
theorem st_139_41 : Sd 139 41 1 (i_ic 3) := sd_iconst dd_139_41
theorem dd_139_42 : decode (mi 139).2.1 42 = .ok (.if_icmp .le 5, 3) := by decide +kernel
theorem st_139_42 : Sd 139 42 3 (i_cle 47) := sd_icmp_le dd_139_42 (by decide)
def bk_139_4 : Tr := sq (i_ldI 3) (sq (i_ic 3712) (sq (i_cge 95) (sq (i_ldR 0) (sq (i_gR 1 [2]) (sq (i_ldI 3) (sq (i_aI [21]) (sq (i_stI 4) (sq (i_ldI 2) (sq (i_zne 47) (sq (i_ldI 3) (sq (i_ldI 1) (sq (i_cle 47) (sq (i_ldI 4) (sq (i_cS 177 1 5 []) (sq (i_zne 45) (sq (i_ldR 0) (sq (i_ldI 1) (sq (i_cV [(2, 152)] 2 5 []) (sq (i_ic 3) (sq (i_cle 47) (i_fall 45)))))))))))))))))))))
theorem sb_139_4 : Sd 139 4 41 bk_139_4 := Sd.sq st_139_4 (Sd.sq st_139_5 (Sd.sq st_139_8 (Sd.sq st_139_11 (Sd.sq st_139_12 (Sd.sq st_139_15 (Sd.sq st_139_16 (Sd.sq st_139_17 (Sd.sq st_139_19 (Sd.sq st_139_20 (Sd.sq st_139_23 (Sd.sq st_139_24 (Sd.sq st_139_25 (Sd.sq st_139_28 (Sd.sq st_139_30 (Sd.sq st_139_33 (Sd.sq st_139_36 (Sd.sq st_139_37 (Sd.sq st_139_38 (Sd.sq st_139_41 (Sd.sq st_139_42 (sd_fall rfl)))))))))))))))))))))
theorem dd_139_45 : decode (mi 139).2.1 45 = .ok (.iload_n 3, 1) := by decide +kernel
theorem st_139_45 : Sd 139 45 1 (i_ldI 3) := sd_iload_n (j := 3) dd_139_45 rfl
theorem dd_139_46 : decode (mi 139).2.1 46 = .ok (.ireturn, 1) := by decide +kernel
theorem st_139_46 : Sd 139 46 1 (i_rI 0) := sd_ireturn dd_139_46 (by decide) mr_139
def bk_139_45 : Tr := sq (i_ldI 3) (i_rI 0)
theorem sb_139_45 : Sd 139 45 2 bk_139_45 := Sd.sq st_139_45 (st_139_46)
theorem dd_139_47 : decode (mi 139).2.1 47 = .ok (.iload 4, 2) := by decide +kernel
theorem st_139_47 : Sd 139 47 2 (i_ldI 4) := sd_iload dd_139_47
theorem dd_139_49 : decode (mi 139).2.1 49 = .ok (.bipush 91, 2) := by decide +kernel
theorem st_139_49 : Sd 139 49 2 (i_ic 91) := sd_bipush dd_139_49 (by decide)
theorem dd_139_51 : decode (mi 139).2.1 51 = .ok (.if_icmp .eq 10, 3) := by decide +kernel
theorem st_139_51 : Sd 139 51 3 (i_ceq 61) := sd_icmp_eq dd_139_51 (by decide)
theorem dd_139_54 : decode (mi 139).2.1 54 = .ok (.iload 4, 2) := by decide +kernel
theorem st_139_54 : Sd 139 54 2 (i_ldI 4) := sd_iload dd_139_54
theorem dd_139_56 : decode (mi 139).2.1 56 = .ok (.bipush 123, 2) := by decide +kernel
theorem st_139_56 : Sd 139 56 2 (i_ic 123) := sd_bipush dd_139_56 (by decide)
theorem dd_139_58 : decode (mi 139).2.1 58 = .ok (.if_icmp .ne 9, 3) := by decide +kernel
theorem st_139_58 : Sd 139 58 3 (i_cne 67) := sd_icmp_ne dd_139_58 (by decide)
def bk_139_47 : Tr := sq (i_ldI 4) (sq (i_ic 91) (sq (i_ceq 61) (sq (i_ldI 4) (sq (i_ic 123) (sq (i_cne 67) (i_fall 61))))))
theorem sb_139_47 : Sd 139 47 14 bk_139_47 := Sd.sq st_139_47 (Sd.sq st_139_49 (Sd.sq st_139_51 (Sd.sq st_139_54 (Sd.sq st_139_56 (Sd.sq st_139_58 (sd_fall rfl))))))
theorem dd_139_61 : decode (mi 139).2.1 61 = .ok (.iload_n 2, 1) := by decide +kernel
theorem st_139_61 : Sd 139 61 1 (i_ldI 2) := sd_iload_n (j := 2) dd_139_61 rfl
theorem dd_139_62 : decode (mi 139).2.1 62 = .ok (.iconst 1, 1) := by decide +kernel
theorem st_139_62 : Sd 139 62 1 (i_ic 1) := sd_iconst dd_139_62
theorem dd_139_63 : decode (mi 139).2.1 63 = .ok (.iadd, 1) := by decide +kernel
theorem st_139_63 : Sd 139 63 1 (i_iadd) := sd_iadd dd_139_63
theorem dd_139_64 : decode (mi 139).2.1 64 = .ok (.goto 24, 3) := by decide +kernel
theorem st_139_64 : Sd 139 64 3 (i_goto 88) := sd_goto dd_139_64 (by decide)
def bk_139_61 : Tr := sq (i_ldI 2) (sq (i_ic 1) (sq (i_iadd) (i_goto 88)))
theorem sb_139_61 : Sd 139 61 6 bk_139_61 := Sd.sq st_139_61 (Sd.sq st_139_62 (Sd.sq st_139_63 (st_139_64)))
theorem dd_139_67 : decode (mi 139).2.1 67 = .ok (.iload 4, 2) := by decide +kernel
theorem st_139_67 : Sd 139 67 2 (i_ldI 4) := sd_iload dd_139_67
theorem dd_139_69 : decode (mi 139).2.1 69 = .ok (.bipush 93, 2) := by decide +kernel
theorem st_139_69 : Sd 139 69 2 (i_ic 93) := sd_bipush dd_139_69 (by decide)
theorem dd_139_71 : decode (mi 139).2.1 71 = .ok (.if_icmp .eq 10, 3) := by decide +kernel
theorem st_139_71 : Sd 139 71 3 (i_ceq 81) := sd_icmp_eq dd_139_71 (by decide)
theorem dd_139_74 : decode (mi 139).2.1 74 = .ok (.iload 4, 2) := by decide +kernel
theorem st_139_74 : Sd 139 74 2 (i_ldI 4) := sd_iload dd_139_74
theorem dd_139_76 : decode (mi 139).2.1 76 = .ok (.bipush 125, 2) := by decide +kernel
theorem st_139_76 : Sd 139 76 2 (i_ic 125) := sd_bipush dd_139_76 (by decide)
theorem dd_139_78 : decode (mi 139).2.1 78 = .ok (.if_icmp .ne 9, 3) := by decide +kernel
theorem st_139_78 : Sd 139 78 3 (i_cne 87) := sd_icmp_ne dd_139_78 (by decide)
def bk_139_67 : Tr := sq (i_ldI 4) (sq (i_ic 93) (sq (i_ceq 81) (sq (i_ldI 4) (sq (i_ic 125) (sq (i_cne 87) (i_fall 81))))))
theorem sb_139_67 : Sd 139 67 14 bk_139_67 := Sd.sq st_139_67 (Sd.sq st_139_69 (Sd.sq st_139_71 (Sd.sq st_139_74 (Sd.sq st_139_76 (Sd.sq st_139_78 (sd_fall rfl))))))
theorem dd_139_81 : decode (mi 139).2.1 81 = .ok (.iload_n 2, 1) := by decide +kernel
theorem st_139_81 : Sd 139 81 1 (i_ldI 2) := sd_iload_n (j := 2) dd_139_81 rfl
theorem dd_139_82 : decode (mi 139).2.1 82 = .ok (.iconst 1, 1) := by decide +kernel
theorem st_139_82 : Sd 139 82 1 (i_ic 1) := sd_iconst dd_139_82
theorem dd_139_83 : decode (mi 139).2.1 83 = .ok (.isub, 1) := by decide +kernel
theorem st_139_83 : Sd 139 83 1 (i_isub) := sd_isub dd_139_83
theorem dd_139_84 : decode (mi 139).2.1 84 = .ok (.goto 4, 3) := by decide +kernel
theorem st_139_84 : Sd 139 84 3 (i_goto 88) := sd_goto dd_139_84 (by decide)
def bk_139_81 : Tr := sq (i_ldI 2) (sq (i_ic 1) (sq (i_isub) (i_goto 88)))
theorem sb_139_81 : Sd 139 81 6 bk_139_81 := Sd.sq st_139_81 (Sd.sq st_139_82 (Sd.sq st_139_83 (st_139_84)))
theorem dd_139_87 : decode (mi 139).2.1 87 = .ok (.iload_n 2, 1) := by decide +kernel
theorem st_139_87 : Sd 139 87 1 (i_ldI 2) := sd_iload_n (j := 2) dd_139_87 rfl
def bk_139_87 : Tr := sq (i_ldI 2) (i_fall 88)
theorem sb_139_87 : Sd 139 87 1 bk_139_87 := Sd.sq st_139_87 (sd_fall rfl)
theorem dd_139_88 : decode (mi 139).2.1 88 = .ok (.istore_n 2, 1) := by decide +kernel
theorem st_139_88 : Sd 139 88 1 (i_stI 2) := sd_istore_n (j := 2) dd_139_88 rfl
theorem dd_139_89 : decode (mi 139).2.1 89 = .ok (.iinc 3 1, 3) := by decide +kernel
theorem st_139_89 : Sd 139 89 3 (i_inc 3 1) := sd_iinc dd_139_89
theorem dd_139_92 : decode (mi 139).2.1 92 = .ok (.goto (-88), 3) := by decide +kernel
theorem st_139_92 : Sd 139 92 3 (i_goto 4) := sd_goto dd_139_92 (by decide)
def bk_139_88 : Tr := sq (i_stI 2) (sq (i_inc 3 1) (i_goto 4))
theorem sb_139_88 : Sd 139 88 7 bk_139_88 := Sd.sq st_139_88 (Sd.sq st_139_89 (st_139_92))
theorem dd_139_95 : decode (mi 139).2.1 95 = .ok (.iload_n 3, 1) := by decide +kernel
theorem st_139_95 : Sd 139 95 1 (i_ldI 3) := sd_iload_n (j := 3) dd_139_95 rfl
theorem dd_139_96 : decode (mi 139).2.1 96 = .ok (.ireturn, 1) := by decide +kernel
theorem st_139_96 : Sd 139 96 1 (i_rI 0) := sd_ireturn dd_139_96 (by decide) mr_139
def bk_139_95 : Tr := sq (i_ldI 3) (i_rI 0)
theorem sb_139_95 : Sd 139 95 2 bk_139_95 := Sd.sq st_139_95 (st_139_96)
theorem dd_140_0 : decode (mi 140).2.1 0 = .ok (.iconst 1, 1) := by decide +kernel
theorem st_140_0 : Sd 140 0 1 (i_ic 1) := sd_iconst dd_140_0
theorem dd_140_1 : decode (mi 140).2.1 1 = .ok (.istore_n 3, 1) := by decide +kernel
theorem st_140_1 : Sd 140 1 1 (i_stI 3) := sd_istore_n (j := 3) dd_140_1 rfl
theorem dd_140_2 : decode (mi 140).2.1 2 = .ok (.aload_n 0, 1) := by decide +kernel
theorem st_140_2 : Sd 140 2 1 (i_ldR 0) := sd_aload_n (j := 0) dd_140_2 rfl
theorem dd_140_3 : decode (mi 140).2.1 3 = .ok (.getfield 87, 3) := by decide +kernel
theorem st_140_3 : Sd 140 3 3 (i_gR 33 [2]) := sd_gR (ref := "ContractDeskModel") (decl := "ContractDeskModel") (name := "one") (desc := "[I") dd_140_3 (by rw [mc_140]; exact tw_1293) (Or.inl rfl) (by decide +kernel)
theorem dd_140_6 : decode (mi 140).2.1 6 = .ok (.iconst 0, 1) := by decide +kernel
theorem st_140_6 : Sd 140 6 1 (i_ic 0) := sd_iconst dd_140_6
theorem dd_140_7 : decode (mi 140).2.1 7 = .ok (.iload_n 1, 1) := by decide +kernel
theorem st_140_7 : Sd 140 7 1 (i_ldI 1) := sd_iload_n (j := 1) dd_140_7 rfl
theorem dd_140_8 : decode (mi 140).2.1 8 = .ok (.iastore, 1) := by decide +kernel
theorem st_140_8 : Sd 140 8 1 (i_sI [20] 0) := sd_iastore dd_140_8 (by decide)
theorem dd_140_9 : decode (mi 140).2.1 9 = .ok (.aload_n 0, 1) := by decide +kernel
theorem st_140_9 : Sd 140 9 1 (i_ldR 0) := sd_aload_n (j := 0) dd_140_9 rfl
theorem dd_140_10 : decode (mi 140).2.1 10 = .ok (.getfield 90, 3) := by decide +kernel
theorem st_140_10 : Sd 140 10 3 (i_gR 34 [2]) := sd_gR (ref := "ContractDeskModel") (decl := "ContractDeskModel") (name := "other") (desc := "[I") dd_140_10 (by rw [mc_140]; exact tw_1294) (Or.inl rfl) (by decide +kernel)
theorem dd_140_13 : decode (mi 140).2.1 13 = .ok (.iconst 0, 1) := by decide +kernel
theorem st_140_13 : Sd 140 13 1 (i_ic 0) := sd_iconst dd_140_13
theorem dd_140_14 : decode (mi 140).2.1 14 = .ok (.iload_n 2, 1) := by decide +kernel
theorem st_140_14 : Sd 140 14 1 (i_ldI 2) := sd_iload_n (j := 2) dd_140_14 rfl
theorem dd_140_15 : decode (mi 140).2.1 15 = .ok (.iastore, 1) := by decide +kernel
theorem st_140_15 : Sd 140 15 1 (i_sI [20] 0) := sd_iastore dd_140_15 (by decide)
def bk_140_0 : Tr := sq (i_ic 1) (sq (i_stI 3) (sq (i_ldR 0) (sq (i_gR 33 [2]) (sq (i_ic 0) (sq (i_ldI 1) (sq (i_sI [20] 0) (sq (i_ldR 0) (sq (i_gR 34 [2]) (sq (i_ic 0) (sq (i_ldI 2) (sq (i_sI [20] 0) (i_fall 16))))))))))))
theorem sb_140_0 : Sd 140 0 16 bk_140_0 := Sd.sq st_140_0 (Sd.sq st_140_1 (Sd.sq st_140_2 (Sd.sq st_140_3 (Sd.sq st_140_6 (Sd.sq st_140_7 (Sd.sq st_140_8 (Sd.sq st_140_9 (Sd.sq st_140_10 (Sd.sq st_140_13 (Sd.sq st_140_14 (Sd.sq st_140_15 (sd_fall rfl))))))))))))
theorem dd_140_16 : decode (mi 140).2.1 16 = .ok (.iload_n 3, 1) := by decide +kernel
theorem st_140_16 : Sd 140 16 1 (i_ldI 3) := sd_iload_n (j := 3) dd_140_16 rfl
theorem dd_140_17 : decode (mi 140).2.1 17 = .ok (.ifCond .le 217, 3) := by decide +kernel
theorem st_140_17 : Sd 140 17 3 (i_zle 234) := sd_if_le dd_140_17 (by decide)
theorem dd_140_20 : decode (mi 140).2.1 20 = .ok (.iinc 3 (-1), 3) := by decide +kernel
theorem st_140_20 : Sd 140 20 3 (i_inc 3 (-1)) := sd_iinc dd_140_20
theorem dd_140_23 : decode (mi 140).2.1 23 = .ok (.aload_n 0, 1) := by decide +kernel
theorem st_140_23 : Sd 140 23 1 (i_ldR 0) := sd_aload_n (j := 0) dd_140_23 rfl
theorem dd_140_24 : decode (mi 140).2.1 24 = .ok (.getfield 87, 3) := by decide +kernel
theorem st_140_24 : Sd 140 24 3 (i_gR 33 [2]) := sd_gR (ref := "ContractDeskModel") (decl := "ContractDeskModel") (name := "one") (desc := "[I") dd_140_24 (by rw [mc_140]; exact tw_1293) (Or.inl rfl) (by decide +kernel)
theorem dd_140_27 : decode (mi 140).2.1 27 = .ok (.iload_n 3, 1) := by decide +kernel
theorem st_140_27 : Sd 140 27 1 (i_ldI 3) := sd_iload_n (j := 3) dd_140_27 rfl
theorem dd_140_28 : decode (mi 140).2.1 28 = .ok (.iaload, 1) := by decide +kernel
theorem st_140_28 : Sd 140 28 1 (i_aI [20]) := sd_iaload dd_140_28 (by decide)
theorem dd_140_29 : decode (mi 140).2.1 29 = .ok (.istore 4, 2) := by decide +kernel
theorem st_140_29 : Sd 140 29 2 (i_stI 4) := sd_istore dd_140_29
theorem dd_140_31 : decode (mi 140).2.1 31 = .ok (.aload_n 0, 1) := by decide +kernel
theorem st_140_31 : Sd 140 31 1 (i_ldR 0) := sd_aload_n (j := 0) dd_140_31 rfl
theorem dd_140_32 : decode (mi 140).2.1 32 = .ok (.getfield 90, 3) := by decide +kernel
theorem st_140_32 : Sd 140 32 3 (i_gR 34 [2]) := sd_gR (ref := "ContractDeskModel") (decl := "ContractDeskModel") (name := "other") (desc := "[I") dd_140_32 (by rw [mc_140]; exact tw_1294) (Or.inl rfl) (by decide +kernel)
theorem dd_140_35 : decode (mi 140).2.1 35 = .ok (.iload_n 3, 1) := by decide +kernel
theorem st_140_35 : Sd 140 35 1 (i_ldI 3) := sd_iload_n (j := 3) dd_140_35 rfl
theorem dd_140_36 : decode (mi 140).2.1 36 = .ok (.iaload, 1) := by decide +kernel
theorem st_140_36 : Sd 140 36 1 (i_aI [20]) := sd_iaload dd_140_36 (by decide)
theorem dd_140_37 : decode (mi 140).2.1 37 = .ok (.istore 5, 2) := by decide +kernel
theorem st_140_37 : Sd 140 37 2 (i_stI 5) := sd_istore dd_140_37
theorem dd_140_39 : decode (mi 140).2.1 39 = .ok (.aload_n 0, 1) := by decide +kernel
theorem st_140_39 : Sd 140 39 1 (i_ldR 0) := sd_aload_n (j := 0) dd_140_39 rfl
theorem dd_140_40 : decode (mi 140).2.1 40 = .ok (.iload 4, 2) := by decide +kernel
theorem st_140_40 : Sd 140 40 2 (i_ldI 4) := sd_iload dd_140_40
theorem dd_140_42 : decode (mi 140).2.1 42 = .ok (.invokevirtual 125, 3) := by decide +kernel
theorem st_140_42 : Sd 140 42 3 (i_cV [(2, 152)] 2 10 []) := sd_virt ⟨"ContractDeskModel", "kind", "(I)I"⟩ dd_140_42 (by rw [mc_140]; exact tw_1418) (fun t j h => by simp only [List.mem_cons, List.not_mem_nil, or_false, Prod.mk.injEq] at h; obtain ⟨rfl, rfl⟩ := h; exact mn_152) (fun t j h => by simp only [List.mem_cons, List.not_mem_nil, or_false, Prod.mk.injEq] at h; obtain ⟨rfl, rfl⟩ := h; exact ⟨by rw [mn_152]; exact tw_36, by rw [mn_152]; exact tw_1420, mt_152, by decide, by decide⟩) (by unfold prm; decide +kernel) ml_140 (HsOk.nil (by decide +kernel))
theorem dd_140_45 : decode (mi 140).2.1 45 = .ok (.aload_n 0, 1) := by decide +kernel
theorem st_140_45 : Sd 140 45 1 (i_ldR 0) := sd_aload_n (j := 0) dd_140_45 rfl
theorem dd_140_46 : decode (mi 140).2.1 46 = .ok (.iload 5, 2) := by decide +kernel
theorem st_140_46 : Sd 140 46 2 (i_ldI 5) := sd_iload dd_140_46
theorem dd_140_48 : decode (mi 140).2.1 48 = .ok (.invokevirtual 125, 3) := by decide +kernel
theorem st_140_48 : Sd 140 48 3 (i_cV [(2, 152)] 2 10 []) := sd_virt ⟨"ContractDeskModel", "kind", "(I)I"⟩ dd_140_48 (by rw [mc_140]; exact tw_1418) (fun t j h => by simp only [List.mem_cons, List.not_mem_nil, or_false, Prod.mk.injEq] at h; obtain ⟨rfl, rfl⟩ := h; exact mn_152) (fun t j h => by simp only [List.mem_cons, List.not_mem_nil, or_false, Prod.mk.injEq] at h; obtain ⟨rfl, rfl⟩ := h; exact ⟨by rw [mn_152]; exact tw_36, by rw [mn_152]; exact tw_1420, mt_152, by decide, by decide⟩) (by unfold prm; decide +kernel) ml_140 (HsOk.nil (by decide +kernel))
theorem dd_140_51 : decode (mi 140).2.1 51 = .ok (.if_icmp .ne 49, 3) := by decide +kernel
theorem st_140_51 : Sd 140 51 3 (i_cne 100) := sd_icmp_ne dd_140_51 (by decide)
theorem dd_140_54 : decode (mi 140).2.1 54 = .ok (.aload_n 0, 1) := by decide +kernel
theorem st_140_54 : Sd 140 54 1 (i_ldR 0) := sd_aload_n (j := 0) dd_140_54 rfl
theorem dd_140_55 : decode (mi 140).2.1 55 = .ok (.iload 4, 2) := by decide +kernel
theorem st_140_55 : Sd 140 55 2 (i_ldI 4) := sd_iload dd_140_55
theorem dd_140_57 : decode (mi 140).2.1 57 = .ok (.invokevirtual 125, 3) := by decide +kernel
theorem st_140_57 : Sd 140 57 3 (i_cV [(2, 152)] 2 10 []) := sd_virt ⟨"ContractDeskModel", "kind", "(I)I"⟩ dd_140_57 (by rw [mc_140]; exact tw_1418) (fun t j h => by simp only [List.mem_cons, List.not_mem_nil, or_false, Prod.mk.injEq] at h; obtain ⟨rfl, rfl⟩ := h; exact mn_152) (fun t j h => by simp only [List.mem_cons, List.not_mem_nil, or_false, Prod.mk.injEq] at h; obtain ⟨rfl, rfl⟩ := h; exact ⟨by rw [mn_152]; exact tw_36, by rw [mn_152]; exact tw_1420, mt_152, by decide, by decide⟩) (by unfold prm; decide +kernel) ml_140 (HsOk.nil (by decide +kernel))
theorem dd_140_60 : decode (mi 140).2.1 60 = .ok (.iconst 4, 1) := by decide +kernel
theorem st_140_60 : Sd 140 60 1 (i_ic 4) := sd_iconst dd_140_60
theorem dd_140_61 : decode (mi 140).2.1 61 = .ok (.if_icmp .ge 14, 3) := by decide +kernel
theorem st_140_61 : Sd 140 61 3 (i_cge 75) := sd_icmp_ge dd_140_61 (by decide)
theorem dd_140_64 : decode (mi 140).2.1 64 = .ok (.aload_n 0, 1) := by decide +kernel
theorem st_140_64 : Sd 140 64 1 (i_ldR 0) := sd_aload_n (j := 0) dd_140_64 rfl
theorem dd_140_65 : decode (mi 140).2.1 65 = .ok (.iload 4, 2) := by decide +kernel
theorem st_140_65 : Sd 140 65 2 (i_ldI 4) := sd_iload dd_140_65
theorem dd_140_67 : decode (mi 140).2.1 67 = .ok (.iload 5, 2) := by decide +kernel
theorem st_140_67 : Sd 140 67 2 (i_ldI 5) := sd_iload dd_140_67
theorem dd_140_69 : decode (mi 140).2.1 69 = .ok (.invokevirtual 138, 3) := by decide +kernel
theorem st_140_69 : Sd 140 69 3 (i_cV [(2, 172)] 3 10 []) := sd_virt ⟨"ContractDeskModel", "sameText", "(II)Z"⟩ dd_140_69 (by rw [mc_140]; exact tw_1422) (fun t j h => by simp only [List.mem_cons, List.not_mem_nil, or_false, Prod.mk.injEq] at h; obtain ⟨rfl, rfl⟩ := h; exact mn_172) (fun t j h => by simp only [List.mem_cons, List.not_mem_nil, or_false, Prod.mk.injEq] at h; obtain ⟨rfl, rfl⟩ := h; exact ⟨by rw [mn_172]; exact tw_37, by rw [mn_172]; exact tw_1424, mt_172, by decide, by decide⟩) (by unfold prm; decide +kernel) ml_140 (HsOk.nil (by decide +kernel))
theorem dd_140_72 : decode (mi 140).2.1 72 = .ok (.ifCond .eq 28, 3) := by decide +kernel
theorem st_140_72 : Sd 140 72 3 (i_zeq 100) := sd_if_eq dd_140_72 (by decide)
def bk_140_16 : Tr := sq (i_ldI 3) (sq (i_zle 234) (sq (i_inc 3 (-1)) (sq (i_ldR 0) (sq (i_gR 33 [2]) (sq (i_ldI 3) (sq (i_aI [20]) (sq (i_stI 4) (sq (i_ldR 0) (sq (i_gR 34 [2]) (sq (i_ldI 3) (sq (i_aI [20]) (sq (i_stI 5) (sq (i_ldR 0) (sq (i_ldI 4) (sq (i_cV [(2, 152)] 2 10 []) (sq (i_ldR 0) (sq (i_ldI 5) (sq (i_cV [(2, 152)] 2 10 []) (sq (i_cne 100) (sq (i_ldR 0) (sq (i_ldI 4) (sq (i_cV [(2, 152)] 2 10 []) (sq (i_ic 4) (sq (i_cge 75) (sq (i_ldR 0) (sq (i_ldI 4) (sq (i_ldI 5) (sq (i_cV [(2, 172)] 3 10 []) (sq (i_zeq 100) (i_fall 75))))))))))))))))))))))))))))))
theorem sb_140_16 : Sd 140 16 59 bk_140_16 := Sd.sq st_140_16 (Sd.sq st_140_17 (Sd.sq st_140_20 (Sd.sq st_140_23 (Sd.sq st_140_24 (Sd.sq st_140_27 (Sd.sq st_140_28 (Sd.sq st_140_29 (Sd.sq st_140_31 (Sd.sq st_140_32 (Sd.sq st_140_35 (Sd.sq st_140_36 (Sd.sq st_140_37 (Sd.sq st_140_39 (Sd.sq st_140_40 (Sd.sq st_140_42 (Sd.sq st_140_45 (Sd.sq st_140_46 (Sd.sq st_140_48 (Sd.sq st_140_51 (Sd.sq st_140_54 (Sd.sq st_140_55 (Sd.sq st_140_57 (Sd.sq st_140_60 (Sd.sq st_140_61 (Sd.sq st_140_64 (Sd.sq st_140_65 (Sd.sq st_140_67 (Sd.sq st_140_69 (Sd.sq st_140_72 (sd_fall rfl))))))))))))))))))))))))))))))
theorem dd_140_75 : decode (mi 140).2.1 75 = .ok (.aload_n 0, 1) := by decide +kernel
theorem st_140_75 : Sd 140 75 1 (i_ldR 0) := sd_aload_n (j := 0) dd_140_75 rfl
theorem dd_140_76 : decode (mi 140).2.1 76 = .ok (.iload 4, 2) := by decide +kernel
theorem st_140_76 : Sd 140 76 2 (i_ldI 4) := sd_iload dd_140_76
theorem dd_140_78 : decode (mi 140).2.1 78 = .ok (.invokevirtual 125, 3) := by decide +kernel
theorem st_140_78 : Sd 140 78 3 (i_cV [(2, 152)] 2 10 []) := sd_virt ⟨"ContractDeskModel", "kind", "(I)I"⟩ dd_140_78 (by rw [mc_140]; exact tw_1418) (fun t j h => by simp only [List.mem_cons, List.not_mem_nil, or_false, Prod.mk.injEq] at h; obtain ⟨rfl, rfl⟩ := h; exact mn_152) (fun t j h => by simp only [List.mem_cons, List.not_mem_nil, or_false, Prod.mk.injEq] at h; obtain ⟨rfl, rfl⟩ := h; exact ⟨by rw [mn_152]; exact tw_36, by rw [mn_152]; exact tw_1420, mt_152, by decide, by decide⟩) (by unfold prm; decide +kernel) ml_140 (HsOk.nil (by decide +kernel))
theorem dd_140_81 : decode (mi 140).2.1 81 = .ok (.iconst 3, 1) := by decide +kernel
theorem st_140_81 : Sd 140 81 1 (i_ic 3) := sd_iconst dd_140_81
theorem dd_140_82 : decode (mi 140).2.1 82 = .ok (.if_icmp .le 20, 3) := by decide +kernel
theorem st_140_82 : Sd 140 82 3 (i_cle 102) := sd_icmp_le dd_140_82 (by decide)
theorem dd_140_85 : decode (mi 140).2.1 85 = .ok (.aload_n 0, 1) := by decide +kernel
theorem st_140_85 : Sd 140 85 1 (i_ldR 0) := sd_aload_n (j := 0) dd_140_85 rfl
theorem dd_140_86 : decode (mi 140).2.1 86 = .ok (.iload 4, 2) := by decide +kernel
theorem st_140_86 : Sd 140 86 2 (i_ldI 4) := sd_iload dd_140_86
theorem dd_140_88 : decode (mi 140).2.1 88 = .ok (.invokevirtual 135, 3) := by decide +kernel
theorem st_140_88 : Sd 140 88 3 (i_cV [(2, 165)] 2 10 []) := sd_virt ⟨"ContractDeskModel", "parts", "(I)I"⟩ dd_140_88 (by rw [mc_140]; exact tw_1433) (fun t j h => by simp only [List.mem_cons, List.not_mem_nil, or_false, Prod.mk.injEq] at h; obtain ⟨rfl, rfl⟩ := h; exact mn_165) (fun t j h => by simp only [List.mem_cons, List.not_mem_nil, or_false, Prod.mk.injEq] at h; obtain ⟨rfl, rfl⟩ := h; exact ⟨by rw [mn_165]; exact tw_39, by rw [mn_165]; exact tw_1435, mt_165, by decide, by decide⟩) (by unfold prm; decide +kernel) ml_140 (HsOk.nil (by decide +kernel))
theorem dd_140_91 : decode (mi 140).2.1 91 = .ok (.aload_n 0, 1) := by decide +kernel
theorem st_140_91 : Sd 140 91 1 (i_ldR 0) := sd_aload_n (j := 0) dd_140_91 rfl
theorem dd_140_92 : decode (mi 140).2.1 92 = .ok (.iload 5, 2) := by decide +kernel
theorem st_140_92 : Sd 140 92 2 (i_ldI 5) := sd_iload dd_140_92
theorem dd_140_94 : decode (mi 140).2.1 94 = .ok (.invokevirtual 135, 3) := by decide +kernel
theorem st_140_94 : Sd 140 94 3 (i_cV [(2, 165)] 2 10 []) := sd_virt ⟨"ContractDeskModel", "parts", "(I)I"⟩ dd_140_94 (by rw [mc_140]; exact tw_1433) (fun t j h => by simp only [List.mem_cons, List.not_mem_nil, or_false, Prod.mk.injEq] at h; obtain ⟨rfl, rfl⟩ := h; exact mn_165) (fun t j h => by simp only [List.mem_cons, List.not_mem_nil, or_false, Prod.mk.injEq] at h; obtain ⟨rfl, rfl⟩ := h; exact ⟨by rw [mn_165]; exact tw_39, by rw [mn_165]; exact tw_1435, mt_165, by decide, by decide⟩) (by unfold prm; decide +kernel) ml_140 (HsOk.nil (by decide +kernel))
theorem dd_140_97 : decode (mi 140).2.1 97 = .ok (.if_icmp .eq 5, 3) := by decide +kernel
theorem st_140_97 : Sd 140 97 3 (i_ceq 102) := sd_icmp_eq dd_140_97 (by decide)
def bk_140_75 : Tr := sq (i_ldR 0) (sq (i_ldI 4) (sq (i_cV [(2, 152)] 2 10 []) (sq (i_ic 3) (sq (i_cle 102) (sq (i_ldR 0) (sq (i_ldI 4) (sq (i_cV [(2, 165)] 2 10 []) (sq (i_ldR 0) (sq (i_ldI 5) (sq (i_cV [(2, 165)] 2 10 []) (sq (i_ceq 102) (i_fall 100))))))))))))
theorem sb_140_75 : Sd 140 75 25 bk_140_75 := Sd.sq st_140_75 (Sd.sq st_140_76 (Sd.sq st_140_78 (Sd.sq st_140_81 (Sd.sq st_140_82 (Sd.sq st_140_85 (Sd.sq st_140_86 (Sd.sq st_140_88 (Sd.sq st_140_91 (Sd.sq st_140_92 (Sd.sq st_140_94 (Sd.sq st_140_97 (sd_fall rfl))))))))))))
theorem dd_140_100 : decode (mi 140).2.1 100 = .ok (.iconst 0, 1) := by decide +kernel
theorem st_140_100 : Sd 140 100 1 (i_ic 0) := sd_iconst dd_140_100
theorem dd_140_101 : decode (mi 140).2.1 101 = .ok (.ireturn, 1) := by decide +kernel
theorem st_140_101 : Sd 140 101 1 (i_rI 2) := sd_ireturn dd_140_101 (by decide) mr_140
def bk_140_100 : Tr := sq (i_ic 0) (i_rI 2)
theorem sb_140_100 : Sd 140 100 2 bk_140_100 := Sd.sq st_140_100 (st_140_101)
theorem dd_140_102 : decode (mi 140).2.1 102 = .ok (.aload_n 0, 1) := by decide +kernel
theorem st_140_102 : Sd 140 102 1 (i_ldR 0) := sd_aload_n (j := 0) dd_140_102 rfl
theorem dd_140_103 : decode (mi 140).2.1 103 = .ok (.iload 4, 2) := by decide +kernel
theorem st_140_103 : Sd 140 103 2 (i_ldI 4) := sd_iload dd_140_103
theorem dd_140_105 : decode (mi 140).2.1 105 = .ok (.invokevirtual 125, 3) := by decide +kernel
theorem st_140_105 : Sd 140 105 3 (i_cV [(2, 152)] 2 10 []) := sd_virt ⟨"ContractDeskModel", "kind", "(I)I"⟩ dd_140_105 (by rw [mc_140]; exact tw_1418) (fun t j h => by simp only [List.mem_cons, List.not_mem_nil, or_false, Prod.mk.injEq] at h; obtain ⟨rfl, rfl⟩ := h; exact mn_152) (fun t j h => by simp only [List.mem_cons, List.not_mem_nil, or_false, Prod.mk.injEq] at h; obtain ⟨rfl, rfl⟩ := h; exact ⟨by rw [mn_152]; exact tw_36, by rw [mn_152]; exact tw_1420, mt_152, by decide, by decide⟩) (by unfold prm; decide +kernel) ml_140 (HsOk.nil (by decide +kernel))
theorem dd_140_108 : decode (mi 140).2.1 108 = .ok (.iconst 3, 1) := by decide +kernel
theorem st_140_108 : Sd 140 108 1 (i_ic 3) := sd_iconst dd_140_108
theorem dd_140_109 : decode (mi 140).2.1 109 = .ok (.if_icmp .le 12, 3) := by decide +kernel
theorem st_140_109 : Sd 140 109 3 (i_cle 121) := sd_icmp_le dd_140_109 (by decide)
theorem dd_140_112 : decode (mi 140).2.1 112 = .ok (.aload_n 0, 1) := by decide +kernel
theorem st_140_112 : Sd 140 112 1 (i_ldR 0) := sd_aload_n (j := 0) dd_140_112 rfl
theorem dd_140_113 : decode (mi 140).2.1 113 = .ok (.iload 4, 2) := by decide +kernel
theorem st_140_113 : Sd 140 113 2 (i_ldI 4) := sd_iload dd_140_113
theorem dd_140_115 : decode (mi 140).2.1 115 = .ok (.invokevirtual 135, 3) := by decide +kernel
theorem st_140_115 : Sd 140 115 3 (i_cV [(2, 165)] 2 10 []) := sd_virt ⟨"ContractDeskModel", "parts", "(I)I"⟩ dd_140_115 (by rw [mc_140]; exact tw_1433) (fun t j h => by simp only [List.mem_cons, List.not_mem_nil, or_false, Prod.mk.injEq] at h; obtain ⟨rfl, rfl⟩ := h; exact mn_165) (fun t j h => by simp only [List.mem_cons, List.not_mem_nil, or_false, Prod.mk.injEq] at h; obtain ⟨rfl, rfl⟩ := h; exact ⟨by rw [mn_165]; exact tw_39, by rw [mn_165]; exact tw_1435, mt_165, by decide, by decide⟩) (by unfold prm; decide +kernel) ml_140 (HsOk.nil (by decide +kernel))
theorem dd_140_118 : decode (mi 140).2.1 118 = .ok (.goto 4, 3) := by decide +kernel
theorem st_140_118 : Sd 140 118 3 (i_goto 122) := sd_goto dd_140_118 (by decide)
def bk_140_102 : Tr := sq (i_ldR 0) (sq (i_ldI 4) (sq (i_cV [(2, 152)] 2 10 []) (sq (i_ic 3) (sq (i_cle 121) (sq (i_ldR 0) (sq (i_ldI 4) (sq (i_cV [(2, 165)] 2 10 []) (i_goto 122))))))))
theorem sb_140_102 : Sd 140 102 19 bk_140_102 := Sd.sq st_140_102 (Sd.sq st_140_103 (Sd.sq st_140_105 (Sd.sq st_140_108 (Sd.sq st_140_109 (Sd.sq st_140_112 (Sd.sq st_140_113 (Sd.sq st_140_115 (st_140_118))))))))
theorem dd_140_121 : decode (mi 140).2.1 121 = .ok (.iconst 0, 1) := by decide +kernel
theorem st_140_121 : Sd 140 121 1 (i_ic 0) := sd_iconst dd_140_121
def bk_140_121 : Tr := sq (i_ic 0) (i_fall 122)
theorem sb_140_121 : Sd 140 121 1 bk_140_121 := Sd.sq st_140_121 (sd_fall rfl)
theorem dd_140_122 : decode (mi 140).2.1 122 = .ok (.istore 6, 2) := by decide +kernel
theorem st_140_122 : Sd 140 122 2 (i_stI 6) := sd_istore dd_140_122
theorem dd_140_124 : decode (mi 140).2.1 124 = .ok (.iconst 0, 1) := by decide +kernel
theorem st_140_124 : Sd 140 124 1 (i_ic 0) := sd_iconst dd_140_124
theorem dd_140_125 : decode (mi 140).2.1 125 = .ok (.istore 7, 2) := by decide +kernel
theorem st_140_125 : Sd 140 125 2 (i_stI 7) := sd_istore dd_140_125
def bk_140_122 : Tr := sq (i_stI 6) (sq (i_ic 0) (sq (i_stI 7) (i_fall 127)))
theorem sb_140_122 : Sd 140 122 5 bk_140_122 := Sd.sq st_140_122 (Sd.sq st_140_124 (Sd.sq st_140_125 (sd_fall rfl)))
theorem dd_140_127 : decode (mi 140).2.1 127 = .ok (.iload 7, 2) := by decide +kernel
theorem st_140_127 : Sd 140 127 2 (i_ldI 7) := sd_iload dd_140_127
theorem dd_140_129 : decode (mi 140).2.1 129 = .ok (.iload 6, 2) := by decide +kernel
theorem st_140_129 : Sd 140 129 2 (i_ldI 6) := sd_iload dd_140_129
theorem dd_140_131 : decode (mi 140).2.1 131 = .ok (.if_icmp .ge 100, 3) := by decide +kernel
theorem st_140_131 : Sd 140 131 3 (i_cge 231) := sd_icmp_ge dd_140_131 (by decide)
theorem dd_140_134 : decode (mi 140).2.1 134 = .ok (.aload_n 0, 1) := by decide +kernel
theorem st_140_134 : Sd 140 134 1 (i_ldR 0) := sd_aload_n (j := 0) dd_140_134 rfl
theorem dd_140_135 : decode (mi 140).2.1 135 = .ok (.iload 4, 2) := by decide +kernel
theorem st_140_135 : Sd 140 135 2 (i_ldI 4) := sd_iload dd_140_135
theorem dd_140_137 : decode (mi 140).2.1 137 = .ok (.iload 7, 2) := by decide +kernel
theorem st_140_137 : Sd 140 137 2 (i_ldI 7) := sd_iload dd_140_137
theorem dd_140_139 : decode (mi 140).2.1 139 = .ok (.invokevirtual 131, 3) := by decide +kernel
theorem st_140_139 : Sd 140 139 3 (i_cV [(2, 164)] 3 10 []) := sd_virt ⟨"ContractDeskModel", "part", "(II)I"⟩ dd_140_139 (by rw [mc_140]; exact tw_1437) (fun t j h => by simp only [List.mem_cons, List.not_mem_nil, or_false, Prod.mk.injEq] at h; obtain ⟨rfl, rfl⟩ := h; exact mn_164) (fun t j h => by simp only [List.mem_cons, List.not_mem_nil, or_false, Prod.mk.injEq] at h; obtain ⟨rfl, rfl⟩ := h; exact ⟨by rw [mn_164]; exact tw_40, by rw [mn_164]; exact tw_1439, mt_164, by decide, by decide⟩) (by unfold prm; decide +kernel) ml_140 (HsOk.nil (by decide +kernel))
theorem dd_140_142 : decode (mi 140).2.1 142 = .ok (.istore 8, 2) := by decide +kernel
theorem st_140_142 : Sd 140 142 2 (i_stI 8) := sd_istore dd_140_142
theorem dd_140_144 : decode (mi 140).2.1 144 = .ok (.aload_n 0, 1) := by decide +kernel
theorem st_140_144 : Sd 140 144 1 (i_ldR 0) := sd_aload_n (j := 0) dd_140_144 rfl
theorem dd_140_145 : decode (mi 140).2.1 145 = .ok (.iload 4, 2) := by decide +kernel
theorem st_140_145 : Sd 140 145 2 (i_ldI 4) := sd_iload dd_140_145
theorem dd_140_147 : decode (mi 140).2.1 147 = .ok (.invokevirtual 125, 3) := by decide +kernel
theorem st_140_147 : Sd 140 147 3 (i_cV [(2, 152)] 2 10 []) := sd_virt ⟨"ContractDeskModel", "kind", "(I)I"⟩ dd_140_147 (by rw [mc_140]; exact tw_1418) (fun t j h => by simp only [List.mem_cons, List.not_mem_nil, or_false, Prod.mk.injEq] at h; obtain ⟨rfl, rfl⟩ := h; exact mn_152) (fun t j h => by simp only [List.mem_cons, List.not_mem_nil, or_false, Prod.mk.injEq] at h; obtain ⟨rfl, rfl⟩ := h; exact ⟨by rw [mn_152]; exact tw_36, by rw [mn_152]; exact tw_1420, mt_152, by decide, by decide⟩) (by unfold prm; decide +kernel) ml_140 (HsOk.nil (by decide +kernel))
theorem dd_140_150 : decode (mi 140).2.1 150 = .ok (.iconst 4, 1) := by decide +kernel
theorem st_140_150 : Sd 140 150 1 (i_ic 4) := sd_iconst dd_140_150
theorem dd_140_151 : decode (mi 140).2.1 151 = .ok (.if_icmp .ne 14, 3) := by decide +kernel
theorem st_140_151 : Sd 140 151 3 (i_cne 165) := sd_icmp_ne dd_140_151 (by decide)
theorem dd_140_154 : decode (mi 140).2.1 154 = .ok (.aload_n 0, 1) := by decide +kernel
theorem st_140_154 : Sd 140 154 1 (i_ldR 0) := sd_aload_n (j := 0) dd_140_154 rfl
theorem dd_140_155 : decode (mi 140).2.1 155 = .ok (.iload 5, 2) := by decide +kernel
theorem st_140_155 : Sd 140 155 2 (i_ldI 5) := sd_iload dd_140_155
theorem dd_140_157 : decode (mi 140).2.1 157 = .ok (.iload 7, 2) := by decide +kernel
theorem st_140_157 : Sd 140 157 2 (i_ldI 7) := sd_iload dd_140_157
theorem dd_140_159 : decode (mi 140).2.1 159 = .ok (.invokevirtual 131, 3) := by decide +kernel
theorem st_140_159 : Sd 140 159 3 (i_cV [(2, 164)] 3 10 []) := sd_virt ⟨"ContractDeskModel", "part", "(II)I"⟩ dd_140_159 (by rw [mc_140]; exact tw_1437) (fun t j h => by simp only [List.mem_cons, List.not_mem_nil, or_false, Prod.mk.injEq] at h; obtain ⟨rfl, rfl⟩ := h; exact mn_164) (fun t j h => by simp only [List.mem_cons, List.not_mem_nil, or_false, Prod.mk.injEq] at h; obtain ⟨rfl, rfl⟩ := h; exact ⟨by rw [mn_164]; exact tw_40, by rw [mn_164]; exact tw_1439, mt_164, by decide, by decide⟩) (by unfold prm; decide +kernel) ml_140 (HsOk.nil (by decide +kernel))
theorem dd_140_162 : decode (mi 140).2.1 162 = .ok (.goto 18, 3) := by decide +kernel
theorem st_140_162 : Sd 140 162 3 (i_goto 180) := sd_goto dd_140_162 (by decide)
def bk_140_127 : Tr := sq (i_ldI 7) (sq (i_ldI 6) (sq (i_cge 231) (sq (i_ldR 0) (sq (i_ldI 4) (sq (i_ldI 7) (sq (i_cV [(2, 164)] 3 10 []) (sq (i_stI 8) (sq (i_ldR 0) (sq (i_ldI 4) (sq (i_cV [(2, 152)] 2 10 []) (sq (i_ic 4) (sq (i_cne 165) (sq (i_ldR 0) (sq (i_ldI 5) (sq (i_ldI 7) (sq (i_cV [(2, 164)] 3 10 []) (i_goto 180)))))))))))))))))
theorem sb_140_127 : Sd 140 127 38 bk_140_127 := Sd.sq st_140_127 (Sd.sq st_140_129 (Sd.sq st_140_131 (Sd.sq st_140_134 (Sd.sq st_140_135 (Sd.sq st_140_137 (Sd.sq st_140_139 (Sd.sq st_140_142 (Sd.sq st_140_144 (Sd.sq st_140_145 (Sd.sq st_140_147 (Sd.sq st_140_150 (Sd.sq st_140_151 (Sd.sq st_140_154 (Sd.sq st_140_155 (Sd.sq st_140_157 (Sd.sq st_140_159 (st_140_162)))))))))))))))))
theorem dd_140_165 : decode (mi 140).2.1 165 = .ok (.aload_n 0, 1) := by decide +kernel
theorem st_140_165 : Sd 140 165 1 (i_ldR 0) := sd_aload_n (j := 0) dd_140_165 rfl
theorem dd_140_166 : decode (mi 140).2.1 166 = .ok (.iload 5, 2) := by decide +kernel
theorem st_140_166 : Sd 140 166 2 (i_ldI 5) := sd_iload dd_140_166
theorem dd_140_168 : decode (mi 140).2.1 168 = .ok (.aload_n 0, 1) := by decide +kernel
theorem st_140_168 : Sd 140 168 1 (i_ldR 0) := sd_aload_n (j := 0) dd_140_168 rfl
theorem dd_140_169 : decode (mi 140).2.1 169 = .ok (.getfield 7, 3) := by decide +kernel
theorem st_140_169 : Sd 140 169 3 (i_gR 1 [2]) := sd_gR (ref := "ContractDeskModel") (decl := "ContractDeskModel") (name := "all") (desc := "[C") dd_140_169 (by rw [mc_140]; exact tw_1261) (Or.inl rfl) (by decide +kernel)
theorem dd_140_172 : decode (mi 140).2.1 172 = .ok (.iload 8, 2) := by decide +kernel
theorem st_140_172 : Sd 140 172 2 (i_ldI 8) := sd_iload dd_140_172
theorem dd_140_174 : decode (mi 140).2.1 174 = .ok (.iconst 1, 1) := by decide +kernel
theorem st_140_174 : Sd 140 174 1 (i_ic 1) := sd_iconst dd_140_174
theorem dd_140_175 : decode (mi 140).2.1 175 = .ok (.iadd, 1) := by decide +kernel
theorem st_140_175 : Sd 140 175 1 (i_iadd) := sd_iadd dd_140_175
theorem dd_140_176 : decode (mi 140).2.1 176 = .ok (.caload, 1) := by decide +kernel
theorem st_140_176 : Sd 140 176 1 (i_aI [21]) := sd_caload dd_140_176 (by decide)
theorem dd_140_177 : decode (mi 140).2.1 177 = .ok (.invokevirtual 142, 3) := by decide +kernel
theorem st_140_177 : Sd 140 177 3 (i_cV [(2, 159)] 3 10 []) := sd_virt ⟨"ContractDeskModel", "member", "(IC)I"⟩ dd_140_177 (by rw [mc_140]; exact tw_1441) (fun t j h => by simp only [List.mem_cons, List.not_mem_nil, or_false, Prod.mk.injEq] at h; obtain ⟨rfl, rfl⟩ := h; exact mn_159) (fun t j h => by simp only [List.mem_cons, List.not_mem_nil, or_false, Prod.mk.injEq] at h; obtain ⟨rfl, rfl⟩ := h; exact ⟨by rw [mn_159]; exact tw_41, by rw [mn_159]; exact tw_1443, mt_159, by decide, by decide⟩) (by unfold prm; decide +kernel) ml_140 (HsOk.nil (by decide +kernel))
def bk_140_165 : Tr := sq (i_ldR 0) (sq (i_ldI 5) (sq (i_ldR 0) (sq (i_gR 1 [2]) (sq (i_ldI 8) (sq (i_ic 1) (sq (i_iadd) (sq (i_aI [21]) (sq (i_cV [(2, 159)] 3 10 []) (i_fall 180)))))))))
theorem sb_140_165 : Sd 140 165 15 bk_140_165 := Sd.sq st_140_165 (Sd.sq st_140_166 (Sd.sq st_140_168 (Sd.sq st_140_169 (Sd.sq st_140_172 (Sd.sq st_140_174 (Sd.sq st_140_175 (Sd.sq st_140_176 (Sd.sq st_140_177 (sd_fall rfl)))))))))
theorem dd_140_180 : decode (mi 140).2.1 180 = .ok (.istore 9, 2) := by decide +kernel
theorem st_140_180 : Sd 140 180 2 (i_stI 9) := sd_istore dd_140_180
theorem dd_140_182 : decode (mi 140).2.1 182 = .ok (.iload 9, 2) := by decide +kernel
theorem st_140_182 : Sd 140 182 2 (i_ldI 9) := sd_iload dd_140_182
theorem dd_140_184 : decode (mi 140).2.1 184 = .ok (.ifCond .ge 5, 3) := by decide +kernel
theorem st_140_184 : Sd 140 184 3 (i_zge 189) := sd_if_ge dd_140_184 (by decide)
theorem dd_140_187 : decode (mi 140).2.1 187 = .ok (.iconst 0, 1) := by decide +kernel
theorem st_140_187 : Sd 140 187 1 (i_ic 0) := sd_iconst dd_140_187
theorem dd_140_188 : decode (mi 140).2.1 188 = .ok (.ireturn, 1) := by decide +kernel
theorem st_140_188 : Sd 140 188 1 (i_rI 2) := sd_ireturn dd_140_188 (by decide) mr_140
def bk_140_180 : Tr := sq (i_stI 9) (sq (i_ldI 9) (sq (i_zge 189) (sq (i_ic 0) (i_rI 2))))
theorem sb_140_180 : Sd 140 180 9 bk_140_180 := Sd.sq st_140_180 (Sd.sq st_140_182 (Sd.sq st_140_184 (Sd.sq st_140_187 (st_140_188))))
theorem dd_140_189 : decode (mi 140).2.1 189 = .ok (.aload_n 0, 1) := by decide +kernel
theorem st_140_189 : Sd 140 189 1 (i_ldR 0) := sd_aload_n (j := 0) dd_140_189 rfl
theorem dd_140_190 : decode (mi 140).2.1 190 = .ok (.getfield 87, 3) := by decide +kernel
theorem st_140_190 : Sd 140 190 3 (i_gR 33 [2]) := sd_gR (ref := "ContractDeskModel") (decl := "ContractDeskModel") (name := "one") (desc := "[I") dd_140_190 (by rw [mc_140]; exact tw_1293) (Or.inl rfl) (by decide +kernel)
theorem dd_140_193 : decode (mi 140).2.1 193 = .ok (.iload_n 3, 1) := by decide +kernel
theorem st_140_193 : Sd 140 193 1 (i_ldI 3) := sd_iload_n (j := 3) dd_140_193 rfl
theorem dd_140_194 : decode (mi 140).2.1 194 = .ok (.aload_n 0, 1) := by decide +kernel
theorem st_140_194 : Sd 140 194 1 (i_ldR 0) := sd_aload_n (j := 0) dd_140_194 rfl
theorem dd_140_195 : decode (mi 140).2.1 195 = .ok (.iload 4, 2) := by decide +kernel
theorem st_140_195 : Sd 140 195 2 (i_ldI 4) := sd_iload dd_140_195
theorem dd_140_197 : decode (mi 140).2.1 197 = .ok (.invokevirtual 125, 3) := by decide +kernel
theorem st_140_197 : Sd 140 197 3 (i_cV [(2, 152)] 2 10 []) := sd_virt ⟨"ContractDeskModel", "kind", "(I)I"⟩ dd_140_197 (by rw [mc_140]; exact tw_1418) (fun t j h => by simp only [List.mem_cons, List.not_mem_nil, or_false, Prod.mk.injEq] at h; obtain ⟨rfl, rfl⟩ := h; exact mn_152) (fun t j h => by simp only [List.mem_cons, List.not_mem_nil, or_false, Prod.mk.injEq] at h; obtain ⟨rfl, rfl⟩ := h; exact ⟨by rw [mn_152]; exact tw_36, by rw [mn_152]; exact tw_1420, mt_152, by decide, by decide⟩) (by unfold prm; decide +kernel) ml_140 (HsOk.nil (by decide +kernel))
theorem dd_140_200 : decode (mi 140).2.1 200 = .ok (.iconst 4, 1) := by decide +kernel
theorem st_140_200 : Sd 140 200 1 (i_ic 4) := sd_iconst dd_140_200
theorem dd_140_201 : decode (mi 140).2.1 201 = .ok (.if_icmp .ne 8, 3) := by decide +kernel
theorem st_140_201 : Sd 140 201 3 (i_cne 209) := sd_icmp_ne dd_140_201 (by decide)
theorem dd_140_204 : decode (mi 140).2.1 204 = .ok (.iload 8, 2) := by decide +kernel
theorem st_140_204 : Sd 140 204 2 (i_ldI 8) := sd_iload dd_140_204
theorem dd_140_206 : decode (mi 140).2.1 206 = .ok (.goto 7, 3) := by decide +kernel
theorem st_140_206 : Sd 140 206 3 (i_goto 213) := sd_goto dd_140_206 (by decide)
def bk_140_189 : Tr := sq (i_ldR 0) (sq (i_gR 33 [2]) (sq (i_ldI 3) (sq (i_ldR 0) (sq (i_ldI 4) (sq (i_cV [(2, 152)] 2 10 []) (sq (i_ic 4) (sq (i_cne 209) (sq (i_ldI 8) (i_goto 213)))))))))
theorem sb_140_189 : Sd 140 189 20 bk_140_189 := Sd.sq st_140_189 (Sd.sq st_140_190 (Sd.sq st_140_193 (Sd.sq st_140_194 (Sd.sq st_140_195 (Sd.sq st_140_197 (Sd.sq st_140_200 (Sd.sq st_140_201 (Sd.sq st_140_204 (st_140_206)))))))))
theorem dd_140_209 : decode (mi 140).2.1 209 = .ok (.iload 8, 2) := by decide +kernel
theorem st_140_209 : Sd 140 209 2 (i_ldI 8) := sd_iload dd_140_209
theorem dd_140_211 : decode (mi 140).2.1 211 = .ok (.iconst 4, 1) := by decide +kernel
theorem st_140_211 : Sd 140 211 1 (i_ic 4) := sd_iconst dd_140_211
theorem dd_140_212 : decode (mi 140).2.1 212 = .ok (.iadd, 1) := by decide +kernel
theorem st_140_212 : Sd 140 212 1 (i_iadd) := sd_iadd dd_140_212
def bk_140_209 : Tr := sq (i_ldI 8) (sq (i_ic 4) (sq (i_iadd) (i_fall 213)))
theorem sb_140_209 : Sd 140 209 4 bk_140_209 := Sd.sq st_140_209 (Sd.sq st_140_211 (Sd.sq st_140_212 (sd_fall rfl)))
theorem dd_140_213 : decode (mi 140).2.1 213 = .ok (.iastore, 1) := by decide +kernel
theorem st_140_213 : Sd 140 213 1 (i_sI [20] 0) := sd_iastore dd_140_213 (by decide)
theorem dd_140_214 : decode (mi 140).2.1 214 = .ok (.aload_n 0, 1) := by decide +kernel
theorem st_140_214 : Sd 140 214 1 (i_ldR 0) := sd_aload_n (j := 0) dd_140_214 rfl
theorem dd_140_215 : decode (mi 140).2.1 215 = .ok (.getfield 90, 3) := by decide +kernel
theorem st_140_215 : Sd 140 215 3 (i_gR 34 [2]) := sd_gR (ref := "ContractDeskModel") (decl := "ContractDeskModel") (name := "other") (desc := "[I") dd_140_215 (by rw [mc_140]; exact tw_1294) (Or.inl rfl) (by decide +kernel)
theorem dd_140_218 : decode (mi 140).2.1 218 = .ok (.iload_n 3, 1) := by decide +kernel
theorem st_140_218 : Sd 140 218 1 (i_ldI 3) := sd_iload_n (j := 3) dd_140_218 rfl
theorem dd_140_219 : decode (mi 140).2.1 219 = .ok (.iload 9, 2) := by decide +kernel
theorem st_140_219 : Sd 140 219 2 (i_ldI 9) := sd_iload dd_140_219
theorem dd_140_221 : decode (mi 140).2.1 221 = .ok (.iastore, 1) := by decide +kernel
theorem st_140_221 : Sd 140 221 1 (i_sI [20] 0) := sd_iastore dd_140_221 (by decide)
theorem dd_140_222 : decode (mi 140).2.1 222 = .ok (.iinc 3 1, 3) := by decide +kernel
theorem st_140_222 : Sd 140 222 3 (i_inc 3 1) := sd_iinc dd_140_222
theorem dd_140_225 : decode (mi 140).2.1 225 = .ok (.iinc 7 1, 3) := by decide +kernel
theorem st_140_225 : Sd 140 225 3 (i_inc 7 1) := sd_iinc dd_140_225
theorem dd_140_228 : decode (mi 140).2.1 228 = .ok (.goto (-101), 3) := by decide +kernel
theorem st_140_228 : Sd 140 228 3 (i_goto 127) := sd_goto dd_140_228 (by decide)
def bk_140_213 : Tr := sq (i_sI [20] 0) (sq (i_ldR 0) (sq (i_gR 34 [2]) (sq (i_ldI 3) (sq (i_ldI 9) (sq (i_sI [20] 0) (sq (i_inc 3 1) (sq (i_inc 7 1) (i_goto 127))))))))
theorem sb_140_213 : Sd 140 213 18 bk_140_213 := Sd.sq st_140_213 (Sd.sq st_140_214 (Sd.sq st_140_215 (Sd.sq st_140_218 (Sd.sq st_140_219 (Sd.sq st_140_221 (Sd.sq st_140_222 (Sd.sq st_140_225 (st_140_228))))))))
theorem dd_140_231 : decode (mi 140).2.1 231 = .ok (.goto (-215), 3) := by decide +kernel
theorem st_140_231 : Sd 140 231 3 (i_goto 16) := sd_goto dd_140_231 (by decide)
def bk_140_231 : Tr := i_goto 16
theorem sb_140_231 : Sd 140 231 3 bk_140_231 := st_140_231
theorem dd_140_234 : decode (mi 140).2.1 234 = .ok (.iconst 1, 1) := by decide +kernel
theorem st_140_234 : Sd 140 234 1 (i_ic 1) := sd_iconst dd_140_234
theorem dd_140_235 : decode (mi 140).2.1 235 = .ok (.ireturn, 1) := by decide +kernel
theorem st_140_235 : Sd 140 235 1 (i_rI 2) := sd_ireturn dd_140_235 (by decide) mr_140
def bk_140_234 : Tr := sq (i_ic 1) (i_rI 2)
theorem sb_140_234 : Sd 140 234 2 bk_140_234 := Sd.sq st_140_234 (st_140_235)
theorem dd_141_0 : decode (mi 141).2.1 0 = .ok (.aload_n 0, 1) := by decide +kernel
theorem st_141_0 : Sd 141 0 1 (i_ldR 0) := sd_aload_n (j := 0) dd_141_0 rfl
theorem dd_141_1 : decode (mi 141).2.1 1 = .ok (.iconst 0, 1) := by decide +kernel
theorem st_141_1 : Sd 141 1 1 (i_ic 0) := sd_iconst dd_141_1
theorem dd_141_2 : decode (mi 141).2.1 2 = .ok (.putfield 93, 3) := by decide +kernel
theorem st_141_2 : Sd 141 2 3 (i_pI 0 [2] 0) := sd_pI (ref := "ContractDeskModel") (decl := "ContractDeskModel") (name := "thrown") (desc := "I") dd_141_2 (by rw [mc_141]; exact tw_1260) (Or.inl rfl) (by decide +kernel) (by decide +kernel) (by decide)
theorem dd_141_5 : decode (mi 141).2.1 5 = .ok (.iload_n 1, 1) := by decide +kernel
theorem st_141_5 : Sd 141 5 1 (i_ldI 1) := sd_iload_n (j := 1) dd_141_5 rfl
theorem dd_141_6 : decode (mi 141).2.1 6 = .ok (.iconst (-1), 1) := by decide +kernel
theorem st_141_6 : Sd 141 6 1 (i_ic (-1)) := sd_iconst dd_141_6
theorem dd_141_7 : decode (mi 141).2.1 7 = .ok (.if_icmp .ne 10, 3) := by decide +kernel
theorem st_141_7 : Sd 141 7 3 (i_cne 17) := sd_icmp_ne dd_141_7 (by decide)
theorem dd_141_10 : decode (mi 141).2.1 10 = .ok (.aload_n 0, 1) := by decide +kernel
theorem st_141_10 : Sd 141 10 1 (i_ldR 0) := sd_aload_n (j := 0) dd_141_10 rfl
theorem dd_141_11 : decode (mi 141).2.1 11 = .ok (.getfield 253, 3) := by decide +kernel
theorem st_141_11 : Sd 141 11 3 (i_gI 11 [2]) := sd_gI (ref := "ContractDeskModel") (decl := "ContractDeskModel") (name := "events") (desc := "I") dd_141_11 (by rw [mc_141]; exact tw_1271) (Or.inl rfl) (by decide +kernel)
theorem dd_141_14 : decode (mi 141).2.1 14 = .ok (.goto 25, 3) := by decide +kernel
theorem st_141_14 : Sd 141 14 3 (i_goto 39) := sd_goto dd_141_14 (by decide)
def bk_141_0 : Tr := sq (i_ldR 0) (sq (i_ic 0) (sq (i_pI 0 [2] 0) (sq (i_ldI 1) (sq (i_ic (-1)) (sq (i_cne 17) (sq (i_ldR 0) (sq (i_gI 11 [2]) (i_goto 39))))))))
theorem sb_141_0 : Sd 141 0 17 bk_141_0 := Sd.sq st_141_0 (Sd.sq st_141_1 (Sd.sq st_141_2 (Sd.sq st_141_5 (Sd.sq st_141_6 (Sd.sq st_141_7 (Sd.sq st_141_10 (Sd.sq st_141_11 (st_141_14))))))))
theorem dd_141_17 : decode (mi 141).2.1 17 = .ok (.iload_n 1, 1) := by decide +kernel
theorem st_141_17 : Sd 141 17 1 (i_ldI 1) := sd_iload_n (j := 1) dd_141_17 rfl
theorem dd_141_18 : decode (mi 141).2.1 18 = .ok (.ifCond .lt 20, 3) := by decide +kernel
theorem st_141_18 : Sd 141 18 3 (i_zlt 38) := sd_if_lt dd_141_18 (by decide)
theorem dd_141_21 : decode (mi 141).2.1 21 = .ok (.iload_n 1, 1) := by decide +kernel
theorem st_141_21 : Sd 141 21 1 (i_ldI 1) := sd_iload_n (j := 1) dd_141_21 rfl
theorem dd_141_22 : decode (mi 141).2.1 22 = .ok (.aload_n 0, 1) := by decide +kernel
theorem st_141_22 : Sd 141 22 1 (i_ldR 0) := sd_aload_n (j := 0) dd_141_22 rfl
theorem dd_141_23 : decode (mi 141).2.1 23 = .ok (.getfield 253, 3) := by decide +kernel
theorem st_141_23 : Sd 141 23 3 (i_gI 11 [2]) := sd_gI (ref := "ContractDeskModel") (decl := "ContractDeskModel") (name := "events") (desc := "I") dd_141_23 (by rw [mc_141]; exact tw_1271) (Or.inl rfl) (by decide +kernel)
theorem dd_141_26 : decode (mi 141).2.1 26 = .ok (.if_icmp .ge 12, 3) := by decide +kernel
theorem st_141_26 : Sd 141 26 3 (i_cge 38) := sd_icmp_ge dd_141_26 (by decide)
theorem dd_141_29 : decode (mi 141).2.1 29 = .ok (.aload_n 0, 1) := by decide +kernel
theorem st_141_29 : Sd 141 29 1 (i_ldR 0) := sd_aload_n (j := 0) dd_141_29 rfl
theorem dd_141_30 : decode (mi 141).2.1 30 = .ok (.getfield 36, 3) := by decide +kernel
theorem st_141_30 : Sd 141 30 3 (i_gR 12 [2]) := sd_gR (ref := "ContractDeskModel") (decl := "ContractDeskModel") (name := "eventRow") (desc := "[I") dd_141_30 (by rw [mc_141]; exact tw_1272) (Or.inl rfl) (by decide +kernel)
theorem dd_141_33 : decode (mi 141).2.1 33 = .ok (.iload_n 1, 1) := by decide +kernel
theorem st_141_33 : Sd 141 33 1 (i_ldI 1) := sd_iload_n (j := 1) dd_141_33 rfl
theorem dd_141_34 : decode (mi 141).2.1 34 = .ok (.iaload, 1) := by decide +kernel
theorem st_141_34 : Sd 141 34 1 (i_aI [20]) := sd_iaload dd_141_34 (by decide)
theorem dd_141_35 : decode (mi 141).2.1 35 = .ok (.goto 4, 3) := by decide +kernel
theorem st_141_35 : Sd 141 35 3 (i_goto 39) := sd_goto dd_141_35 (by decide)
def bk_141_17 : Tr := sq (i_ldI 1) (sq (i_zlt 38) (sq (i_ldI 1) (sq (i_ldR 0) (sq (i_gI 11 [2]) (sq (i_cge 38) (sq (i_ldR 0) (sq (i_gR 12 [2]) (sq (i_ldI 1) (sq (i_aI [20]) (i_goto 39))))))))))
theorem sb_141_17 : Sd 141 17 21 bk_141_17 := Sd.sq st_141_17 (Sd.sq st_141_18 (Sd.sq st_141_21 (Sd.sq st_141_22 (Sd.sq st_141_23 (Sd.sq st_141_26 (Sd.sq st_141_29 (Sd.sq st_141_30 (Sd.sq st_141_33 (Sd.sq st_141_34 (st_141_35))))))))))
theorem dd_141_38 : decode (mi 141).2.1 38 = .ok (.iconst (-1), 1) := by decide +kernel
theorem st_141_38 : Sd 141 38 1 (i_ic (-1)) := sd_iconst dd_141_38
def bk_141_38 : Tr := sq (i_ic (-1)) (i_fall 39)
theorem sb_141_38 : Sd 141 38 1 bk_141_38 := Sd.sq st_141_38 (sd_fall rfl)
theorem dd_141_39 : decode (mi 141).2.1 39 = .ok (.ireturn, 1) := by decide +kernel
theorem st_141_39 : Sd 141 39 1 (i_rI 0) := sd_ireturn dd_141_39 (by decide) mr_141
def bk_141_39 : Tr := i_rI 0
theorem sb_141_39 : Sd 141 39 1 bk_141_39 := st_141_39
theorem dd_142_0 : decode (mi 142).2.1 0 = .ok (.sipush 511, 3) := by decide +kernel
theorem st_142_0 : Sd 142 0 3 (i_ic 511) := sd_sipush dd_142_0 (by decide)
theorem dd_142_3 : decode (mi 142).2.1 3 = .ok (.bipush 100, 2) := by decide +kernel
theorem st_142_3 : Sd 142 3 2 (i_ic 100) := sd_bipush dd_142_3 (by decide)
theorem dd_142_5 : decode (mi 142).2.1 5 = .ok (.iload_n 1, 1) := by decide +kernel
theorem st_142_5 : Sd 142 5 1 (i_ldI 1) := sd_iload_n (j := 1) dd_142_5 rfl
theorem dd_142_6 : decode (mi 142).2.1 6 = .ok (.imul, 1) := by decide +kernel
theorem st_142_6 : Sd 142 6 1 (i_imul) := sd_imul dd_142_6
theorem dd_142_7 : decode (mi 142).2.1 7 = .ok (.iadd, 1) := by decide +kernel
theorem st_142_7 : Sd 142 7 1 (i_iadd) := sd_iadd dd_142_7
theorem dd_142_8 : decode (mi 142).2.1 8 = .ok (.istore_n 2, 1) := by decide +kernel
theorem st_142_8 : Sd 142 8 1 (i_stI 2) := sd_istore_n (j := 2) dd_142_8 rfl
theorem dd_142_9 : decode (mi 142).2.1 9 = .ok (.aload_n 0, 1) := by decide +kernel
theorem st_142_9 : Sd 142 9 1 (i_ldR 0) := sd_aload_n (j := 0) dd_142_9 rfl
theorem dd_142_10 : decode (mi 142).2.1 10 = .ok (.iload_n 1, 1) := by decide +kernel
theorem st_142_10 : Sd 142 10 1 (i_ldI 1) := sd_iload_n (j := 1) dd_142_10 rfl
theorem dd_142_11 : decode (mi 142).2.1 11 = .ok (.invokevirtual 177, 3) := by decide +kernel
theorem st_142_11 : Sd 142 11 3 (i_cV [(2, 133)] 2 9 []) := sd_virt ⟨"ContractDeskModel", "colon", "(I)I"⟩ dd_142_11 (by rw [mc_142]; exact tw_1493) (fun t j h => by simp only [List.mem_cons, List.not_mem_nil, or_false, Prod.mk.injEq] at h; obtain ⟨rfl, rfl⟩ := h; exact mn_133) (fun t j h => by simp only [List.mem_cons, List.not_mem_nil, or_false, Prod.mk.injEq] at h; obtain ⟨rfl, rfl⟩ := h; exact ⟨by rw [mn_133]; exact tw_50, by rw [mn_133]; exact tw_1495, mt_133, by decide, by decide⟩) (by unfold prm; decide +kernel) ml_142 (HsOk.nil (by decide +kernel))
theorem dd_142_14 : decode (mi 142).2.1 14 = .ok (.istore_n 3, 1) := by decide +kernel
theorem st_142_14 : Sd 142 14 1 (i_stI 3) := sd_istore_n (j := 3) dd_142_14 rfl
theorem dd_142_15 : decode (mi 142).2.1 15 = .ok (.iconst 2, 1) := by decide +kernel
theorem st_142_15 : Sd 142 15 1 (i_ic 2) := sd_iconst dd_142_15
theorem dd_142_16 : decode (mi 142).2.1 16 = .ok (.istore 4, 2) := by decide +kernel
theorem st_142_16 : Sd 142 16 2 (i_stI 4) := sd_istore dd_142_16
theorem dd_142_18 : decode (mi 142).2.1 18 = .ok (.iconst 0, 1) := by decide +kernel
theorem st_142_18 : Sd 142 18 1 (i_ic 0) := sd_iconst dd_142_18
theorem dd_142_19 : decode (mi 142).2.1 19 = .ok (.istore 5, 2) := by decide +kernel
theorem st_142_19 : Sd 142 19 2 (i_stI 5) := sd_istore dd_142_19
def bk_142_0 : Tr := sq (i_ic 511) (sq (i_ic 100) (sq (i_ldI 1) (sq (i_imul) (sq (i_iadd) (sq (i_stI 2) (sq (i_ldR 0) (sq (i_ldI 1) (sq (i_cV [(2, 133)] 2 9 []) (sq (i_stI 3) (sq (i_ic 2) (sq (i_stI 4) (sq (i_ic 0) (sq (i_stI 5) (i_fall 21))))))))))))))
theorem sb_142_0 : Sd 142 0 21 bk_142_0 := Sd.sq st_142_0 (Sd.sq st_142_3 (Sd.sq st_142_5 (Sd.sq st_142_6 (Sd.sq st_142_7 (Sd.sq st_142_8 (Sd.sq st_142_9 (Sd.sq st_142_10 (Sd.sq st_142_11 (Sd.sq st_142_14 (Sd.sq st_142_15 (Sd.sq st_142_16 (Sd.sq st_142_18 (Sd.sq st_142_19 (sd_fall rfl))))))))))))))
theorem dd_142_21 : decode (mi 142).2.1 21 = .ok (.iload_n 2, 1) := by decide +kernel
theorem st_142_21 : Sd 142 21 1 (i_ldI 2) := sd_iload_n (j := 2) dd_142_21 rfl
theorem dd_142_22 : decode (mi 142).2.1 22 = .ok (.iload_n 3, 1) := by decide +kernel
theorem st_142_22 : Sd 142 22 1 (i_ldI 3) := sd_iload_n (j := 3) dd_142_22 rfl
theorem dd_142_23 : decode (mi 142).2.1 23 = .ok (.if_icmp .ge 139, 3) := by decide +kernel
theorem st_142_23 : Sd 142 23 3 (i_cge 162) := sd_icmp_ge dd_142_23 (by decide)
theorem dd_142_26 : decode (mi 142).2.1 26 = .ok (.aload_n 0, 1) := by decide +kernel
theorem st_142_26 : Sd 142 26 1 (i_ldR 0) := sd_aload_n (j := 0) dd_142_26 rfl
theorem dd_142_27 : decode (mi 142).2.1 27 = .ok (.getfield 7, 3) := by decide +kernel
theorem st_142_27 : Sd 142 27 3 (i_gR 1 [2]) := sd_gR (ref := "ContractDeskModel") (decl := "ContractDeskModel") (name := "all") (desc := "[C") dd_142_27 (by rw [mc_142]; exact tw_1261) (Or.inl rfl) (by decide +kernel)
theorem dd_142_30 : decode (mi 142).2.1 30 = .ok (.iload_n 2, 1) := by decide +kernel
theorem st_142_30 : Sd 142 30 1 (i_ldI 2) := sd_iload_n (j := 2) dd_142_30 rfl
theorem dd_142_31 : decode (mi 142).2.1 31 = .ok (.iconst 1, 1) := by decide +kernel
theorem st_142_31 : Sd 142 31 1 (i_ic 1) := sd_iconst dd_142_31
theorem dd_142_32 : decode (mi 142).2.1 32 = .ok (.iadd, 1) := by decide +kernel
theorem st_142_32 : Sd 142 32 1 (i_iadd) := sd_iadd dd_142_32
theorem dd_142_33 : decode (mi 142).2.1 33 = .ok (.caload, 1) := by decide +kernel
theorem st_142_33 : Sd 142 33 1 (i_aI [21]) := sd_caload dd_142_33 (by decide)
theorem dd_142_34 : decode (mi 142).2.1 34 = .ok (.istore 6, 2) := by decide +kernel
theorem st_142_34 : Sd 142 34 2 (i_stI 6) := sd_istore dd_142_34
theorem dd_142_36 : decode (mi 142).2.1 36 = .ok (.aload_n 0, 1) := by decide +kernel
theorem st_142_36 : Sd 142 36 1 (i_ldR 0) := sd_aload_n (j := 0) dd_142_36 rfl
theorem dd_142_37 : decode (mi 142).2.1 37 = .ok (.getfield 7, 3) := by decide +kernel
theorem st_142_37 : Sd 142 37 3 (i_gR 1 [2]) := sd_gR (ref := "ContractDeskModel") (decl := "ContractDeskModel") (name := "all") (desc := "[C") dd_142_37 (by rw [mc_142]; exact tw_1261) (Or.inl rfl) (by decide +kernel)
theorem dd_142_40 : decode (mi 142).2.1 40 = .ok (.iload_n 2, 1) := by decide +kernel
theorem st_142_40 : Sd 142 40 1 (i_ldI 2) := sd_iload_n (j := 2) dd_142_40 rfl
theorem dd_142_41 : decode (mi 142).2.1 41 = .ok (.caload, 1) := by decide +kernel
theorem st_142_41 : Sd 142 41 1 (i_aI [21]) := sd_caload dd_142_41 (by decide)
theorem dd_142_42 : decode (mi 142).2.1 42 = .ok (.bipush 46, 2) := by decide +kernel
theorem st_142_42 : Sd 142 42 2 (i_ic 46) := sd_bipush dd_142_42 (by decide)
theorem dd_142_44 : decode (mi 142).2.1 44 = .ok (.if_icmp .ne 7, 3) := by decide +kernel
theorem st_142_44 : Sd 142 44 3 (i_cne 51) := sd_icmp_ne dd_142_44 (by decide)
theorem dd_142_47 : decode (mi 142).2.1 47 = .ok (.iconst 1, 1) := by decide +kernel
theorem st_142_47 : Sd 142 47 1 (i_ic 1) := sd_iconst dd_142_47
theorem dd_142_48 : decode (mi 142).2.1 48 = .ok (.goto 4, 3) := by decide +kernel
theorem st_142_48 : Sd 142 48 3 (i_goto 52) := sd_goto dd_142_48 (by decide)
def bk_142_21 : Tr := sq (i_ldI 2) (sq (i_ldI 3) (sq (i_cge 162) (sq (i_ldR 0) (sq (i_gR 1 [2]) (sq (i_ldI 2) (sq (i_ic 1) (sq (i_iadd) (sq (i_aI [21]) (sq (i_stI 6) (sq (i_ldR 0) (sq (i_gR 1 [2]) (sq (i_ldI 2) (sq (i_aI [21]) (sq (i_ic 46) (sq (i_cne 51) (sq (i_ic 1) (i_goto 52)))))))))))))))))
theorem sb_142_21 : Sd 142 21 30 bk_142_21 := Sd.sq st_142_21 (Sd.sq st_142_22 (Sd.sq st_142_23 (Sd.sq st_142_26 (Sd.sq st_142_27 (Sd.sq st_142_30 (Sd.sq st_142_31 (Sd.sq st_142_32 (Sd.sq st_142_33 (Sd.sq st_142_34 (Sd.sq st_142_36 (Sd.sq st_142_37 (Sd.sq st_142_40 (Sd.sq st_142_41 (Sd.sq st_142_42 (Sd.sq st_142_44 (Sd.sq st_142_47 (st_142_48)))))))))))))))))
theorem dd_142_51 : decode (mi 142).2.1 51 = .ok (.iconst 0, 1) := by decide +kernel
theorem st_142_51 : Sd 142 51 1 (i_ic 0) := sd_iconst dd_142_51
def bk_142_51 : Tr := sq (i_ic 0) (i_fall 52)
theorem sb_142_51 : Sd 142 51 1 bk_142_51 := Sd.sq st_142_51 (sd_fall rfl)
theorem dd_142_52 : decode (mi 142).2.1 52 = .ok (.istore 7, 2) := by decide +kernel
theorem st_142_52 : Sd 142 52 2 (i_stI 7) := sd_istore dd_142_52
theorem dd_142_54 : decode (mi 142).2.1 54 = .ok (.iload 5, 2) := by decide +kernel
theorem st_142_54 : Sd 142 54 2 (i_ldI 5) := sd_iload dd_142_54
theorem dd_142_56 : decode (mi 142).2.1 56 = .ok (.aload_n 0, 1) := by decide +kernel
theorem st_142_56 : Sd 142 56 1 (i_ldR 0) := sd_aload_n (j := 0) dd_142_56 rfl
theorem dd_142_57 : decode (mi 142).2.1 57 = .ok (.getfield 180, 3) := by decide +kernel
theorem st_142_57 : Sd 142 57 3 (i_gI 27 [2]) := sd_gI (ref := "ContractDeskModel") (decl := "ContractDeskModel") (name := "steps") (desc := "I") dd_142_57 (by rw [mc_142]; exact tw_1287) (Or.inl rfl) (by decide +kernel)
theorem dd_142_60 : decode (mi 142).2.1 60 = .ok (.if_icmp .ge 23, 3) := by decide +kernel
theorem st_142_60 : Sd 142 60 3 (i_cge 83) := sd_icmp_ge dd_142_60 (by decide)
theorem dd_142_63 : decode (mi 142).2.1 63 = .ok (.iload 7, 2) := by decide +kernel
theorem st_142_63 : Sd 142 63 2 (i_ldI 7) := sd_iload dd_142_63
theorem dd_142_65 : decode (mi 142).2.1 65 = .ok (.aload_n 0, 1) := by decide +kernel
theorem st_142_65 : Sd 142 65 1 (i_ldR 0) := sd_aload_n (j := 0) dd_142_65 rfl
theorem dd_142_66 : decode (mi 142).2.1 66 = .ok (.getfield 72, 3) := by decide +kernel
theorem st_142_66 : Sd 142 66 3 (i_gR 28 [2]) := sd_gR (ref := "ContractDeskModel") (decl := "ContractDeskModel") (name := "stepRow") (desc := "[I") dd_142_66 (by rw [mc_142]; exact tw_1288) (Or.inl rfl) (by decide +kernel)
theorem dd_142_69 : decode (mi 142).2.1 69 = .ok (.iload 5, 2) := by decide +kernel
theorem st_142_69 : Sd 142 69 2 (i_ldI 5) := sd_iload dd_142_69
theorem dd_142_71 : decode (mi 142).2.1 71 = .ok (.iaload, 1) := by decide +kernel
theorem st_142_71 : Sd 142 71 1 (i_aI [20]) := sd_iaload dd_142_71 (by decide)
theorem dd_142_72 : decode (mi 142).2.1 72 = .ok (.ifCond .le 7, 3) := by decide +kernel
theorem st_142_72 : Sd 142 72 3 (i_zle 79) := sd_if_le dd_142_72 (by decide)
theorem dd_142_75 : decode (mi 142).2.1 75 = .ok (.iconst 1, 1) := by decide +kernel
theorem st_142_75 : Sd 142 75 1 (i_ic 1) := sd_iconst dd_142_75
theorem dd_142_76 : decode (mi 142).2.1 76 = .ok (.goto 4, 3) := by decide +kernel
theorem st_142_76 : Sd 142 76 3 (i_goto 80) := sd_goto dd_142_76 (by decide)
def bk_142_52 : Tr := sq (i_stI 7) (sq (i_ldI 5) (sq (i_ldR 0) (sq (i_gI 27 [2]) (sq (i_cge 83) (sq (i_ldI 7) (sq (i_ldR 0) (sq (i_gR 28 [2]) (sq (i_ldI 5) (sq (i_aI [20]) (sq (i_zle 79) (sq (i_ic 1) (i_goto 80))))))))))))
theorem sb_142_52 : Sd 142 52 27 bk_142_52 := Sd.sq st_142_52 (Sd.sq st_142_54 (Sd.sq st_142_56 (Sd.sq st_142_57 (Sd.sq st_142_60 (Sd.sq st_142_63 (Sd.sq st_142_65 (Sd.sq st_142_66 (Sd.sq st_142_69 (Sd.sq st_142_71 (Sd.sq st_142_72 (Sd.sq st_142_75 (st_142_76))))))))))))
theorem dd_142_79 : decode (mi 142).2.1 79 = .ok (.iconst 0, 1) := by decide +kernel
theorem st_142_79 : Sd 142 79 1 (i_ic 0) := sd_iconst dd_142_79
def bk_142_79 : Tr := sq (i_ic 0) (i_fall 80)
theorem sb_142_79 : Sd 142 79 1 bk_142_79 := Sd.sq st_142_79 (sd_fall rfl)
theorem dd_142_80 : decode (mi 142).2.1 80 = .ok (.if_icmp .eq 5, 3) := by decide +kernel
theorem st_142_80 : Sd 142 80 3 (i_ceq 85) := sd_icmp_eq dd_142_80 (by decide)
def bk_142_80 : Tr := sq (i_ceq 85) (i_fall 83)
theorem sb_142_80 : Sd 142 80 3 bk_142_80 := Sd.sq st_142_80 (sd_fall rfl)
theorem dd_142_83 : decode (mi 142).2.1 83 = .ok (.iconst 0, 1) := by decide +kernel
theorem st_142_83 : Sd 142 83 1 (i_ic 0) := sd_iconst dd_142_83
theorem dd_142_84 : decode (mi 142).2.1 84 = .ok (.ireturn, 1) := by decide +kernel
theorem st_142_84 : Sd 142 84 1 (i_rI 0) := sd_ireturn dd_142_84 (by decide) mr_142
def bk_142_83 : Tr := sq (i_ic 0) (i_rI 0)
theorem sb_142_83 : Sd 142 83 2 bk_142_83 := Sd.sq st_142_83 (st_142_84)
theorem dd_142_85 : decode (mi 142).2.1 85 = .ok (.iload 7, 2) := by decide +kernel
theorem st_142_85 : Sd 142 85 2 (i_ldI 7) := sd_iload dd_142_85
theorem dd_142_87 : decode (mi 142).2.1 87 = .ok (.ifCond .eq 8, 3) := by decide +kernel
theorem st_142_87 : Sd 142 87 3 (i_zeq 95) := sd_if_eq dd_142_87 (by decide)
theorem dd_142_90 : decode (mi 142).2.1 90 = .ok (.iload 6, 2) := by decide +kernel
theorem st_142_90 : Sd 142 90 2 (i_ldI 6) := sd_iload dd_142_90
theorem dd_142_92 : decode (mi 142).2.1 92 = .ok (.goto 10, 3) := by decide +kernel
theorem st_142_92 : Sd 142 92 3 (i_goto 102) := sd_goto dd_142_92 (by decide)
def bk_142_85 : Tr := sq (i_ldI 7) (sq (i_zeq 95) (sq (i_ldI 6) (i_goto 102)))
theorem sb_142_85 : Sd 142 85 10 bk_142_85 := Sd.sq st_142_85 (Sd.sq st_142_87 (Sd.sq st_142_90 (st_142_92)))
theorem dd_142_95 : decode (mi 142).2.1 95 = .ok (.bipush 48, 2) := by decide +kernel
theorem st_142_95 : Sd 142 95 2 (i_ic 48) := sd_bipush dd_142_95 (by decide)
theorem dd_142_97 : decode (mi 142).2.1 97 = .ok (.iload 6, 2) := by decide +kernel
theorem st_142_97 : Sd 142 97 2 (i_ldI 6) := sd_iload dd_142_97
theorem dd_142_99 : decode (mi 142).2.1 99 = .ok (.isub, 1) := by decide +kernel
theorem st_142_99 : Sd 142 99 1 (i_isub) := sd_isub dd_142_99
theorem dd_142_100 : decode (mi 142).2.1 100 = .ok (.iconst 1, 1) := by decide +kernel
theorem st_142_100 : Sd 142 100 1 (i_ic 1) := sd_iconst dd_142_100
theorem dd_142_101 : decode (mi 142).2.1 101 = .ok (.isub, 1) := by decide +kernel
theorem st_142_101 : Sd 142 101 1 (i_isub) := sd_isub dd_142_101
def bk_142_95 : Tr := sq (i_ic 48) (sq (i_ldI 6) (sq (i_isub) (sq (i_ic 1) (sq (i_isub) (i_fall 102)))))
theorem sb_142_95 : Sd 142 95 7 bk_142_95 := Sd.sq st_142_95 (Sd.sq st_142_97 (Sd.sq st_142_99 (Sd.sq st_142_100 (Sd.sq st_142_101 (sd_fall rfl)))))
theorem dd_142_102 : decode (mi 142).2.1 102 = .ok (.istore 8, 2) := by decide +kernel
theorem st_142_102 : Sd 142 102 2 (i_stI 8) := sd_istore dd_142_102
theorem dd_142_104 : decode (mi 142).2.1 104 = .ok (.iload 6, 2) := by decide +kernel
theorem st_142_104 : Sd 142 104 2 (i_ldI 6) := sd_iload dd_142_104
theorem dd_142_106 : decode (mi 142).2.1 106 = .ok (.bipush 42, 2) := by decide +kernel
theorem st_142_106 : Sd 142 106 2 (i_ic 42) := sd_bipush dd_142_106 (by decide)
theorem dd_142_108 : decode (mi 142).2.1 108 = .ok (.if_icmp .eq 17, 3) := by decide +kernel
theorem st_142_108 : Sd 142 108 3 (i_ceq 125) := sd_icmp_eq dd_142_108 (by decide)
theorem dd_142_111 : decode (mi 142).2.1 111 = .ok (.iload 8, 2) := by decide +kernel
theorem st_142_111 : Sd 142 111 2 (i_ldI 8) := sd_iload dd_142_111
theorem dd_142_113 : decode (mi 142).2.1 113 = .ok (.aload_n 0, 1) := by decide +kernel
theorem st_142_113 : Sd 142 113 1 (i_ldR 0) := sd_aload_n (j := 0) dd_142_113 rfl
theorem dd_142_114 : decode (mi 142).2.1 114 = .ok (.getfield 72, 3) := by decide +kernel
theorem st_142_114 : Sd 142 114 3 (i_gR 28 [2]) := sd_gR (ref := "ContractDeskModel") (decl := "ContractDeskModel") (name := "stepRow") (desc := "[I") dd_142_114 (by rw [mc_142]; exact tw_1288) (Or.inl rfl) (by decide +kernel)
theorem dd_142_117 : decode (mi 142).2.1 117 = .ok (.iload 5, 2) := by decide +kernel
theorem st_142_117 : Sd 142 117 2 (i_ldI 5) := sd_iload dd_142_117
theorem dd_142_119 : decode (mi 142).2.1 119 = .ok (.iaload, 1) := by decide +kernel
theorem st_142_119 : Sd 142 119 1 (i_aI [20]) := sd_iaload dd_142_119 (by decide)
theorem dd_142_120 : decode (mi 142).2.1 120 = .ok (.if_icmp .eq 5, 3) := by decide +kernel
theorem st_142_120 : Sd 142 120 3 (i_ceq 125) := sd_icmp_eq dd_142_120 (by decide)
theorem dd_142_123 : decode (mi 142).2.1 123 = .ok (.iconst 0, 1) := by decide +kernel
theorem st_142_123 : Sd 142 123 1 (i_ic 0) := sd_iconst dd_142_123
theorem dd_142_124 : decode (mi 142).2.1 124 = .ok (.ireturn, 1) := by decide +kernel
theorem st_142_124 : Sd 142 124 1 (i_rI 0) := sd_ireturn dd_142_124 (by decide) mr_142
def bk_142_102 : Tr := sq (i_stI 8) (sq (i_ldI 6) (sq (i_ic 42) (sq (i_ceq 125) (sq (i_ldI 8) (sq (i_ldR 0) (sq (i_gR 28 [2]) (sq (i_ldI 5) (sq (i_aI [20]) (sq (i_ceq 125) (sq (i_ic 0) (i_rI 0)))))))))))
theorem sb_142_102 : Sd 142 102 23 bk_142_102 := Sd.sq st_142_102 (Sd.sq st_142_104 (Sd.sq st_142_106 (Sd.sq st_142_108 (Sd.sq st_142_111 (Sd.sq st_142_113 (Sd.sq st_142_114 (Sd.sq st_142_117 (Sd.sq st_142_119 (Sd.sq st_142_120 (Sd.sq st_142_123 (st_142_124)))))))))))
theorem dd_142_125 : decode (mi 142).2.1 125 = .ok (.iload 6, 2) := by decide +kernel
theorem st_142_125 : Sd 142 125 2 (i_ldI 6) := sd_iload dd_142_125
theorem dd_142_127 : decode (mi 142).2.1 127 = .ok (.bipush 42, 2) := by decide +kernel
theorem st_142_127 : Sd 142 127 2 (i_ic 42) := sd_bipush dd_142_127 (by decide)
theorem dd_142_129 : decode (mi 142).2.1 129 = .ok (.if_icmp .ne 8, 3) := by decide +kernel
theorem st_142_129 : Sd 142 129 3 (i_cne 137) := sd_icmp_ne dd_142_129 (by decide)
theorem dd_142_132 : decode (mi 142).2.1 132 = .ok (.iload 4, 2) := by decide +kernel
theorem st_142_132 : Sd 142 132 2 (i_ldI 4) := sd_iload dd_142_132
theorem dd_142_134 : decode (mi 142).2.1 134 = .ok (.goto 7, 3) := by decide +kernel
theorem st_142_134 : Sd 142 134 3 (i_goto 141) := sd_goto dd_142_134 (by decide)
def bk_142_125 : Tr := sq (i_ldI 6) (sq (i_ic 42) (sq (i_cne 137) (sq (i_ldI 4) (i_goto 141))))
theorem sb_142_125 : Sd 142 125 12 bk_142_125 := Sd.sq st_142_125 (Sd.sq st_142_127 (Sd.sq st_142_129 (Sd.sq st_142_132 (st_142_134))))
theorem dd_142_137 : decode (mi 142).2.1 137 = .ok (.iconst 2, 1) := by decide +kernel
theorem st_142_137 : Sd 142 137 1 (i_ic 2) := sd_iconst dd_142_137
theorem dd_142_138 : decode (mi 142).2.1 138 = .ok (.iload 4, 2) := by decide +kernel
theorem st_142_138 : Sd 142 138 2 (i_ldI 4) := sd_iload dd_142_138
theorem dd_142_140 : decode (mi 142).2.1 140 = .ok (.imul, 1) := by decide +kernel
theorem st_142_140 : Sd 142 140 1 (i_imul) := sd_imul dd_142_140
def bk_142_137 : Tr := sq (i_ic 2) (sq (i_ldI 4) (sq (i_imul) (i_fall 141)))
theorem sb_142_137 : Sd 142 137 4 bk_142_137 := Sd.sq st_142_137 (Sd.sq st_142_138 (Sd.sq st_142_140 (sd_fall rfl)))
theorem dd_142_141 : decode (mi 142).2.1 141 = .ok (.istore 4, 2) := by decide +kernel
theorem st_142_141 : Sd 142 141 2 (i_stI 4) := sd_istore dd_142_141
theorem dd_142_143 : decode (mi 142).2.1 143 = .ok (.iinc 5 1, 3) := by decide +kernel
theorem st_142_143 : Sd 142 143 3 (i_inc 5 1) := sd_iinc dd_142_143
theorem dd_142_146 : decode (mi 142).2.1 146 = .ok (.iload_n 2, 1) := by decide +kernel
theorem st_142_146 : Sd 142 146 1 (i_ldI 2) := sd_iload_n (j := 2) dd_142_146 rfl
theorem dd_142_147 : decode (mi 142).2.1 147 = .ok (.iload 7, 2) := by decide +kernel
theorem st_142_147 : Sd 142 147 2 (i_ldI 7) := sd_iload dd_142_147
theorem dd_142_149 : decode (mi 142).2.1 149 = .ok (.ifCond .eq 7, 3) := by decide +kernel
theorem st_142_149 : Sd 142 149 3 (i_zeq 156) := sd_if_eq dd_142_149 (by decide)
theorem dd_142_152 : decode (mi 142).2.1 152 = .ok (.iconst 2, 1) := by decide +kernel
theorem st_142_152 : Sd 142 152 1 (i_ic 2) := sd_iconst dd_142_152
theorem dd_142_153 : decode (mi 142).2.1 153 = .ok (.goto 4, 3) := by decide +kernel
theorem st_142_153 : Sd 142 153 3 (i_goto 157) := sd_goto dd_142_153 (by decide)
def bk_142_141 : Tr := sq (i_stI 4) (sq (i_inc 5 1) (sq (i_ldI 2) (sq (i_ldI 7) (sq (i_zeq 156) (sq (i_ic 2) (i_goto 157))))))
theorem sb_142_141 : Sd 142 141 15 bk_142_141 := Sd.sq st_142_141 (Sd.sq st_142_143 (Sd.sq st_142_146 (Sd.sq st_142_147 (Sd.sq st_142_149 (Sd.sq st_142_152 (st_142_153))))))
theorem dd_142_156 : decode (mi 142).2.1 156 = .ok (.iconst 3, 1) := by decide +kernel
theorem st_142_156 : Sd 142 156 1 (i_ic 3) := sd_iconst dd_142_156
def bk_142_156 : Tr := sq (i_ic 3) (i_fall 157)
theorem sb_142_156 : Sd 142 156 1 bk_142_156 := Sd.sq st_142_156 (sd_fall rfl)
theorem dd_142_157 : decode (mi 142).2.1 157 = .ok (.iadd, 1) := by decide +kernel
theorem st_142_157 : Sd 142 157 1 (i_iadd) := sd_iadd dd_142_157
theorem dd_142_158 : decode (mi 142).2.1 158 = .ok (.istore_n 2, 1) := by decide +kernel
theorem st_142_158 : Sd 142 158 1 (i_stI 2) := sd_istore_n (j := 2) dd_142_158 rfl
theorem dd_142_159 : decode (mi 142).2.1 159 = .ok (.goto (-138), 3) := by decide +kernel
theorem st_142_159 : Sd 142 159 3 (i_goto 21) := sd_goto dd_142_159 (by decide)
def bk_142_157 : Tr := sq (i_iadd) (sq (i_stI 2) (i_goto 21))
theorem sb_142_157 : Sd 142 157 5 bk_142_157 := Sd.sq st_142_157 (Sd.sq st_142_158 (st_142_159))
theorem dd_142_162 : decode (mi 142).2.1 162 = .ok (.bipush 8, 2) := by decide +kernel
theorem st_142_162 : Sd 142 162 2 (i_ic 8) := sd_bipush dd_142_162 (by decide)
theorem dd_142_164 : decode (mi 142).2.1 164 = .ok (.iload 4, 2) := by decide +kernel
theorem st_142_164 : Sd 142 164 2 (i_ldI 4) := sd_iload dd_142_164
theorem dd_142_166 : decode (mi 142).2.1 166 = .ok (.imul, 1) := by decide +kernel
theorem st_142_166 : Sd 142 166 1 (i_imul) := sd_imul dd_142_166
theorem dd_142_167 : decode (mi 142).2.1 167 = .ok (.iload 5, 2) := by decide +kernel
theorem st_142_167 : Sd 142 167 2 (i_ldI 5) := sd_iload dd_142_167
theorem dd_142_169 : decode (mi 142).2.1 169 = .ok (.iadd, 1) := by decide +kernel
theorem st_142_169 : Sd 142 169 1 (i_iadd) := sd_iadd dd_142_169
theorem dd_142_170 : decode (mi 142).2.1 170 = .ok (.ireturn, 1) := by decide +kernel
theorem st_142_170 : Sd 142 170 1 (i_rI 0) := sd_ireturn dd_142_170 (by decide) mr_142
def bk_142_162 : Tr := sq (i_ic 8) (sq (i_ldI 4) (sq (i_imul) (sq (i_ldI 5) (sq (i_iadd) (i_rI 0)))))
theorem sb_142_162 : Sd 142 162 9 bk_142_162 := Sd.sq st_142_162 (Sd.sq st_142_164 (Sd.sq st_142_166 (Sd.sq st_142_167 (Sd.sq st_142_169 (st_142_170)))))
theorem dd_143_0 : decode (mi 143).2.1 0 = .ok (.aload_n 0, 1) := by decide +kernel
theorem st_143_0 : Sd 143 0 1 (i_ldR 0) := sd_aload_n (j := 0) dd_143_0 rfl
theorem dd_143_1 : decode (mi 143).2.1 1 = .ok (.iconst 0, 1) := by decide +kernel
theorem st_143_1 : Sd 143 1 1 (i_ic 0) := sd_iconst dd_143_1
theorem dd_143_2 : decode (mi 143).2.1 2 = .ok (.putfield 93, 3) := by decide +kernel
theorem st_143_2 : Sd 143 2 3 (i_pI 0 [2] 0) := sd_pI (ref := "ContractDeskModel") (decl := "ContractDeskModel") (name := "thrown") (desc := "I") dd_143_2 (by rw [mc_143]; exact tw_1260) (Or.inl rfl) (by decide +kernel) (by decide +kernel) (by decide)
theorem dd_143_5 : decode (mi 143).2.1 5 = .ok (.iload_n 1, 1) := by decide +kernel
theorem st_143_5 : Sd 143 5 1 (i_ldI 1) := sd_iload_n (j := 1) dd_143_5 rfl
theorem dd_143_6 : decode (mi 143).2.1 6 = .ok (.ifCond .lt 17, 3) := by decide +kernel
theorem st_143_6 : Sd 143 6 3 (i_zlt 23) := sd_if_lt dd_143_6 (by decide)
theorem dd_143_9 : decode (mi 143).2.1 9 = .ok (.iload_n 1, 1) := by decide +kernel
theorem st_143_9 : Sd 143 9 1 (i_ldI 1) := sd_iload_n (j := 1) dd_143_9 rfl
theorem dd_143_10 : decode (mi 143).2.1 10 = .ok (.iconst 5, 1) := by decide +kernel
theorem st_143_10 : Sd 143 10 1 (i_ic 5) := sd_iconst dd_143_10
theorem dd_143_11 : decode (mi 143).2.1 11 = .ok (.if_icmp .gt 12, 3) := by decide +kernel
theorem st_143_11 : Sd 143 11 3 (i_cgt 23) := sd_icmp_gt dd_143_11 (by decide)
theorem dd_143_14 : decode (mi 143).2.1 14 = .ok (.iload_n 2, 1) := by decide +kernel
theorem st_143_14 : Sd 143 14 1 (i_ldI 2) := sd_iload_n (j := 2) dd_143_14 rfl
theorem dd_143_15 : decode (mi 143).2.1 15 = .ok (.ifCond .lt 8, 3) := by decide +kernel
theorem st_143_15 : Sd 143 15 3 (i_zlt 23) := sd_if_lt dd_143_15 (by decide)
theorem dd_143_18 : decode (mi 143).2.1 18 = .ok (.iload_n 2, 1) := by decide +kernel
theorem st_143_18 : Sd 143 18 1 (i_ldI 2) := sd_iload_n (j := 2) dd_143_18 rfl
theorem dd_143_19 : decode (mi 143).2.1 19 = .ok (.iconst 3, 1) := by decide +kernel
theorem st_143_19 : Sd 143 19 1 (i_ic 3) := sd_iconst dd_143_19
theorem dd_143_20 : decode (mi 143).2.1 20 = .ok (.if_icmp .le 5, 3) := by decide +kernel
theorem st_143_20 : Sd 143 20 3 (i_cle 25) := sd_icmp_le dd_143_20 (by decide)
def bk_143_0 : Tr := sq (i_ldR 0) (sq (i_ic 0) (sq (i_pI 0 [2] 0) (sq (i_ldI 1) (sq (i_zlt 23) (sq (i_ldI 1) (sq (i_ic 5) (sq (i_cgt 23) (sq (i_ldI 2) (sq (i_zlt 23) (sq (i_ldI 2) (sq (i_ic 3) (sq (i_cle 25) (i_fall 23)))))))))))))
theorem sb_143_0 : Sd 143 0 23 bk_143_0 := Sd.sq st_143_0 (Sd.sq st_143_1 (Sd.sq st_143_2 (Sd.sq st_143_5 (Sd.sq st_143_6 (Sd.sq st_143_9 (Sd.sq st_143_10 (Sd.sq st_143_11 (Sd.sq st_143_14 (Sd.sq st_143_15 (Sd.sq st_143_18 (Sd.sq st_143_19 (Sd.sq st_143_20 (sd_fall rfl)))))))))))))
theorem dd_143_23 : decode (mi 143).2.1 23 = .ok (.iconst 0, 1) := by decide +kernel
theorem st_143_23 : Sd 143 23 1 (i_ic 0) := sd_iconst dd_143_23
theorem dd_143_24 : decode (mi 143).2.1 24 = .ok (.ireturn, 1) := by decide +kernel
theorem st_143_24 : Sd 143 24 1 (i_rI 2) := sd_ireturn dd_143_24 (by decide) mr_143
def bk_143_23 : Tr := sq (i_ic 0) (i_rI 2)
theorem sb_143_23 : Sd 143 23 2 bk_143_23 := Sd.sq st_143_23 (st_143_24)
theorem dd_143_25 : decode (mi 143).2.1 25 = .ok (.aload_n 0, 1) := by decide +kernel
theorem st_143_25 : Sd 143 25 1 (i_ldR 0) := sd_aload_n (j := 0) dd_143_25 rfl
theorem dd_143_26 : decode (mi 143).2.1 26 = .ok (.getfield 33, 3) := by decide +kernel
theorem st_143_26 : Sd 143 26 3 (i_gR 10 [2]) := sd_gR (ref := "ContractDeskModel") (decl := "ContractDeskModel") (name := "handlers") (desc := "[I") dd_143_26 (by rw [mc_143]; exact tw_1270) (Or.inl rfl) (by decide +kernel)
theorem dd_143_29 : decode (mi 143).2.1 29 = .ok (.iload_n 1, 1) := by decide +kernel
theorem st_143_29 : Sd 143 29 1 (i_ldI 1) := sd_iload_n (j := 1) dd_143_29 rfl
theorem dd_143_30 : decode (mi 143).2.1 30 = .ok (.iload_n 2, 1) := by decide +kernel
theorem st_143_30 : Sd 143 30 1 (i_ldI 2) := sd_iload_n (j := 2) dd_143_30 rfl
theorem dd_143_31 : decode (mi 143).2.1 31 = .ok (.iastore, 1) := by decide +kernel
theorem st_143_31 : Sd 143 31 1 (i_sI [20] 0) := sd_iastore dd_143_31 (by decide)
theorem dd_143_32 : decode (mi 143).2.1 32 = .ok (.iconst 1, 1) := by decide +kernel
theorem st_143_32 : Sd 143 32 1 (i_ic 1) := sd_iconst dd_143_32
theorem dd_143_33 : decode (mi 143).2.1 33 = .ok (.ireturn, 1) := by decide +kernel
theorem st_143_33 : Sd 143 33 1 (i_rI 2) := sd_ireturn dd_143_33 (by decide) mr_143
def bk_143_25 : Tr := sq (i_ldR 0) (sq (i_gR 10 [2]) (sq (i_ldI 1) (sq (i_ldI 2) (sq (i_sI [20] 0) (sq (i_ic 1) (i_rI 2))))))
theorem sb_143_25 : Sd 143 25 9 bk_143_25 := Sd.sq st_143_25 (Sd.sq st_143_26 (Sd.sq st_143_29 (Sd.sq st_143_30 (Sd.sq st_143_31 (Sd.sq st_143_32 (st_143_33))))))
theorem dd_144_0 : decode (mi 144).2.1 0 = .ok (.aload_n 0, 1) := by decide +kernel
theorem st_144_0 : Sd 144 0 1 (i_ldR 0) := sd_aload_n (j := 0) dd_144_0 rfl
theorem dd_144_1 : decode (mi 144).2.1 1 = .ok (.getfield 36, 3) := by decide +kernel
theorem st_144_1 : Sd 144 1 3 (i_gR 12 [2]) := sd_gR (ref := "ContractDeskModel") (decl := "ContractDeskModel") (name := "eventRow") (desc := "[I") dd_144_1 (by rw [mc_144]; exact tw_1272) (Or.inl rfl) (by decide +kernel)
theorem dd_144_4 : decode (mi 144).2.1 4 = .ok (.aload_n 0, 1) := by decide +kernel
theorem st_144_4 : Sd 144 4 1 (i_ldR 0) := sd_aload_n (j := 0) dd_144_4 rfl
theorem dd_144_5 : decode (mi 144).2.1 5 = .ok (.getfield 253, 3) := by decide +kernel
theorem st_144_5 : Sd 144 5 3 (i_gI 11 [2]) := sd_gI (ref := "ContractDeskModel") (decl := "ContractDeskModel") (name := "events") (desc := "I") dd_144_5 (by rw [mc_144]; exact tw_1271) (Or.inl rfl) (by decide +kernel)
theorem dd_144_8 : decode (mi 144).2.1 8 = .ok (.bipush 10, 2) := by decide +kernel
theorem st_144_8 : Sd 144 8 2 (i_ic 10) := sd_bipush dd_144_8 (by decide)
theorem dd_144_10 : decode (mi 144).2.1 10 = .ok (.iload_n 1, 1) := by decide +kernel
theorem st_144_10 : Sd 144 10 1 (i_ldI 1) := sd_iload_n (j := 1) dd_144_10 rfl
theorem dd_144_11 : decode (mi 144).2.1 11 = .ok (.imul, 1) := by decide +kernel
theorem st_144_11 : Sd 144 11 1 (i_imul) := sd_imul dd_144_11
theorem dd_144_12 : decode (mi 144).2.1 12 = .ok (.iload_n 2, 1) := by decide +kernel
theorem st_144_12 : Sd 144 12 1 (i_ldI 2) := sd_iload_n (j := 2) dd_144_12 rfl
theorem dd_144_13 : decode (mi 144).2.1 13 = .ok (.iadd, 1) := by decide +kernel
theorem st_144_13 : Sd 144 13 1 (i_iadd) := sd_iadd dd_144_13
theorem dd_144_14 : decode (mi 144).2.1 14 = .ok (.iastore, 1) := by decide +kernel
theorem st_144_14 : Sd 144 14 1 (i_sI [20] 0) := sd_iastore dd_144_14 (by decide)
theorem dd_144_15 : decode (mi 144).2.1 15 = .ok (.aload_n 0, 1) := by decide +kernel
theorem st_144_15 : Sd 144 15 1 (i_ldR 0) := sd_aload_n (j := 0) dd_144_15 rfl
theorem dd_144_16 : decode (mi 144).2.1 16 = .ok (.dup, 1) := by decide +kernel
theorem st_144_16 : Sd 144 16 1 (i_dup) := sd_dup dd_144_16
theorem dd_144_17 : decode (mi 144).2.1 17 = .ok (.getfield 253, 3) := by decide +kernel
theorem st_144_17 : Sd 144 17 3 (i_gI 11 [2]) := sd_gI (ref := "ContractDeskModel") (decl := "ContractDeskModel") (name := "events") (desc := "I") dd_144_17 (by rw [mc_144]; exact tw_1271) (Or.inl rfl) (by decide +kernel)
theorem dd_144_20 : decode (mi 144).2.1 20 = .ok (.iconst 1, 1) := by decide +kernel
theorem st_144_20 : Sd 144 20 1 (i_ic 1) := sd_iconst dd_144_20
theorem dd_144_21 : decode (mi 144).2.1 21 = .ok (.iadd, 1) := by decide +kernel
theorem st_144_21 : Sd 144 21 1 (i_iadd) := sd_iadd dd_144_21
theorem dd_144_22 : decode (mi 144).2.1 22 = .ok (.putfield 253, 3) := by decide +kernel
theorem st_144_22 : Sd 144 22 3 (i_pI 11 [2] 0) := sd_pI (ref := "ContractDeskModel") (decl := "ContractDeskModel") (name := "events") (desc := "I") dd_144_22 (by rw [mc_144]; exact tw_1271) (Or.inl rfl) (by decide +kernel) (by decide +kernel) (by decide)
theorem dd_144_25 : decode (mi 144).2.1 25 = .ok (.return_, 1) := by decide +kernel
theorem st_144_25 : Sd 144 25 1 (i_ret) := sd_ret dd_144_25 mr_144
def bk_144_0 : Tr := sq (i_ldR 0) (sq (i_gR 12 [2]) (sq (i_ldR 0) (sq (i_gI 11 [2]) (sq (i_ic 10) (sq (i_ldI 1) (sq (i_imul) (sq (i_ldI 2) (sq (i_iadd) (sq (i_sI [20] 0) (sq (i_ldR 0) (sq (i_dup) (sq (i_gI 11 [2]) (sq (i_ic 1) (sq (i_iadd) (sq (i_pI 11 [2] 0) (i_ret))))))))))))))))
theorem sb_144_0 : Sd 144 0 26 bk_144_0 := Sd.sq st_144_0 (Sd.sq st_144_1 (Sd.sq st_144_4 (Sd.sq st_144_5 (Sd.sq st_144_8 (Sd.sq st_144_10 (Sd.sq st_144_11 (Sd.sq st_144_12 (Sd.sq st_144_13 (Sd.sq st_144_14 (Sd.sq st_144_15 (Sd.sq st_144_16 (Sd.sq st_144_17 (Sd.sq st_144_20 (Sd.sq st_144_21 (Sd.sq st_144_22 (st_144_25))))))))))))))))
theorem dd_145_0 : decode (mi 145).2.1 0 = .ok (.aload_n 0, 1) := by decide +kernel
theorem st_145_0 : Sd 145 0 1 (i_ldR 0) := sd_aload_n (j := 0) dd_145_0 rfl
theorem dd_145_1 : decode (mi 145).2.1 1 = .ok (.getfield 7, 3) := by decide +kernel
theorem st_145_1 : Sd 145 1 3 (i_gR 1 [2]) := sd_gR (ref := "ContractDeskModel") (decl := "ContractDeskModel") (name := "all") (desc := "[C") dd_145_1 (by rw [mc_145]; exact tw_1261) (Or.inl rfl) (by decide +kernel)
theorem dd_145_4 : decode (mi 145).2.1 4 = .ok (.iload_n 1, 1) := by decide +kernel
theorem st_145_4 : Sd 145 4 1 (i_ldI 1) := sd_iload_n (j := 1) dd_145_4 rfl
theorem dd_145_5 : decode (mi 145).2.1 5 = .ok (.caload, 1) := by decide +kernel
theorem st_145_5 : Sd 145 5 1 (i_aI [21]) := sd_caload dd_145_5 (by decide)
theorem dd_145_6 : decode (mi 145).2.1 6 = .ok (.lookupswitch 226 #[(48, 94), (60, 161), (61, 86), (62, 125), (105, 109), (116, 66), (126, 197)], 66) := by decide +kernel
theorem st_145_6 : Sd 145 6 66 (i_lsw 232 [(48, 100), (60, 167), (61, 92), (62, 131), (105, 115), (116, 72), (126, 203)]) := sd_lsw dd_145_6 (by decide) (by decide) (by decide)
def bk_145_0 : Tr := sq (i_ldR 0) (sq (i_gR 1 [2]) (sq (i_ldI 1) (sq (i_aI [21]) (i_lsw 232 [(48, 100), (60, 167), (61, 92), (62, 131), (105, 115), (116, 72), (126, 203)]))))
theorem sb_145_0 : Sd 145 0 72 bk_145_0 := Sd.sq st_145_0 (Sd.sq st_145_1 (Sd.sq st_145_4 (Sd.sq st_145_5 (st_145_6))))
theorem dd_145_72 : decode (mi 145).2.1 72 = .ok (.aload_n 0, 1) := by decide +kernel
theorem st_145_72 : Sd 145 72 1 (i_ldR 0) := sd_aload_n (j := 0) dd_145_72 rfl
theorem dd_145_73 : decode (mi 145).2.1 73 = .ok (.iload 4, 2) := by decide +kernel
theorem st_145_73 : Sd 145 73 2 (i_ldI 4) := sd_iload dd_145_73
theorem dd_145_75 : decode (mi 145).2.1 75 = .ok (.invokevirtual 125, 3) := by decide +kernel
theorem st_145_75 : Sd 145 75 3 (i_cV [(2, 152)] 2 5 []) := sd_virt ⟨"ContractDeskModel", "kind", "(I)I"⟩ dd_145_75 (by rw [mc_145]; exact tw_1418) (fun t j h => by simp only [List.mem_cons, List.not_mem_nil, or_false, Prod.mk.injEq] at h; obtain ⟨rfl, rfl⟩ := h; exact mn_152) (fun t j h => by simp only [List.mem_cons, List.not_mem_nil, or_false, Prod.mk.injEq] at h; obtain ⟨rfl, rfl⟩ := h; exact ⟨by rw [mn_152]; exact tw_36, by rw [mn_152]; exact tw_1420, mt_152, by decide, by decide⟩) (by unfold prm; decide +kernel) ml_145 (HsOk.nil (by decide +kernel))
theorem dd_145_78 : decode (mi 145).2.1 78 = .ok (.aload_n 0, 1) := by decide +kernel
theorem st_145_78 : Sd 145 78 1 (i_ldR 0) := sd_aload_n (j := 0) dd_145_78 rfl
theorem dd_145_79 : decode (mi 145).2.1 79 = .ok (.iload_n 3, 1) := by decide +kernel
theorem st_145_79 : Sd 145 79 1 (i_ldI 3) := sd_iload_n (j := 3) dd_145_79 rfl
theorem dd_145_80 : decode (mi 145).2.1 80 = .ok (.invokevirtual 125, 3) := by decide +kernel
theorem st_145_80 : Sd 145 80 3 (i_cV [(2, 152)] 2 5 []) := sd_virt ⟨"ContractDeskModel", "kind", "(I)I"⟩ dd_145_80 (by rw [mc_145]; exact tw_1418) (fun t j h => by simp only [List.mem_cons, List.not_mem_nil, or_false, Prod.mk.injEq] at h; obtain ⟨rfl, rfl⟩ := h; exact mn_152) (fun t j h => by simp only [List.mem_cons, List.not_mem_nil, or_false, Prod.mk.injEq] at h; obtain ⟨rfl, rfl⟩ := h; exact ⟨by rw [mn_152]; exact tw_36, by rw [mn_152]; exact tw_1420, mt_152, by decide, by decide⟩) (by unfold prm; decide +kernel) ml_145 (HsOk.nil (by decide +kernel))
theorem dd_145_83 : decode (mi 145).2.1 83 = .ok (.if_icmp .ne 7, 3) := by decide +kernel
theorem st_145_83 : Sd 145 83 3 (i_cne 90) := sd_icmp_ne dd_145_83 (by decide)
theorem dd_145_86 : decode (mi 145).2.1 86 = .ok (.iconst 1, 1) := by decide +kernel
theorem st_145_86 : Sd 145 86 1 (i_ic 1) := sd_iconst dd_145_86
theorem dd_145_87 : decode (mi 145).2.1 87 = .ok (.goto 4, 3) := by decide +kernel
theorem st_145_87 : Sd 145 87 3 (i_goto 91) := sd_goto dd_145_87 (by decide)
def bk_145_72 : Tr := sq (i_ldR 0) (sq (i_ldI 4) (sq (i_cV [(2, 152)] 2 5 []) (sq (i_ldR 0) (sq (i_ldI 3) (sq (i_cV [(2, 152)] 2 5 []) (sq (i_cne 90) (sq (i_ic 1) (i_goto 91))))))))
theorem sb_145_72 : Sd 145 72 18 bk_145_72 := Sd.sq st_145_72 (Sd.sq st_145_73 (Sd.sq st_145_75 (Sd.sq st_145_78 (Sd.sq st_145_79 (Sd.sq st_145_80 (Sd.sq st_145_83 (Sd.sq st_145_86 (st_145_87))))))))
theorem dd_145_90 : decode (mi 145).2.1 90 = .ok (.iconst 0, 1) := by decide +kernel
theorem st_145_90 : Sd 145 90 1 (i_ic 0) := sd_iconst dd_145_90
def bk_145_90 : Tr := sq (i_ic 0) (i_fall 91)
theorem sb_145_90 : Sd 145 90 1 bk_145_90 := Sd.sq st_145_90 (sd_fall rfl)
theorem dd_145_91 : decode (mi 145).2.1 91 = .ok (.ireturn, 1) := by decide +kernel
theorem st_145_91 : Sd 145 91 1 (i_rI 2) := sd_ireturn dd_145_91 (by decide) mr_145
def bk_145_91 : Tr := i_rI 2
theorem sb_145_91 : Sd 145 91 1 bk_145_91 := st_145_91
theorem dd_145_92 : decode (mi 145).2.1 92 = .ok (.aload_n 0, 1) := by decide +kernel
theorem st_145_92 : Sd 145 92 1 (i_ldR 0) := sd_aload_n (j := 0) dd_145_92 rfl
theorem dd_145_93 : decode (mi 145).2.1 93 = .ok (.iload_n 3, 1) := by decide +kernel
theorem st_145_93 : Sd 145 93 1 (i_ldI 3) := sd_iload_n (j := 3) dd_145_93 rfl
theorem dd_145_94 : decode (mi 145).2.1 94 = .ok (.iload 4, 2) := by decide +kernel
theorem st_145_94 : Sd 145 94 2 (i_ldI 4) := sd_iload dd_145_94
theorem dd_145_96 : decode (mi 145).2.1 96 = .ok (.invokevirtual 157, 3) := by decide +kernel
theorem st_145_96 : Sd 145 96 3 (i_cV [(2, 140)] 3 5 []) := sd_virt ⟨"ContractDeskModel", "equal", "(II)Z"⟩ dd_145_96 (by rw [mc_145]; exact tw_1414) (fun t j h => by simp only [List.mem_cons, List.not_mem_nil, or_false, Prod.mk.injEq] at h; obtain ⟨rfl, rfl⟩ := h; exact mn_140) (fun t j h => by simp only [List.mem_cons, List.not_mem_nil, or_false, Prod.mk.injEq] at h; obtain ⟨rfl, rfl⟩ := h; exact ⟨by rw [mn_140]; exact tw_35, by rw [mn_140]; exact tw_1416, mt_140, by decide, by decide⟩) (by unfold prm; decide +kernel) ml_145 (HsOk.nil (by decide +kernel))
theorem dd_145_99 : decode (mi 145).2.1 99 = .ok (.ireturn, 1) := by decide +kernel
theorem st_145_99 : Sd 145 99 1 (i_rI 2) := sd_ireturn dd_145_99 (by decide) mr_145
def bk_145_92 : Tr := sq (i_ldR 0) (sq (i_ldI 3) (sq (i_ldI 4) (sq (i_cV [(2, 140)] 3 5 []) (i_rI 2))))
theorem sb_145_92 : Sd 145 92 8 bk_145_92 := Sd.sq st_145_92 (Sd.sq st_145_93 (Sd.sq st_145_94 (Sd.sq st_145_96 (st_145_99))))
theorem dd_145_100 : decode (mi 145).2.1 100 = .ok (.aload_n 0, 1) := by decide +kernel
theorem st_145_100 : Sd 145 100 1 (i_ldR 0) := sd_aload_n (j := 0) dd_145_100 rfl
theorem dd_145_101 : decode (mi 145).2.1 101 = .ok (.iload 4, 2) := by decide +kernel
theorem st_145_101 : Sd 145 101 2 (i_ldI 4) := sd_iload dd_145_101
theorem dd_145_103 : decode (mi 145).2.1 103 = .ok (.invokevirtual 125, 3) := by decide +kernel
theorem st_145_103 : Sd 145 103 3 (i_cV [(2, 152)] 2 5 []) := sd_virt ⟨"ContractDeskModel", "kind", "(I)I"⟩ dd_145_103 (by rw [mc_145]; exact tw_1418) (fun t j h => by simp only [List.mem_cons, List.not_mem_nil, or_false, Prod.mk.injEq] at h; obtain ⟨rfl, rfl⟩ := h; exact mn_152) (fun t j h => by simp only [List.mem_cons, List.not_mem_nil, or_false, Prod.mk.injEq] at h; obtain ⟨rfl, rfl⟩ := h; exact ⟨by rw [mn_152]; exact tw_36, by rw [mn_152]; exact tw_1420, mt_152, by decide, by decide⟩) (by unfold prm; decide +kernel) ml_145 (HsOk.nil (by decide +kernel))
theorem dd_145_106 : decode (mi 145).2.1 106 = .ok (.ifCond .ne 7, 3) := by decide +kernel
theorem st_145_106 : Sd 145 106 3 (i_zne 113) := sd_if_ne dd_145_106 (by decide)
theorem dd_145_109 : decode (mi 145).2.1 109 = .ok (.iconst 1, 1) := by decide +kernel
theorem st_145_109 : Sd 145 109 1 (i_ic 1) := sd_iconst dd_145_109
theorem dd_145_110 : decode (mi 145).2.1 110 = .ok (.goto 4, 3) := by decide +kernel
theorem st_145_110 : Sd 145 110 3 (i_goto 114) := sd_goto dd_145_110 (by decide)
def bk_145_100 : Tr := sq (i_ldR 0) (sq (i_ldI 4) (sq (i_cV [(2, 152)] 2 5 []) (sq (i_zne 113) (sq (i_ic 1) (i_goto 114)))))
theorem sb_145_100 : Sd 145 100 13 bk_145_100 := Sd.sq st_145_100 (Sd.sq st_145_101 (Sd.sq st_145_103 (Sd.sq st_145_106 (Sd.sq st_145_109 (st_145_110)))))
theorem dd_145_113 : decode (mi 145).2.1 113 = .ok (.iconst 0, 1) := by decide +kernel
theorem st_145_113 : Sd 145 113 1 (i_ic 0) := sd_iconst dd_145_113
def bk_145_113 : Tr := sq (i_ic 0) (i_fall 114)
theorem sb_145_113 : Sd 145 113 1 bk_145_113 := Sd.sq st_145_113 (sd_fall rfl)
theorem dd_145_114 : decode (mi 145).2.1 114 = .ok (.ireturn, 1) := by decide +kernel
theorem st_145_114 : Sd 145 114 1 (i_rI 2) := sd_ireturn dd_145_114 (by decide) mr_145
def bk_145_114 : Tr := i_rI 2
theorem sb_145_114 : Sd 145 114 1 bk_145_114 := st_145_114
theorem dd_145_115 : decode (mi 145).2.1 115 = .ok (.aload_n 0, 1) := by decide +kernel
theorem st_145_115 : Sd 145 115 1 (i_ldR 0) := sd_aload_n (j := 0) dd_145_115 rfl
theorem dd_145_116 : decode (mi 145).2.1 116 = .ok (.iload 4, 2) := by decide +kernel
theorem st_145_116 : Sd 145 116 2 (i_ldI 4) := sd_iload dd_145_116
theorem dd_145_118 : decode (mi 145).2.1 118 = .ok (.invokevirtual 125, 3) := by decide +kernel
theorem st_145_118 : Sd 145 118 3 (i_cV [(2, 152)] 2 5 []) := sd_virt ⟨"ContractDeskModel", "kind", "(I)I"⟩ dd_145_118 (by rw [mc_145]; exact tw_1418) (fun t j h => by simp only [List.mem_cons, List.not_mem_nil, or_false, Prod.mk.injEq] at h; obtain ⟨rfl, rfl⟩ := h; exact mn_152) (fun t j h => by simp only [List.mem_cons, List.not_mem_nil, or_false, Prod.mk.injEq] at h; obtain ⟨rfl, rfl⟩ := h; exact ⟨by rw [mn_152]; exact tw_36, by rw [mn_152]; exact tw_1420, mt_152, by decide, by decide⟩) (by unfold prm; decide +kernel) ml_145 (HsOk.nil (by decide +kernel))
theorem dd_145_121 : decode (mi 145).2.1 121 = .ok (.iconst 2, 1) := by decide +kernel
theorem st_145_121 : Sd 145 121 1 (i_ic 2) := sd_iconst dd_145_121
theorem dd_145_122 : decode (mi 145).2.1 122 = .ok (.if_icmp .ne 7, 3) := by decide +kernel
theorem st_145_122 : Sd 145 122 3 (i_cne 129) := sd_icmp_ne dd_145_122 (by decide)
theorem dd_145_125 : decode (mi 145).2.1 125 = .ok (.iconst 1, 1) := by decide +kernel
theorem st_145_125 : Sd 145 125 1 (i_ic 1) := sd_iconst dd_145_125
theorem dd_145_126 : decode (mi 145).2.1 126 = .ok (.goto 4, 3) := by decide +kernel
theorem st_145_126 : Sd 145 126 3 (i_goto 130) := sd_goto dd_145_126 (by decide)
def bk_145_115 : Tr := sq (i_ldR 0) (sq (i_ldI 4) (sq (i_cV [(2, 152)] 2 5 []) (sq (i_ic 2) (sq (i_cne 129) (sq (i_ic 1) (i_goto 130))))))
theorem sb_145_115 : Sd 145 115 14 bk_145_115 := Sd.sq st_145_115 (Sd.sq st_145_116 (Sd.sq st_145_118 (Sd.sq st_145_121 (Sd.sq st_145_122 (Sd.sq st_145_125 (st_145_126))))))
theorem dd_145_129 : decode (mi 145).2.1 129 = .ok (.iconst 0, 1) := by decide +kernel
theorem st_145_129 : Sd 145 129 1 (i_ic 0) := sd_iconst dd_145_129
def bk_145_129 : Tr := sq (i_ic 0) (i_fall 130)
theorem sb_145_129 : Sd 145 129 1 bk_145_129 := Sd.sq st_145_129 (sd_fall rfl)
theorem dd_145_130 : decode (mi 145).2.1 130 = .ok (.ireturn, 1) := by decide +kernel
theorem st_145_130 : Sd 145 130 1 (i_rI 2) := sd_ireturn dd_145_130 (by decide) mr_145
def bk_145_130 : Tr := i_rI 2
theorem sb_145_130 : Sd 145 130 1 bk_145_130 := st_145_130
theorem dd_145_131 : decode (mi 145).2.1 131 = .ok (.aload_n 0, 1) := by decide +kernel
theorem st_145_131 : Sd 145 131 1 (i_ldR 0) := sd_aload_n (j := 0) dd_145_131 rfl
theorem dd_145_132 : decode (mi 145).2.1 132 = .ok (.iload 4, 2) := by decide +kernel
theorem st_145_132 : Sd 145 132 2 (i_ldI 4) := sd_iload dd_145_132
theorem dd_145_134 : decode (mi 145).2.1 134 = .ok (.invokevirtual 125, 3) := by decide +kernel
theorem st_145_134 : Sd 145 134 3 (i_cV [(2, 152)] 2 5 []) := sd_virt ⟨"ContractDeskModel", "kind", "(I)I"⟩ dd_145_134 (by rw [mc_145]; exact tw_1418) (fun t j h => by simp only [List.mem_cons, List.not_mem_nil, or_false, Prod.mk.injEq] at h; obtain ⟨rfl, rfl⟩ := h; exact mn_152) (fun t j h => by simp only [List.mem_cons, List.not_mem_nil, or_false, Prod.mk.injEq] at h; obtain ⟨rfl, rfl⟩ := h; exact ⟨by rw [mn_152]; exact tw_36, by rw [mn_152]; exact tw_1420, mt_152, by decide, by decide⟩) (by unfold prm; decide +kernel) ml_145 (HsOk.nil (by decide +kernel))
theorem dd_145_137 : decode (mi 145).2.1 137 = .ok (.iconst 4, 1) := by decide +kernel
theorem st_145_137 : Sd 145 137 1 (i_ic 4) := sd_iconst dd_145_137
theorem dd_145_138 : decode (mi 145).2.1 138 = .ok (.if_icmp .ne 27, 3) := by decide +kernel
theorem st_145_138 : Sd 145 138 3 (i_cne 165) := sd_icmp_ne dd_145_138 (by decide)
theorem dd_145_141 : decode (mi 145).2.1 141 = .ok (.aload_n 0, 1) := by decide +kernel
theorem st_145_141 : Sd 145 141 1 (i_ldR 0) := sd_aload_n (j := 0) dd_145_141 rfl
theorem dd_145_142 : decode (mi 145).2.1 142 = .ok (.iload 4, 2) := by decide +kernel
theorem st_145_142 : Sd 145 142 2 (i_ldI 4) := sd_iload dd_145_142
theorem dd_145_144 : decode (mi 145).2.1 144 = .ok (.invokevirtual 135, 3) := by decide +kernel
theorem st_145_144 : Sd 145 144 3 (i_cV [(2, 165)] 2 5 []) := sd_virt ⟨"ContractDeskModel", "parts", "(I)I"⟩ dd_145_144 (by rw [mc_145]; exact tw_1433) (fun t j h => by simp only [List.mem_cons, List.not_mem_nil, or_false, Prod.mk.injEq] at h; obtain ⟨rfl, rfl⟩ := h; exact mn_165) (fun t j h => by simp only [List.mem_cons, List.not_mem_nil, or_false, Prod.mk.injEq] at h; obtain ⟨rfl, rfl⟩ := h; exact ⟨by rw [mn_165]; exact tw_39, by rw [mn_165]; exact tw_1435, mt_165, by decide, by decide⟩) (by unfold prm; decide +kernel) ml_145 (HsOk.nil (by decide +kernel))
theorem dd_145_147 : decode (mi 145).2.1 147 = .ok (.aload_n 0, 1) := by decide +kernel
theorem st_145_147 : Sd 145 147 1 (i_ldR 0) := sd_aload_n (j := 0) dd_145_147 rfl
theorem dd_145_148 : decode (mi 145).2.1 148 = .ok (.getfield 7, 3) := by decide +kernel
theorem st_145_148 : Sd 145 148 3 (i_gR 1 [2]) := sd_gR (ref := "ContractDeskModel") (decl := "ContractDeskModel") (name := "all") (desc := "[C") dd_145_148 (by rw [mc_145]; exact tw_1261) (Or.inl rfl) (by decide +kernel)
theorem dd_145_151 : decode (mi 145).2.1 151 = .ok (.iload_n 1, 1) := by decide +kernel
theorem st_145_151 : Sd 145 151 1 (i_ldI 1) := sd_iload_n (j := 1) dd_145_151 rfl
theorem dd_145_152 : decode (mi 145).2.1 152 = .ok (.iconst 1, 1) := by decide +kernel
theorem st_145_152 : Sd 145 152 1 (i_ic 1) := sd_iconst dd_145_152
theorem dd_145_153 : decode (mi 145).2.1 153 = .ok (.iadd, 1) := by decide +kernel
theorem st_145_153 : Sd 145 153 1 (i_iadd) := sd_iadd dd_145_153
theorem dd_145_154 : decode (mi 145).2.1 154 = .ok (.caload, 1) := by decide +kernel
theorem st_145_154 : Sd 145 154 1 (i_aI [21]) := sd_caload dd_145_154 (by decide)
theorem dd_145_155 : decode (mi 145).2.1 155 = .ok (.bipush 48, 2) := by decide +kernel
theorem st_145_155 : Sd 145 155 2 (i_ic 48) := sd_bipush dd_145_155 (by decide)
theorem dd_145_157 : decode (mi 145).2.1 157 = .ok (.isub, 1) := by decide +kernel
theorem st_145_157 : Sd 145 157 1 (i_isub) := sd_isub dd_145_157
theorem dd_145_158 : decode (mi 145).2.1 158 = .ok (.if_icmp .lt 7, 3) := by decide +kernel
theorem st_145_158 : Sd 145 158 3 (i_clt 165) := sd_icmp_lt dd_145_158 (by decide)
theorem dd_145_161 : decode (mi 145).2.1 161 = .ok (.iconst 1, 1) := by decide +kernel
theorem st_145_161 : Sd 145 161 1 (i_ic 1) := sd_iconst dd_145_161
theorem dd_145_162 : decode (mi 145).2.1 162 = .ok (.goto 4, 3) := by decide +kernel
theorem st_145_162 : Sd 145 162 3 (i_goto 166) := sd_goto dd_145_162 (by decide)
def bk_145_131 : Tr := sq (i_ldR 0) (sq (i_ldI 4) (sq (i_cV [(2, 152)] 2 5 []) (sq (i_ic 4) (sq (i_cne 165) (sq (i_ldR 0) (sq (i_ldI 4) (sq (i_cV [(2, 165)] 2 5 []) (sq (i_ldR 0) (sq (i_gR 1 [2]) (sq (i_ldI 1) (sq (i_ic 1) (sq (i_iadd) (sq (i_aI [21]) (sq (i_ic 48) (sq (i_isub) (sq (i_clt 165) (sq (i_ic 1) (i_goto 166))))))))))))))))))
theorem sb_145_131 : Sd 145 131 34 bk_145_131 := Sd.sq st_145_131 (Sd.sq st_145_132 (Sd.sq st_145_134 (Sd.sq st_145_137 (Sd.sq st_145_138 (Sd.sq st_145_141 (Sd.sq st_145_142 (Sd.sq st_145_144 (Sd.sq st_145_147 (Sd.sq st_145_148 (Sd.sq st_145_151 (Sd.sq st_145_152 (Sd.sq st_145_153 (Sd.sq st_145_154 (Sd.sq st_145_155 (Sd.sq st_145_157 (Sd.sq st_145_158 (Sd.sq st_145_161 (st_145_162))))))))))))))))))
theorem dd_145_165 : decode (mi 145).2.1 165 = .ok (.iconst 0, 1) := by decide +kernel
theorem st_145_165 : Sd 145 165 1 (i_ic 0) := sd_iconst dd_145_165
def bk_145_165 : Tr := sq (i_ic 0) (i_fall 166)
theorem sb_145_165 : Sd 145 165 1 bk_145_165 := Sd.sq st_145_165 (sd_fall rfl)
theorem dd_145_166 : decode (mi 145).2.1 166 = .ok (.ireturn, 1) := by decide +kernel
theorem st_145_166 : Sd 145 166 1 (i_rI 2) := sd_ireturn dd_145_166 (by decide) mr_145
def bk_145_166 : Tr := i_rI 2
theorem sb_145_166 : Sd 145 166 1 bk_145_166 := st_145_166
theorem dd_145_167 : decode (mi 145).2.1 167 = .ok (.aload_n 0, 1) := by decide +kernel
theorem st_145_167 : Sd 145 167 1 (i_ldR 0) := sd_aload_n (j := 0) dd_145_167 rfl
theorem dd_145_168 : decode (mi 145).2.1 168 = .ok (.iload 4, 2) := by decide +kernel
theorem st_145_168 : Sd 145 168 2 (i_ldI 4) := sd_iload dd_145_168
theorem dd_145_170 : decode (mi 145).2.1 170 = .ok (.invokevirtual 125, 3) := by decide +kernel
theorem st_145_170 : Sd 145 170 3 (i_cV [(2, 152)] 2 5 []) := sd_virt ⟨"ContractDeskModel", "kind", "(I)I"⟩ dd_145_170 (by rw [mc_145]; exact tw_1418) (fun t j h => by simp only [List.mem_cons, List.not_mem_nil, or_false, Prod.mk.injEq] at h; obtain ⟨rfl, rfl⟩ := h; exact mn_152) (fun t j h => by simp only [List.mem_cons, List.not_mem_nil, or_false, Prod.mk.injEq] at h; obtain ⟨rfl, rfl⟩ := h; exact ⟨by rw [mn_152]; exact tw_36, by rw [mn_152]; exact tw_1420, mt_152, by decide, by decide⟩) (by unfold prm; decide +kernel) ml_145 (HsOk.nil (by decide +kernel))
theorem dd_145_173 : decode (mi 145).2.1 173 = .ok (.iconst 4, 1) := by decide +kernel
theorem st_145_173 : Sd 145 173 1 (i_ic 4) := sd_iconst dd_145_173
theorem dd_145_174 : decode (mi 145).2.1 174 = .ok (.if_icmp .ne 27, 3) := by decide +kernel
theorem st_145_174 : Sd 145 174 3 (i_cne 201) := sd_icmp_ne dd_145_174 (by decide)
theorem dd_145_177 : decode (mi 145).2.1 177 = .ok (.aload_n 0, 1) := by decide +kernel
theorem st_145_177 : Sd 145 177 1 (i_ldR 0) := sd_aload_n (j := 0) dd_145_177 rfl
theorem dd_145_178 : decode (mi 145).2.1 178 = .ok (.iload 4, 2) := by decide +kernel
theorem st_145_178 : Sd 145 178 2 (i_ldI 4) := sd_iload dd_145_178
theorem dd_145_180 : decode (mi 145).2.1 180 = .ok (.invokevirtual 135, 3) := by decide +kernel
theorem st_145_180 : Sd 145 180 3 (i_cV [(2, 165)] 2 5 []) := sd_virt ⟨"ContractDeskModel", "parts", "(I)I"⟩ dd_145_180 (by rw [mc_145]; exact tw_1433) (fun t j h => by simp only [List.mem_cons, List.not_mem_nil, or_false, Prod.mk.injEq] at h; obtain ⟨rfl, rfl⟩ := h; exact mn_165) (fun t j h => by simp only [List.mem_cons, List.not_mem_nil, or_false, Prod.mk.injEq] at h; obtain ⟨rfl, rfl⟩ := h; exact ⟨by rw [mn_165]; exact tw_39, by rw [mn_165]; exact tw_1435, mt_165, by decide, by decide⟩) (by unfold prm; decide +kernel) ml_145 (HsOk.nil (by decide +kernel))
theorem dd_145_183 : decode (mi 145).2.1 183 = .ok (.aload_n 0, 1) := by decide +kernel
theorem st_145_183 : Sd 145 183 1 (i_ldR 0) := sd_aload_n (j := 0) dd_145_183 rfl
theorem dd_145_184 : decode (mi 145).2.1 184 = .ok (.getfield 7, 3) := by decide +kernel
theorem st_145_184 : Sd 145 184 3 (i_gR 1 [2]) := sd_gR (ref := "ContractDeskModel") (decl := "ContractDeskModel") (name := "all") (desc := "[C") dd_145_184 (by rw [mc_145]; exact tw_1261) (Or.inl rfl) (by decide +kernel)
theorem dd_145_187 : decode (mi 145).2.1 187 = .ok (.iload_n 1, 1) := by decide +kernel
theorem st_145_187 : Sd 145 187 1 (i_ldI 1) := sd_iload_n (j := 1) dd_145_187 rfl
theorem dd_145_188 : decode (mi 145).2.1 188 = .ok (.iconst 1, 1) := by decide +kernel
theorem st_145_188 : Sd 145 188 1 (i_ic 1) := sd_iconst dd_145_188
theorem dd_145_189 : decode (mi 145).2.1 189 = .ok (.iadd, 1) := by decide +kernel
theorem st_145_189 : Sd 145 189 1 (i_iadd) := sd_iadd dd_145_189
theorem dd_145_190 : decode (mi 145).2.1 190 = .ok (.caload, 1) := by decide +kernel
theorem st_145_190 : Sd 145 190 1 (i_aI [21]) := sd_caload dd_145_190 (by decide)
theorem dd_145_191 : decode (mi 145).2.1 191 = .ok (.bipush 48, 2) := by decide +kernel
theorem st_145_191 : Sd 145 191 2 (i_ic 48) := sd_bipush dd_145_191 (by decide)
theorem dd_145_193 : decode (mi 145).2.1 193 = .ok (.isub, 1) := by decide +kernel
theorem st_145_193 : Sd 145 193 1 (i_isub) := sd_isub dd_145_193
theorem dd_145_194 : decode (mi 145).2.1 194 = .ok (.if_icmp .gt 7, 3) := by decide +kernel
theorem st_145_194 : Sd 145 194 3 (i_cgt 201) := sd_icmp_gt dd_145_194 (by decide)
theorem dd_145_197 : decode (mi 145).2.1 197 = .ok (.iconst 1, 1) := by decide +kernel
theorem st_145_197 : Sd 145 197 1 (i_ic 1) := sd_iconst dd_145_197
theorem dd_145_198 : decode (mi 145).2.1 198 = .ok (.goto 4, 3) := by decide +kernel
theorem st_145_198 : Sd 145 198 3 (i_goto 202) := sd_goto dd_145_198 (by decide)
def bk_145_167 : Tr := sq (i_ldR 0) (sq (i_ldI 4) (sq (i_cV [(2, 152)] 2 5 []) (sq (i_ic 4) (sq (i_cne 201) (sq (i_ldR 0) (sq (i_ldI 4) (sq (i_cV [(2, 165)] 2 5 []) (sq (i_ldR 0) (sq (i_gR 1 [2]) (sq (i_ldI 1) (sq (i_ic 1) (sq (i_iadd) (sq (i_aI [21]) (sq (i_ic 48) (sq (i_isub) (sq (i_cgt 201) (sq (i_ic 1) (i_goto 202))))))))))))))))))
theorem sb_145_167 : Sd 145 167 34 bk_145_167 := Sd.sq st_145_167 (Sd.sq st_145_168 (Sd.sq st_145_170 (Sd.sq st_145_173 (Sd.sq st_145_174 (Sd.sq st_145_177 (Sd.sq st_145_178 (Sd.sq st_145_180 (Sd.sq st_145_183 (Sd.sq st_145_184 (Sd.sq st_145_187 (Sd.sq st_145_188 (Sd.sq st_145_189 (Sd.sq st_145_190 (Sd.sq st_145_191 (Sd.sq st_145_193 (Sd.sq st_145_194 (Sd.sq st_145_197 (st_145_198))))))))))))))))))
theorem dd_145_201 : decode (mi 145).2.1 201 = .ok (.iconst 0, 1) := by decide +kernel
theorem st_145_201 : Sd 145 201 1 (i_ic 0) := sd_iconst dd_145_201
def bk_145_201 : Tr := sq (i_ic 0) (i_fall 202)
theorem sb_145_201 : Sd 145 201 1 bk_145_201 := Sd.sq st_145_201 (sd_fall rfl)
theorem dd_145_202 : decode (mi 145).2.1 202 = .ok (.ireturn, 1) := by decide +kernel
theorem st_145_202 : Sd 145 202 1 (i_rI 2) := sd_ireturn dd_145_202 (by decide) mr_145
def bk_145_202 : Tr := i_rI 2
theorem sb_145_202 : Sd 145 202 1 bk_145_202 := st_145_202
theorem dd_145_203 : decode (mi 145).2.1 203 = .ok (.aload_n 0, 1) := by decide +kernel
theorem st_145_203 : Sd 145 203 1 (i_ldR 0) := sd_aload_n (j := 0) dd_145_203 rfl
theorem dd_145_204 : decode (mi 145).2.1 204 = .ok (.iload 4, 2) := by decide +kernel
theorem st_145_204 : Sd 145 204 2 (i_ldI 4) := sd_iload dd_145_204
theorem dd_145_206 : decode (mi 145).2.1 206 = .ok (.invokevirtual 125, 3) := by decide +kernel
theorem st_145_206 : Sd 145 206 3 (i_cV [(2, 152)] 2 5 []) := sd_virt ⟨"ContractDeskModel", "kind", "(I)I"⟩ dd_145_206 (by rw [mc_145]; exact tw_1418) (fun t j h => by simp only [List.mem_cons, List.not_mem_nil, or_false, Prod.mk.injEq] at h; obtain ⟨rfl, rfl⟩ := h; exact mn_152) (fun t j h => by simp only [List.mem_cons, List.not_mem_nil, or_false, Prod.mk.injEq] at h; obtain ⟨rfl, rfl⟩ := h; exact ⟨by rw [mn_152]; exact tw_36, by rw [mn_152]; exact tw_1420, mt_152, by decide, by decide⟩) (by unfold prm; decide +kernel) ml_145 (HsOk.nil (by decide +kernel))
theorem dd_145_209 : decode (mi 145).2.1 209 = .ok (.iconst 3, 1) := by decide +kernel
theorem st_145_209 : Sd 145 209 1 (i_ic 3) := sd_iconst dd_145_209
theorem dd_145_210 : decode (mi 145).2.1 210 = .ok (.if_icmp .ne 20, 3) := by decide +kernel
theorem st_145_210 : Sd 145 210 3 (i_cne 230) := sd_icmp_ne dd_145_210 (by decide)
theorem dd_145_213 : decode (mi 145).2.1 213 = .ok (.aload_n 0, 1) := by decide +kernel
theorem st_145_213 : Sd 145 213 1 (i_ldR 0) := sd_aload_n (j := 0) dd_145_213 rfl
theorem dd_145_214 : decode (mi 145).2.1 214 = .ok (.iload 4, 2) := by decide +kernel
theorem st_145_214 : Sd 145 214 2 (i_ldI 4) := sd_iload dd_145_214
theorem dd_145_216 : decode (mi 145).2.1 216 = .ok (.iload_n 1, 1) := by decide +kernel
theorem st_145_216 : Sd 145 216 1 (i_ldI 1) := sd_iload_n (j := 1) dd_145_216 rfl
theorem dd_145_217 : decode (mi 145).2.1 217 = .ok (.iconst 1, 1) := by decide +kernel
theorem st_145_217 : Sd 145 217 1 (i_ic 1) := sd_iconst dd_145_217
theorem dd_145_218 : decode (mi 145).2.1 218 = .ok (.iadd, 1) := by decide +kernel
theorem st_145_218 : Sd 145 218 1 (i_iadd) := sd_iadd dd_145_218
theorem dd_145_219 : decode (mi 145).2.1 219 = .ok (.iload_n 2, 1) := by decide +kernel
theorem st_145_219 : Sd 145 219 1 (i_ldI 2) := sd_iload_n (j := 2) dd_145_219 rfl
theorem dd_145_220 : decode (mi 145).2.1 220 = .ok (.invokevirtual 195, 3) := by decide +kernel
theorem st_145_220 : Sd 145 220 3 (i_cV [(2, 136)] 4 5 []) := sd_virt ⟨"ContractDeskModel", "contains", "(III)Z"⟩ dd_145_220 (by rw [mc_145]; exact tw_1545) (fun t j h => by simp only [List.mem_cons, List.not_mem_nil, or_false, Prod.mk.injEq] at h; obtain ⟨rfl, rfl⟩ := h; exact mn_136) (fun t j h => by simp only [List.mem_cons, List.not_mem_nil, or_false, Prod.mk.injEq] at h; obtain ⟨rfl, rfl⟩ := h; exact ⟨by rw [mn_136]; exact tw_62, by rw [mn_136]; exact tw_1547, mt_136, by decide, by decide⟩) (by unfold prm; decide +kernel) ml_145 (HsOk.nil (by decide +kernel))
theorem dd_145_223 : decode (mi 145).2.1 223 = .ok (.ifCond .eq 7, 3) := by decide +kernel
theorem st_145_223 : Sd 145 223 3 (i_zeq 230) := sd_if_eq dd_145_223 (by decide)
theorem dd_145_226 : decode (mi 145).2.1 226 = .ok (.iconst 1, 1) := by decide +kernel
theorem st_145_226 : Sd 145 226 1 (i_ic 1) := sd_iconst dd_145_226
theorem dd_145_227 : decode (mi 145).2.1 227 = .ok (.goto 4, 3) := by decide +kernel
theorem st_145_227 : Sd 145 227 3 (i_goto 231) := sd_goto dd_145_227 (by decide)
def bk_145_203 : Tr := sq (i_ldR 0) (sq (i_ldI 4) (sq (i_cV [(2, 152)] 2 5 []) (sq (i_ic 3) (sq (i_cne 230) (sq (i_ldR 0) (sq (i_ldI 4) (sq (i_ldI 1) (sq (i_ic 1) (sq (i_iadd) (sq (i_ldI 2) (sq (i_cV [(2, 136)] 4 5 []) (sq (i_zeq 230) (sq (i_ic 1) (i_goto 231))))))))))))))
theorem sb_145_203 : Sd 145 203 27 bk_145_203 := Sd.sq st_145_203 (Sd.sq st_145_204 (Sd.sq st_145_206 (Sd.sq st_145_209 (Sd.sq st_145_210 (Sd.sq st_145_213 (Sd.sq st_145_214 (Sd.sq st_145_216 (Sd.sq st_145_217 (Sd.sq st_145_218 (Sd.sq st_145_219 (Sd.sq st_145_220 (Sd.sq st_145_223 (Sd.sq st_145_226 (st_145_227))))))))))))))
theorem dd_145_230 : decode (mi 145).2.1 230 = .ok (.iconst 0, 1) := by decide +kernel
theorem st_145_230 : Sd 145 230 1 (i_ic 0) := sd_iconst dd_145_230
def bk_145_230 : Tr := sq (i_ic 0) (i_fall 231)
theorem sb_145_230 : Sd 145 230 1 bk_145_230 := Sd.sq st_145_230 (sd_fall rfl)
theorem dd_145_231 : decode (mi 145).2.1 231 = .ok (.ireturn, 1) := by decide +kernel
theorem st_145_231 : Sd 145 231 1 (i_rI 2) := sd_ireturn dd_145_231 (by decide) mr_145
def bk_145_231 : Tr := i_rI 2
theorem sb_145_231 : Sd 145 231 1 bk_145_231 := st_145_231
theorem dd_145_232 : decode (mi 145).2.1 232 = .ok (.aload_n 0, 1) := by decide +kernel
theorem st_145_232 : Sd 145 232 1 (i_ldR 0) := sd_aload_n (j := 0) dd_145_232 rfl
theorem dd_145_233 : decode (mi 145).2.1 233 = .ok (.iload 4, 2) := by decide +kernel
theorem st_145_233 : Sd 145 233 2 (i_ldI 4) := sd_iload dd_145_233
theorem dd_145_235 : decode (mi 145).2.1 235 = .ok (.invokevirtual 125, 3) := by decide +kernel
theorem st_145_235 : Sd 145 235 3 (i_cV [(2, 152)] 2 5 []) := sd_virt ⟨"ContractDeskModel", "kind", "(I)I"⟩ dd_145_235 (by rw [mc_145]; exact tw_1418) (fun t j h => by simp only [List.mem_cons, List.not_mem_nil, or_false, Prod.mk.injEq] at h; obtain ⟨rfl, rfl⟩ := h; exact mn_152) (fun t j h => by simp only [List.mem_cons, List.not_mem_nil, or_false, Prod.mk.injEq] at h; obtain ⟨rfl, rfl⟩ := h; exact ⟨by rw [mn_152]; exact tw_36, by rw [mn_152]; exact tw_1420, mt_152, by decide, by decide⟩) (by unfold prm; decide +kernel) ml_145 (HsOk.nil (by decide +kernel))
theorem dd_145_238 : decode (mi 145).2.1 238 = .ok (.iconst 3, 1) := by decide +kernel
theorem st_145_238 : Sd 145 238 1 (i_ic 3) := sd_iconst dd_145_238
theorem dd_145_239 : decode (mi 145).2.1 239 = .ok (.if_icmp .ne 22, 3) := by decide +kernel
theorem st_145_239 : Sd 145 239 3 (i_cne 261) := sd_icmp_ne dd_145_239 (by decide)
theorem dd_145_242 : decode (mi 145).2.1 242 = .ok (.aload_n 0, 1) := by decide +kernel
theorem st_145_242 : Sd 145 242 1 (i_ldR 0) := sd_aload_n (j := 0) dd_145_242 rfl
theorem dd_145_243 : decode (mi 145).2.1 243 = .ok (.iload 4, 2) := by decide +kernel
theorem st_145_243 : Sd 145 243 2 (i_ldI 4) := sd_iload dd_145_243
theorem dd_145_245 : decode (mi 145).2.1 245 = .ok (.iload_n 1, 1) := by decide +kernel
theorem st_145_245 : Sd 145 245 1 (i_ldI 1) := sd_iload_n (j := 1) dd_145_245 rfl
theorem dd_145_246 : decode (mi 145).2.1 246 = .ok (.iconst 1, 1) := by decide +kernel
theorem st_145_246 : Sd 145 246 1 (i_ic 1) := sd_iconst dd_145_246
theorem dd_145_247 : decode (mi 145).2.1 247 = .ok (.iadd, 1) := by decide +kernel
theorem st_145_247 : Sd 145 247 1 (i_iadd) := sd_iadd dd_145_247
theorem dd_145_248 : decode (mi 145).2.1 248 = .ok (.iload_n 2, 1) := by decide +kernel
theorem st_145_248 : Sd 145 248 1 (i_ldI 2) := sd_iload_n (j := 2) dd_145_248 rfl
theorem dd_145_249 : decode (mi 145).2.1 249 = .ok (.iconst 1, 1) := by decide +kernel
theorem st_145_249 : Sd 145 249 1 (i_ic 1) := sd_iconst dd_145_249
theorem dd_145_250 : decode (mi 145).2.1 250 = .ok (.isub, 1) := by decide +kernel
theorem st_145_250 : Sd 145 250 1 (i_isub) := sd_isub dd_145_250
theorem dd_145_251 : decode (mi 145).2.1 251 = .ok (.invokevirtual 199, 3) := by decide +kernel
theorem st_145_251 : Sd 145 251 3 (i_cV [(2, 146)] 4 5 []) := sd_virt ⟨"ContractDeskModel", "isAs", "(III)Z"⟩ dd_145_251 (by rw [mc_145]; exact tw_1549) (fun t j h => by simp only [List.mem_cons, List.not_mem_nil, or_false, Prod.mk.injEq] at h; obtain ⟨rfl, rfl⟩ := h; exact mn_146) (fun t j h => by simp only [List.mem_cons, List.not_mem_nil, or_false, Prod.mk.injEq] at h; obtain ⟨rfl, rfl⟩ := h; exact ⟨by rw [mn_146]; exact tw_63, by rw [mn_146]; exact tw_1551, mt_146, by decide, by decide⟩) (by unfold prm; decide +kernel) ml_145 (HsOk.nil (by decide +kernel))
theorem dd_145_254 : decode (mi 145).2.1 254 = .ok (.ifCond .eq 7, 3) := by decide +kernel
theorem st_145_254 : Sd 145 254 3 (i_zeq 261) := sd_if_eq dd_145_254 (by decide)
theorem dd_145_257 : decode (mi 145).2.1 257 = .ok (.iconst 1, 1) := by decide +kernel
theorem st_145_257 : Sd 145 257 1 (i_ic 1) := sd_iconst dd_145_257
theorem dd_145_258 : decode (mi 145).2.1 258 = .ok (.goto 4, 3) := by decide +kernel
theorem st_145_258 : Sd 145 258 3 (i_goto 262) := sd_goto dd_145_258 (by decide)
def bk_145_232 : Tr := sq (i_ldR 0) (sq (i_ldI 4) (sq (i_cV [(2, 152)] 2 5 []) (sq (i_ic 3) (sq (i_cne 261) (sq (i_ldR 0) (sq (i_ldI 4) (sq (i_ldI 1) (sq (i_ic 1) (sq (i_iadd) (sq (i_ldI 2) (sq (i_ic 1) (sq (i_isub) (sq (i_cV [(2, 146)] 4 5 []) (sq (i_zeq 261) (sq (i_ic 1) (i_goto 262))))))))))))))))
theorem sb_145_232 : Sd 145 232 29 bk_145_232 := Sd.sq st_145_232 (Sd.sq st_145_233 (Sd.sq st_145_235 (Sd.sq st_145_238 (Sd.sq st_145_239 (Sd.sq st_145_242 (Sd.sq st_145_243 (Sd.sq st_145_245 (Sd.sq st_145_246 (Sd.sq st_145_247 (Sd.sq st_145_248 (Sd.sq st_145_249 (Sd.sq st_145_250 (Sd.sq st_145_251 (Sd.sq st_145_254 (Sd.sq st_145_257 (st_145_258))))))))))))))))
theorem dd_145_261 : decode (mi 145).2.1 261 = .ok (.iconst 0, 1) := by decide +kernel
theorem st_145_261 : Sd 145 261 1 (i_ic 0) := sd_iconst dd_145_261
def bk_145_261 : Tr := sq (i_ic 0) (i_fall 262)
theorem sb_145_261 : Sd 145 261 1 bk_145_261 := Sd.sq st_145_261 (sd_fall rfl)
theorem dd_145_262 : decode (mi 145).2.1 262 = .ok (.ireturn, 1) := by decide +kernel
theorem st_145_262 : Sd 145 262 1 (i_rI 2) := sd_ireturn dd_145_262 (by decide) mr_145
def bk_145_262 : Tr := i_rI 2
theorem sb_145_262 : Sd 145 262 1 bk_145_262 := st_145_262
theorem dd_146_0 : decode (mi 146).2.1 0 = .ok (.iconst 0, 1) := by decide +kernel
theorem st_146_0 : Sd 146 0 1 (i_ic 0) := sd_iconst dd_146_0
theorem dd_146_1 : decode (mi 146).2.1 1 = .ok (.istore 4, 2) := by decide +kernel
theorem st_146_1 : Sd 146 1 2 (i_stI 4) := sd_istore dd_146_1
theorem dd_146_3 : decode (mi 146).2.1 3 = .ok (.iload_n 2, 1) := by decide +kernel
theorem st_146_3 : Sd 146 3 1 (i_ldI 2) := sd_iload_n (j := 2) dd_146_3 rfl
theorem dd_146_4 : decode (mi 146).2.1 4 = .ok (.istore 5, 2) := by decide +kernel
theorem st_146_4 : Sd 146 4 2 (i_stI 5) := sd_istore dd_146_4
def bk_146_0 : Tr := sq (i_ic 0) (sq (i_stI 4) (sq (i_ldI 2) (sq (i_stI 5) (i_fall 6))))
theorem sb_146_0 : Sd 146 0 6 bk_146_0 := Sd.sq st_146_0 (Sd.sq st_146_1 (Sd.sq st_146_3 (Sd.sq st_146_4 (sd_fall rfl))))
theorem dd_146_6 : decode (mi 146).2.1 6 = .ok (.iload 5, 2) := by decide +kernel
theorem st_146_6 : Sd 146 6 2 (i_ldI 5) := sd_iload dd_146_6
theorem dd_146_8 : decode (mi 146).2.1 8 = .ok (.iload_n 3, 1) := by decide +kernel
theorem st_146_8 : Sd 146 8 1 (i_ldI 3) := sd_iload_n (j := 3) dd_146_8 rfl
theorem dd_146_9 : decode (mi 146).2.1 9 = .ok (.if_icmp .ge 107, 3) := by decide +kernel
theorem st_146_9 : Sd 146 9 3 (i_cge 116) := sd_icmp_ge dd_146_9 (by decide)
theorem dd_146_12 : decode (mi 146).2.1 12 = .ok (.aload_n 0, 1) := by decide +kernel
theorem st_146_12 : Sd 146 12 1 (i_ldR 0) := sd_aload_n (j := 0) dd_146_12 rfl
theorem dd_146_13 : decode (mi 146).2.1 13 = .ok (.getfield 81, 3) := by decide +kernel
theorem st_146_13 : Sd 146 13 3 (i_gR 31 [2]) := sd_gR (ref := "ContractDeskModel") (decl := "ContractDeskModel") (name := "items") (desc := "[C") dd_146_13 (by rw [mc_146]; exact tw_1291) (Or.inl rfl) (by decide +kernel)
theorem dd_146_16 : decode (mi 146).2.1 16 = .ok (.iload 4, 2) := by decide +kernel
theorem st_146_16 : Sd 146 16 2 (i_ldI 4) := sd_iload dd_146_16
theorem dd_146_18 : decode (mi 146).2.1 18 = .ok (.aload_n 0, 1) := by decide +kernel
theorem st_146_18 : Sd 146 18 1 (i_ldR 0) := sd_aload_n (j := 0) dd_146_18 rfl
theorem dd_146_19 : decode (mi 146).2.1 19 = .ok (.getfield 7, 3) := by decide +kernel
theorem st_146_19 : Sd 146 19 3 (i_gR 1 [2]) := sd_gR (ref := "ContractDeskModel") (decl := "ContractDeskModel") (name := "all") (desc := "[C") dd_146_19 (by rw [mc_146]; exact tw_1261) (Or.inl rfl) (by decide +kernel)
theorem dd_146_22 : decode (mi 146).2.1 22 = .ok (.iload 5, 2) := by decide +kernel
theorem st_146_22 : Sd 146 22 2 (i_ldI 5) := sd_iload dd_146_22
theorem dd_146_24 : decode (mi 146).2.1 24 = .ok (.caload, 1) := by decide +kernel
theorem st_146_24 : Sd 146 24 1 (i_aI [21]) := sd_caload dd_146_24 (by decide)
theorem dd_146_25 : decode (mi 146).2.1 25 = .ok (.castore, 1) := by decide +kernel
theorem st_146_25 : Sd 146 25 1 (i_sI [21] 1) := sd_castore dd_146_25 (by decide)
theorem dd_146_26 : decode (mi 146).2.1 26 = .ok (.iload 5, 2) := by decide +kernel
theorem st_146_26 : Sd 146 26 2 (i_ldI 5) := sd_iload dd_146_26
theorem dd_146_28 : decode (mi 146).2.1 28 = .ok (.iconst 1, 1) := by decide +kernel
theorem st_146_28 : Sd 146 28 1 (i_ic 1) := sd_iconst dd_146_28
theorem dd_146_29 : decode (mi 146).2.1 29 = .ok (.iadd, 1) := by decide +kernel
theorem st_146_29 : Sd 146 29 1 (i_iadd) := sd_iadd dd_146_29
theorem dd_146_30 : decode (mi 146).2.1 30 = .ok (.iload_n 3, 1) := by decide +kernel
theorem st_146_30 : Sd 146 30 1 (i_ldI 3) := sd_iload_n (j := 3) dd_146_30 rfl
theorem dd_146_31 : decode (mi 146).2.1 31 = .ok (.if_icmp .ge 35, 3) := by decide +kernel
theorem st_146_31 : Sd 146 31 3 (i_cge 66) := sd_icmp_ge dd_146_31 (by decide)
theorem dd_146_34 : decode (mi 146).2.1 34 = .ok (.aload_n 0, 1) := by decide +kernel
theorem st_146_34 : Sd 146 34 1 (i_ldR 0) := sd_aload_n (j := 0) dd_146_34 rfl
theorem dd_146_35 : decode (mi 146).2.1 35 = .ok (.getfield 7, 3) := by decide +kernel
theorem st_146_35 : Sd 146 35 3 (i_gR 1 [2]) := sd_gR (ref := "ContractDeskModel") (decl := "ContractDeskModel") (name := "all") (desc := "[C") dd_146_35 (by rw [mc_146]; exact tw_1261) (Or.inl rfl) (by decide +kernel)
theorem dd_146_38 : decode (mi 146).2.1 38 = .ok (.iload 5, 2) := by decide +kernel
theorem st_146_38 : Sd 146 38 2 (i_ldI 5) := sd_iload dd_146_38
theorem dd_146_40 : decode (mi 146).2.1 40 = .ok (.iconst 1, 1) := by decide +kernel
theorem st_146_40 : Sd 146 40 1 (i_ic 1) := sd_iconst dd_146_40
theorem dd_146_41 : decode (mi 146).2.1 41 = .ok (.iadd, 1) := by decide +kernel
theorem st_146_41 : Sd 146 41 1 (i_iadd) := sd_iadd dd_146_41
theorem dd_146_42 : decode (mi 146).2.1 42 = .ok (.caload, 1) := by decide +kernel
theorem st_146_42 : Sd 146 42 1 (i_aI [21]) := sd_caload dd_146_42 (by decide)
theorem dd_146_43 : decode (mi 146).2.1 43 = .ok (.bipush 42, 2) := by decide +kernel
theorem st_146_43 : Sd 146 43 2 (i_ic 42) := sd_bipush dd_146_43 (by decide)
theorem dd_146_45 : decode (mi 146).2.1 45 = .ok (.if_icmp .eq 17, 3) := by decide +kernel
theorem st_146_45 : Sd 146 45 3 (i_ceq 62) := sd_icmp_eq dd_146_45 (by decide)
theorem dd_146_48 : decode (mi 146).2.1 48 = .ok (.aload_n 0, 1) := by decide +kernel
theorem st_146_48 : Sd 146 48 1 (i_ldR 0) := sd_aload_n (j := 0) dd_146_48 rfl
theorem dd_146_49 : decode (mi 146).2.1 49 = .ok (.getfield 7, 3) := by decide +kernel
theorem st_146_49 : Sd 146 49 3 (i_gR 1 [2]) := sd_gR (ref := "ContractDeskModel") (decl := "ContractDeskModel") (name := "all") (desc := "[C") dd_146_49 (by rw [mc_146]; exact tw_1261) (Or.inl rfl) (by decide +kernel)
theorem dd_146_52 : decode (mi 146).2.1 52 = .ok (.iload 5, 2) := by decide +kernel
theorem st_146_52 : Sd 146 52 2 (i_ldI 5) := sd_iload dd_146_52
theorem dd_146_54 : decode (mi 146).2.1 54 = .ok (.iconst 1, 1) := by decide +kernel
theorem st_146_54 : Sd 146 54 1 (i_ic 1) := sd_iconst dd_146_54
theorem dd_146_55 : decode (mi 146).2.1 55 = .ok (.iadd, 1) := by decide +kernel
theorem st_146_55 : Sd 146 55 1 (i_iadd) := sd_iadd dd_146_55
theorem dd_146_56 : decode (mi 146).2.1 56 = .ok (.caload, 1) := by decide +kernel
theorem st_146_56 : Sd 146 56 1 (i_aI [21]) := sd_caload dd_146_56 (by decide)
theorem dd_146_57 : decode (mi 146).2.1 57 = .ok (.bipush 43, 2) := by decide +kernel
theorem st_146_57 : Sd 146 57 2 (i_ic 43) := sd_bipush dd_146_57 (by decide)
theorem dd_146_59 : decode (mi 146).2.1 59 = .ok (.if_icmp .ne 7, 3) := by decide +kernel
theorem st_146_59 : Sd 146 59 3 (i_cne 66) := sd_icmp_ne dd_146_59 (by decide)
def bk_146_6 : Tr := sq (i_ldI 5) (sq (i_ldI 3) (sq (i_cge 116) (sq (i_ldR 0) (sq (i_gR 31 [2]) (sq (i_ldI 4) (sq (i_ldR 0) (sq (i_gR 1 [2]) (sq (i_ldI 5) (sq (i_aI [21]) (sq (i_sI [21] 1) (sq (i_ldI 5) (sq (i_ic 1) (sq (i_iadd) (sq (i_ldI 3) (sq (i_cge 66) (sq (i_ldR 0) (sq (i_gR 1 [2]) (sq (i_ldI 5) (sq (i_ic 1) (sq (i_iadd) (sq (i_aI [21]) (sq (i_ic 42) (sq (i_ceq 62) (sq (i_ldR 0) (sq (i_gR 1 [2]) (sq (i_ldI 5) (sq (i_ic 1) (sq (i_iadd) (sq (i_aI [21]) (sq (i_ic 43) (sq (i_cne 66) (i_fall 62))))))))))))))))))))))))))))))))
theorem sb_146_6 : Sd 146 6 56 bk_146_6 := Sd.sq st_146_6 (Sd.sq st_146_8 (Sd.sq st_146_9 (Sd.sq st_146_12 (Sd.sq st_146_13 (Sd.sq st_146_16 (Sd.sq st_146_18 (Sd.sq st_146_19 (Sd.sq st_146_22 (Sd.sq st_146_24 (Sd.sq st_146_25 (Sd.sq st_146_26 (Sd.sq st_146_28 (Sd.sq st_146_29 (Sd.sq st_146_30 (Sd.sq st_146_31 (Sd.sq st_146_34 (Sd.sq st_146_35 (Sd.sq st_146_38 (Sd.sq st_146_40 (Sd.sq st_146_41 (Sd.sq st_146_42 (Sd.sq st_146_43 (Sd.sq st_146_45 (Sd.sq st_146_48 (Sd.sq st_146_49 (Sd.sq st_146_52 (Sd.sq st_146_54 (Sd.sq st_146_55 (Sd.sq st_146_56 (Sd.sq st_146_57 (Sd.sq st_146_59 (sd_fall rfl))))))))))))))))))))))))))))))))
theorem dd_146_62 : decode (mi 146).2.1 62 = .ok (.iconst 1, 1) := by decide +kernel
theorem st_146_62 : Sd 146 62 1 (i_ic 1) := sd_iconst dd_146_62
theorem dd_146_63 : decode (mi 146).2.1 63 = .ok (.goto 4, 3) := by decide +kernel
theorem st_146_63 : Sd 146 63 3 (i_goto 67) := sd_goto dd_146_63 (by decide)
def bk_146_62 : Tr := sq (i_ic 1) (i_goto 67)
theorem sb_146_62 : Sd 146 62 4 bk_146_62 := Sd.sq st_146_62 (st_146_63)
theorem dd_146_66 : decode (mi 146).2.1 66 = .ok (.iconst 0, 1) := by decide +kernel
theorem st_146_66 : Sd 146 66 1 (i_ic 0) := sd_iconst dd_146_66
def bk_146_66 : Tr := sq (i_ic 0) (i_fall 67)
theorem sb_146_66 : Sd 146 66 1 bk_146_66 := Sd.sq st_146_66 (sd_fall rfl)
theorem dd_146_67 : decode (mi 146).2.1 67 = .ok (.istore 6, 2) := by decide +kernel
theorem st_146_67 : Sd 146 67 2 (i_stI 6) := sd_istore dd_146_67
theorem dd_146_69 : decode (mi 146).2.1 69 = .ok (.aload_n 0, 1) := by decide +kernel
theorem st_146_69 : Sd 146 69 1 (i_ldR 0) := sd_aload_n (j := 0) dd_146_69 rfl
theorem dd_146_70 : decode (mi 146).2.1 70 = .ok (.getfield 84, 3) := by decide +kernel
theorem st_146_70 : Sd 146 70 3 (i_gR 32 [2]) := sd_gR (ref := "ContractDeskModel") (decl := "ContractDeskModel") (name := "often") (desc := "[C") dd_146_70 (by rw [mc_146]; exact tw_1292) (Or.inl rfl) (by decide +kernel)
theorem dd_146_73 : decode (mi 146).2.1 73 = .ok (.iload 4, 2) := by decide +kernel
theorem st_146_73 : Sd 146 73 2 (i_ldI 4) := sd_iload dd_146_73
theorem dd_146_75 : decode (mi 146).2.1 75 = .ok (.iload 6, 2) := by decide +kernel
theorem st_146_75 : Sd 146 75 2 (i_ldI 6) := sd_iload dd_146_75
theorem dd_146_77 : decode (mi 146).2.1 77 = .ok (.ifCond .eq 15, 3) := by decide +kernel
theorem st_146_77 : Sd 146 77 3 (i_zeq 92) := sd_if_eq dd_146_77 (by decide)
theorem dd_146_80 : decode (mi 146).2.1 80 = .ok (.aload_n 0, 1) := by decide +kernel
theorem st_146_80 : Sd 146 80 1 (i_ldR 0) := sd_aload_n (j := 0) dd_146_80 rfl
theorem dd_146_81 : decode (mi 146).2.1 81 = .ok (.getfield 7, 3) := by decide +kernel
theorem st_146_81 : Sd 146 81 3 (i_gR 1 [2]) := sd_gR (ref := "ContractDeskModel") (decl := "ContractDeskModel") (name := "all") (desc := "[C") dd_146_81 (by rw [mc_146]; exact tw_1261) (Or.inl rfl) (by decide +kernel)
theorem dd_146_84 : decode (mi 146).2.1 84 = .ok (.iload 5, 2) := by decide +kernel
theorem st_146_84 : Sd 146 84 2 (i_ldI 5) := sd_iload dd_146_84
theorem dd_146_86 : decode (mi 146).2.1 86 = .ok (.iconst 1, 1) := by decide +kernel
theorem st_146_86 : Sd 146 86 1 (i_ic 1) := sd_iconst dd_146_86
theorem dd_146_87 : decode (mi 146).2.1 87 = .ok (.iadd, 1) := by decide +kernel
theorem st_146_87 : Sd 146 87 1 (i_iadd) := sd_iadd dd_146_87
theorem dd_146_88 : decode (mi 146).2.1 88 = .ok (.caload, 1) := by decide +kernel
theorem st_146_88 : Sd 146 88 1 (i_aI [21]) := sd_caload dd_146_88 (by decide)
theorem dd_146_89 : decode (mi 146).2.1 89 = .ok (.goto 5, 3) := by decide +kernel
theorem st_146_89 : Sd 146 89 3 (i_goto 94) := sd_goto dd_146_89 (by decide)
def bk_146_67 : Tr := sq (i_stI 6) (sq (i_ldR 0) (sq (i_gR 32 [2]) (sq (i_ldI 4) (sq (i_ldI 6) (sq (i_zeq 92) (sq (i_ldR 0) (sq (i_gR 1 [2]) (sq (i_ldI 5) (sq (i_ic 1) (sq (i_iadd) (sq (i_aI [21]) (i_goto 94))))))))))))
theorem sb_146_67 : Sd 146 67 25 bk_146_67 := Sd.sq st_146_67 (Sd.sq st_146_69 (Sd.sq st_146_70 (Sd.sq st_146_73 (Sd.sq st_146_75 (Sd.sq st_146_77 (Sd.sq st_146_80 (Sd.sq st_146_81 (Sd.sq st_146_84 (Sd.sq st_146_86 (Sd.sq st_146_87 (Sd.sq st_146_88 (st_146_89))))))))))))
theorem dd_146_92 : decode (mi 146).2.1 92 = .ok (.bipush 49, 2) := by decide +kernel
theorem st_146_92 : Sd 146 92 2 (i_ic 49) := sd_bipush dd_146_92 (by decide)
def bk_146_92 : Tr := sq (i_ic 49) (i_fall 94)
theorem sb_146_92 : Sd 146 92 2 bk_146_92 := Sd.sq st_146_92 (sd_fall rfl)
theorem dd_146_94 : decode (mi 146).2.1 94 = .ok (.castore, 1) := by decide +kernel
theorem st_146_94 : Sd 146 94 1 (i_sI [21] 1) := sd_castore dd_146_94 (by decide)
theorem dd_146_95 : decode (mi 146).2.1 95 = .ok (.iinc 4 1, 3) := by decide +kernel
theorem st_146_95 : Sd 146 95 3 (i_inc 4 1) := sd_iinc dd_146_95
theorem dd_146_98 : decode (mi 146).2.1 98 = .ok (.iload 5, 2) := by decide +kernel
theorem st_146_98 : Sd 146 98 2 (i_ldI 5) := sd_iload dd_146_98
theorem dd_146_100 : decode (mi 146).2.1 100 = .ok (.iload 6, 2) := by decide +kernel
theorem st_146_100 : Sd 146 100 2 (i_ldI 6) := sd_iload dd_146_100
theorem dd_146_102 : decode (mi 146).2.1 102 = .ok (.ifCond .eq 7, 3) := by decide +kernel
theorem st_146_102 : Sd 146 102 3 (i_zeq 109) := sd_if_eq dd_146_102 (by decide)
theorem dd_146_105 : decode (mi 146).2.1 105 = .ok (.iconst 2, 1) := by decide +kernel
theorem st_146_105 : Sd 146 105 1 (i_ic 2) := sd_iconst dd_146_105
theorem dd_146_106 : decode (mi 146).2.1 106 = .ok (.goto 4, 3) := by decide +kernel
theorem st_146_106 : Sd 146 106 3 (i_goto 110) := sd_goto dd_146_106 (by decide)
def bk_146_94 : Tr := sq (i_sI [21] 1) (sq (i_inc 4 1) (sq (i_ldI 5) (sq (i_ldI 6) (sq (i_zeq 109) (sq (i_ic 2) (i_goto 110))))))
theorem sb_146_94 : Sd 146 94 15 bk_146_94 := Sd.sq st_146_94 (Sd.sq st_146_95 (Sd.sq st_146_98 (Sd.sq st_146_100 (Sd.sq st_146_102 (Sd.sq st_146_105 (st_146_106))))))
theorem dd_146_109 : decode (mi 146).2.1 109 = .ok (.iconst 1, 1) := by decide +kernel
theorem st_146_109 : Sd 146 109 1 (i_ic 1) := sd_iconst dd_146_109
def bk_146_109 : Tr := sq (i_ic 1) (i_fall 110)
theorem sb_146_109 : Sd 146 109 1 bk_146_109 := Sd.sq st_146_109 (sd_fall rfl)
theorem dd_146_110 : decode (mi 146).2.1 110 = .ok (.iadd, 1) := by decide +kernel
theorem st_146_110 : Sd 146 110 1 (i_iadd) := sd_iadd dd_146_110
theorem dd_146_111 : decode (mi 146).2.1 111 = .ok (.istore 5, 2) := by decide +kernel
theorem st_146_111 : Sd 146 111 2 (i_stI 5) := sd_istore dd_146_111
theorem dd_146_113 : decode (mi 146).2.1 113 = .ok (.goto (-107), 3) := by decide +kernel
theorem st_146_113 : Sd 146 113 3 (i_goto 6) := sd_goto dd_146_113 (by decide)
def bk_146_110 : Tr := sq (i_iadd) (sq (i_stI 5) (i_goto 6))
theorem sb_146_110 : Sd 146 110 6 bk_146_110 := Sd.sq st_146_110 (Sd.sq st_146_111 (st_146_113))
theorem dd_146_116 : decode (mi 146).2.1 116 = .ok (.iconst 0, 1) := by decide +kernel
theorem st_146_116 : Sd 146 116 1 (i_ic 0) := sd_iconst dd_146_116
theorem dd_146_117 : decode (mi 146).2.1 117 = .ok (.istore 6, 2) := by decide +kernel
theorem st_146_117 : Sd 146 117 2 (i_stI 6) := sd_istore dd_146_117
def bk_146_116 : Tr := sq (i_ic 0) (sq (i_stI 6) (i_fall 119))
theorem sb_146_116 : Sd 146 116 3 bk_146_116 := Sd.sq st_146_116 (Sd.sq st_146_117 (sd_fall rfl))
theorem dd_146_119 : decode (mi 146).2.1 119 = .ok (.iload 6, 2) := by decide +kernel
theorem st_146_119 : Sd 146 119 2 (i_ldI 6) := sd_iload dd_146_119
theorem dd_146_121 : decode (mi 146).2.1 121 = .ok (.iload 4, 2) := by decide +kernel
theorem st_146_121 : Sd 146 121 2 (i_ldI 4) := sd_iload dd_146_121
theorem dd_146_123 : decode (mi 146).2.1 123 = .ok (.if_icmp .gt 26, 3) := by decide +kernel
theorem st_146_123 : Sd 146 123 3 (i_cgt 149) := sd_icmp_gt dd_146_123 (by decide)
theorem dd_146_126 : decode (mi 146).2.1 126 = .ok (.aload_n 0, 1) := by decide +kernel
theorem st_146_126 : Sd 146 126 1 (i_ldR 0) := sd_aload_n (j := 0) dd_146_126 rfl
theorem dd_146_127 : decode (mi 146).2.1 127 = .ok (.getfield 75, 3) := by decide +kernel
theorem st_146_127 : Sd 146 127 3 (i_gR 29 [2]) := sd_gR (ref := "ContractDeskModel") (decl := "ContractDeskModel") (name := "here") (desc := "[Z") dd_146_127 (by rw [mc_146]; exact tw_1289) (Or.inl rfl) (by decide +kernel)
theorem dd_146_130 : decode (mi 146).2.1 130 = .ok (.iload 6, 2) := by decide +kernel
theorem st_146_130 : Sd 146 130 2 (i_ldI 6) := sd_iload dd_146_130
theorem dd_146_132 : decode (mi 146).2.1 132 = .ok (.iload 6, 2) := by decide +kernel
theorem st_146_132 : Sd 146 132 2 (i_ldI 6) := sd_iload dd_146_132
theorem dd_146_134 : decode (mi 146).2.1 134 = .ok (.ifCond .ne 7, 3) := by decide +kernel
theorem st_146_134 : Sd 146 134 3 (i_zne 141) := sd_if_ne dd_146_134 (by decide)
theorem dd_146_137 : decode (mi 146).2.1 137 = .ok (.iconst 1, 1) := by decide +kernel
theorem st_146_137 : Sd 146 137 1 (i_ic 1) := sd_iconst dd_146_137
theorem dd_146_138 : decode (mi 146).2.1 138 = .ok (.goto 4, 3) := by decide +kernel
theorem st_146_138 : Sd 146 138 3 (i_goto 142) := sd_goto dd_146_138 (by decide)
def bk_146_119 : Tr := sq (i_ldI 6) (sq (i_ldI 4) (sq (i_cgt 149) (sq (i_ldR 0) (sq (i_gR 29 [2]) (sq (i_ldI 6) (sq (i_ldI 6) (sq (i_zne 141) (sq (i_ic 1) (i_goto 142)))))))))
theorem sb_146_119 : Sd 146 119 22 bk_146_119 := Sd.sq st_146_119 (Sd.sq st_146_121 (Sd.sq st_146_123 (Sd.sq st_146_126 (Sd.sq st_146_127 (Sd.sq st_146_130 (Sd.sq st_146_132 (Sd.sq st_146_134 (Sd.sq st_146_137 (st_146_138)))))))))
theorem dd_146_141 : decode (mi 146).2.1 141 = .ok (.iconst 0, 1) := by decide +kernel
theorem st_146_141 : Sd 146 141 1 (i_ic 0) := sd_iconst dd_146_141
def bk_146_141 : Tr := sq (i_ic 0) (i_fall 142)
theorem sb_146_141 : Sd 146 141 1 bk_146_141 := Sd.sq st_146_141 (sd_fall rfl)
theorem dd_146_142 : decode (mi 146).2.1 142 = .ok (.bastore, 1) := by decide +kernel
theorem st_146_142 : Sd 146 142 1 (i_sI [22] 2) := sd_bastoreZ dd_146_142 (by decide)
theorem dd_146_143 : decode (mi 146).2.1 143 = .ok (.iinc 6 1, 3) := by decide +kernel
theorem st_146_143 : Sd 146 143 3 (i_inc 6 1) := sd_iinc dd_146_143
theorem dd_146_146 : decode (mi 146).2.1 146 = .ok (.goto (-27), 3) := by decide +kernel
theorem st_146_146 : Sd 146 146 3 (i_goto 119) := sd_goto dd_146_146 (by decide)
def bk_146_142 : Tr := sq (i_sI [22] 2) (sq (i_inc 6 1) (i_goto 119))
theorem sb_146_142 : Sd 146 142 7 bk_146_142 := Sd.sq st_146_142 (Sd.sq st_146_143 (st_146_146))
theorem dd_146_149 : decode (mi 146).2.1 149 = .ok (.aload_n 0, 1) := by decide +kernel
theorem st_146_149 : Sd 146 149 1 (i_ldR 0) := sd_aload_n (j := 0) dd_146_149 rfl
theorem dd_146_150 : decode (mi 146).2.1 150 = .ok (.iload 4, 2) := by decide +kernel
theorem st_146_150 : Sd 146 150 2 (i_ldI 4) := sd_iload dd_146_150
theorem dd_146_152 : decode (mi 146).2.1 152 = .ok (.invokevirtual 192, 3) := by decide +kernel
theorem st_146_152 : Sd 146 152 3 (i_cV [(2, 175)] 2 10 []) := sd_virt ⟨"ContractDeskModel", "spread", "(I)V"⟩ dd_146_152 (by rw [mc_146]; exact tw_1553) (fun t j h => by simp only [List.mem_cons, List.not_mem_nil, or_false, Prod.mk.injEq] at h; obtain ⟨rfl, rfl⟩ := h; exact mn_175) (fun t j h => by simp only [List.mem_cons, List.not_mem_nil, or_false, Prod.mk.injEq] at h; obtain ⟨rfl, rfl⟩ := h; exact ⟨by rw [mn_175]; exact tw_64, by rw [mn_175]; exact tw_1555, mt_175, by decide, by decide⟩) (by unfold prm; decide +kernel) ml_146 (HsOk.nil (by decide +kernel))
theorem dd_146_155 : decode (mi 146).2.1 155 = .ok (.aload_n 0, 1) := by decide +kernel
theorem st_146_155 : Sd 146 155 1 (i_ldR 0) := sd_aload_n (j := 0) dd_146_155 rfl
theorem dd_146_156 : decode (mi 146).2.1 156 = .ok (.iload_n 1, 1) := by decide +kernel
theorem st_146_156 : Sd 146 156 1 (i_ldI 1) := sd_iload_n (j := 1) dd_146_156 rfl
theorem dd_146_157 : decode (mi 146).2.1 157 = .ok (.invokevirtual 128, 3) := by decide +kernel
theorem st_146_157 : Sd 146 157 3 (i_cV [(2, 139)] 2 10 []) := sd_virt ⟨"ContractDeskModel", "end", "(I)I"⟩ dd_146_157 (by rw [mc_146]; exact tw_1426) (fun t j h => by simp only [List.mem_cons, List.not_mem_nil, or_false, Prod.mk.injEq] at h; obtain ⟨rfl, rfl⟩ := h; exact mn_139) (fun t j h => by simp only [List.mem_cons, List.not_mem_nil, or_false, Prod.mk.injEq] at h; obtain ⟨rfl, rfl⟩ := h; exact ⟨by rw [mn_139]; exact tw_38, by rw [mn_139]; exact tw_1428, mt_139, by decide, by decide⟩) (by unfold prm; decide +kernel) ml_146 (HsOk.nil (by decide +kernel))
theorem dd_146_160 : decode (mi 146).2.1 160 = .ok (.iconst 1, 1) := by decide +kernel
theorem st_146_160 : Sd 146 160 1 (i_ic 1) := sd_iconst dd_146_160
theorem dd_146_161 : decode (mi 146).2.1 161 = .ok (.isub, 1) := by decide +kernel
theorem st_146_161 : Sd 146 161 1 (i_isub) := sd_isub dd_146_161
theorem dd_146_162 : decode (mi 146).2.1 162 = .ok (.istore 6, 2) := by decide +kernel
theorem st_146_162 : Sd 146 162 2 (i_stI 6) := sd_istore dd_146_162
theorem dd_146_164 : decode (mi 146).2.1 164 = .ok (.iload_n 1, 1) := by decide +kernel
theorem st_146_164 : Sd 146 164 1 (i_ldI 1) := sd_iload_n (j := 1) dd_146_164 rfl
theorem dd_146_165 : decode (mi 146).2.1 165 = .ok (.iconst 1, 1) := by decide +kernel
theorem st_146_165 : Sd 146 165 1 (i_ic 1) := sd_iconst dd_146_165
theorem dd_146_166 : decode (mi 146).2.1 166 = .ok (.iadd, 1) := by decide +kernel
theorem st_146_166 : Sd 146 166 1 (i_iadd) := sd_iadd dd_146_166
theorem dd_146_167 : decode (mi 146).2.1 167 = .ok (.istore 7, 2) := by decide +kernel
theorem st_146_167 : Sd 146 167 2 (i_stI 7) := sd_istore dd_146_167
def bk_146_149 : Tr := sq (i_ldR 0) (sq (i_ldI 4) (sq (i_cV [(2, 175)] 2 10 []) (sq (i_ldR 0) (sq (i_ldI 1) (sq (i_cV [(2, 139)] 2 10 []) (sq (i_ic 1) (sq (i_isub) (sq (i_stI 6) (sq (i_ldI 1) (sq (i_ic 1) (sq (i_iadd) (sq (i_stI 7) (i_fall 169)))))))))))))
theorem sb_146_149 : Sd 146 149 20 bk_146_149 := Sd.sq st_146_149 (Sd.sq st_146_150 (Sd.sq st_146_152 (Sd.sq st_146_155 (Sd.sq st_146_156 (Sd.sq st_146_157 (Sd.sq st_146_160 (Sd.sq st_146_161 (Sd.sq st_146_162 (Sd.sq st_146_164 (Sd.sq st_146_165 (Sd.sq st_146_166 (Sd.sq st_146_167 (sd_fall rfl)))))))))))))
theorem dd_146_169 : decode (mi 146).2.1 169 = .ok (.iload 7, 2) := by decide +kernel
theorem st_146_169 : Sd 146 169 2 (i_ldI 7) := sd_iload dd_146_169
theorem dd_146_171 : decode (mi 146).2.1 171 = .ok (.iload 6, 2) := by decide +kernel
theorem st_146_171 : Sd 146 171 2 (i_ldI 6) := sd_iload dd_146_171
theorem dd_146_173 : decode (mi 146).2.1 173 = .ok (.if_icmp .ge 201, 3) := by decide +kernel
theorem st_146_173 : Sd 146 173 3 (i_cge 374) := sd_icmp_ge dd_146_173 (by decide)
theorem dd_146_176 : decode (mi 146).2.1 176 = .ok (.iconst 0, 1) := by decide +kernel
theorem st_146_176 : Sd 146 176 1 (i_ic 0) := sd_iconst dd_146_176
theorem dd_146_177 : decode (mi 146).2.1 177 = .ok (.istore 8, 2) := by decide +kernel
theorem st_146_177 : Sd 146 177 2 (i_stI 8) := sd_istore dd_146_177
def bk_146_169 : Tr := sq (i_ldI 7) (sq (i_ldI 6) (sq (i_cge 374) (sq (i_ic 0) (sq (i_stI 8) (i_fall 179)))))
theorem sb_146_169 : Sd 146 169 10 bk_146_169 := Sd.sq st_146_169 (Sd.sq st_146_171 (Sd.sq st_146_173 (Sd.sq st_146_176 (Sd.sq st_146_177 (sd_fall rfl)))))
theorem dd_146_179 : decode (mi 146).2.1 179 = .ok (.iload 8, 2) := by decide +kernel
theorem st_146_179 : Sd 146 179 2 (i_ldI 8) := sd_iload dd_146_179
theorem dd_146_181 : decode (mi 146).2.1 181 = .ok (.iload 4, 2) := by decide +kernel
theorem st_146_181 : Sd 146 181 2 (i_ldI 4) := sd_iload dd_146_181
theorem dd_146_183 : decode (mi 146).2.1 183 = .ok (.if_icmp .gt 17, 3) := by decide +kernel
theorem st_146_183 : Sd 146 183 3 (i_cgt 200) := sd_icmp_gt dd_146_183 (by decide)
theorem dd_146_186 : decode (mi 146).2.1 186 = .ok (.aload_n 0, 1) := by decide +kernel
theorem st_146_186 : Sd 146 186 1 (i_ldR 0) := sd_aload_n (j := 0) dd_146_186 rfl
theorem dd_146_187 : decode (mi 146).2.1 187 = .ok (.getfield 78, 3) := by decide +kernel
theorem st_146_187 : Sd 146 187 3 (i_gR 30 [2]) := sd_gR (ref := "ContractDeskModel") (decl := "ContractDeskModel") (name := "there") (desc := "[Z") dd_146_187 (by rw [mc_146]; exact tw_1290) (Or.inl rfl) (by decide +kernel)
theorem dd_146_190 : decode (mi 146).2.1 190 = .ok (.iload 8, 2) := by decide +kernel
theorem st_146_190 : Sd 146 190 2 (i_ldI 8) := sd_iload dd_146_190
theorem dd_146_192 : decode (mi 146).2.1 192 = .ok (.iconst 0, 1) := by decide +kernel
theorem st_146_192 : Sd 146 192 1 (i_ic 0) := sd_iconst dd_146_192
theorem dd_146_193 : decode (mi 146).2.1 193 = .ok (.bastore, 1) := by decide +kernel
theorem st_146_193 : Sd 146 193 1 (i_sI [22] 2) := sd_bastoreZ dd_146_193 (by decide)
theorem dd_146_194 : decode (mi 146).2.1 194 = .ok (.iinc 8 1, 3) := by decide +kernel
theorem st_146_194 : Sd 146 194 3 (i_inc 8 1) := sd_iinc dd_146_194
theorem dd_146_197 : decode (mi 146).2.1 197 = .ok (.goto (-18), 3) := by decide +kernel
theorem st_146_197 : Sd 146 197 3 (i_goto 179) := sd_goto dd_146_197 (by decide)
def bk_146_179 : Tr := sq (i_ldI 8) (sq (i_ldI 4) (sq (i_cgt 200) (sq (i_ldR 0) (sq (i_gR 30 [2]) (sq (i_ldI 8) (sq (i_ic 0) (sq (i_sI [22] 2) (sq (i_inc 8 1) (i_goto 179)))))))))
theorem sb_146_179 : Sd 146 179 21 bk_146_179 := Sd.sq st_146_179 (Sd.sq st_146_181 (Sd.sq st_146_183 (Sd.sq st_146_186 (Sd.sq st_146_187 (Sd.sq st_146_190 (Sd.sq st_146_192 (Sd.sq st_146_193 (Sd.sq st_146_194 (st_146_197)))))))))
theorem dd_146_200 : decode (mi 146).2.1 200 = .ok (.iconst 0, 1) := by decide +kernel
theorem st_146_200 : Sd 146 200 1 (i_ic 0) := sd_iconst dd_146_200
theorem dd_146_201 : decode (mi 146).2.1 201 = .ok (.istore 8, 2) := by decide +kernel
theorem st_146_201 : Sd 146 201 2 (i_stI 8) := sd_istore dd_146_201
def bk_146_200 : Tr := sq (i_ic 0) (sq (i_stI 8) (i_fall 203))
theorem sb_146_200 : Sd 146 200 3 bk_146_200 := Sd.sq st_146_200 (Sd.sq st_146_201 (sd_fall rfl))
theorem dd_146_203 : decode (mi 146).2.1 203 = .ok (.iload 8, 2) := by decide +kernel
theorem st_146_203 : Sd 146 203 2 (i_ldI 8) := sd_iload dd_146_203
theorem dd_146_205 : decode (mi 146).2.1 205 = .ok (.iload 4, 2) := by decide +kernel
theorem st_146_205 : Sd 146 205 2 (i_ldI 4) := sd_iload dd_146_205
theorem dd_146_207 : decode (mi 146).2.1 207 = .ok (.if_icmp .ge 125, 3) := by decide +kernel
theorem st_146_207 : Sd 146 207 3 (i_cge 332) := sd_icmp_ge dd_146_207 (by decide)
theorem dd_146_210 : decode (mi 146).2.1 210 = .ok (.aload_n 0, 1) := by decide +kernel
theorem st_146_210 : Sd 146 210 1 (i_ldR 0) := sd_aload_n (j := 0) dd_146_210 rfl
theorem dd_146_211 : decode (mi 146).2.1 211 = .ok (.getfield 75, 3) := by decide +kernel
theorem st_146_211 : Sd 146 211 3 (i_gR 29 [2]) := sd_gR (ref := "ContractDeskModel") (decl := "ContractDeskModel") (name := "here") (desc := "[Z") dd_146_211 (by rw [mc_146]; exact tw_1289) (Or.inl rfl) (by decide +kernel)
theorem dd_146_214 : decode (mi 146).2.1 214 = .ok (.iload 8, 2) := by decide +kernel
theorem st_146_214 : Sd 146 214 2 (i_ldI 8) := sd_iload dd_146_214
theorem dd_146_216 : decode (mi 146).2.1 216 = .ok (.baload, 1) := by decide +kernel
theorem st_146_216 : Sd 146 216 1 (i_aI [22]) := sd_baloadZ dd_146_216 (by decide)
theorem dd_146_217 : decode (mi 146).2.1 217 = .ok (.ifCond .eq 36, 3) := by decide +kernel
theorem st_146_217 : Sd 146 217 3 (i_zeq 253) := sd_if_eq dd_146_217 (by decide)
theorem dd_146_220 : decode (mi 146).2.1 220 = .ok (.aload_n 0, 1) := by decide +kernel
theorem st_146_220 : Sd 146 220 1 (i_ldR 0) := sd_aload_n (j := 0) dd_146_220 rfl
theorem dd_146_221 : decode (mi 146).2.1 221 = .ok (.getfield 81, 3) := by decide +kernel
theorem st_146_221 : Sd 146 221 3 (i_gR 31 [2]) := sd_gR (ref := "ContractDeskModel") (decl := "ContractDeskModel") (name := "items") (desc := "[C") dd_146_221 (by rw [mc_146]; exact tw_1291) (Or.inl rfl) (by decide +kernel)
theorem dd_146_224 : decode (mi 146).2.1 224 = .ok (.iload 8, 2) := by decide +kernel
theorem st_146_224 : Sd 146 224 2 (i_ldI 8) := sd_iload dd_146_224
theorem dd_146_226 : decode (mi 146).2.1 226 = .ok (.caload, 1) := by decide +kernel
theorem st_146_226 : Sd 146 226 1 (i_aI [21]) := sd_caload dd_146_226 (by decide)
theorem dd_146_227 : decode (mi 146).2.1 227 = .ok (.bipush 46, 2) := by decide +kernel
theorem st_146_227 : Sd 146 227 2 (i_ic 46) := sd_bipush dd_146_227 (by decide)
theorem dd_146_229 : decode (mi 146).2.1 229 = .ok (.if_icmp .eq 20, 3) := by decide +kernel
theorem st_146_229 : Sd 146 229 3 (i_ceq 249) := sd_icmp_eq dd_146_229 (by decide)
theorem dd_146_232 : decode (mi 146).2.1 232 = .ok (.aload_n 0, 1) := by decide +kernel
theorem st_146_232 : Sd 146 232 1 (i_ldR 0) := sd_aload_n (j := 0) dd_146_232 rfl
theorem dd_146_233 : decode (mi 146).2.1 233 = .ok (.getfield 81, 3) := by decide +kernel
theorem st_146_233 : Sd 146 233 3 (i_gR 31 [2]) := sd_gR (ref := "ContractDeskModel") (decl := "ContractDeskModel") (name := "items") (desc := "[C") dd_146_233 (by rw [mc_146]; exact tw_1291) (Or.inl rfl) (by decide +kernel)
theorem dd_146_236 : decode (mi 146).2.1 236 = .ok (.iload 8, 2) := by decide +kernel
theorem st_146_236 : Sd 146 236 2 (i_ldI 8) := sd_iload dd_146_236
theorem dd_146_238 : decode (mi 146).2.1 238 = .ok (.caload, 1) := by decide +kernel
theorem st_146_238 : Sd 146 238 1 (i_aI [21]) := sd_caload dd_146_238 (by decide)
theorem dd_146_239 : decode (mi 146).2.1 239 = .ok (.aload_n 0, 1) := by decide +kernel
theorem st_146_239 : Sd 146 239 1 (i_ldR 0) := sd_aload_n (j := 0) dd_146_239 rfl
theorem dd_146_240 : decode (mi 146).2.1 240 = .ok (.getfield 7, 3) := by decide +kernel
theorem st_146_240 : Sd 146 240 3 (i_gR 1 [2]) := sd_gR (ref := "ContractDeskModel") (decl := "ContractDeskModel") (name := "all") (desc := "[C") dd_146_240 (by rw [mc_146]; exact tw_1261) (Or.inl rfl) (by decide +kernel)
theorem dd_146_243 : decode (mi 146).2.1 243 = .ok (.iload 7, 2) := by decide +kernel
theorem st_146_243 : Sd 146 243 2 (i_ldI 7) := sd_iload dd_146_243
theorem dd_146_245 : decode (mi 146).2.1 245 = .ok (.caload, 1) := by decide +kernel
theorem st_146_245 : Sd 146 245 1 (i_aI [21]) := sd_caload dd_146_245 (by decide)
theorem dd_146_246 : decode (mi 146).2.1 246 = .ok (.if_icmp .ne 7, 3) := by decide +kernel
theorem st_146_246 : Sd 146 246 3 (i_cne 253) := sd_icmp_ne dd_146_246 (by decide)
def bk_146_203 : Tr := sq (i_ldI 8) (sq (i_ldI 4) (sq (i_cge 332) (sq (i_ldR 0) (sq (i_gR 29 [2]) (sq (i_ldI 8) (sq (i_aI [22]) (sq (i_zeq 253) (sq (i_ldR 0) (sq (i_gR 31 [2]) (sq (i_ldI 8) (sq (i_aI [21]) (sq (i_ic 46) (sq (i_ceq 249) (sq (i_ldR 0) (sq (i_gR 31 [2]) (sq (i_ldI 8) (sq (i_aI [21]) (sq (i_ldR 0) (sq (i_gR 1 [2]) (sq (i_ldI 7) (sq (i_aI [21]) (sq (i_cne 253) (i_fall 249)))))))))))))))))))))))
theorem sb_146_203 : Sd 146 203 46 bk_146_203 := Sd.sq st_146_203 (Sd.sq st_146_205 (Sd.sq st_146_207 (Sd.sq st_146_210 (Sd.sq st_146_211 (Sd.sq st_146_214 (Sd.sq st_146_216 (Sd.sq st_146_217 (Sd.sq st_146_220 (Sd.sq st_146_221 (Sd.sq st_146_224 (Sd.sq st_146_226 (Sd.sq st_146_227 (Sd.sq st_146_229 (Sd.sq st_146_232 (Sd.sq st_146_233 (Sd.sq st_146_236 (Sd.sq st_146_238 (Sd.sq st_146_239 (Sd.sq st_146_240 (Sd.sq st_146_243 (Sd.sq st_146_245 (Sd.sq st_146_246 (sd_fall rfl)))))))))))))))))))))))
theorem dd_146_249 : decode (mi 146).2.1 249 = .ok (.iconst 1, 1) := by decide +kernel
theorem st_146_249 : Sd 146 249 1 (i_ic 1) := sd_iconst dd_146_249
theorem dd_146_250 : decode (mi 146).2.1 250 = .ok (.goto 4, 3) := by decide +kernel
theorem st_146_250 : Sd 146 250 3 (i_goto 254) := sd_goto dd_146_250 (by decide)
def bk_146_249 : Tr := sq (i_ic 1) (i_goto 254)
theorem sb_146_249 : Sd 146 249 4 bk_146_249 := Sd.sq st_146_249 (st_146_250)
theorem dd_146_253 : decode (mi 146).2.1 253 = .ok (.iconst 0, 1) := by decide +kernel
theorem st_146_253 : Sd 146 253 1 (i_ic 0) := sd_iconst dd_146_253
def bk_146_253 : Tr := sq (i_ic 0) (i_fall 254)
theorem sb_146_253 : Sd 146 253 1 bk_146_253 := Sd.sq st_146_253 (sd_fall rfl)
theorem dd_146_254 : decode (mi 146).2.1 254 = .ok (.istore 9, 2) := by decide +kernel
theorem st_146_254 : Sd 146 254 2 (i_stI 9) := sd_istore dd_146_254
theorem dd_146_256 : decode (mi 146).2.1 256 = .ok (.aload_n 0, 1) := by decide +kernel
theorem st_146_256 : Sd 146 256 1 (i_ldR 0) := sd_aload_n (j := 0) dd_146_256 rfl
theorem dd_146_257 : decode (mi 146).2.1 257 = .ok (.getfield 78, 3) := by decide +kernel
theorem st_146_257 : Sd 146 257 3 (i_gR 30 [2]) := sd_gR (ref := "ContractDeskModel") (decl := "ContractDeskModel") (name := "there") (desc := "[Z") dd_146_257 (by rw [mc_146]; exact tw_1290) (Or.inl rfl) (by decide +kernel)
theorem dd_146_260 : decode (mi 146).2.1 260 = .ok (.iload 8, 2) := by decide +kernel
theorem st_146_260 : Sd 146 260 2 (i_ldI 8) := sd_iload dd_146_260
theorem dd_146_262 : decode (mi 146).2.1 262 = .ok (.aload_n 0, 1) := by decide +kernel
theorem st_146_262 : Sd 146 262 1 (i_ldR 0) := sd_aload_n (j := 0) dd_146_262 rfl
theorem dd_146_263 : decode (mi 146).2.1 263 = .ok (.getfield 78, 3) := by decide +kernel
theorem st_146_263 : Sd 146 263 3 (i_gR 30 [2]) := sd_gR (ref := "ContractDeskModel") (decl := "ContractDeskModel") (name := "there") (desc := "[Z") dd_146_263 (by rw [mc_146]; exact tw_1290) (Or.inl rfl) (by decide +kernel)
theorem dd_146_266 : decode (mi 146).2.1 266 = .ok (.iload 8, 2) := by decide +kernel
theorem st_146_266 : Sd 146 266 2 (i_ldI 8) := sd_iload dd_146_266
theorem dd_146_268 : decode (mi 146).2.1 268 = .ok (.baload, 1) := by decide +kernel
theorem st_146_268 : Sd 146 268 1 (i_aI [22]) := sd_baloadZ dd_146_268 (by decide)
theorem dd_146_269 : decode (mi 146).2.1 269 = .ok (.ifCond .ne 20, 3) := by decide +kernel
theorem st_146_269 : Sd 146 269 3 (i_zne 289) := sd_if_ne dd_146_269 (by decide)
theorem dd_146_272 : decode (mi 146).2.1 272 = .ok (.iload 9, 2) := by decide +kernel
theorem st_146_272 : Sd 146 272 2 (i_ldI 9) := sd_iload dd_146_272
theorem dd_146_274 : decode (mi 146).2.1 274 = .ok (.ifCond .eq 19, 3) := by decide +kernel
theorem st_146_274 : Sd 146 274 3 (i_zeq 293) := sd_if_eq dd_146_274 (by decide)
theorem dd_146_277 : decode (mi 146).2.1 277 = .ok (.aload_n 0, 1) := by decide +kernel
theorem st_146_277 : Sd 146 277 1 (i_ldR 0) := sd_aload_n (j := 0) dd_146_277 rfl
theorem dd_146_278 : decode (mi 146).2.1 278 = .ok (.getfield 84, 3) := by decide +kernel
theorem st_146_278 : Sd 146 278 3 (i_gR 32 [2]) := sd_gR (ref := "ContractDeskModel") (decl := "ContractDeskModel") (name := "often") (desc := "[C") dd_146_278 (by rw [mc_146]; exact tw_1292) (Or.inl rfl) (by decide +kernel)
theorem dd_146_281 : decode (mi 146).2.1 281 = .ok (.iload 8, 2) := by decide +kernel
theorem st_146_281 : Sd 146 281 2 (i_ldI 8) := sd_iload dd_146_281
theorem dd_146_283 : decode (mi 146).2.1 283 = .ok (.caload, 1) := by decide +kernel
theorem st_146_283 : Sd 146 283 1 (i_aI [21]) := sd_caload dd_146_283 (by decide)
theorem dd_146_284 : decode (mi 146).2.1 284 = .ok (.bipush 49, 2) := by decide +kernel
theorem st_146_284 : Sd 146 284 2 (i_ic 49) := sd_bipush dd_146_284 (by decide)
theorem dd_146_286 : decode (mi 146).2.1 286 = .ok (.if_icmp .eq 7, 3) := by decide +kernel
theorem st_146_286 : Sd 146 286 3 (i_ceq 293) := sd_icmp_eq dd_146_286 (by decide)
def bk_146_254 : Tr := sq (i_stI 9) (sq (i_ldR 0) (sq (i_gR 30 [2]) (sq (i_ldI 8) (sq (i_ldR 0) (sq (i_gR 30 [2]) (sq (i_ldI 8) (sq (i_aI [22]) (sq (i_zne 289) (sq (i_ldI 9) (sq (i_zeq 293) (sq (i_ldR 0) (sq (i_gR 32 [2]) (sq (i_ldI 8) (sq (i_aI [21]) (sq (i_ic 49) (sq (i_ceq 293) (i_fall 289)))))))))))))))))
theorem sb_146_254 : Sd 146 254 35 bk_146_254 := Sd.sq st_146_254 (Sd.sq st_146_256 (Sd.sq st_146_257 (Sd.sq st_146_260 (Sd.sq st_146_262 (Sd.sq st_146_263 (Sd.sq st_146_266 (Sd.sq st_146_268 (Sd.sq st_146_269 (Sd.sq st_146_272 (Sd.sq st_146_274 (Sd.sq st_146_277 (Sd.sq st_146_278 (Sd.sq st_146_281 (Sd.sq st_146_283 (Sd.sq st_146_284 (Sd.sq st_146_286 (sd_fall rfl)))))))))))))))))
theorem dd_146_289 : decode (mi 146).2.1 289 = .ok (.iconst 1, 1) := by decide +kernel
theorem st_146_289 : Sd 146 289 1 (i_ic 1) := sd_iconst dd_146_289
theorem dd_146_290 : decode (mi 146).2.1 290 = .ok (.goto 4, 3) := by decide +kernel
theorem st_146_290 : Sd 146 290 3 (i_goto 294) := sd_goto dd_146_290 (by decide)
def bk_146_289 : Tr := sq (i_ic 1) (i_goto 294)
theorem sb_146_289 : Sd 146 289 4 bk_146_289 := Sd.sq st_146_289 (st_146_290)
theorem dd_146_293 : decode (mi 146).2.1 293 = .ok (.iconst 0, 1) := by decide +kernel
theorem st_146_293 : Sd 146 293 1 (i_ic 0) := sd_iconst dd_146_293
def bk_146_293 : Tr := sq (i_ic 0) (i_fall 294)
theorem sb_146_293 : Sd 146 293 1 bk_146_293 := Sd.sq st_146_293 (sd_fall rfl)
theorem dd_146_294 : decode (mi 146).2.1 294 = .ok (.bastore, 1) := by decide +kernel
theorem st_146_294 : Sd 146 294 1 (i_sI [22] 2) := sd_bastoreZ dd_146_294 (by decide)
theorem dd_146_295 : decode (mi 146).2.1 295 = .ok (.aload_n 0, 1) := by decide +kernel
theorem st_146_295 : Sd 146 295 1 (i_ldR 0) := sd_aload_n (j := 0) dd_146_295 rfl
theorem dd_146_296 : decode (mi 146).2.1 296 = .ok (.getfield 78, 3) := by decide +kernel
theorem st_146_296 : Sd 146 296 3 (i_gR 30 [2]) := sd_gR (ref := "ContractDeskModel") (decl := "ContractDeskModel") (name := "there") (desc := "[Z") dd_146_296 (by rw [mc_146]; exact tw_1290) (Or.inl rfl) (by decide +kernel)
theorem dd_146_299 : decode (mi 146).2.1 299 = .ok (.iload 8, 2) := by decide +kernel
theorem st_146_299 : Sd 146 299 2 (i_ldI 8) := sd_iload dd_146_299
theorem dd_146_301 : decode (mi 146).2.1 301 = .ok (.iconst 1, 1) := by decide +kernel
theorem st_146_301 : Sd 146 301 1 (i_ic 1) := sd_iconst dd_146_301
theorem dd_146_302 : decode (mi 146).2.1 302 = .ok (.iadd, 1) := by decide +kernel
theorem st_146_302 : Sd 146 302 1 (i_iadd) := sd_iadd dd_146_302
theorem dd_146_303 : decode (mi 146).2.1 303 = .ok (.aload_n 0, 1) := by decide +kernel
theorem st_146_303 : Sd 146 303 1 (i_ldR 0) := sd_aload_n (j := 0) dd_146_303 rfl
theorem dd_146_304 : decode (mi 146).2.1 304 = .ok (.getfield 78, 3) := by decide +kernel
theorem st_146_304 : Sd 146 304 3 (i_gR 30 [2]) := sd_gR (ref := "ContractDeskModel") (decl := "ContractDeskModel") (name := "there") (desc := "[Z") dd_146_304 (by rw [mc_146]; exact tw_1290) (Or.inl rfl) (by decide +kernel)
theorem dd_146_307 : decode (mi 146).2.1 307 = .ok (.iload 8, 2) := by decide +kernel
theorem st_146_307 : Sd 146 307 2 (i_ldI 8) := sd_iload dd_146_307
theorem dd_146_309 : decode (mi 146).2.1 309 = .ok (.iconst 1, 1) := by decide +kernel
theorem st_146_309 : Sd 146 309 1 (i_ic 1) := sd_iconst dd_146_309
theorem dd_146_310 : decode (mi 146).2.1 310 = .ok (.iadd, 1) := by decide +kernel
theorem st_146_310 : Sd 146 310 1 (i_iadd) := sd_iadd dd_146_310
theorem dd_146_311 : decode (mi 146).2.1 311 = .ok (.baload, 1) := by decide +kernel
theorem st_146_311 : Sd 146 311 1 (i_aI [22]) := sd_baloadZ dd_146_311 (by decide)
theorem dd_146_312 : decode (mi 146).2.1 312 = .ok (.ifCond .ne 8, 3) := by decide +kernel
theorem st_146_312 : Sd 146 312 3 (i_zne 320) := sd_if_ne dd_146_312 (by decide)
theorem dd_146_315 : decode (mi 146).2.1 315 = .ok (.iload 9, 2) := by decide +kernel
theorem st_146_315 : Sd 146 315 2 (i_ldI 9) := sd_iload dd_146_315
theorem dd_146_317 : decode (mi 146).2.1 317 = .ok (.ifCond .eq 7, 3) := by decide +kernel
theorem st_146_317 : Sd 146 317 3 (i_zeq 324) := sd_if_eq dd_146_317 (by decide)
def bk_146_294 : Tr := sq (i_sI [22] 2) (sq (i_ldR 0) (sq (i_gR 30 [2]) (sq (i_ldI 8) (sq (i_ic 1) (sq (i_iadd) (sq (i_ldR 0) (sq (i_gR 30 [2]) (sq (i_ldI 8) (sq (i_ic 1) (sq (i_iadd) (sq (i_aI [22]) (sq (i_zne 320) (sq (i_ldI 9) (sq (i_zeq 324) (i_fall 320)))))))))))))))
theorem sb_146_294 : Sd 146 294 26 bk_146_294 := Sd.sq st_146_294 (Sd.sq st_146_295 (Sd.sq st_146_296 (Sd.sq st_146_299 (Sd.sq st_146_301 (Sd.sq st_146_302 (Sd.sq st_146_303 (Sd.sq st_146_304 (Sd.sq st_146_307 (Sd.sq st_146_309 (Sd.sq st_146_310 (Sd.sq st_146_311 (Sd.sq st_146_312 (Sd.sq st_146_315 (Sd.sq st_146_317 (sd_fall rfl)))))))))))))))
theorem dd_146_320 : decode (mi 146).2.1 320 = .ok (.iconst 1, 1) := by decide +kernel
theorem st_146_320 : Sd 146 320 1 (i_ic 1) := sd_iconst dd_146_320
theorem dd_146_321 : decode (mi 146).2.1 321 = .ok (.goto 4, 3) := by decide +kernel
theorem st_146_321 : Sd 146 321 3 (i_goto 325) := sd_goto dd_146_321 (by decide)
def bk_146_320 : Tr := sq (i_ic 1) (i_goto 325)
theorem sb_146_320 : Sd 146 320 4 bk_146_320 := Sd.sq st_146_320 (st_146_321)
theorem dd_146_324 : decode (mi 146).2.1 324 = .ok (.iconst 0, 1) := by decide +kernel
theorem st_146_324 : Sd 146 324 1 (i_ic 0) := sd_iconst dd_146_324
def bk_146_324 : Tr := sq (i_ic 0) (i_fall 325)
theorem sb_146_324 : Sd 146 324 1 bk_146_324 := Sd.sq st_146_324 (sd_fall rfl)
theorem dd_146_325 : decode (mi 146).2.1 325 = .ok (.bastore, 1) := by decide +kernel
theorem st_146_325 : Sd 146 325 1 (i_sI [22] 2) := sd_bastoreZ dd_146_325 (by decide)
theorem dd_146_326 : decode (mi 146).2.1 326 = .ok (.iinc 8 1, 3) := by decide +kernel
theorem st_146_326 : Sd 146 326 3 (i_inc 8 1) := sd_iinc dd_146_326
theorem dd_146_329 : decode (mi 146).2.1 329 = .ok (.goto (-126), 3) := by decide +kernel
theorem st_146_329 : Sd 146 329 3 (i_goto 203) := sd_goto dd_146_329 (by decide)
def bk_146_325 : Tr := sq (i_sI [22] 2) (sq (i_inc 8 1) (i_goto 203))
theorem sb_146_325 : Sd 146 325 7 bk_146_325 := Sd.sq st_146_325 (Sd.sq st_146_326 (st_146_329))
theorem dd_146_332 : decode (mi 146).2.1 332 = .ok (.iconst 0, 1) := by decide +kernel
theorem st_146_332 : Sd 146 332 1 (i_ic 0) := sd_iconst dd_146_332
theorem dd_146_333 : decode (mi 146).2.1 333 = .ok (.istore 8, 2) := by decide +kernel
theorem st_146_333 : Sd 146 333 2 (i_stI 8) := sd_istore dd_146_333
def bk_146_332 : Tr := sq (i_ic 0) (sq (i_stI 8) (i_fall 335))
theorem sb_146_332 : Sd 146 332 3 bk_146_332 := Sd.sq st_146_332 (Sd.sq st_146_333 (sd_fall rfl))
theorem dd_146_335 : decode (mi 146).2.1 335 = .ok (.iload 8, 2) := by decide +kernel
theorem st_146_335 : Sd 146 335 2 (i_ldI 8) := sd_iload dd_146_335
theorem dd_146_337 : decode (mi 146).2.1 337 = .ok (.iload 4, 2) := by decide +kernel
theorem st_146_337 : Sd 146 337 2 (i_ldI 4) := sd_iload dd_146_337
theorem dd_146_339 : decode (mi 146).2.1 339 = .ok (.if_icmp .gt 23, 3) := by decide +kernel
theorem st_146_339 : Sd 146 339 3 (i_cgt 362) := sd_icmp_gt dd_146_339 (by decide)
theorem dd_146_342 : decode (mi 146).2.1 342 = .ok (.aload_n 0, 1) := by decide +kernel
theorem st_146_342 : Sd 146 342 1 (i_ldR 0) := sd_aload_n (j := 0) dd_146_342 rfl
theorem dd_146_343 : decode (mi 146).2.1 343 = .ok (.getfield 75, 3) := by decide +kernel
theorem st_146_343 : Sd 146 343 3 (i_gR 29 [2]) := sd_gR (ref := "ContractDeskModel") (decl := "ContractDeskModel") (name := "here") (desc := "[Z") dd_146_343 (by rw [mc_146]; exact tw_1289) (Or.inl rfl) (by decide +kernel)
theorem dd_146_346 : decode (mi 146).2.1 346 = .ok (.iload 8, 2) := by decide +kernel
theorem st_146_346 : Sd 146 346 2 (i_ldI 8) := sd_iload dd_146_346
theorem dd_146_348 : decode (mi 146).2.1 348 = .ok (.aload_n 0, 1) := by decide +kernel
theorem st_146_348 : Sd 146 348 1 (i_ldR 0) := sd_aload_n (j := 0) dd_146_348 rfl
theorem dd_146_349 : decode (mi 146).2.1 349 = .ok (.getfield 78, 3) := by decide +kernel
theorem st_146_349 : Sd 146 349 3 (i_gR 30 [2]) := sd_gR (ref := "ContractDeskModel") (decl := "ContractDeskModel") (name := "there") (desc := "[Z") dd_146_349 (by rw [mc_146]; exact tw_1290) (Or.inl rfl) (by decide +kernel)
theorem dd_146_352 : decode (mi 146).2.1 352 = .ok (.iload 8, 2) := by decide +kernel
theorem st_146_352 : Sd 146 352 2 (i_ldI 8) := sd_iload dd_146_352
theorem dd_146_354 : decode (mi 146).2.1 354 = .ok (.baload, 1) := by decide +kernel
theorem st_146_354 : Sd 146 354 1 (i_aI [22]) := sd_baloadZ dd_146_354 (by decide)
theorem dd_146_355 : decode (mi 146).2.1 355 = .ok (.bastore, 1) := by decide +kernel
theorem st_146_355 : Sd 146 355 1 (i_sI [22] 2) := sd_bastoreZ dd_146_355 (by decide)
theorem dd_146_356 : decode (mi 146).2.1 356 = .ok (.iinc 8 1, 3) := by decide +kernel
theorem st_146_356 : Sd 146 356 3 (i_inc 8 1) := sd_iinc dd_146_356
theorem dd_146_359 : decode (mi 146).2.1 359 = .ok (.goto (-24), 3) := by decide +kernel
theorem st_146_359 : Sd 146 359 3 (i_goto 335) := sd_goto dd_146_359 (by decide)
def bk_146_335 : Tr := sq (i_ldI 8) (sq (i_ldI 4) (sq (i_cgt 362) (sq (i_ldR 0) (sq (i_gR 29 [2]) (sq (i_ldI 8) (sq (i_ldR 0) (sq (i_gR 30 [2]) (sq (i_ldI 8) (sq (i_aI [22]) (sq (i_sI [22] 2) (sq (i_inc 8 1) (i_goto 335))))))))))))
theorem sb_146_335 : Sd 146 335 27 bk_146_335 := Sd.sq st_146_335 (Sd.sq st_146_337 (Sd.sq st_146_339 (Sd.sq st_146_342 (Sd.sq st_146_343 (Sd.sq st_146_346 (Sd.sq st_146_348 (Sd.sq st_146_349 (Sd.sq st_146_352 (Sd.sq st_146_354 (Sd.sq st_146_355 (Sd.sq st_146_356 (st_146_359))))))))))))
theorem dd_146_362 : decode (mi 146).2.1 362 = .ok (.aload_n 0, 1) := by decide +kernel
theorem st_146_362 : Sd 146 362 1 (i_ldR 0) := sd_aload_n (j := 0) dd_146_362 rfl
theorem dd_146_363 : decode (mi 146).2.1 363 = .ok (.iload 4, 2) := by decide +kernel
theorem st_146_363 : Sd 146 363 2 (i_ldI 4) := sd_iload dd_146_363
theorem dd_146_365 : decode (mi 146).2.1 365 = .ok (.invokevirtual 192, 3) := by decide +kernel
theorem st_146_365 : Sd 146 365 3 (i_cV [(2, 175)] 2 10 []) := sd_virt ⟨"ContractDeskModel", "spread", "(I)V"⟩ dd_146_365 (by rw [mc_146]; exact tw_1553) (fun t j h => by simp only [List.mem_cons, List.not_mem_nil, or_false, Prod.mk.injEq] at h; obtain ⟨rfl, rfl⟩ := h; exact mn_175) (fun t j h => by simp only [List.mem_cons, List.not_mem_nil, or_false, Prod.mk.injEq] at h; obtain ⟨rfl, rfl⟩ := h; exact ⟨by rw [mn_175]; exact tw_64, by rw [mn_175]; exact tw_1555, mt_175, by decide, by decide⟩) (by unfold prm; decide +kernel) ml_146 (HsOk.nil (by decide +kernel))
theorem dd_146_368 : decode (mi 146).2.1 368 = .ok (.iinc 7 1, 3) := by decide +kernel
theorem st_146_368 : Sd 146 368 3 (i_inc 7 1) := sd_iinc dd_146_368
theorem dd_146_371 : decode (mi 146).2.1 371 = .ok (.goto (-202), 3) := by decide +kernel
theorem st_146_371 : Sd 146 371 3 (i_goto 169) := sd_goto dd_146_371 (by decide)
def bk_146_362 : Tr := sq (i_ldR 0) (sq (i_ldI 4) (sq (i_cV [(2, 175)] 2 10 []) (sq (i_inc 7 1) (i_goto 169))))
theorem sb_146_362 : Sd 146 362 12 bk_146_362 := Sd.sq st_146_362 (Sd.sq st_146_363 (Sd.sq st_146_365 (Sd.sq st_146_368 (st_146_371))))
theorem dd_146_374 : decode (mi 146).2.1 374 = .ok (.aload_n 0, 1) := by decide +kernel
theorem st_146_374 : Sd 146 374 1 (i_ldR 0) := sd_aload_n (j := 0) dd_146_374 rfl
theorem dd_146_375 : decode (mi 146).2.1 375 = .ok (.getfield 75, 3) := by decide +kernel
theorem st_146_375 : Sd 146 375 3 (i_gR 29 [2]) := sd_gR (ref := "ContractDeskModel") (decl := "ContractDeskModel") (name := "here") (desc := "[Z") dd_146_375 (by rw [mc_146]; exact tw_1289) (Or.inl rfl) (by decide +kernel)
theorem dd_146_378 : decode (mi 146).2.1 378 = .ok (.iload 4, 2) := by decide +kernel
theorem st_146_378 : Sd 146 378 2 (i_ldI 4) := sd_iload dd_146_378
theorem dd_146_380 : decode (mi 146).2.1 380 = .ok (.baload, 1) := by decide +kernel
theorem st_146_380 : Sd 146 380 1 (i_aI [22]) := sd_baloadZ dd_146_380 (by decide)
theorem dd_146_381 : decode (mi 146).2.1 381 = .ok (.ireturn, 1) := by decide +kernel
theorem st_146_381 : Sd 146 381 1 (i_rI 2) := sd_ireturn dd_146_381 (by decide) mr_146
def bk_146_374 : Tr := sq (i_ldR 0) (sq (i_gR 29 [2]) (sq (i_ldI 4) (sq (i_aI [22]) (i_rI 2))))
theorem sb_146_374 : Sd 146 374 8 bk_146_374 := Sd.sq st_146_374 (Sd.sq st_146_375 (Sd.sq st_146_378 (Sd.sq st_146_380 (st_146_381))))
