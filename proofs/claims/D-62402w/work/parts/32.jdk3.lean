/-! StringBuilder that grows -/
theorem c_newLen {l : Launch} {s0 : State} {d : Nat} {h : AH} {a b c : Int} (hd : 1 ≤ d) (ha : 0 ≤ a ∧ a ≤ 100000) (hb : 0 < b ∧ b ≤ 100000) (hc : 0 < c ∧ c ≤ 200000) : MP l s0 7 d [vI a, vI b, vI c] h (fun o h' => o = .inl (some (vI (a + max b c))) ∧ h' = h) := by
  refine MP.of 4 ml_7 pn_7 (Nat.le_of_ble_eq_true rfl) ?_
  refine WP.run sb_7_0 ?_
  simp only [bk_7_0, bk_7_21, i_bad, i_cge, i_cgt, i_iadd, i_ic, i_ldI, i_max, i_rI, i_stI, sq, enl, lk, lst, okS, tkr, look, aft, thr, thrH, w1, List.elem_cons, List.elem_nil, List.length_cons, List.length_nil, gT_sI, gR_sI, gI_sR, gT_sR, hN_sI, hU_sI, hN_sR, hU_sR, true_and, and_true, beq_self_eq_true, Bool.true_or, Bool.or_true, Bool.or_false, Bool.false_or, if_true, if_false, ite_true, ite_false, reduceIte, Option.some.injEq, false_implies, true_implies, not_false_eq_true, not_true_eq_false, forall_const, and_self]
  refine ⟨⟨by unfold rg; omega, by unfold rg; omega, by omega⟩, ⟨rg_lit rfl, by unfold rg; omega⟩, fun z => absurd z (by omega), fun _ => ⟨⟨by unfold rg; omega, rg_lit rfl⟩, fun z => absurd z (by omega), fun _ => ?_⟩⟩
  exact (show rg _ by unfold rg; omega)
theorem c_newCap {l : Launch} {s0 : State} {d : Nat} {h : AH} {p v c : Nat} {m : Int} (hd : 2 ≤ d) (hT : gT h p = (15, 4)) (hv : gR h p 0 = v) (hc : gI h p 1 = 0) (hV : gT h v = (23, c)) (hcc : c ≤ 40000) (h0 : c < m) (h1 : m ≤ 2 * c + 2) : MP l s0 6 d [vR p, vI m] h (fun o h' => o = .inl (some (vI (2 * c + 2))) ∧ h' = h) := by
  have e1 : (Int32.ofInt m <<< (Int32.ofInt 0 &&& 31)).toInt = m := shl0 (by unfold rg; omega)
  have e2 : (Int32.ofInt 2 <<< (Int32.ofInt 0 &&& 31)).toInt = 2 := shl0 (rg_lit rfl)
  refine MP.of 6 ml_6 pn_6 (Nat.le_of_ble_eq_true rfl) ?_
  refine WP.run sb_6_0 ?_
  simp only [bk_6_0, bk_6_51, i_bad, i_cS, i_cne, i_gI, i_gR, i_iadd, i_ic, i_ishl, i_ishr, i_isub, i_ldI, i_ldR, i_len, i_rI, i_stI, sq, enl, lk, lst, okS, tkr, look, aft, thr, thrH, w1, List.elem_cons, List.elem_nil, List.length_cons, List.length_nil, gT_sI, gR_sI, gI_sR, gT_sR, hN_sI, hU_sI, hN_sR, hU_sR, true_and, and_true, beq_self_eq_true, Bool.true_or, Bool.or_true, Bool.or_false, Bool.false_or, if_true, if_false, ite_true, ite_false, reduceIte, Option.some.injEq, false_implies, true_implies, not_false_eq_true, not_true_eq_false, forall_const, and_self, hT, hv, hc, hV, e1, e2]
  refine ⟨by decide, by omega, MP.eq (c_newLen (by omega) (by omega) (by omega) (by omega)) ?_⟩
  have e3 : (c : Int) + max (m - (c : Int)) ((c : Int) + 2) = 2 * c + 2 := by omega
  rw [e3]
  simp only [bk_6_0, bk_6_51, i_bad, i_cS, i_cne, i_gI, i_gR, i_iadd, i_ic, i_ishl, i_ishr, i_isub, i_ldI, i_ldR, i_len, i_rI, i_stI, sq, enl, lk, lst, okS, tkr, look, aft, thr, thrH, w1, List.elem_cons, List.elem_nil, List.length_cons, List.length_nil, gT_sI, gR_sI, gI_sR, gT_sR, hN_sI, hU_sI, hN_sR, hU_sR, true_and, and_true, beq_self_eq_true, Bool.true_or, Bool.or_true, Bool.or_false, Bool.false_or, if_true, if_false, ite_true, ite_false, reduceIte, Option.some.injEq, false_implies, true_implies, not_false_eq_true, not_true_eq_false, forall_const, and_self, hT, hv, hc, hV, e1, e2]
  refine ⟨⟨by unfold rg; omega, rg_lit rfl⟩, fun _ => ?_, fun z => absurd z (by omega)⟩
  have e4 : (Int32.ofInt (2 * (c : Int) + 2) >>> (Int32.ofInt 0 &&& 31)).toInt = 2 * c + 2 := shr0 (by unfold rg; omega)
  refine WP.run sb_6_51 ?_
  simp only [bk_6_0, bk_6_51, i_bad, i_cS, i_cne, i_gI, i_gR, i_iadd, i_ic, i_ishl, i_ishr, i_isub, i_ldI, i_ldR, i_len, i_rI, i_stI, sq, enl, lk, lst, okS, tkr, look, aft, thr, thrH, w1, List.elem_cons, List.elem_nil, List.length_cons, List.length_nil, gT_sI, gR_sI, gI_sR, gT_sR, hN_sI, hU_sI, hN_sR, hU_sR, true_and, and_true, beq_self_eq_true, Bool.true_or, Bool.or_true, Bool.or_false, Bool.false_or, if_true, if_false, ite_true, ite_false, reduceIte, Option.some.injEq, false_implies, true_implies, not_false_eq_true, not_true_eq_false, forall_const, and_self, hT, hv, hc, hV, e4]
  exact (show rg _ by unfold rg; omega)
theorem c_copyOf {l : Launch} {s0 : State} {d : Nat} {h : AH} {v c n : Nat} (hd : 1 ≤ d) (hV : gT h v = (23, c)) (hcn : c < n) (hn : n ≤ 100000) (hli : lim s0 h n) (hb : ∀ k, k < c → -128 ≤ gI h v k ∧ gI h v k < 128) : MP l s0 9 d [vR v, vI n] h (fun o h' => o = .inl (some (vR (hN h + 1))) ∧ h' = cpA (nw h 23 n) v (hN h + 1) 0 0 c) := by
  refine MP.asm (fun _ hW => ?_)
  obtain ⟨h0, hp, -⟩ := hW.1 v (by rw [hV]; exact (show 23 ≠ 0 by decide))
  have e1 : (n : Int).toNat = n := by omega
  have e2 : (v = hN h + 1) = False := by simp; omega
  have e3 : (min (c : Int) (n : Int)) = c := by omega
  refine MP.of 3 ml_9 pn_9 (Nat.le_of_ble_eq_true rfl) ?_
  refine WP.run sb_9_0 ?_
  simp only [bk_9_0, bk_9_14, i_acp, i_bad, i_cne, i_ic, i_ldI, i_ldR, i_len, i_min, i_na, i_rR, i_stR, sq, enl, lk, lst, okS, tkr, look, aft, thr, thrH, w1, List.elem_cons, List.elem_nil, List.length_cons, List.length_nil, gT_sI, gR_sI, gI_sR, gT_sR, hN_sI, hU_sI, hN_sR, hU_sR, true_and, and_true, beq_self_eq_true, Bool.true_or, Bool.or_true, Bool.or_false, Bool.false_or, if_true, if_false, ite_true, ite_false, reduceIte, Option.some.injEq, false_implies, true_implies, not_false_eq_true, not_true_eq_false, forall_const, and_self, hV]
  refine ⟨by decide, ⟨by unfold rg; omega, by unfold rg; omega⟩, fun _ => ?_, fun z => absurd z (by omega)⟩
  refine WP.run sb_9_14 ?_
  simp only [bk_9_0, bk_9_14, i_acp, i_bad, i_cne, i_ic, i_ldI, i_ldR, i_len, i_min, i_na, i_rR, i_stR, sq, enl, lk, lst, okS, tkr, look, aft, thr, thrH, w1, List.elem_cons, List.elem_nil, List.length_cons, List.length_nil, gT_sI, gR_sI, gI_sR, gT_sR, hN_sI, hU_sI, hN_sR, hU_sR, true_and, and_true, beq_self_eq_true, Bool.true_or, Bool.or_true, Bool.or_false, Bool.false_or, if_true, if_false, ite_true, ite_false, reduceIte, Option.some.injEq, false_implies, true_implies, not_false_eq_true, not_true_eq_false, forall_const, and_self, hV, e1, gT_nw, e2, gI_nw, e3]
  refine ⟨by omega, hli, by decide, ⟨by unfold rg; omega, by unfold rg; omega, by omega⟩, ⟨⟨by omega, by omega, by omega, by omega, by omega, by omega, by omega, by omega⟩, fun k hk => ?_, by omega⟩, rfl⟩
  have := hb (Int.toNat 0 + k) (by have : (0 : Int).toNat = 0 := rfl; omega)
  exact this
/-- the bytes laid into an array of n -/
def grw (h : AH) (p v c n : Nat) : AH := sR (cpA (nw h 23 n) v (hN h + 1) 0 0 c) p 0 (hN h + 1)
theorem c_ensure1 {l : Launch} {s0 : State} {d : Nat} {h : AH} {p v c : Nat} {m : Int} (hd : 3 ≤ d) (hT : gT h p = (15, 4)) (hv : gR h p 0 = v) (hc : gI h p 1 = 0) (hV : gT h v = (23, c)) (hcc : c ≤ 40000) (h0 : c < m) (h1 : m ≤ 2 * c + 2) (hli : lim s0 h (2 * c + 2)) (hb : ∀ k, k < c → -128 ≤ gI h v k ∧ gI h v k < 128) : MP l s0 5 d [vR p, vI m] h (fun o h' => o = .inl none ∧ h' = grw h p v c (2 * c + 2)) := by
  refine MP.asm (fun _ hW => ?_)
  obtain ⟨hp0, hp, -⟩ := hW.1 p (by rw [hT]; decide)
  have e1 : (Int32.ofInt (c : Int) >>> (Int32.ofInt 0 &&& 31)).toInt = c := shr0 (by unfold rg; omega)
  have e2 : (Int32.ofInt (2 * (c : Int) + 2) <<< (Int32.ofInt 0 &&& 31)).toInt = ((2 * c + 2 : Nat) : Int) := by rw [shl0 (by unfold rg; omega)]; omega
  have e3 : (p = hN h + 1) = False := by simp; omega
  refine MP.of 3 ml_5 pn_5 (Nat.le_of_ble_eq_true rfl) ?_
  refine WP.run sb_5_0 ?_
  simp only [bk_5_0, bk_5_38, i_cS, i_cV, i_fall, i_gI, i_gR, i_ishl, i_ishr, i_isub, i_ldI, i_ldR, i_len, i_pR, i_ret, i_stI, i_zle, sq, enl, lk, lst, okS, tkr, look, aft, thr, thrH, w1, List.elem_cons, List.elem_nil, List.length_cons, List.length_nil, gT_sI, gR_sI, gI_sR, gT_sR, hN_sI, hU_sI, hN_sR, hU_sR, true_and, and_true, beq_self_eq_true, Bool.true_or, Bool.or_true, Bool.or_false, Bool.false_or, if_true, if_false, ite_true, ite_false, reduceIte, Option.some.injEq, false_implies, true_implies, not_false_eq_true, not_true_eq_false, forall_const, and_self, hT, hv, hc, hV, e1]
  refine ⟨by decide, by unfold rg; omega, fun z => absurd z (by omega), fun _ => ⟨by omega, MP.eq (c_newCap (by omega) hT hv hc hV hcc h0 h1) ?_⟩⟩
  simp only [bk_5_0, bk_5_38, i_cS, i_cV, i_fall, i_gI, i_gR, i_ishl, i_ishr, i_isub, i_ldI, i_ldR, i_len, i_pR, i_ret, i_stI, i_zle, sq, enl, lk, lst, okS, tkr, look, aft, thr, thrH, w1, List.elem_cons, List.elem_nil, List.length_cons, List.length_nil, gT_sI, gR_sI, gI_sR, gT_sR, hN_sI, hU_sI, hN_sR, hU_sR, true_and, and_true, beq_self_eq_true, Bool.true_or, Bool.or_true, Bool.or_false, Bool.false_or, if_true, if_false, ite_true, ite_false, reduceIte, Option.some.injEq, false_implies, true_implies, not_false_eq_true, not_true_eq_false, forall_const, and_self, hT, hv, hc, hV, e1, e2]
  refine ⟨by omega, MP.eq (c_copyOf (by omega) hV (by omega) (by omega) hli hb) ?_⟩
  simp only [bk_5_0, bk_5_38, i_cS, i_cV, i_fall, i_gI, i_gR, i_ishl, i_ishr, i_isub, i_ldI, i_ldR, i_len, i_pR, i_ret, i_stI, i_zle, sq, enl, lk, lst, okS, tkr, look, aft, thr, thrH, w1, List.elem_cons, List.elem_nil, List.length_cons, List.length_nil, gT_sI, gR_sI, gI_sR, gT_sR, hN_sI, hU_sI, hN_sR, hU_sR, true_and, and_true, beq_self_eq_true, Bool.true_or, Bool.or_true, Bool.or_false, Bool.false_or, if_true, if_false, ite_true, ite_false, reduceIte, Option.some.injEq, false_implies, true_implies, not_false_eq_true, not_true_eq_false, forall_const, and_self, hT, gT_cpA, gT_nw, e3]
  refine WP.run sb_5_38 ?_
  simp only [bk_5_0, bk_5_38, i_cS, i_cV, i_fall, i_gI, i_gR, i_ishl, i_ishr, i_isub, i_ldI, i_ldR, i_len, i_pR, i_ret, i_stI, i_zle, sq, enl, lk, lst, okS, tkr, look, aft, thr, thrH, w1, List.elem_cons, List.elem_nil, List.length_cons, List.length_nil, gT_sI, gR_sI, gI_sR, gT_sR, hN_sI, hU_sI, hN_sR, hU_sR, true_and, and_true, beq_self_eq_true, Bool.true_or, Bool.or_true, Bool.or_false, Bool.false_or, if_true, if_false, ite_true, ite_false, reduceIte, Option.some.injEq, false_implies, true_implies, not_false_eq_true, not_true_eq_false, forall_const, and_self]
  rfl
/-- one sign more, with the bytes in a wider array -/
def apng (h : AH) (p v n : Nat) (z : Int) : AH := apnd (grw h p v n (2 * n + 2)) p (hN h + 1) n z
theorem c_appendAg {l : Launch} {s0 : State} {d : Nat} {h : AH} {p v n : Nat} {z : Int} (hd : 4 ≤ d) (hS : SB h p v n n) (hn : n ≤ 40000) (hn0 : 0 < n) (hli : lim s0 h (2 * n + 2)) (h0 : 0 ≤ z) (h1 : z < 128) : MP l s0 13 d [vR p, vI z] h (fun o h' => o = .inl (some (vR p)) ∧ h' = apng h p v n z) := by
  refine MP.asm (fun _ hW => ?_)
  obtain ⟨s1, s2, s3, s4, s5, s6, s7, s8⟩ := hS
  obtain ⟨hp0, hp, -⟩ := hW.1 p (by rw [s1]; decide)
  obtain ⟨hv0, hv, -⟩ := hW.1 v (by rw [s5]; exact (show 23 ≠ 0 by decide))
  have g1 : gT (grw h p v n (2 * n + 2)) p = (15, 4) := by
    show (if p = hN h + 1 then _ else gT h p) = _
    rw [if_neg (by omega)]; exact s1
  have g2 : gR (grw h p v n (2 * n + 2)) p 0 = hN h + 1 := by
    show (if p = p ∧ 0 = 0 then _ else _) = _
    rw [if_pos ⟨rfl, rfl⟩]
  have gk : ∀ k, gI (grw h p v n (2 * n + 2)) p k = gI h p k := by
    intro k
    show (if p = hN h + 1 ∧ _ ∧ _ then _ else if p = hN h + 1 then _ else gI h p k) = _
    rw [if_neg (by omega), if_neg (by omega)]
  have g3 := (gk 1).trans s3
  have g4 := (gk 3).trans s4
  have g5 : gT (grw h p v n (2 * n + 2)) (hN h + 1) = (23, 2 * n + 2) := by
    show (if hN h + 1 = hN h + 1 then _ else _) = _
    rw [if_pos rfl]
  refine MP.of 2 ml_13 pn_13 (Nat.le_of_ble_eq_true rfl) ?_
  refine WP.run sb_13_0 ?_
  simp only [bk_13_0, bk_13_45, bk_13_56, bk_13_75, i_bad, i_cS, i_cV, i_dup, i_dup_x1, i_gI, i_gR, i_goto, i_i2b, i_iadd, i_ic, i_ldI, i_ldR, i_pI, i_rR, i_sI, i_zeq, sq, enl, lk, lst, okS, tkr, look, aft, thr, thrH, w1, List.elem_cons, List.elem_nil, List.length_cons, List.length_nil, gT_sI, gR_sI, gI_sR, gT_sR, hN_sI, hU_sI, hN_sR, hU_sR, true_and, and_true, beq_self_eq_true, Bool.true_or, Bool.or_true, Bool.or_false, Bool.false_or, if_true, if_false, ite_true, ite_false, reduceIte, Option.some.injEq, false_implies, true_implies, not_false_eq_true, not_true_eq_false, forall_const, and_self, s1, s2, s3, s4, s5]
  refine ⟨by omega, MP.eq (c_ensure1 (by omega) s1 s2 s3 s5 hn (by omega) (by omega) hli (fun k hk => by have := s8 k hk; omega)) ?_⟩
  simp only [bk_13_0, bk_13_45, bk_13_56, bk_13_75, i_bad, i_cS, i_cV, i_dup, i_dup_x1, i_gI, i_gR, i_goto, i_i2b, i_iadd, i_ic, i_ldI, i_ldR, i_pI, i_rR, i_sI, i_zeq, sq, enl, lk, lst, okS, tkr, look, aft, thr, thrH, w1, List.elem_cons, List.elem_nil, List.length_cons, List.length_nil, gT_sI, gR_sI, gI_sR, gT_sR, hN_sI, hU_sI, hN_sR, hU_sR, true_and, and_true, beq_self_eq_true, Bool.true_or, Bool.or_true, Bool.or_false, Bool.false_or, if_true, if_false, ite_true, ite_false, reduceIte, Option.some.injEq, false_implies, true_implies, not_false_eq_true, not_true_eq_false, forall_const, and_self, g1, g2, g3, g4, g5]
  refine ⟨by omega, MP.eq (c_isLatin1 g1 g3) ?_⟩
  simp only [bk_13_0, bk_13_45, bk_13_56, bk_13_75, i_bad, i_cS, i_cV, i_dup, i_dup_x1, i_gI, i_gR, i_goto, i_i2b, i_iadd, i_ic, i_ldI, i_ldR, i_pI, i_rR, i_sI, i_zeq, sq, enl, lk, lst, okS, tkr, look, aft, thr, thrH, w1, List.elem_cons, List.elem_nil, List.length_cons, List.length_nil, gT_sI, gR_sI, gI_sR, gT_sR, hN_sI, hU_sI, hN_sR, hU_sR, true_and, and_true, beq_self_eq_true, Bool.true_or, Bool.or_true, Bool.or_false, Bool.false_or, if_true, if_false, ite_true, ite_false, reduceIte, Option.some.injEq, false_implies, true_implies, not_false_eq_true, not_true_eq_false, forall_const, and_self, g1, g2, g3, g4, g5]
  refine ⟨rg_lit rfl, fun z => absurd z (by decide), fun _ => ⟨by omega, MP.eq (c_canEncode h0 (by omega)) ?_⟩⟩
  simp only [bk_13_0, bk_13_45, bk_13_56, bk_13_75, i_bad, i_cS, i_cV, i_dup, i_dup_x1, i_gI, i_gR, i_goto, i_i2b, i_iadd, i_ic, i_ldI, i_ldR, i_pI, i_rR, i_sI, i_zeq, sq, enl, lk, lst, okS, tkr, look, aft, thr, thrH, w1, List.elem_cons, List.elem_nil, List.length_cons, List.length_nil, gT_sI, gR_sI, gI_sR, gT_sR, hN_sI, hU_sI, hN_sR, hU_sR, true_and, and_true, beq_self_eq_true, Bool.true_or, Bool.or_true, Bool.or_false, Bool.false_or, if_true, if_false, ite_true, ite_false, reduceIte, Option.some.injEq, false_implies, true_implies, not_false_eq_true, not_true_eq_false, forall_const, and_self, g1, g2, g3, g4, g5]
  refine ⟨rg_lit rfl, fun z => absurd z (by decide), fun _ => ?_⟩
  have e1 : (n : Int).toNat = n := by omega
  simp only [e1]
  refine ⟨show rg _ by unfold rg; omega, by omega, ⟨by omega, by omega, by omega⟩, ⟨by omega, by omega⟩, ?_⟩
  refine WP.run sb_13_75 ?_
  simp only [bk_13_0, bk_13_45, bk_13_56, bk_13_75, i_bad, i_cS, i_cV, i_dup, i_dup_x1, i_gI, i_gR, i_goto, i_i2b, i_iadd, i_ic, i_ldI, i_ldR, i_pI, i_rR, i_sI, i_zeq, sq, enl, lk, lst, okS, tkr, look, aft, thr, thrH, w1, List.elem_cons, List.elem_nil, List.length_cons, List.length_nil, gT_sI, gR_sI, gI_sR, gT_sR, hN_sI, hU_sI, hN_sR, hU_sR, true_and, and_true, beq_self_eq_true, Bool.true_or, Bool.or_true, Bool.or_false, Bool.false_or, if_true, if_false, ite_true, ite_false, reduceIte, Option.some.injEq, false_implies, true_implies, not_false_eq_true, not_true_eq_false, forall_const, and_self]
  rfl
theorem c_appendg {l : Launch} {s0 : State} {d : Nat} {h : AH} {p v n : Nat} {z : Int} (hd : 5 ≤ d) (hS : SB h p v n n) (hn : n ≤ 40000) (hn0 : 0 < n) (hli : lim s0 h (2 * n + 2)) (h0 : 0 ≤ z) (h1 : z < 128) : MP l s0 12 d [vR p, vI z] h (fun o h' => o = .inl (some (vR p)) ∧ h' = apng h p v n z) := by
  refine MP.of 2 ml_12 pn_12 (Nat.le_of_ble_eq_true rfl) ?_
  refine WP.run sb_12_0 ?_
  simp only [bk_12_0, i_cU, i_ldI, i_ldR, i_pop, i_rR, sq, enl, lk, lst, okS, tkr, look, aft, thr, thrH, w1, List.elem_cons, List.elem_nil, List.length_cons, List.length_nil, gT_sI, gR_sI, gI_sR, gT_sR, hN_sI, hU_sI, hN_sR, hU_sR, true_and, and_true, beq_self_eq_true, Bool.true_or, Bool.or_true, Bool.or_false, Bool.false_or, if_true, if_false, ite_true, ite_false, reduceIte, Option.some.injEq, false_implies, true_implies, not_false_eq_true, not_true_eq_false, forall_const, and_self, hS.1]
  refine ⟨by omega, MP.eq (c_appendAg (by omega) hS hn hn0 hli h0 h1) ?_⟩
  simp only [bk_12_0, i_cU, i_ldI, i_ldR, i_pop, i_rR, sq, enl, lk, lst, okS, tkr, look, aft, thr, thrH, w1, List.elem_cons, List.elem_nil, List.length_cons, List.length_nil, gT_sI, gR_sI, gI_sR, gT_sR, hN_sI, hU_sI, hN_sR, hU_sR, true_and, and_true, beq_self_eq_true, Bool.true_or, Bool.or_true, Bool.or_false, Bool.false_or, if_true, if_false, ite_true, ite_false, reduceIte, Option.some.injEq, false_implies, true_implies, not_false_eq_true, not_true_eq_false, forall_const, and_self]
