/-! StringBuilder: append, setLength, new; ArrayList; String -/
theorem c_ensure0 {l : Launch} {s0 : State} {d : Nat} {h : AH} {p v c : Nat} {m : Int} (hT : gT h p = (15, 4)) (hv : gR h p 0 = v) (hc : gI h p 1 = 0) (hV : gT h v = (23, c)) (hcc : c ≤ 100000) (h0 : 0 ≤ m) (h1 : m ≤ c) : MP l s0 5 d [vR p, vI m] h (fun o h' => o = .inl none ∧ h' = h) := by
  have e1 : (Int32.ofInt (c : Int) >>> (Int32.ofInt 0 &&& 31)).toInt = c := shr0 (by unfold rg; omega)
  refine MP.of 3 ml_5 pn_5 (Nat.le_of_ble_eq_true rfl) ?_
  refine WP.run sb_5_0 ?_
  simp only [bk_5_0, bk_5_38, i_cS, i_cV, i_fall, i_gI, i_gR, i_ishl, i_ishr, i_isub, i_ldI, i_ldR, i_len, i_pR, i_ret, i_stI, i_zle, sq, enl, lk, lst, okS, tkr, look, aft, thr, thrH, w1, List.elem_cons, List.elem_nil, List.length_cons, List.length_nil, gT_sI, gR_sI, gI_sR, gT_sR, hN_sI, hU_sI, hN_sR, hU_sR, true_and, and_true, beq_self_eq_true, Bool.true_or, Bool.or_true, Bool.or_false, Bool.false_or, if_true, if_false, ite_true, ite_false, reduceIte, Option.some.injEq, false_implies, true_implies, not_false_eq_true, not_true_eq_false, forall_const, and_self, hT, hv, hc, hV, e1]
  refine ⟨by decide, by unfold rg; omega, fun _ => ?_, fun z => absurd (show m - c ≤ 0 by omega) z⟩
  refine WP.run sb_5_38 ?_
  simp only [bk_5_0, bk_5_38, i_cS, i_cV, i_fall, i_gI, i_gR, i_ishl, i_ishr, i_isub, i_ldI, i_ldR, i_len, i_pR, i_ret, i_stI, i_zle, sq, enl, lk, lst, okS, tkr, look, aft, thr, thrH, w1, List.elem_cons, List.elem_nil, List.length_cons, List.length_nil, gT_sI, gR_sI, gI_sR, gT_sR, hN_sI, hU_sI, hN_sR, hU_sR, true_and, and_true, beq_self_eq_true, Bool.true_or, Bool.or_true, Bool.or_false, Bool.false_or, if_true, if_false, ite_true, ite_false, reduceIte, Option.some.injEq, false_implies, true_implies, not_false_eq_true, not_true_eq_false, forall_const, and_self]
/-- one sign more, where there is room -/
def apnd (h : AH) (p v n : Nat) (z : Int) : AH := sI (sI h p 3 (n + 1)) v n z
theorem c_appendA {l : Launch} {s0 : State} {d : Nat} {h : AH} {p v c n : Nat} {z : Int} (hd : 1 ≤ d) (hS : SB h p v c n) (hn : n < c) (h0 : 0 ≤ z) (h1 : z < 128) : MP l s0 13 d [vR p, vI z] h (fun o h' => o = .inl (some (vR p)) ∧ h' = apnd h p v n z) := by
  obtain ⟨s1, s2, s3, s4, s5, s6, s7, s8⟩ := hS
  refine MP.of 2 ml_13 pn_13 (Nat.le_of_ble_eq_true rfl) ?_
  refine WP.run sb_13_0 ?_
  simp only [bk_13_0, bk_13_45, bk_13_56, bk_13_75, i_bad, i_cS, i_cV, i_dup, i_dup_x1, i_gI, i_gR, i_goto, i_i2b, i_iadd, i_ic, i_ldI, i_ldR, i_pI, i_rR, i_sI, i_zeq, sq, enl, lk, lst, okS, tkr, look, aft, thr, thrH, w1, List.elem_cons, List.elem_nil, List.length_cons, List.length_nil, gT_sI, gR_sI, gI_sR, gT_sR, hN_sI, hU_sI, hN_sR, hU_sR, true_and, and_true, beq_self_eq_true, Bool.true_or, Bool.or_true, Bool.or_false, Bool.false_or, if_true, if_false, ite_true, ite_false, reduceIte, Option.some.injEq, false_implies, true_implies, not_false_eq_true, not_true_eq_false, forall_const, and_self, s1, s2, s3, s4, s5]
  refine ⟨by omega, MP.eq (c_ensure0 s1 s2 s3 s5 s7 (by omega) (by omega)) ?_⟩
  simp only [bk_13_0, bk_13_45, bk_13_56, bk_13_75, i_bad, i_cS, i_cV, i_dup, i_dup_x1, i_gI, i_gR, i_goto, i_i2b, i_iadd, i_ic, i_ldI, i_ldR, i_pI, i_rR, i_sI, i_zeq, sq, enl, lk, lst, okS, tkr, look, aft, thr, thrH, w1, List.elem_cons, List.elem_nil, List.length_cons, List.length_nil, gT_sI, gR_sI, gI_sR, gT_sR, hN_sI, hU_sI, hN_sR, hU_sR, true_and, and_true, beq_self_eq_true, Bool.true_or, Bool.or_true, Bool.or_false, Bool.false_or, if_true, if_false, ite_true, ite_false, reduceIte, Option.some.injEq, false_implies, true_implies, not_false_eq_true, not_true_eq_false, forall_const, and_self, s1, s2, s3, s4, s5]
  refine ⟨by omega, MP.eq (c_isLatin1 s1 s3) ?_⟩
  simp only [bk_13_0, bk_13_45, bk_13_56, bk_13_75, i_bad, i_cS, i_cV, i_dup, i_dup_x1, i_gI, i_gR, i_goto, i_i2b, i_iadd, i_ic, i_ldI, i_ldR, i_pI, i_rR, i_sI, i_zeq, sq, enl, lk, lst, okS, tkr, look, aft, thr, thrH, w1, List.elem_cons, List.elem_nil, List.length_cons, List.length_nil, gT_sI, gR_sI, gI_sR, gT_sR, hN_sI, hU_sI, hN_sR, hU_sR, true_and, and_true, beq_self_eq_true, Bool.true_or, Bool.or_true, Bool.or_false, Bool.false_or, if_true, if_false, ite_true, ite_false, reduceIte, Option.some.injEq, false_implies, true_implies, not_false_eq_true, not_true_eq_false, forall_const, and_self, s1, s2, s3, s4, s5]
  refine ⟨rg_lit rfl, fun z => absurd z (by decide), fun _ => ⟨by omega, MP.eq (c_canEncode h0 (by omega)) ?_⟩⟩
  simp only [bk_13_0, bk_13_45, bk_13_56, bk_13_75, i_bad, i_cS, i_cV, i_dup, i_dup_x1, i_gI, i_gR, i_goto, i_i2b, i_iadd, i_ic, i_ldI, i_ldR, i_pI, i_rR, i_sI, i_zeq, sq, enl, lk, lst, okS, tkr, look, aft, thr, thrH, w1, List.elem_cons, List.elem_nil, List.length_cons, List.length_nil, gT_sI, gR_sI, gI_sR, gT_sR, hN_sI, hU_sI, hN_sR, hU_sR, true_and, and_true, beq_self_eq_true, Bool.true_or, Bool.or_true, Bool.or_false, Bool.false_or, if_true, if_false, ite_true, ite_false, reduceIte, Option.some.injEq, false_implies, true_implies, not_false_eq_true, not_true_eq_false, forall_const, and_self, s1, s2, s3, s4, s5]
  refine ⟨rg_lit rfl, fun z => absurd z (by decide), fun _ => ?_⟩
  have e1 : (n : Int).toNat = n := by omega
  simp only [e1]
  refine ⟨by simp only [okV, rg]; omega, by omega, ⟨by omega, by omega, by omega⟩, ⟨by omega, by omega⟩, ?_⟩
  refine WP.run sb_13_75 ?_
  simp only [bk_13_0, bk_13_45, bk_13_56, bk_13_75, i_bad, i_cS, i_cV, i_dup, i_dup_x1, i_gI, i_gR, i_goto, i_i2b, i_iadd, i_ic, i_ldI, i_ldR, i_pI, i_rR, i_sI, i_zeq, sq, enl, lk, lst, okS, tkr, look, aft, thr, thrH, w1, List.elem_cons, List.elem_nil, List.length_cons, List.length_nil, gT_sI, gR_sI, gI_sR, gT_sR, hN_sI, hU_sI, hN_sR, hU_sR, true_and, and_true, beq_self_eq_true, Bool.true_or, Bool.or_true, Bool.or_false, Bool.false_or, if_true, if_false, ite_true, ite_false, reduceIte, Option.some.injEq, false_implies, true_implies, not_false_eq_true, not_true_eq_false, forall_const, and_self]
  rfl
theorem c_append {l : Launch} {s0 : State} {d : Nat} {h : AH} {p v c n : Nat} {z : Int} (hd : 2 ≤ d) (hS : SB h p v c n) (hn : n < c) (h0 : 0 ≤ z) (h1 : z < 128) : MP l s0 12 d [vR p, vI z] h (fun o h' => o = .inl (some (vR p)) ∧ h' = apnd h p v n z) := by
  refine MP.of 2 ml_12 pn_12 (Nat.le_of_ble_eq_true rfl) ?_
  refine WP.run sb_12_0 ?_
  simp only [bk_12_0, i_cU, i_ldI, i_ldR, i_pop, i_rR, sq, enl, lk, lst, okS, tkr, look, aft, thr, thrH, w1, List.elem_cons, List.elem_nil, List.length_cons, List.length_nil, gT_sI, gR_sI, gI_sR, gT_sR, hN_sI, hU_sI, hN_sR, hU_sR, true_and, and_true, beq_self_eq_true, Bool.true_or, Bool.or_true, Bool.or_false, Bool.false_or, if_true, if_false, ite_true, ite_false, reduceIte, Option.some.injEq, false_implies, true_implies, not_false_eq_true, not_true_eq_false, forall_const, and_self, hS.1]
  refine ⟨by omega, MP.eq (c_appendA (by omega) hS hn h0 h1) ?_⟩
  simp only [bk_12_0, i_cU, i_ldI, i_ldR, i_pop, i_rR, sq, enl, lk, lst, okS, tkr, look, aft, thr, thrH, w1, List.elem_cons, List.elem_nil, List.length_cons, List.length_nil, gT_sI, gR_sI, gI_sR, gT_sR, hN_sI, hU_sI, hN_sR, hU_sR, true_and, and_true, beq_self_eq_true, Bool.true_or, Bool.or_true, Bool.or_false, Bool.false_or, if_true, if_false, ite_true, ite_false, reduceIte, Option.some.injEq, false_implies, true_implies, not_false_eq_true, not_true_eq_false, forall_const, and_self]
theorem SB.apnd {h : AH} {p v c n : Nat} {z : Int} (hS : SB h p v c n) (hn : n < c) (h0 : 0 ≤ z) (h1 : z < 128) : SB (apnd h p v n z) p v c (n + 1) := by
  obtain ⟨s1, s2, s3, s4, s5, s6, s7, s8⟩ := hS
  have hne : v ≠ p := by intro e; rw [e, s1] at s5; cases s5
  refine ⟨s1, s2, ?_, ?_, s5, by omega, s7, fun k hk => ?_⟩
  · show (if p = v ∧ 1 = n then z else if p = p ∧ 1 = 3 then _ else gI h p 1) = 0
    rw [if_neg (fun e => hne e.1.symm), if_neg (by omega)]; exact s3
  · show (if p = v ∧ 3 = n then z else if p = p ∧ 3 = 3 then _ else gI h p 3) = _
    rw [if_neg (fun e => hne e.1.symm), if_pos ⟨rfl, rfl⟩]; omega
  · show 0 ≤ (if v = v ∧ k = n then z else if v = p ∧ k = 3 then _ else gI h v k) ∧ (if v = v ∧ k = n then z else if v = p ∧ k = 3 then _ else gI h v k) < 128
    by_cases e : k = n
    · rw [if_pos ⟨rfl, e⟩]; exact ⟨h0, h1⟩
    · rw [if_neg (fun w => e w.2), if_neg (fun w => hne w.1)]; exact s8 k (by omega)
/-- the length set to 0 -/
def sln (h : AH) (p n : Nat) : AH := sI (if 0 < n then sI h p 2 1 else h) p 3 0
theorem c_setLenA {l : Launch} {s0 : State} {d : Nat} {h : AH} {p v c n : Nat} (hd : 1 ≤ d) (hS : SB h p v c n) : MP l s0 18 d [vR p, vI 0] h (fun o h' => o = .inl none ∧ h' = sln h p n) := by
  obtain ⟨s1, s2, s3, s4, s5, s6, s7, s8⟩ := hS
  refine MP.of 2 ml_18 pn_18 (Nat.le_of_ble_eq_true rfl) ?_
  refine WP.run sb_18_0 ?_
  simp only [bk_18_0, bk_18_13, bk_18_48, bk_18_63, bk_18_76, i_bad, i_cV, i_cge, i_cle, i_fall, i_gI, i_gR, i_ic, i_ldI, i_ldR, i_pI, i_ret, i_zeq, i_zge, sq, enl, lk, lst, okS, tkr, look, aft, thr, thrH, w1, List.elem_cons, List.elem_nil, List.length_cons, List.length_nil, gT_sI, gR_sI, gI_sR, gT_sR, hN_sI, hU_sI, hN_sR, hU_sR, true_and, and_true, beq_self_eq_true, Bool.true_or, Bool.or_true, Bool.or_false, Bool.false_or, if_true, if_false, ite_true, ite_false, reduceIte, Option.some.injEq, false_implies, true_implies, not_false_eq_true, not_true_eq_false, forall_const, and_self]
  refine ⟨rg_lit rfl, fun _ => ?_, fun z => absurd (show (0 : Int) ≤ 0 by omega) z⟩
  refine WP.run sb_18_13 ?_
  simp only [bk_18_0, bk_18_13, bk_18_48, bk_18_63, bk_18_76, i_bad, i_cV, i_cge, i_cle, i_fall, i_gI, i_gR, i_ic, i_ldI, i_ldR, i_pI, i_ret, i_zeq, i_zge, sq, enl, lk, lst, okS, tkr, look, aft, thr, thrH, w1, List.elem_cons, List.elem_nil, List.length_cons, List.length_nil, gT_sI, gR_sI, gI_sR, gT_sR, hN_sI, hU_sI, hN_sR, hU_sR, true_and, and_true, beq_self_eq_true, Bool.true_or, Bool.or_true, Bool.or_false, Bool.false_or, if_true, if_false, ite_true, ite_false, reduceIte, Option.some.injEq, false_implies, true_implies, not_false_eq_true, not_true_eq_false, forall_const, and_self, s1, s2, s3, s4, s5]
  refine ⟨by omega, MP.eq (c_ensure0 s1 s2 s3 s5 s7 (by omega) (by omega)) ?_⟩
  simp only [bk_18_0, bk_18_13, bk_18_48, bk_18_63, bk_18_76, i_bad, i_cV, i_cge, i_cle, i_fall, i_gI, i_gR, i_ic, i_ldI, i_ldR, i_pI, i_ret, i_zeq, i_zge, sq, enl, lk, lst, okS, tkr, look, aft, thr, thrH, w1, List.elem_cons, List.elem_nil, List.length_cons, List.length_nil, gT_sI, gR_sI, gI_sR, gT_sR, hN_sI, hU_sI, hN_sR, hU_sR, true_and, and_true, beq_self_eq_true, Bool.true_or, Bool.or_true, Bool.or_false, Bool.false_or, if_true, if_false, ite_true, ite_false, reduceIte, Option.some.injEq, false_implies, true_implies, not_false_eq_true, not_true_eq_false, forall_const, and_self, s1, s2, s3, s4, s5]
  refine ⟨⟨by unfold rg; omega, rg_lit rfl⟩, fun _ => ?_, fun z => absurd (show (0 : Int) ≤ n by omega) z⟩
  refine WP.run sb_18_63 ?_
  simp only [bk_18_0, bk_18_13, bk_18_48, bk_18_63, bk_18_76, i_bad, i_cV, i_cge, i_cle, i_fall, i_gI, i_gR, i_ic, i_ldI, i_ldR, i_pI, i_ret, i_zeq, i_zge, sq, enl, lk, lst, okS, tkr, look, aft, thr, thrH, w1, List.elem_cons, List.elem_nil, List.length_cons, List.length_nil, gT_sI, gR_sI, gI_sR, gT_sR, hN_sI, hU_sI, hN_sR, hU_sR, true_and, and_true, beq_self_eq_true, Bool.true_or, Bool.or_true, Bool.or_false, Bool.false_or, if_true, if_false, ite_true, ite_false, reduceIte, Option.some.injEq, false_implies, true_implies, not_false_eq_true, not_true_eq_false, forall_const, and_self, s1, s2, s3, s4, s5]
  refine ⟨⟨by unfold rg; omega, rg_lit rfl⟩, fun z => ?_, fun z => ?_⟩
  · refine WP.run sb_18_76 ?_
    simp only [bk_18_0, bk_18_13, bk_18_48, bk_18_63, bk_18_76, i_bad, i_cV, i_cge, i_cle, i_fall, i_gI, i_gR, i_ic, i_ldI, i_ldR, i_pI, i_ret, i_zeq, i_zge, sq, enl, lk, lst, okS, tkr, look, aft, thr, thrH, w1, List.elem_cons, List.elem_nil, List.length_cons, List.length_nil, gT_sI, gR_sI, gI_sR, gT_sR, hN_sI, hU_sI, hN_sR, hU_sR, true_and, and_true, beq_self_eq_true, Bool.true_or, Bool.or_true, Bool.or_false, Bool.false_or, if_true, if_false, ite_true, ite_false, reduceIte, Option.some.injEq, false_implies, true_implies, not_false_eq_true, not_true_eq_false, forall_const, and_self, s1, s2, s3, s4, s5]
    have : ¬ 0 < n := by omega
    refine ⟨rg_lit rfl, ?_⟩
    simp only [sln, this, if_false]
  · refine ⟨by simp [okV], ?_⟩
    refine WP.run sb_18_76 ?_
    simp only [bk_18_0, bk_18_13, bk_18_48, bk_18_63, bk_18_76, i_bad, i_cV, i_cge, i_cle, i_fall, i_gI, i_gR, i_ic, i_ldI, i_ldR, i_pI, i_ret, i_zeq, i_zge, sq, enl, lk, lst, okS, tkr, look, aft, thr, thrH, w1, List.elem_cons, List.elem_nil, List.length_cons, List.length_nil, gT_sI, gR_sI, gI_sR, gT_sR, hN_sI, hU_sI, hN_sR, hU_sR, true_and, and_true, beq_self_eq_true, Bool.true_or, Bool.or_true, Bool.or_false, Bool.false_or, if_true, if_false, ite_true, ite_false, reduceIte, Option.some.injEq, false_implies, true_implies, not_false_eq_true, not_true_eq_false, forall_const, and_self, s1, s2, s3, s4, s5]
    have : 0 < n := by omega
    refine ⟨rg_lit rfl, ?_⟩
    simp only [sln, this, if_true]
theorem c_setLen {l : Launch} {s0 : State} {d : Nat} {h : AH} {p v c n : Nat} (hd : 2 ≤ d) (hS : SB h p v c n) : MP l s0 17 d [vR p, vI 0] h (fun o h' => o = .inl none ∧ h' = sln h p n) := by
  refine MP.of 2 ml_17 pn_17 (Nat.le_of_ble_eq_true rfl) ?_
  refine WP.run sb_17_0 ?_
  simp only [bk_17_0, i_cU, i_ldI, i_ldR, i_ret, sq, enl, lk, lst, okS, tkr, look, aft, thr, thrH, w1, List.elem_cons, List.elem_nil, List.length_cons, List.length_nil, gT_sI, gR_sI, gI_sR, gT_sR, hN_sI, hU_sI, hN_sR, hU_sR, true_and, and_true, beq_self_eq_true, Bool.true_or, Bool.or_true, Bool.or_false, Bool.false_or, if_true, if_false, ite_true, ite_false, reduceIte, Option.some.injEq, false_implies, true_implies, not_false_eq_true, not_true_eq_false, forall_const, and_self, hS.1]
  refine ⟨by omega, MP.eq (c_setLenA (by omega) hS) ?_⟩
  simp only [bk_17_0, i_cU, i_ldI, i_ldR, i_ret, sq, enl, lk, lst, okS, tkr, look, aft, thr, thrH, w1, List.elem_cons, List.elem_nil, List.length_cons, List.length_nil, gT_sI, gR_sI, gI_sR, gT_sR, hN_sI, hU_sI, hN_sR, hU_sR, true_and, and_true, beq_self_eq_true, Bool.true_or, Bool.or_true, Bool.or_false, Bool.false_or, if_true, if_false, ite_true, ite_false, reduceIte, Option.some.injEq, false_implies, true_implies, not_false_eq_true, not_true_eq_false, forall_const, and_self]
/-- a new StringBuilder's fields -/
def sbn (h : AH) (p c : Nat) : AH := sI (sR (nw h 23 c) p 0 (hN h + 1)) p 1 0
theorem c_asbNew {l : Launch} {s0 : State} {d : Nat} {h : AH} {p c : Nat} (hd : 1 ≤ d) (hT : gT h p = (15, 4)) (hc : c ≤ 100000) (hli : lim s0 h c) : MP l s0 1 d [vR p, vI c] h (fun o h' => o = .inl none ∧ h' = sbn h p c) := by
  refine MP.asm (fun _ hW => ?_)
  obtain ⟨h0, hp, -⟩ := hW.1 p (by rw [hT]; decide)
  have e1 : (c : Int).toNat = c := by omega
  have e2 : (p = hN h + 1) = False := by simp; omega
  refine MP.of 2 ml_1 pn_1 (Nat.le_of_ble_eq_true rfl) ?_
  refine WP.run sb_1_0 ?_
  simp only [bk_1_0, bk_1_25, bk_1_38, i_bad, i_goto, i_ic, i_ldI, i_ldR, i_na, i_obj, i_pI, i_pR, i_ret, i_zeq, sq, enl, lk, lst, okS, tkr, look, aft, thr, thrH, w1, List.elem_cons, List.elem_nil, List.length_cons, List.length_nil, gT_sI, gR_sI, gI_sR, gT_sR, hN_sI, hU_sI, hN_sR, hU_sR, true_and, and_true, beq_self_eq_true, Bool.true_or, Bool.or_true, Bool.or_false, Bool.false_or, if_true, if_false, ite_true, ite_false, reduceIte, Option.some.injEq, false_implies, true_implies, not_false_eq_true, not_true_eq_false, forall_const, and_self, hT, e1, gT_nw, e2]
  refine ⟨by omega, rg_lit rfl, fun z => absurd z (by decide), fun _ => ⟨by omega, hli, by simp [okV], ?_⟩⟩
  refine WP.run sb_1_38 ?_
  simp only [bk_1_0, bk_1_25, bk_1_38, i_bad, i_goto, i_ic, i_ldI, i_ldR, i_na, i_obj, i_pI, i_pR, i_ret, i_zeq, sq, enl, lk, lst, okS, tkr, look, aft, thr, thrH, w1, List.elem_cons, List.elem_nil, List.length_cons, List.length_nil, gT_sI, gR_sI, gI_sR, gT_sR, hN_sI, hU_sI, hN_sR, hU_sR, true_and, and_true, beq_self_eq_true, Bool.true_or, Bool.or_true, Bool.or_false, Bool.false_or, if_true, if_false, ite_true, ite_false, reduceIte, Option.some.injEq, false_implies, true_implies, not_false_eq_true, not_true_eq_false, forall_const, and_self]
  rfl
theorem c_sbNew {l : Launch} {s0 : State} {d : Nat} {h : AH} {p c : Nat} (hd : 2 ≤ d) (hT : gT h p = (15, 4)) (hc : c ≤ 100000) (hli : lim s0 h c) : MP l s0 0 d [vR p, vI c] h (fun o h' => o = .inl none ∧ h' = sbn h p c) := by
  refine MP.asm (fun _ hW => ?_)
  obtain ⟨h0, hp, -⟩ := hW.1 p (by rw [hT]; decide)
  refine MP.of 2 ml_0 pn_0 (Nat.le_of_ble_eq_true rfl) ?_
  refine WP.run sb_0_0 ?_
  simp only [bk_0_0, i_cI, i_ldI, i_ldR, i_ret, sq, enl, lk, lst, okS, tkr, look, aft, thr, thrH, w1, List.elem_cons, List.elem_nil, List.length_cons, List.length_nil, gT_sI, gR_sI, gI_sR, gT_sR, hN_sI, hU_sI, hN_sR, hU_sR, true_and, and_true, beq_self_eq_true, Bool.true_or, Bool.or_true, Bool.or_false, Bool.false_or, if_true, if_false, ite_true, ite_false, reduceIte, Option.some.injEq, false_implies, true_implies, not_false_eq_true, not_true_eq_false, forall_const, and_self, hT]
  refine ⟨by omega, MP.eq (c_asbNew (by omega) hT hc hli) ?_⟩
  simp only [bk_0_0, i_cI, i_ldI, i_ldR, i_ret, sq, enl, lk, lst, okS, tkr, look, aft, thr, thrH, w1, List.elem_cons, List.elem_nil, List.length_cons, List.length_nil, gT_sI, gR_sI, gI_sR, gT_sR, hN_sI, hU_sI, hN_sR, hU_sR, true_and, and_true, beq_self_eq_true, Bool.true_or, Bool.or_true, Bool.or_false, Bool.false_or, if_true, if_false, ite_true, ite_false, reduceIte, Option.some.injEq, false_implies, true_implies, not_false_eq_true, not_true_eq_false, forall_const, and_self]
/-! ArrayList -/
theorem c_acNew {l : Launch} {s0 : State} {d : Nat} {h : AH} {p : Nat} (hd : 1 ≤ d) (h0 : p ≠ 0) : MP l s0 4 d [vR p] h (fun o h' => o = .inl none ∧ h' = h) := by
  refine MP.of 1 ml_4 pn_4 (Nat.le_of_ble_eq_true rfl) ?_
  refine WP.run sb_4_0 ?_
  simp only [bk_4_0, i_ldR, i_obj, i_ret, sq, enl, lk, lst, okS, tkr, look, aft, thr, thrH, w1, List.elem_cons, List.elem_nil, List.length_cons, List.length_nil, gT_sI, gR_sI, gI_sR, gT_sR, hN_sI, hU_sI, hN_sR, hU_sR, true_and, and_true, beq_self_eq_true, Bool.true_or, Bool.or_true, Bool.or_false, Bool.false_or, if_true, if_false, ite_true, ite_false, reduceIte, Option.some.injEq, false_implies, true_implies, not_false_eq_true, not_true_eq_false, forall_const, and_self]
  omega
theorem c_alNew0 {l : Launch} {s0 : State} {d : Nat} {h : AH} {p : Nat} (hd : 2 ≤ d) (hT : gT h p = (16, 3)) : MP l s0 3 d [vR p] h (fun o h' => o = .inl none ∧ h' = sI h p 2 0) := by
  refine MP.asm (fun _ hW => ?_)
  obtain ⟨h0, hp, -⟩ := hW.1 p (by rw [hT]; decide)
  refine MP.of 1 ml_3 pn_3 (Nat.le_of_ble_eq_true rfl) ?_
  refine WP.run sb_3_0 ?_
  simp only [bk_3_0, i_cI, i_ic, i_ldR, i_pI, i_ret, sq, enl, lk, lst, okS, tkr, look, aft, thr, thrH, w1, List.elem_cons, List.elem_nil, List.length_cons, List.length_nil, gT_sI, gR_sI, gI_sR, gT_sR, hN_sI, hU_sI, hN_sR, hU_sR, true_and, and_true, beq_self_eq_true, Bool.true_or, Bool.or_true, Bool.or_false, Bool.false_or, if_true, if_false, ite_true, ite_false, reduceIte, Option.some.injEq, false_implies, true_implies, not_false_eq_true, not_true_eq_false, forall_const, and_self, hT]
  refine ⟨by omega, MP.eq (c_acNew (by omega) (by omega)) ?_⟩
  simp only [bk_3_0, i_cI, i_ic, i_ldR, i_pI, i_ret, sq, enl, lk, lst, okS, tkr, look, aft, thr, thrH, w1, List.elem_cons, List.elem_nil, List.length_cons, List.length_nil, gT_sI, gR_sI, gI_sR, gT_sR, hN_sI, hU_sI, hN_sR, hU_sR, true_and, and_true, beq_self_eq_true, Bool.true_or, Bool.or_true, Bool.or_false, Bool.false_or, if_true, if_false, ite_true, ite_false, reduceIte, Option.some.injEq, false_implies, true_implies, not_false_eq_true, not_true_eq_false, forall_const, and_self, hT]
  exact rg_lit rfl
def aln (h : AH) (p c : Nat) : AH := sR (nw (sI h p 2 0) 25 c) p 0 (hN h + 1)
theorem c_alNew {l : Launch} {s0 : State} {d : Nat} {h : AH} {p c : Nat} (hd : 3 ≤ d) (hT : gT h p = (16, 3)) (hc0 : 0 < c) (hc : c ≤ 100000) (hli : lim s0 h c) : MP l s0 2 d [vR p, vI c] h (fun o h' => o = .inl none ∧ h' = aln h p c) := by
  refine MP.asm (fun _ hW => ?_)
  obtain ⟨h0, hp, -⟩ := hW.1 p (by rw [hT]; decide)
  have e1 : (c : Int).toNat = c := by omega
  have e2 : (p = hN h + 1) = False := by simp; omega
  refine MP.of 2 ml_2 pn_2 (Nat.le_of_ble_eq_true rfl) ?_
  refine WP.run sb_2_0 ?_
  simp only [bk_2_0, bk_2_19, bk_2_33, bk_2_60, i_an, i_bad, i_cI, i_dup, i_goto, i_ldI, i_ldR, i_new, i_pR, i_ret, i_zle, i_zne, sq, enl, lk, lst, okS, tkr, look, aft, thr, thrH, w1, List.elem_cons, List.elem_nil, List.length_cons, List.length_nil, gT_sI, gR_sI, gI_sR, gT_sR, hN_sI, hU_sI, hN_sR, hU_sR, true_and, and_true, beq_self_eq_true, Bool.true_or, Bool.or_true, Bool.or_false, Bool.false_or, if_true, if_false, ite_true, ite_false, reduceIte, Option.some.injEq, false_implies, true_implies, not_false_eq_true, not_true_eq_false, forall_const, and_self, hT]
  refine ⟨by omega, MP.eq (c_alNew0 (by omega) hT) ?_⟩
  simp only [bk_2_0, bk_2_19, bk_2_33, bk_2_60, i_an, i_bad, i_cI, i_dup, i_goto, i_ldI, i_ldR, i_new, i_pR, i_ret, i_zle, i_zne, sq, enl, lk, lst, okS, tkr, look, aft, thr, thrH, w1, List.elem_cons, List.elem_nil, List.length_cons, List.length_nil, gT_sI, gR_sI, gI_sR, gT_sR, hN_sI, hU_sI, hN_sR, hU_sR, true_and, and_true, beq_self_eq_true, Bool.true_or, Bool.or_true, Bool.or_false, Bool.false_or, if_true, if_false, ite_true, ite_false, reduceIte, Option.some.injEq, false_implies, true_implies, not_false_eq_true, not_true_eq_false, forall_const, and_self, hT, e1, gT_nw, e2]
  refine ⟨by unfold rg; omega, fun z => absurd z (by omega), fun _ => ⟨by omega, hli, ?_⟩⟩
  refine WP.run sb_2_60 ?_
  simp only [bk_2_0, bk_2_19, bk_2_33, bk_2_60, i_an, i_bad, i_cI, i_dup, i_goto, i_ldI, i_ldR, i_new, i_pR, i_ret, i_zle, i_zne, sq, enl, lk, lst, okS, tkr, look, aft, thr, thrH, w1, List.elem_cons, List.elem_nil, List.length_cons, List.length_nil, gT_sI, gR_sI, gI_sR, gT_sR, hN_sI, hU_sI, hN_sR, hU_sR, true_and, and_true, beq_self_eq_true, Bool.true_or, Bool.or_true, Bool.or_false, Bool.false_or, if_true, if_false, ite_true, ite_false, reduceIte, Option.some.injEq, false_implies, true_implies, not_false_eq_true, not_true_eq_false, forall_const, and_self]
  rfl
/-- an ArrayList at p, its elements at v, of capacity c, with n elements -/
def AL (h : AH) (p v c n : Nat) : Prop := gT h p = (16, 3) ∧ gR h p 0 = v ∧ gI h p 1 = n ∧ gT h v = (25, c) ∧ n ≤ c ∧ c ≤ 100000 ∧ 0 ≤ gI h p 2 ∧ gI h p 2 ≤ 100000
theorem c_alSize {l : Launch} {s0 : State} {d : Nat} {h : AH} {p v c n : Nat} (hA : AL h p v c n) : MP l s0 23 d [vR p] h (fun o h' => o = .inl (some (vI n)) ∧ h' = h) := by
  obtain ⟨s1, s2, s3, s4, s5, s6, s7, s8⟩ := hA
  refine MP.of 1 ml_23 pn_23 (Nat.le_of_ble_eq_true rfl) ?_
  refine WP.run sb_23_0 ?_
  simp only [bk_23_0, i_gI, i_ldR, i_rI, sq, enl, lk, lst, okS, tkr, look, aft, thr, thrH, w1, List.elem_cons, List.elem_nil, List.length_cons, List.length_nil, gT_sI, gR_sI, gI_sR, gT_sR, hN_sI, hU_sI, hN_sR, hU_sR, true_and, and_true, beq_self_eq_true, Bool.true_or, Bool.or_true, Bool.or_false, Bool.false_or, if_true, if_false, ite_true, ite_false, reduceIte, Option.some.injEq, false_implies, true_implies, not_false_eq_true, not_true_eq_false, forall_const, and_self, s1, s2, s3, s4]
  exact (show rg _ by unfold rg; omega)
theorem c_alElem {l : Launch} {s0 : State} {d : Nat} {h : AH} {p v c n : Nat} {i : Int} (hA : AL h p v c n) (h0 : 0 ≤ i) (h1 : i < n) : MP l s0 26 d [vR p, vI i] h (fun o h' => o = .inl (some (vR (gR h v i.toNat))) ∧ h' = h) := by
  obtain ⟨s1, s2, s3, s4, s5, s6, s7, s8⟩ := hA
  refine MP.of 2 ml_26 pn_26 (Nat.le_of_ble_eq_true rfl) ?_
  refine WP.run sb_26_0 ?_
  simp only [bk_26_0, i_aR, i_gR, i_ldI, i_ldR, i_rR, sq, enl, lk, lst, okS, tkr, look, aft, thr, thrH, w1, List.elem_cons, List.elem_nil, List.length_cons, List.length_nil, gT_sI, gR_sI, gI_sR, gT_sR, hN_sI, hU_sI, hN_sR, hU_sR, true_and, and_true, beq_self_eq_true, Bool.true_or, Bool.or_true, Bool.or_false, Bool.false_or, if_true, if_false, ite_true, ite_false, reduceIte, Option.some.injEq, false_implies, true_implies, not_false_eq_true, not_true_eq_false, forall_const, and_self, s1, s2, s3, s4]
  unfold inA; omega
theorem c_alGet {l : Launch} {s0 : State} {d : Nat} {h : AH} {p v c n : Nat} {i : Int} (hd : 2 ≤ d) (hA : AL h p v c n) (h0 : 0 ≤ i) (h1 : i < n) : MP l s0 24 d [vR p, vI i] h (fun o h' => o = .inl (some (vR (gR h v i.toNat))) ∧ h' = h) := by
  have hA' := hA
  obtain ⟨s1, s2, s3, s4, s5, s6, s7, s8⟩ := hA
  refine MP.of 2 ml_24 pn_24 (Nat.le_of_ble_eq_true rfl) ?_
  refine WP.run sb_24_0 ?_
  simp only [bk_24_0, i_cS, i_cV, i_gI, i_ldI, i_ldR, i_pop, i_rR, sq, enl, lk, lst, okS, tkr, look, aft, thr, thrH, w1, List.elem_cons, List.elem_nil, List.length_cons, List.length_nil, gT_sI, gR_sI, gI_sR, gT_sR, hN_sI, hU_sI, hN_sR, hU_sR, true_and, and_true, beq_self_eq_true, Bool.true_or, Bool.or_true, Bool.or_false, Bool.false_or, if_true, if_false, ite_true, ite_false, reduceIte, Option.some.injEq, false_implies, true_implies, not_false_eq_true, not_true_eq_false, forall_const, and_self, s1, s2, s3, s4]
  refine ⟨by omega, MP.eq (c_ochk (by omega) h0 h1 (by unfold rg; omega)) ?_⟩
  simp only [bk_24_0, i_cS, i_cV, i_gI, i_ldI, i_ldR, i_pop, i_rR, sq, enl, lk, lst, okS, tkr, look, aft, thr, thrH, w1, List.elem_cons, List.elem_nil, List.length_cons, List.length_nil, gT_sI, gR_sI, gI_sR, gT_sR, hN_sI, hU_sI, hN_sR, hU_sR, true_and, and_true, beq_self_eq_true, Bool.true_or, Bool.or_true, Bool.or_false, Bool.false_or, if_true, if_false, ite_true, ite_false, reduceIte, Option.some.injEq, false_implies, true_implies, not_false_eq_true, not_true_eq_false, forall_const, and_self, s1, s2, s3, s4]
  refine ⟨by omega, MP.eq (c_alElem hA' h0 h1) ?_⟩
  simp only [bk_24_0, i_cS, i_cV, i_gI, i_ldI, i_ldR, i_pop, i_rR, sq, enl, lk, lst, okS, tkr, look, aft, thr, thrH, w1, List.elem_cons, List.elem_nil, List.length_cons, List.length_nil, gT_sI, gR_sI, gI_sR, gT_sR, hN_sI, hU_sI, hN_sR, hU_sR, true_and, and_true, beq_self_eq_true, Bool.true_or, Bool.or_true, Bool.or_false, Bool.false_or, if_true, if_false, ite_true, ite_false, reduceIte, Option.some.injEq, false_implies, true_implies, not_false_eq_true, not_true_eq_false, forall_const, and_self, s1, s2, s3, s4]
/-- an element more, where there is room -/
def aad (h : AH) (p v n q : Nat) : AH := sI (sR (sI h p 2 (gI h p 2 + 1)) v n q) p 1 (n + 1)
theorem c_alAdd3 {l : Launch} {s0 : State} {d : Nat} {h : AH} {p v c n q : Nat} (hT : gT h p = (16, 3)) (hV : gT h v = (25, c)) (hq : [4, 5, 14].elem (gT h q).1 = true) (hn : n < c) (hc : c ≤ 100000) : MP l s0 28 d [vR p, vR q, vR v, vI n] h (fun o h' => o = .inl none ∧ h' = sI (sR h v n q) p 1 (n + 1)) := by
  have e1 : (n : Int).toNat = n := by omega
  simp only [List.elem_cons, List.elem_nil] at hq
  refine MP.of 4 ml_28 pn_28 (Nat.le_of_ble_eq_true rfl) ?_
  refine WP.run sb_28_0 ?_
  simp only [bk_28_0, bk_28_11, i_bad, i_cne, i_iadd, i_ic, i_ldI, i_ldR, i_len, i_pI, i_ret, i_sR, sq, enl, lk, lst, okS, tkr, look, aft, thr, thrH, w1, List.elem_cons, List.elem_nil, List.length_cons, List.length_nil, gT_sI, gR_sI, gI_sR, gT_sR, hN_sI, hU_sI, hN_sR, hU_sR, true_and, and_true, beq_self_eq_true, Bool.true_or, Bool.or_true, Bool.or_false, Bool.false_or, if_true, if_false, ite_true, ite_false, reduceIte, Option.some.injEq, false_implies, true_implies, not_false_eq_true, not_true_eq_false, forall_const, and_self, hT, hV]
  refine ⟨by decide, ⟨by unfold rg; omega, by unfold rg; omega⟩, fun _ => ?_, fun z => absurd z (by omega)⟩
  refine WP.run sb_28_11 ?_
  simp only [bk_28_0, bk_28_11, i_bad, i_cne, i_iadd, i_ic, i_ldI, i_ldR, i_len, i_pI, i_ret, i_sR, sq, enl, lk, lst, okS, tkr, look, aft, thr, thrH, w1, List.elem_cons, List.elem_nil, List.length_cons, List.length_nil, gT_sI, gR_sI, gI_sR, gT_sR, hN_sI, hU_sI, hN_sR, hU_sR, true_and, and_true, beq_self_eq_true, Bool.true_or, Bool.or_true, Bool.or_false, Bool.false_or, if_true, if_false, ite_true, ite_false, reduceIte, Option.some.injEq, false_implies, true_implies, not_false_eq_true, not_true_eq_false, forall_const, and_self, hT, hV, e1]
  refine ⟨by unfold inA; omega, hq, ?_⟩
  exact (show rg _ by unfold rg; omega)
theorem c_alAdd {l : Launch} {s0 : State} {d : Nat} {h : AH} {p v c n q : Nat} (hd : 1 ≤ d) (hA : AL h p v c n) (hq : [4, 5, 14].elem (gT h q).1 = true) (hn : n < c) : MP l s0 27 d [vR p, vR q] h (fun o h' => o = .inl (some (vI 1)) ∧ h' = aad h p v n q) := by
  obtain ⟨s1, s2, s3, s4, s5, s6, s7, s8⟩ := hA
  refine MP.of 2 ml_27 pn_27 (Nat.le_of_ble_eq_true rfl) ?_
  refine WP.run sb_27_0 ?_
  simp only [bk_27_0, i_cV, i_dup, i_gI, i_gR, i_iadd, i_ic, i_ldR, i_pI, i_rI, sq, enl, lk, lst, okS, tkr, look, aft, thr, thrH, w1, List.elem_cons, List.elem_nil, List.length_cons, List.length_nil, gT_sI, gR_sI, gI_sR, gT_sR, hN_sI, hU_sI, hN_sR, hU_sR, true_and, and_true, beq_self_eq_true, Bool.true_or, Bool.or_true, Bool.or_false, Bool.false_or, if_true, if_false, ite_true, ite_false, reduceIte, Option.some.injEq, false_implies, true_implies, not_false_eq_true, not_true_eq_false, forall_const, and_self, s1, s2, s3, s4]
  refine ⟨show rg _ by unfold rg; omega, by omega, ?_⟩
  have e3 : gI (sI h p 2 (gI h p 2 + 1)) p 1 = n := by rw [gI_sI, if_neg (by omega)]; exact s3
  rw [e3]
  refine MP.eq (c_alAdd3 (c := c) s1 s4 hq hn s6) ?_
  simp only [bk_27_0, i_cV, i_dup, i_gI, i_gR, i_iadd, i_ic, i_ldR, i_pI, i_rI, sq, enl, lk, lst, okS, tkr, look, aft, thr, thrH, w1, List.elem_cons, List.elem_nil, List.length_cons, List.length_nil, gT_sI, gR_sI, gI_sR, gT_sR, hN_sI, hU_sI, hN_sR, hU_sR, true_and, and_true, beq_self_eq_true, Bool.true_or, Bool.or_true, Bool.or_false, Bool.false_or, if_true, if_false, ite_true, ite_false, reduceIte, Option.some.injEq, false_implies, true_implies, not_false_eq_true, not_true_eq_false, forall_const, and_self, s1, s2, s3, s4]
  simp [okV, aad]
/-! String -/
/-- a String constant at p, its bytes at v, with n signs -/
def ST0 (h : AH) (p v n : Nat) : Prop := gT h p = (30, 4) ∧ gR h p 0 = v ∧ gI h p 1 = 0 ∧ gT h v = (43, n) ∧ n ≤ 100000 ∧ ∀ k, k < n → 0 ≤ gI h v k ∧ gI h v k < 128
theorem c_strCoder {l : Launch} {s0 : State} {d : Nat} {h : AH} {p v n : Nat} (hS : ST0 h p v n) : MP l s0 30 d [vR p] h (fun o h' => o = .inl (some (vI 0)) ∧ h' = h) := by
  obtain ⟨s1, s2, s3, s4, s5, s6⟩ := hS
  refine MP.of 1 ml_30 pn_30 (Nat.le_of_ble_eq_true rfl) ?_
  repeat' (first | (refine WP.run sb_30_0 ?_; simp only [bk_30_0, bk_30_13, bk_30_14, i_fall, i_gI, i_goto, i_ic, i_ldR, i_rI, i_zeq, sq, enl, lk, lst, okS, tkr, look, aft, thr, thrH, w1, List.elem_cons, List.elem_nil, List.length_cons, List.length_nil, gT_sI, gR_sI, gI_sR, gT_sR, hN_sI, hU_sI, hN_sR, hU_sR, true_and, and_true, beq_self_eq_true, Bool.true_or, Bool.or_true, Bool.or_false, Bool.false_or, if_true, if_false, ite_true, ite_false, reduceIte, Option.some.injEq, false_implies, true_implies, not_false_eq_true, not_true_eq_false, forall_const, and_self, s1, s2, s3, s4]) | (refine WP.run sb_30_13 ?_; simp only [bk_30_0, bk_30_13, bk_30_14, i_fall, i_gI, i_goto, i_ic, i_ldR, i_rI, i_zeq, sq, enl, lk, lst, okS, tkr, look, aft, thr, thrH, w1, List.elem_cons, List.elem_nil, List.length_cons, List.length_nil, gT_sI, gR_sI, gI_sR, gT_sR, hN_sI, hU_sI, hN_sR, hU_sR, true_and, and_true, beq_self_eq_true, Bool.true_or, Bool.or_true, Bool.or_false, Bool.false_or, if_true, if_false, ite_true, ite_false, reduceIte, Option.some.injEq, false_implies, true_implies, not_false_eq_true, not_true_eq_false, forall_const, and_self, s1, s2, s3, s4]) | (refine WP.run sb_30_14 ?_; simp only [bk_30_0, bk_30_13, bk_30_14, i_fall, i_gI, i_goto, i_ic, i_ldR, i_rI, i_zeq, sq, enl, lk, lst, okS, tkr, look, aft, thr, thrH, w1, List.elem_cons, List.elem_nil, List.length_cons, List.length_nil, gT_sI, gR_sI, gI_sR, gT_sR, hN_sI, hU_sI, hN_sR, hU_sR, true_and, and_true, beq_self_eq_true, Bool.true_or, Bool.or_true, Bool.or_false, Bool.false_or, if_true, if_false, ite_true, ite_false, reduceIte, Option.some.injEq, false_implies, true_implies, not_false_eq_true, not_true_eq_false, forall_const, and_self, s1, s2, s3, s4]) | apply And.intro | intro _ | (simp only [rg, inA, okV] <;> omega) | omega | rfl | (simp [okV]))
theorem c_strLat {l : Launch} {s0 : State} {d : Nat} {h : AH} {p v n : Nat} (hS : ST0 h p v n) : MP l s0 32 d [vR p] h (fun o h' => o = .inl (some (vI 1)) ∧ h' = h) := by
  obtain ⟨s1, s2, s3, s4, s5, s6⟩ := hS
  refine MP.of 1 ml_32 pn_32 (Nat.le_of_ble_eq_true rfl) ?_
  repeat' (first | (refine WP.run sb_32_0 ?_; simp only [bk_32_0, bk_32_17, bk_32_18, i_fall, i_gI, i_goto, i_ic, i_ldR, i_rI, i_zeq, i_zne, sq, enl, lk, lst, okS, tkr, look, aft, thr, thrH, w1, List.elem_cons, List.elem_nil, List.length_cons, List.length_nil, gT_sI, gR_sI, gI_sR, gT_sR, hN_sI, hU_sI, hN_sR, hU_sR, true_and, and_true, beq_self_eq_true, Bool.true_or, Bool.or_true, Bool.or_false, Bool.false_or, if_true, if_false, ite_true, ite_false, reduceIte, Option.some.injEq, false_implies, true_implies, not_false_eq_true, not_true_eq_false, forall_const, and_self, s1, s2, s3, s4]) | (refine WP.run sb_32_17 ?_; simp only [bk_32_0, bk_32_17, bk_32_18, i_fall, i_gI, i_goto, i_ic, i_ldR, i_rI, i_zeq, i_zne, sq, enl, lk, lst, okS, tkr, look, aft, thr, thrH, w1, List.elem_cons, List.elem_nil, List.length_cons, List.length_nil, gT_sI, gR_sI, gI_sR, gT_sR, hN_sI, hU_sI, hN_sR, hU_sR, true_and, and_true, beq_self_eq_true, Bool.true_or, Bool.or_true, Bool.or_false, Bool.false_or, if_true, if_false, ite_true, ite_false, reduceIte, Option.some.injEq, false_implies, true_implies, not_false_eq_true, not_true_eq_false, forall_const, and_self, s1, s2, s3, s4]) | (refine WP.run sb_32_18 ?_; simp only [bk_32_0, bk_32_17, bk_32_18, i_fall, i_gI, i_goto, i_ic, i_ldR, i_rI, i_zeq, i_zne, sq, enl, lk, lst, okS, tkr, look, aft, thr, thrH, w1, List.elem_cons, List.elem_nil, List.length_cons, List.length_nil, gT_sI, gR_sI, gI_sR, gT_sR, hN_sI, hU_sI, hN_sR, hU_sR, true_and, and_true, beq_self_eq_true, Bool.true_or, Bool.or_true, Bool.or_false, Bool.false_or, if_true, if_false, ite_true, ite_false, reduceIte, Option.some.injEq, false_implies, true_implies, not_false_eq_true, not_true_eq_false, forall_const, and_self, s1, s2, s3, s4]) | apply And.intro | intro _ | (simp only [rg, inA, okV] <;> omega) | omega | rfl | (simp [okV]))
theorem c_strLen {l : Launch} {s0 : State} {d : Nat} {h : AH} {p v n : Nat} (hd : 1 ≤ d) (hS : ST0 h p v n) : MP l s0 29 d [vR p] h (fun o h' => o = .inl (some (vI n)) ∧ h' = h) := by
  have hS' := hS
  obtain ⟨s1, s2, s3, s4, s5, s6⟩ := hS
  have e1 : (Int32.ofInt (n : Int) >>> (Int32.ofInt 0 &&& 31)).toInt = n := shr0 (by unfold rg; omega)
  refine MP.of 1 ml_29 pn_29 (Nat.le_of_ble_eq_true rfl) ?_
  refine WP.run sb_29_0 ?_
  simp only [bk_29_0, i_cV, i_gR, i_ishr, i_ldR, i_len, i_rI, sq, enl, lk, lst, okS, tkr, look, aft, thr, thrH, w1, List.elem_cons, List.elem_nil, List.length_cons, List.length_nil, gT_sI, gR_sI, gI_sR, gT_sR, hN_sI, hU_sI, hN_sR, hU_sR, true_and, and_true, beq_self_eq_true, Bool.true_or, Bool.or_true, Bool.or_false, Bool.false_or, if_true, if_false, ite_true, ite_false, reduceIte, Option.some.injEq, false_implies, true_implies, not_false_eq_true, not_true_eq_false, forall_const, and_self, s1, s2, s3, s4]
  refine ⟨by decide, by omega, MP.eq (c_strCoder hS') ?_⟩
  simp only [bk_29_0, i_cV, i_gR, i_ishr, i_ldR, i_len, i_rI, sq, enl, lk, lst, okS, tkr, look, aft, thr, thrH, w1, List.elem_cons, List.elem_nil, List.length_cons, List.length_nil, gT_sI, gR_sI, gI_sR, gT_sR, hN_sI, hU_sI, hN_sR, hU_sR, true_and, and_true, beq_self_eq_true, Bool.true_or, Bool.or_true, Bool.or_false, Bool.false_or, if_true, if_false, ite_true, ite_false, reduceIte, Option.some.injEq, false_implies, true_implies, not_false_eq_true, not_true_eq_false, forall_const, and_self, s1, s2, s3, s4, e1]
  exact (show rg _ by unfold rg; omega)
theorem c_latCharAt {l : Launch} {s0 : State} {d : Nat} {h : AH} {v n : Nat} {i : Int} (hd : 2 ≤ d) (hV : gT h v = (43, n)) (hn : n ≤ 100000) (h0 : 0 ≤ i) (h1 : i < n) (hb : 0 ≤ gI h v i.toNat ∧ gI h v i.toNat < 128) : MP l s0 33 d [vR v, vI i] h (fun o h' => o = .inl (some (vI (gI h v i.toNat))) ∧ h' = h) := by
  refine MP.of 2 ml_33 pn_33 (Nat.le_of_ble_eq_true rfl) ?_
  refine WP.run sb_33_0 ?_
  simp only [bk_33_0, i_aI, i_cS, i_i2c, i_iand, i_ic, i_ldI, i_ldR, i_len, i_rI, sq, enl, lk, lst, okS, tkr, look, aft, thr, thrH, w1, List.elem_cons, List.elem_nil, List.length_cons, List.length_nil, gT_sI, gR_sI, gI_sR, gT_sR, hN_sI, hU_sI, hN_sR, hU_sR, true_and, and_true, beq_self_eq_true, Bool.true_or, Bool.or_true, Bool.or_false, Bool.false_or, if_true, if_false, ite_true, ite_false, reduceIte, Option.some.injEq, false_implies, true_implies, not_false_eq_true, not_true_eq_false, forall_const, and_self, hV]
  refine ⟨by decide, by omega, MP.eq (c_schk (by omega) h0 h1 (by unfold rg; omega)) ?_⟩
  simp only [bk_33_0, i_aI, i_cS, i_i2c, i_iand, i_ic, i_ldI, i_ldR, i_len, i_rI, sq, enl, lk, lst, okS, tkr, look, aft, thr, thrH, w1, List.elem_cons, List.elem_nil, List.length_cons, List.length_nil, gT_sI, gR_sI, gI_sR, gT_sR, hN_sI, hU_sI, hN_sR, hU_sR, true_and, and_true, beq_self_eq_true, Bool.true_or, Bool.or_true, Bool.or_false, Bool.false_or, if_true, if_false, ite_true, ite_false, reduceIte, Option.some.injEq, false_implies, true_implies, not_false_eq_true, not_true_eq_false, forall_const, and_self, hV, and255 hb.1 (show gI h v i.toNat < 256 by omega)]
  repeat' (first | (refine WP.run sb_33_0 ?_; simp only [bk_33_0, i_aI, i_cS, i_i2c, i_iand, i_ic, i_ldI, i_ldR, i_len, i_rI, sq, enl, lk, lst, okS, tkr, look, aft, thr, thrH, w1, List.elem_cons, List.elem_nil, List.length_cons, List.length_nil, gT_sI, gR_sI, gI_sR, gT_sR, hN_sI, hU_sI, hN_sR, hU_sR, true_and, and_true, beq_self_eq_true, Bool.true_or, Bool.or_true, Bool.or_false, Bool.false_or, if_true, if_false, ite_true, ite_false, reduceIte, Option.some.injEq, false_implies, true_implies, not_false_eq_true, not_true_eq_false, forall_const, and_self]) | apply And.intro | intro _ | (simp only [rg, inA, okV] <;> omega) | omega | rfl | (simp [okV]))
theorem c_strCharAt {l : Launch} {s0 : State} {d : Nat} {h : AH} {p v n : Nat} {i : Int} (hd : 3 ≤ d) (hS : ST0 h p v n) (h0 : 0 ≤ i) (h1 : i < n) : MP l s0 31 d [vR p, vI i] h (fun o h' => o = .inl (some (vI (gI h v i.toNat))) ∧ h' = h) := by
  have hS' := hS
  obtain ⟨s1, s2, s3, s4, s5, s6⟩ := hS
  have hb := s6 i.toNat (by omega)
  refine MP.of 2 ml_31 pn_31 (Nat.le_of_ble_eq_true rfl) ?_
  refine WP.run sb_31_0 ?_
  simp only [bk_31_0, bk_31_16, i_bad, i_cS, i_cV, i_gR, i_ldI, i_ldR, i_rI, i_zeq, sq, enl, lk, lst, okS, tkr, look, aft, thr, thrH, w1, List.elem_cons, List.elem_nil, List.length_cons, List.length_nil, gT_sI, gR_sI, gI_sR, gT_sR, hN_sI, hU_sI, hN_sR, hU_sR, true_and, and_true, beq_self_eq_true, Bool.true_or, Bool.or_true, Bool.or_false, Bool.false_or, if_true, if_false, ite_true, ite_false, reduceIte, Option.some.injEq, false_implies, true_implies, not_false_eq_true, not_true_eq_false, forall_const, and_self, s1, s2, s3, s4]
  refine ⟨by omega, MP.eq (c_strLat hS') ?_⟩
  simp only [bk_31_0, bk_31_16, i_bad, i_cS, i_cV, i_gR, i_ldI, i_ldR, i_rI, i_zeq, sq, enl, lk, lst, okS, tkr, look, aft, thr, thrH, w1, List.elem_cons, List.elem_nil, List.length_cons, List.length_nil, gT_sI, gR_sI, gI_sR, gT_sR, hN_sI, hU_sI, hN_sR, hU_sR, true_and, and_true, beq_self_eq_true, Bool.true_or, Bool.or_true, Bool.or_false, Bool.false_or, if_true, if_false, ite_true, ite_false, reduceIte, Option.some.injEq, false_implies, true_implies, not_false_eq_true, not_true_eq_false, forall_const, and_self, s1, s2, s3, s4]
  refine ⟨rg_lit rfl, fun z => absurd z (by decide), fun _ => ⟨by omega, MP.eq (c_latCharAt (by omega) s4 s5 h0 h1 hb) ?_⟩⟩
  simp only [bk_31_0, bk_31_16, i_bad, i_cS, i_cV, i_gR, i_ldI, i_ldR, i_rI, i_zeq, sq, enl, lk, lst, okS, tkr, look, aft, thr, thrH, w1, List.elem_cons, List.elem_nil, List.length_cons, List.length_nil, gT_sI, gR_sI, gI_sR, gT_sR, hN_sI, hU_sI, hN_sR, hU_sR, true_and, and_true, beq_self_eq_true, Bool.true_or, Bool.or_true, Bool.or_false, Bool.false_or, if_true, if_false, ite_true, ite_false, reduceIte, Option.some.injEq, false_implies, true_implies, not_false_eq_true, not_true_eq_false, forall_const, and_self, s1, s2, s3, s4]
  repeat' (first | (refine WP.run sb_31_0 ?_; simp only [bk_31_0, bk_31_16, i_bad, i_cS, i_cV, i_gR, i_ldI, i_ldR, i_rI, i_zeq, sq, enl, lk, lst, okS, tkr, look, aft, thr, thrH, w1, List.elem_cons, List.elem_nil, List.length_cons, List.length_nil, gT_sI, gR_sI, gI_sR, gT_sR, hN_sI, hU_sI, hN_sR, hU_sR, true_and, and_true, beq_self_eq_true, Bool.true_or, Bool.or_true, Bool.or_false, Bool.false_or, if_true, if_false, ite_true, ite_false, reduceIte, Option.some.injEq, false_implies, true_implies, not_false_eq_true, not_true_eq_false, forall_const, and_self]) | (refine WP.run sb_31_16 ?_; simp only [bk_31_0, bk_31_16, i_bad, i_cS, i_cV, i_gR, i_ldI, i_ldR, i_rI, i_zeq, sq, enl, lk, lst, okS, tkr, look, aft, thr, thrH, w1, List.elem_cons, List.elem_nil, List.length_cons, List.length_nil, gT_sI, gR_sI, gI_sR, gT_sR, hN_sI, hU_sI, hN_sR, hU_sR, true_and, and_true, beq_self_eq_true, Bool.true_or, Bool.or_true, Bool.or_false, Bool.false_or, if_true, if_false, ite_true, ite_false, reduceIte, Option.some.injEq, false_implies, true_implies, not_false_eq_true, not_true_eq_false, forall_const, and_self]) | apply And.intro | intro _ | (simp only [rg, inA, okV] <;> omega) | omega | rfl | (simp [okV]))
