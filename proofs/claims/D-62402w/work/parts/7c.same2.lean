/-! the component: values that are the same -/
theorem list_has {ls ws : List Int} : (ws.length = ls.length ∧ hasP ws ls 0) ↔ ls = ws := by
  constructor
  · rintro ⟨h1, h2, h3⟩
    apply List.ext_getElem?
    intro j
    by_cases hj : j < ws.length
    · have := h3 j hj
      rw [Nat.zero_add, List.getD_eq_getElem?_getD, List.getD_eq_getElem?_getD] at this
      rw [List.getElem?_eq_getElem hj, List.getElem?_eq_getElem (by omega)] at this ⊢
      simpa using this
    · rw [List.getElem?_eq_none (by omega), List.getElem?_eq_none (by omega)]
  · rintro rfl
    exact ⟨rfl, by omega, fun j _ => by rw [Nat.zero_add]⟩
theorem str_txt {d d' : Nat} {v : VT d} {w : VT d'} (hv : WF d v) (hw : WF d' w) (k1 : kdV d v = 3) (k2 : kdV d' w = 3) : strL (txt d v) = strL (txt d' w) ↔ txt d v = txt d' w := by
  obtain ⟨_, ls, a1, _, _, a2⟩ := vt_str d v hv k1
  obtain ⟨_, ws, b1, _, _, b2⟩ := vt_str d' w hw k2
  rw [a2, b2, a1, b1]
  simp
theorem txt_PT : ∀ (d : Nat) (v : VT d), WF d v → isG d v = false → PT (txt d v) ∧ kdV d v = kdC ((txt d v).headD 0)
  | 0, t, h, _ => ⟨h, by simp only [kdV, txt]; cases t <;> rfl⟩
  | d + 1, .inl t, h, _ => ⟨h, by simp only [kdV, txt]; cases t <;> rfl⟩
  | d + 1, .inr _, h, g => by simp [isG] at g
theorem c_tSame {l : Launch} {s0 : State} {dd d a b a' b' : Nat} {h : AH} {v w : VT d} (hd : 5 ≤ dd) (hv : WF d v) (hw : WF d w) (Hv : rvT h s0 a d v) (Hw : RV h s0 d a' b' w) : MP l s0 120 dd [vR (a + 1), vR (a' + 1)] h (hsQ (Sam d v w) h) := by
  obtain ⟨t1, t2, t3, t4, t5⟩ := Hv
  have t5S := t5.1
  have t5T := t5S.1
  have n1 : gI h (a + 2) 3 = ((strL (txt d v)).length : Int) := t5S.2.2.2.1
  have b1 := t5S.2.2.2.2.2.1
  have r1 : rg (gI h (a + 2) 3) := by rw [n1]; unfold rg; omega
  rcases rv_tag d a' b' w hw Hw with ⟨u1, u2, u3, u4, u5⟩ | ⟨u1, u2, u3, u4, u5⟩ | ⟨u1, u2, u3, u4⟩
  · have u5S := u5.1
    have u5T := u5S.1
    have n2 : gI h (a' + 2) 3 = ((strL (txt d w)).length : Int) := u5S.2.2.2.1
    have b2 := u5S.2.2.2.2.2.1
    have r2 : rg (gI h (a' + 2) 3) := by rw [n2]; unfold rg; omega
    have hs : Sam d v w ↔ ((strL (txt d v)).length = (strL (txt d w)).length ∧ hasP (strL (txt d v)) (strL (txt d w)) 0) := by
      rw [sam_pl d v w t3 u3, list_has, ← str_txt hv hw t2 u2]
      exact eq_comm
    have hha := fun dd' (hd' : 4 ≤ dd') => c_has (l := l) (s0 := s0) (dd := dd') (p := a' + 1) (s := a' + 2) (v := a' + 3) (k := 0) (z := 0) hd' u1 u4 u5 t5 (by omega) rfl
    have H1 : Sam d v w → hsQ (Sam d v w) h (.inl (some (vI 1))) h := fun z => ⟨Or.inl ⟨z, rfl⟩, rfl⟩
    have H0 : ¬ Sam d v w → hsQ (Sam d v w) h (.inl (some (vI 0))) h := fun z => ⟨Or.inr ⟨z, rfl⟩, rfl⟩
    refine MP.of 3 ml_120 pn_120 (Nat.le_of_ble_eq_true rfl) ?_
    repeat' (first | ((with_reducible refine WP.run sb_120_0 ?_); simp only [bk_120_0, bk_120_9, bk_120_47, bk_120_48, i_cV, i_cast, i_cne, i_fall, i_gR, i_goto, i_ic, i_inst, i_ldR, i_rI, i_stR, i_zeq, i_zne, sq, enl, lk, lst, okS, tkr, look, aft, thr, thrH, w1, List.elem_cons, List.elem_nil, List.length_cons, List.length_nil, gT_sI, gR_sI, gI_sR, gT_sR, hN_sI, hU_sI, hN_sR, hU_sR, true_and, and_true, beq_self_eq_true, Bool.true_or, Bool.or_true, Bool.or_false, Bool.false_or, if_true, if_false, ite_true, ite_false, reduceIte, Option.some.injEq, false_implies, true_implies, not_false_eq_true, not_true_eq_false, forall_const, and_self, Int.reduceEq, Int.reduceLT, Int.reduceLE, Int.reduceNeg, Int.reduceAdd, Int.reduceSub, Int.reduceMul, Int.reduceToNat, Nat.reduceAdd, Nat.reduceSub, Nat.reduceEqDiff, Nat.reduceBEq, Nat.reduceLeDiff, Nat.reduceLT, Bool.false_eq_true, false_and, or_false, false_or, t1, t4, t5T, n1, u1, u4, u5T, n2]) | ((with_reducible refine WP.run sb_120_9 ?_); simp only [bk_120_0, bk_120_9, bk_120_47, bk_120_48, i_cV, i_cast, i_cne, i_fall, i_gR, i_goto, i_ic, i_inst, i_ldR, i_rI, i_stR, i_zeq, i_zne, sq, enl, lk, lst, okS, tkr, look, aft, thr, thrH, w1, List.elem_cons, List.elem_nil, List.length_cons, List.length_nil, gT_sI, gR_sI, gI_sR, gT_sR, hN_sI, hU_sI, hN_sR, hU_sR, true_and, and_true, beq_self_eq_true, Bool.true_or, Bool.or_true, Bool.or_false, Bool.false_or, if_true, if_false, ite_true, ite_false, reduceIte, Option.some.injEq, false_implies, true_implies, not_false_eq_true, not_true_eq_false, forall_const, and_self, Int.reduceEq, Int.reduceLT, Int.reduceLE, Int.reduceNeg, Int.reduceAdd, Int.reduceSub, Int.reduceMul, Int.reduceToNat, Nat.reduceAdd, Nat.reduceSub, Nat.reduceEqDiff, Nat.reduceBEq, Nat.reduceLeDiff, Nat.reduceLT, Bool.false_eq_true, false_and, or_false, false_or, t1, t4, t5T, n1, u1, u4, u5T, n2]) | ((with_reducible refine WP.run sb_120_47 ?_); simp only [bk_120_0, bk_120_9, bk_120_47, bk_120_48, i_cV, i_cast, i_cne, i_fall, i_gR, i_goto, i_ic, i_inst, i_ldR, i_rI, i_stR, i_zeq, i_zne, sq, enl, lk, lst, okS, tkr, look, aft, thr, thrH, w1, List.elem_cons, List.elem_nil, List.length_cons, List.length_nil, gT_sI, gR_sI, gI_sR, gT_sR, hN_sI, hU_sI, hN_sR, hU_sR, true_and, and_true, beq_self_eq_true, Bool.true_or, Bool.or_true, Bool.or_false, Bool.false_or, if_true, if_false, ite_true, ite_false, reduceIte, Option.some.injEq, false_implies, true_implies, not_false_eq_true, not_true_eq_false, forall_const, and_self, Int.reduceEq, Int.reduceLT, Int.reduceLE, Int.reduceNeg, Int.reduceAdd, Int.reduceSub, Int.reduceMul, Int.reduceToNat, Nat.reduceAdd, Nat.reduceSub, Nat.reduceEqDiff, Nat.reduceBEq, Nat.reduceLeDiff, Nat.reduceLT, Bool.false_eq_true, false_and, or_false, false_or, t1, t4, t5T, n1, u1, u4, u5T, n2]) | ((with_reducible refine WP.run sb_120_48 ?_); simp only [bk_120_0, bk_120_9, bk_120_47, bk_120_48, i_cV, i_cast, i_cne, i_fall, i_gR, i_goto, i_ic, i_inst, i_ldR, i_rI, i_stR, i_zeq, i_zne, sq, enl, lk, lst, okS, tkr, look, aft, thr, thrH, w1, List.elem_cons, List.elem_nil, List.length_cons, List.length_nil, gT_sI, gR_sI, gI_sR, gT_sR, hN_sI, hU_sI, hN_sR, hU_sR, true_and, and_true, beq_self_eq_true, Bool.true_or, Bool.or_true, Bool.or_false, Bool.false_or, if_true, if_false, ite_true, ite_false, reduceIte, Option.some.injEq, false_implies, true_implies, not_false_eq_true, not_true_eq_false, forall_const, and_self, Int.reduceEq, Int.reduceLT, Int.reduceLE, Int.reduceNeg, Int.reduceAdd, Int.reduceSub, Int.reduceMul, Int.reduceToNat, Nat.reduceAdd, Nat.reduceSub, Nat.reduceEqDiff, Nat.reduceBEq, Nat.reduceLeDiff, Nat.reduceLT, Bool.false_eq_true, false_and, or_false, false_or, t1, t4, t5T, n1, u1, u4, u5T, n2]) | ((with_reducible refine And.intro (by omega) (MP.eq (c_sbLen (by omega) u5T r2) ?_)); simp only [bk_120_0, bk_120_9, bk_120_47, bk_120_48, i_cV, i_cast, i_cne, i_fall, i_gR, i_goto, i_ic, i_inst, i_ldR, i_rI, i_stR, i_zeq, i_zne, sq, enl, lk, lst, okS, tkr, look, aft, thr, thrH, w1, List.elem_cons, List.elem_nil, List.length_cons, List.length_nil, gT_sI, gR_sI, gI_sR, gT_sR, hN_sI, hU_sI, hN_sR, hU_sR, true_and, and_true, beq_self_eq_true, Bool.true_or, Bool.or_true, Bool.or_false, Bool.false_or, if_true, if_false, ite_true, ite_false, reduceIte, Option.some.injEq, false_implies, true_implies, not_false_eq_true, not_true_eq_false, forall_const, and_self, Int.reduceEq, Int.reduceLT, Int.reduceLE, Int.reduceNeg, Int.reduceAdd, Int.reduceSub, Int.reduceMul, Int.reduceToNat, Nat.reduceAdd, Nat.reduceSub, Nat.reduceEqDiff, Nat.reduceBEq, Nat.reduceLeDiff, Nat.reduceLT, Bool.false_eq_true, false_and, or_false, false_or, t1, t4, t5T, n1, u1, u4, u5T, n2]) | ((with_reducible refine And.intro (by omega) (MP.eq (c_sbLen (by omega) t5T r1) ?_)); simp only [bk_120_0, bk_120_9, bk_120_47, bk_120_48, i_cV, i_cast, i_cne, i_fall, i_gR, i_goto, i_ic, i_inst, i_ldR, i_rI, i_stR, i_zeq, i_zne, sq, enl, lk, lst, okS, tkr, look, aft, thr, thrH, w1, List.elem_cons, List.elem_nil, List.length_cons, List.length_nil, gT_sI, gR_sI, gI_sR, gT_sR, hN_sI, hU_sI, hN_sR, hU_sR, true_and, and_true, beq_self_eq_true, Bool.true_or, Bool.or_true, Bool.or_false, Bool.false_or, if_true, if_false, ite_true, ite_false, reduceIte, Option.some.injEq, false_implies, true_implies, not_false_eq_true, not_true_eq_false, forall_const, and_self, Int.reduceEq, Int.reduceLT, Int.reduceLE, Int.reduceNeg, Int.reduceAdd, Int.reduceSub, Int.reduceMul, Int.reduceToNat, Nat.reduceAdd, Nat.reduceSub, Nat.reduceEqDiff, Nat.reduceBEq, Nat.reduceLeDiff, Nat.reduceLT, Bool.false_eq_true, false_and, or_false, false_or, t1, t4, t5T, n1, u1, u4, u5T, n2]) | ((with_reducible refine And.intro (by omega) (MP.tf (hha _ (by omega)) (fun _ => ?_) (fun _ => ?_))) <;> simp only [bk_120_0, bk_120_9, bk_120_47, bk_120_48, i_cV, i_cast, i_cne, i_fall, i_gR, i_goto, i_ic, i_inst, i_ldR, i_rI, i_stR, i_zeq, i_zne, sq, enl, lk, lst, okS, tkr, look, aft, thr, thrH, w1, List.elem_cons, List.elem_nil, List.length_cons, List.length_nil, gT_sI, gR_sI, gI_sR, gT_sR, hN_sI, hU_sI, hN_sR, hU_sR, true_and, and_true, beq_self_eq_true, Bool.true_or, Bool.or_true, Bool.or_false, Bool.false_or, if_true, if_false, ite_true, ite_false, reduceIte, Option.some.injEq, false_implies, true_implies, not_false_eq_true, not_true_eq_false, forall_const, and_self, Int.reduceEq, Int.reduceLT, Int.reduceLE, Int.reduceNeg, Int.reduceAdd, Int.reduceSub, Int.reduceMul, Int.reduceToNat, Nat.reduceAdd, Nat.reduceSub, Nat.reduceEqDiff, Nat.reduceBEq, Nat.reduceLeDiff, Nat.reduceLT, Bool.false_eq_true, false_and, or_false, false_or, t1, t4, t5T, n1, u1, u4, u5T, n2]) | ((with_reducible intro _); try (exfalso; omega)) | with_reducible apply And.intro | ((fail_if_success (with_reducible refine wpid ?_)); first | exact rg_toI _ | (simp only [rg, inA, okV] <;> omega) | omega | rfl | (simp [okV]; done)))
    all_goals first
      | exact H1 (hs.mpr ⟨by omega, by assumption⟩)
      | exact H0 (fun z => absurd (hs.mp z).2 (by assumption))
      | exact H0 (fun z => absurd (hs.mp z).1 (by omega))
  all_goals (
    have hn : ¬ Sam d v w := fun z => by have := sam_kd d v w z; omega
    have H0 : hsQ (Sam d v w) h (.inl (some (vI 0))) h := ⟨Or.inr ⟨hn, rfl⟩, rfl⟩
    refine MP.of 3 ml_120 pn_120 (Nat.le_of_ble_eq_true rfl) ?_
    repeat' (first | ((with_reducible refine WP.run sb_120_0 ?_); simp only [bk_120_0, bk_120_9, bk_120_47, bk_120_48, i_cV, i_cast, i_cne, i_fall, i_gR, i_goto, i_ic, i_inst, i_ldR, i_rI, i_stR, i_zeq, i_zne, sq, enl, lk, lst, okS, tkr, look, aft, thr, thrH, w1, List.elem_cons, List.elem_nil, List.length_cons, List.length_nil, gT_sI, gR_sI, gI_sR, gT_sR, hN_sI, hU_sI, hN_sR, hU_sR, true_and, and_true, beq_self_eq_true, Bool.true_or, Bool.or_true, Bool.or_false, Bool.false_or, if_true, if_false, ite_true, ite_false, reduceIte, Option.some.injEq, false_implies, true_implies, not_false_eq_true, not_true_eq_false, forall_const, and_self, Int.reduceEq, Int.reduceLT, Int.reduceLE, Int.reduceNeg, Int.reduceAdd, Int.reduceSub, Int.reduceMul, Int.reduceToNat, Nat.reduceAdd, Nat.reduceSub, Nat.reduceEqDiff, Nat.reduceBEq, Nat.reduceLeDiff, Nat.reduceLT, Bool.false_eq_true, false_and, or_false, false_or, t1, u1]) | ((with_reducible refine WP.run sb_120_47 ?_); simp only [bk_120_0, bk_120_9, bk_120_47, bk_120_48, i_cV, i_cast, i_cne, i_fall, i_gR, i_goto, i_ic, i_inst, i_ldR, i_rI, i_stR, i_zeq, i_zne, sq, enl, lk, lst, okS, tkr, look, aft, thr, thrH, w1, List.elem_cons, List.elem_nil, List.length_cons, List.length_nil, gT_sI, gR_sI, gI_sR, gT_sR, hN_sI, hU_sI, hN_sR, hU_sR, true_and, and_true, beq_self_eq_true, Bool.true_or, Bool.or_true, Bool.or_false, Bool.false_or, if_true, if_false, ite_true, ite_false, reduceIte, Option.some.injEq, false_implies, true_implies, not_false_eq_true, not_true_eq_false, forall_const, and_self, Int.reduceEq, Int.reduceLT, Int.reduceLE, Int.reduceNeg, Int.reduceAdd, Int.reduceSub, Int.reduceMul, Int.reduceToNat, Nat.reduceAdd, Nat.reduceSub, Nat.reduceEqDiff, Nat.reduceBEq, Nat.reduceLeDiff, Nat.reduceLT, Bool.false_eq_true, false_and, or_false, false_or, t1, u1]) | ((with_reducible refine WP.run sb_120_48 ?_); simp only [bk_120_0, bk_120_9, bk_120_47, bk_120_48, i_cV, i_cast, i_cne, i_fall, i_gR, i_goto, i_ic, i_inst, i_ldR, i_rI, i_stR, i_zeq, i_zne, sq, enl, lk, lst, okS, tkr, look, aft, thr, thrH, w1, List.elem_cons, List.elem_nil, List.length_cons, List.length_nil, gT_sI, gR_sI, gI_sR, gT_sR, hN_sI, hU_sI, hN_sR, hU_sR, true_and, and_true, beq_self_eq_true, Bool.true_or, Bool.or_true, Bool.or_false, Bool.false_or, if_true, if_false, ite_true, ite_false, reduceIte, Option.some.injEq, false_implies, true_implies, not_false_eq_true, not_true_eq_false, forall_const, and_self, Int.reduceEq, Int.reduceLT, Int.reduceLE, Int.reduceNeg, Int.reduceAdd, Int.reduceSub, Int.reduceMul, Int.reduceToNat, Nat.reduceAdd, Nat.reduceSub, Nat.reduceEqDiff, Nat.reduceBEq, Nat.reduceLeDiff, Nat.reduceLT, Bool.false_eq_true, false_and, or_false, false_or, t1, u1]) | ((with_reducible intro _); try (exfalso; omega)) | with_reducible apply And.intro | ((fail_if_success (with_reducible refine wpid ?_)); first | exact rg_toI _ | (simp only [rg, inA, okV] <;> omega) | omega | rfl | (simp [okV]; done)))
    all_goals exact H0)
theorem num_rg {t : List Int} (h : PT t) : rg (num t) := by
  have hb : ∀ ds, NumD ds → 0 ≤ dgV ds ∧ dgV ds < 100000 := by
    intro ds ⟨h1, _, h2⟩
    refine ⟨(dgV_pos _ ds rfl h2).1, ?_⟩
    have : ∀ (n : Nat) (ds : List Int), ds.length = n → n ≤ 5 → (∀ c ∈ ds, isDig c) → dgV ds < (10 : Int) ^ n := by
      intro n
      induction n with
      | zero =>
        intro ds hl _ _
        have : ds = [] := List.length_eq_zero_iff.mp hl
        subst this; simp [dgV]
      | succ n ih =>
        intro ds hl hn hd
        rcases List.eq_nil_or_concat ds with h | ⟨a, c, h⟩
        · subst h; simp at hl
        · rw [List.concat_eq_append] at h
          subst h
          have hc := hd c (by simp)
          unfold isDig at hc
          have := ih a (by simpa using hl) (by omega) (fun x hx => hd x (by simp [hx]))
          rw [dgV_app, Int.pow_succ]
          omega
    have h3 := this ds.length ds rfl h1 h2
    have h4 : (10 : Int) ^ ds.length ≤ 10 ^ 5 := by
      match hl : ds.length, h1 with
      | 0, _ => decide
      | 1, _ => decide
      | 2, _ => decide
      | 3, _ => decide
      | 4, _ => decide
      | 5, _ => decide
    have : (10 : Int) ^ 5 = 100000 := by decide
    omega
  unfold rg num
  rcases h with rfl | rfl | rfl | ⟨ls, rfl, _⟩ | rfl | hs | ⟨ds, rfl, hs⟩
  · simp [kdC]
  · simp
  · simp [kdC]
  · simp [kdC]
  · simp [kdC, dgV]
  · have := hb _ hs
    (repeat' split) <;> first | omega | (next q1 q2 q3 => obtain ⟨_, ⟨c, r, rfl, s2, s3⟩, _⟩ := hs; simp at q3; omega)
  · have := hb _ hs
    simp [kdC]
    omega
theorem c_pSame {l : Launch} {s0 : State} {dd d a b a' b' : Nat} {h : AH} {v w : VT d} (hd : 5 ≤ dd) (hv : WF d v) (hw : WF d w) (HV : RV h s0 d a b v) (Hv : rvP h s0 a d v) (Hw : RV h s0 d a' b' w) : MP l s0 78 dd [vR (a + 1), vR (a' + 1)] h (hsQ (Sam d v w) h) := by
  obtain ⟨t1, t2, t3, t4, t5⟩ := Hv
  have tp := txt_PT d v hv t3
  have tr := num_rg tp.1
  have hlk := fun dd' (hd' : 1 ≤ dd') => c_isLike (l := l) (s0 := s0) (dd := dd') hd' hv hw HV Hw
  rcases rv_tag d a' b' w hw Hw with ⟨u1, u2, u3, u4, u5⟩ | ⟨u1, u2, u3, u4, u5⟩ | ⟨u1, u2, u3, u4⟩
  · have hn : ¬ Sam d v w := fun z => by have := sam_kd d v w z; omega
    have H0 : hsQ (Sam d v w) h (.inl (some (vI 0))) h := ⟨Or.inr ⟨hn, rfl⟩, rfl⟩
    refine MP.of 2 ml_78 pn_78 (Nat.le_of_ble_eq_true rfl) ?_
    repeat' (first | ((with_reducible refine WP.run sb_78_0 ?_); simp only [bk_78_0, bk_78_33, bk_78_34, i_cV, i_cast, i_cne, i_fall, i_gI, i_goto, i_ic, i_inst, i_ldR, i_rI, i_zeq, sq, enl, lk, lst, okS, tkr, look, aft, thr, thrH, w1, List.elem_cons, List.elem_nil, List.length_cons, List.length_nil, gT_sI, gR_sI, gI_sR, gT_sR, hN_sI, hU_sI, hN_sR, hU_sR, true_and, and_true, beq_self_eq_true, Bool.true_or, Bool.or_true, Bool.or_false, Bool.false_or, if_true, if_false, ite_true, ite_false, reduceIte, Option.some.injEq, false_implies, true_implies, not_false_eq_true, not_true_eq_false, forall_const, and_self, Int.reduceEq, Int.reduceLT, Int.reduceLE, Int.reduceNeg, Int.reduceAdd, Int.reduceSub, Int.reduceMul, Int.reduceToNat, Nat.reduceAdd, Nat.reduceSub, Nat.reduceEqDiff, Nat.reduceBEq, Nat.reduceLeDiff, Nat.reduceLT, Bool.false_eq_true, false_and, or_false, false_or, t1, u1]) | ((with_reducible refine WP.run sb_78_33 ?_); simp only [bk_78_0, bk_78_33, bk_78_34, i_cV, i_cast, i_cne, i_fall, i_gI, i_goto, i_ic, i_inst, i_ldR, i_rI, i_zeq, sq, enl, lk, lst, okS, tkr, look, aft, thr, thrH, w1, List.elem_cons, List.elem_nil, List.length_cons, List.length_nil, gT_sI, gR_sI, gI_sR, gT_sR, hN_sI, hU_sI, hN_sR, hU_sR, true_and, and_true, beq_self_eq_true, Bool.true_or, Bool.or_true, Bool.or_false, Bool.false_or, if_true, if_false, ite_true, ite_false, reduceIte, Option.some.injEq, false_implies, true_implies, not_false_eq_true, not_true_eq_false, forall_const, and_self, Int.reduceEq, Int.reduceLT, Int.reduceLE, Int.reduceNeg, Int.reduceAdd, Int.reduceSub, Int.reduceMul, Int.reduceToNat, Nat.reduceAdd, Nat.reduceSub, Nat.reduceEqDiff, Nat.reduceBEq, Nat.reduceLeDiff, Nat.reduceLT, Bool.false_eq_true, false_and, or_false, false_or, t1, u1]) | ((with_reducible refine WP.run sb_78_34 ?_); simp only [bk_78_0, bk_78_33, bk_78_34, i_cV, i_cast, i_cne, i_fall, i_gI, i_goto, i_ic, i_inst, i_ldR, i_rI, i_zeq, sq, enl, lk, lst, okS, tkr, look, aft, thr, thrH, w1, List.elem_cons, List.elem_nil, List.length_cons, List.length_nil, gT_sI, gR_sI, gI_sR, gT_sR, hN_sI, hU_sI, hN_sR, hU_sR, true_and, and_true, beq_self_eq_true, Bool.true_or, Bool.or_true, Bool.or_false, Bool.false_or, if_true, if_false, ite_true, ite_false, reduceIte, Option.some.injEq, false_implies, true_implies, not_false_eq_true, not_true_eq_false, forall_const, and_self, Int.reduceEq, Int.reduceLT, Int.reduceLE, Int.reduceNeg, Int.reduceAdd, Int.reduceSub, Int.reduceMul, Int.reduceToNat, Nat.reduceAdd, Nat.reduceSub, Nat.reduceEqDiff, Nat.reduceBEq, Nat.reduceLeDiff, Nat.reduceLT, Bool.false_eq_true, false_and, or_false, false_or, t1, u1]) | ((with_reducible intro _); try (exfalso; omega)) | with_reducible apply And.intro | ((fail_if_success (with_reducible refine wpid ?_)); first | exact rg_toI _ | (simp only [rg, inA, okV] <;> omega) | omega | rfl | (simp [okV]; done)))
    all_goals exact H0
  · have up := txt_PT d w hw u3
    have ur := num_rg up.1
    have hs : Sam d v w ↔ (kdV d v = kdV d w ∧ num (txt d v) = num (txt d w)) := by
      rw [sam_pl d v w t3 u3]
      constructor
      · intro z; exact ⟨by rw [tp.2, up.2, z], by rw [z]⟩
      · rintro ⟨z1, z2⟩
        exact num_inj tp.1 up.1 (by rw [← tp.2]; omega) (by rw [← tp.2, ← up.2]; exact z1) z2
    have H1 : Sam d v w → hsQ (Sam d v w) h (.inl (some (vI 1))) h := fun z => ⟨Or.inl ⟨z, rfl⟩, rfl⟩
    have H0 : ¬ Sam d v w → hsQ (Sam d v w) h (.inl (some (vI 0))) h := fun z => ⟨Or.inr ⟨z, rfl⟩, rfl⟩
    unfold rg at tr ur
    refine MP.of 2 ml_78 pn_78 (Nat.le_of_ble_eq_true rfl) ?_
    repeat' (first | ((with_reducible refine WP.run sb_78_0 ?_); simp only [bk_78_0, bk_78_33, bk_78_34, i_cV, i_cast, i_cne, i_fall, i_gI, i_goto, i_ic, i_inst, i_ldR, i_rI, i_zeq, sq, enl, lk, lst, okS, tkr, look, aft, thr, thrH, w1, List.elem_cons, List.elem_nil, List.length_cons, List.length_nil, gT_sI, gR_sI, gI_sR, gT_sR, hN_sI, hU_sI, hN_sR, hU_sR, true_and, and_true, beq_self_eq_true, Bool.true_or, Bool.or_true, Bool.or_false, Bool.false_or, if_true, if_false, ite_true, ite_false, reduceIte, Option.some.injEq, false_implies, true_implies, not_false_eq_true, not_true_eq_false, forall_const, and_self, Int.reduceEq, Int.reduceLT, Int.reduceLE, Int.reduceNeg, Int.reduceAdd, Int.reduceSub, Int.reduceMul, Int.reduceToNat, Nat.reduceAdd, Nat.reduceSub, Nat.reduceEqDiff, Nat.reduceBEq, Nat.reduceLeDiff, Nat.reduceLT, Bool.false_eq_true, false_and, or_false, false_or, t1, u1, t5, u5]) | ((with_reducible refine WP.run sb_78_33 ?_); simp only [bk_78_0, bk_78_33, bk_78_34, i_cV, i_cast, i_cne, i_fall, i_gI, i_goto, i_ic, i_inst, i_ldR, i_rI, i_zeq, sq, enl, lk, lst, okS, tkr, look, aft, thr, thrH, w1, List.elem_cons, List.elem_nil, List.length_cons, List.length_nil, gT_sI, gR_sI, gI_sR, gT_sR, hN_sI, hU_sI, hN_sR, hU_sR, true_and, and_true, beq_self_eq_true, Bool.true_or, Bool.or_true, Bool.or_false, Bool.false_or, if_true, if_false, ite_true, ite_false, reduceIte, Option.some.injEq, false_implies, true_implies, not_false_eq_true, not_true_eq_false, forall_const, and_self, Int.reduceEq, Int.reduceLT, Int.reduceLE, Int.reduceNeg, Int.reduceAdd, Int.reduceSub, Int.reduceMul, Int.reduceToNat, Nat.reduceAdd, Nat.reduceSub, Nat.reduceEqDiff, Nat.reduceBEq, Nat.reduceLeDiff, Nat.reduceLT, Bool.false_eq_true, false_and, or_false, false_or, t1, u1, t5, u5]) | ((with_reducible refine WP.run sb_78_34 ?_); simp only [bk_78_0, bk_78_33, bk_78_34, i_cV, i_cast, i_cne, i_fall, i_gI, i_goto, i_ic, i_inst, i_ldR, i_rI, i_zeq, sq, enl, lk, lst, okS, tkr, look, aft, thr, thrH, w1, List.elem_cons, List.elem_nil, List.length_cons, List.length_nil, gT_sI, gR_sI, gI_sR, gT_sR, hN_sI, hU_sI, hN_sR, hU_sR, true_and, and_true, beq_self_eq_true, Bool.true_or, Bool.or_true, Bool.or_false, Bool.false_or, if_true, if_false, ite_true, ite_false, reduceIte, Option.some.injEq, false_implies, true_implies, not_false_eq_true, not_true_eq_false, forall_const, and_self, Int.reduceEq, Int.reduceLT, Int.reduceLE, Int.reduceNeg, Int.reduceAdd, Int.reduceSub, Int.reduceMul, Int.reduceToNat, Nat.reduceAdd, Nat.reduceSub, Nat.reduceEqDiff, Nat.reduceBEq, Nat.reduceLeDiff, Nat.reduceLT, Bool.false_eq_true, false_and, or_false, false_or, t1, u1, t5, u5]) | ((with_reducible refine And.intro (by omega) (MP.tf (hlk _ (by omega)) (fun _ => ?_) (fun _ => ?_))) <;> simp only [bk_78_0, bk_78_33, bk_78_34, i_cV, i_cast, i_cne, i_fall, i_gI, i_goto, i_ic, i_inst, i_ldR, i_rI, i_zeq, sq, enl, lk, lst, okS, tkr, look, aft, thr, thrH, w1, List.elem_cons, List.elem_nil, List.length_cons, List.length_nil, gT_sI, gR_sI, gI_sR, gT_sR, hN_sI, hU_sI, hN_sR, hU_sR, true_and, and_true, beq_self_eq_true, Bool.true_or, Bool.or_true, Bool.or_false, Bool.false_or, if_true, if_false, ite_true, ite_false, reduceIte, Option.some.injEq, false_implies, true_implies, not_false_eq_true, not_true_eq_false, forall_const, and_self, Int.reduceEq, Int.reduceLT, Int.reduceLE, Int.reduceNeg, Int.reduceAdd, Int.reduceSub, Int.reduceMul, Int.reduceToNat, Nat.reduceAdd, Nat.reduceSub, Nat.reduceEqDiff, Nat.reduceBEq, Nat.reduceLeDiff, Nat.reduceLT, Bool.false_eq_true, false_and, or_false, false_or, t1, u1, t5, u5]) | ((with_reducible intro _); try (exfalso; omega)) | with_reducible apply And.intro | ((fail_if_success (with_reducible refine wpid ?_)); first | exact rg_toI _ | (simp only [rg, inA, okV] <;> omega) | omega | rfl | (simp [okV]; done)))
    all_goals first
      | exact H1 (hs.mpr ⟨by assumption, by omega⟩)
      | exact H0 (fun z => absurd (hs.mp z).1 (by assumption))
      | exact H0 (fun z => absurd (hs.mp z).2 (by omega))
  · have hn : ¬ Sam d v w := fun z => by have := sam_kd d v w z; omega
    have H0 : hsQ (Sam d v w) h (.inl (some (vI 0))) h := ⟨Or.inr ⟨hn, rfl⟩, rfl⟩
    refine MP.of 2 ml_78 pn_78 (Nat.le_of_ble_eq_true rfl) ?_
    repeat' (first | ((with_reducible refine WP.run sb_78_0 ?_); simp only [bk_78_0, bk_78_33, bk_78_34, i_cV, i_cast, i_cne, i_fall, i_gI, i_goto, i_ic, i_inst, i_ldR, i_rI, i_zeq, sq, enl, lk, lst, okS, tkr, look, aft, thr, thrH, w1, List.elem_cons, List.elem_nil, List.length_cons, List.length_nil, gT_sI, gR_sI, gI_sR, gT_sR, hN_sI, hU_sI, hN_sR, hU_sR, true_and, and_true, beq_self_eq_true, Bool.true_or, Bool.or_true, Bool.or_false, Bool.false_or, if_true, if_false, ite_true, ite_false, reduceIte, Option.some.injEq, false_implies, true_implies, not_false_eq_true, not_true_eq_false, forall_const, and_self, Int.reduceEq, Int.reduceLT, Int.reduceLE, Int.reduceNeg, Int.reduceAdd, Int.reduceSub, Int.reduceMul, Int.reduceToNat, Nat.reduceAdd, Nat.reduceSub, Nat.reduceEqDiff, Nat.reduceBEq, Nat.reduceLeDiff, Nat.reduceLT, Bool.false_eq_true, false_and, or_false, false_or, t1, u1]) | ((with_reducible refine WP.run sb_78_33 ?_); simp only [bk_78_0, bk_78_33, bk_78_34, i_cV, i_cast, i_cne, i_fall, i_gI, i_goto, i_ic, i_inst, i_ldR, i_rI, i_zeq, sq, enl, lk, lst, okS, tkr, look, aft, thr, thrH, w1, List.elem_cons, List.elem_nil, List.length_cons, List.length_nil, gT_sI, gR_sI, gI_sR, gT_sR, hN_sI, hU_sI, hN_sR, hU_sR, true_and, and_true, beq_self_eq_true, Bool.true_or, Bool.or_true, Bool.or_false, Bool.false_or, if_true, if_false, ite_true, ite_false, reduceIte, Option.some.injEq, false_implies, true_implies, not_false_eq_true, not_true_eq_false, forall_const, and_self, Int.reduceEq, Int.reduceLT, Int.reduceLE, Int.reduceNeg, Int.reduceAdd, Int.reduceSub, Int.reduceMul, Int.reduceToNat, Nat.reduceAdd, Nat.reduceSub, Nat.reduceEqDiff, Nat.reduceBEq, Nat.reduceLeDiff, Nat.reduceLT, Bool.false_eq_true, false_and, or_false, false_or, t1, u1]) | ((with_reducible refine WP.run sb_78_34 ?_); simp only [bk_78_0, bk_78_33, bk_78_34, i_cV, i_cast, i_cne, i_fall, i_gI, i_goto, i_ic, i_inst, i_ldR, i_rI, i_zeq, sq, enl, lk, lst, okS, tkr, look, aft, thr, thrH, w1, List.elem_cons, List.elem_nil, List.length_cons, List.length_nil, gT_sI, gR_sI, gI_sR, gT_sR, hN_sI, hU_sI, hN_sR, hU_sR, true_and, and_true, beq_self_eq_true, Bool.true_or, Bool.or_true, Bool.or_false, Bool.false_or, if_true, if_false, ite_true, ite_false, reduceIte, Option.some.injEq, false_implies, true_implies, not_false_eq_true, not_true_eq_false, forall_const, and_self, Int.reduceEq, Int.reduceLT, Int.reduceLE, Int.reduceNeg, Int.reduceAdd, Int.reduceSub, Int.reduceMul, Int.reduceToNat, Nat.reduceAdd, Nat.reduceSub, Nat.reduceEqDiff, Nat.reduceBEq, Nat.reduceLeDiff, Nat.reduceLT, Bool.false_eq_true, false_and, or_false, false_or, t1, u1]) | ((with_reducible intro _); try (exfalso; omega)) | with_reducible apply And.intro | ((fail_if_success (with_reducible refine wpid ?_)); first | exact rg_toI _ | (simp only [rg, inA, okV] <;> omega) | omega | rfl | (simp [okV]; done)))
    all_goals exact H0
