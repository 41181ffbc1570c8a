/-! the component: an interaction is made -/
def iAl (h : AH) (p : Nat) : AH := sR (aln (nw h 16 3) (hN h + 1) 8) p 1 (hN h + 1)
def iNw (h : AH) (p : Nat) (z : Int) : AH := sI (sR (nw (iAl h p) 20 3) p 2 (hN h + 3)) p 0 z
theorem c_iNew {l : Launch} {s0 : State} {d : Nat} {h : AH} {p : Nat} {z : Int} (hd : 4 ≤ d) (h0 : p ≠ 0) (hT : gT h p = (4, 5)) (hp : p ≤ hN h) (hr : Rm s0 h 30) (hz : z = 0 ∨ z = 1) : MP l s0 70 d [vR p, vI z] h (fun o h' => o = .inl none ∧ h' = iNw h p z) := by
  have e1 : gT (nw h 16 3) (hN h + 1) = (16, 3) := by rw [gT_nw, if_pos rfl]
  have e2 : lim s0 h 3 := hr.lim (by omega)
  have e3 : lim s0 (nw h 16 3) 8 := (Rm.nw (b := 26) (n := 3) hr).lim (by omega)
  have e4 : gT (aln (nw h 16 3) (hN h + 1) 8) p = (4, 5) := by
    unfold aln
    rw [gT_sR, gT_nw, if_neg (by rw [hN_sI, hN_nw]; omega), gT_sI, gT_nw, if_neg (by omega)]; exact hT
  have e5 : hN (aln (nw h 16 3) (hN h + 1) 8) = hN h + 2 := rfl
  have e6 : lim s0 (iAl h p) 3 := by
    have h1 := hr.1
    have h2 := hr.2
    refine Rm.lim (b := 4) ⟨?_, ?_⟩ (by omega)
    · have : hN (iAl h p) = hN h + 2 := rfl
      omega
    · have : hU (iAl h p) = hU h + 3 + 8 := rfl
      omega
  have e7 : gT (nw (iAl h p) 20 3) p = (4, 5) := by
    rw [gT_nw, if_neg (by have : hN (iAl h p) = hN h + 2 := rfl; omega)]; unfold iAl; rw [gT_sR]; exact e4
  have e8 : hN (iAl h p) = hN h + 2 := rfl
  have hc := fun d' (hd' : 3 ≤ d') => c_alNew (l := l) (s0 := s0) (d := d') (h := nw h 16 3) (p := hN h + 1) (c := 8) hd' e1 (by omega) (by omega) e3
  rw [show ((8 : Nat) : Int) = 8 from rfl] at hc
  have e9 : sR (aln (nw h 16 3) (hN h + 1) 8) p 1 (hN h + 1) = iAl h p := rfl
  refine MP.of 2 ml_70 pn_70 (Nat.le_of_ble_eq_true rfl) ?_
  repeat' (first | ((with_reducible refine WP.run sb_70_0 ?_); simp only [bk_70_0, i_cI, i_dup, i_ic, i_ldI, i_ldR, i_na, i_new, i_obj, i_pI, i_pR, i_ret, sq, enl, lk, lst, okS, tkr, look, aft, thr, thrH, w1, List.elem_cons, List.elem_nil, List.length_cons, List.length_nil, gT_sI, gR_sI, gI_sR, gT_sR, hN_sI, hU_sI, hN_sR, hU_sR, true_and, and_true, beq_self_eq_true, Bool.true_or, Bool.or_true, Bool.or_false, Bool.false_or, if_true, if_false, ite_true, ite_false, reduceIte, Option.some.injEq, false_implies, true_implies, not_false_eq_true, not_true_eq_false, forall_const, and_self, Int.reduceEq, Int.reduceLT, Int.reduceLE, Int.reduceNeg, Int.reduceAdd, Int.reduceSub, Int.reduceMul, Int.reduceToNat, Nat.reduceAdd, Nat.reduceSub, Nat.reduceEqDiff, Nat.reduceBEq, Nat.reduceLeDiff, Nat.reduceLT, hT, tn16, e4, e9, e7, e8]) | ((with_reducible refine And.intro (by omega) (MP.eq (hc _ (by omega)) ?_)); simp only [bk_70_0, i_cI, i_dup, i_ic, i_ldI, i_ldR, i_na, i_new, i_obj, i_pI, i_pR, i_ret, sq, enl, lk, lst, okS, tkr, look, aft, thr, thrH, w1, List.elem_cons, List.elem_nil, List.length_cons, List.length_nil, gT_sI, gR_sI, gI_sR, gT_sR, hN_sI, hU_sI, hN_sR, hU_sR, true_and, and_true, beq_self_eq_true, Bool.true_or, Bool.or_true, Bool.or_false, Bool.false_or, if_true, if_false, ite_true, ite_false, reduceIte, Option.some.injEq, false_implies, true_implies, not_false_eq_true, not_true_eq_false, forall_const, and_self, Int.reduceEq, Int.reduceLT, Int.reduceLE, Int.reduceNeg, Int.reduceAdd, Int.reduceSub, Int.reduceMul, Int.reduceToNat, Nat.reduceAdd, Nat.reduceSub, Nat.reduceEqDiff, Nat.reduceBEq, Nat.reduceLeDiff, Nat.reduceLT, hT, tn16, e4, e9, e7, e8]) | ((with_reducible intro _); try (exfalso; omega)) | with_reducible apply And.intro | ((fail_if_success (with_reducible refine wpid ?_)); first | exact rg_toI _ | (simp only [rg, inA, okV] <;> omega) | omega | rfl | (simp [okV]; done)))
  all_goals first | exact h0 | exact e2 | exact e6 | exact hz | omega | rfl
theorem iNw_IC {h : AH} {s0 : State} {O : Nat → Nat} {o p : Nat} {b : Bool} (hp : p = hN h + 1) (hO : O p = o ∧ O (p + 1) = o ∧ O (p + 2) = o ∧ O (p + 3) = o) : IC (iNw (nw h 4 5) p (b2 b)) s0 O o p (b, none, [], []) := by
  subst hp
  have n1 : hN (nw h 4 5) = hN h + 1 := rfl
  have n2 : hN (nw (nw h 4 5) 16 3) = hN h + 2 := rfl
  have n3 : hN (iAl (nw h 4 5) (hN h + 1)) = hN h + 3 := rfl
  have n4 : hN (sI (nw (nw h 4 5) 16 3) (hN h + 1 + 1) 2 0) = hN h + 2 := rfl
  refine ⟨?_, ?_, ?_, ?_, fun _ => ?_, fun v hv => by simp at hv, ?_, ⟨⟨?_, ?_, ?_, ?_, by simp, by omega, ?_, ?_⟩, ?_⟩, fun k R hR => by simp at hR, ?_, fun k s hs => by simp at hs, ?_, hO.1, hO.2.1, hO.2.2.1, hO.2.2.2⟩
  all_goals simp only [iNw, iAl, aln, gT_sI, gT_sR, gT_nw, gI_sI, gI_sR, gI_nw, gR_sI, gR_sR, gR_nw, n1, n2, n4, hN_sI, hN_sR, hN_nw]
  all_goals ((try simp) <;> (try omega))
theorem iNw_fr {h : AH} {p : Nat} {z : Int} (hp : p = hN h + 1) : Fr (fun _ _ => False) 30 h (iNw (nw h 4 5) p z) := by
  subst hp
  unfold iNw iAl aln
  have n1 : hN (nw h 4 5) = hN h + 1 := rfl
  rw [n1]
  exact ((((((((Fr.rfl (b := 0)).nw (t := 4) (n := 5)).nw (t := 16) (n := 3)).sI (fun z => by omega)).nw (t := 25) (n := 8)).sR (fun z => by omega)).sR (fun z => by omega)).nw (t := 20) (n := 3) |>.sR (fun z => by omega) |>.sI (fun z => by omega)).le (by omega)
def mkC (s0 : State) (x : Nat) (S : AS) (bb : Bool) (b : Nat) (O : Nat → Nat) (h : AH) (o : AO) (h' : AH) : Prop := ((opMake S bb).2.1 = 0 ∧ cQ s0 x (opMake S bb).1 (opMake S bb).2.2 b O h o h') ∨ ((opMake S bb).2.1 = 1 ∧ cX s0 x (opMake S bb).1 18 b O h o h')
theorem d_make {l : Launch} {s0 : State} {d x : Nat} {h : AH} {O : Nat → Nat} {S : AS} {bb : Bool} (hd : 8 ≤ d) (hr : Rm s0 h 5000) (w : WS S) (H : CR h s0 O x S) : MP l s0 46 d [vR x, vI (b2 bb)] h (mkC s0 x S bb 4300 O h) := by
  obtain ⟨t1, t2, t3, t4, t5, t6, t7, t8, t9, t10, t11⟩ := H.1
  have c2 := H.2.1.1
  have l4 := w.2.1
  have aN := H.2.2.2.2.1.1
  have a := aN.1
  have aT := a.1
  have hbz : b2 bb = 0 ∨ b2 bb = 1 := by cases bb <;> simp [b2]
  by_cases q : S.2.1.length = 4
  · have hop : opMake S bb = (S, 1, 0) := by unfold opMake; rw [if_pos q]
    have hfin : mkC s0 x S bb 4300 O h (.inr (hN h + 1)) (nw h 18 6) := by
      refine Or.inr ⟨by rw [hop], _, rfl, exc18_T h, ?_⟩
      rw [hop]
      obtain ⟨z1, W, z2, z3⟩ := cP.rd H (((Fr.rfl (b := 0)).nw (t := 18) (n := 6)).le (b := 7) (by omega))
      exact ⟨z1, W, z2.le (by omega), z3⟩
    have l6 : lim s0 h 6 := hr.lim (by omega)
    have e1 := exc18_T h
    have e2 := exc18_R h
    refine MP.of 2 ml_46 pn_46 (Nat.le_of_ble_eq_true rfl) ?_
    repeat' (first | ((with_reducible refine WP.run sb_46_0 ?_); simp only [bk_46_0, bk_46_19, i_cI, i_cV, i_clt, i_dup, i_exc, i_gR, i_ic, i_isub, i_ldI, i_ldR, i_new, i_pop, i_rI, i_throw, sq, enl, lk, lst, okS, tkr, look, aft, thr, thrH, w1, List.elem_cons, List.elem_nil, List.length_cons, List.length_nil, gT_sI, gR_sI, gI_sR, gT_sR, hN_sI, hU_sI, hN_sR, hU_sR, true_and, and_true, beq_self_eq_true, Bool.true_or, Bool.or_true, Bool.or_false, Bool.false_or, if_true, if_false, ite_true, ite_false, reduceIte, Option.some.injEq, false_implies, true_implies, not_false_eq_true, not_true_eq_false, forall_const, and_self, Int.reduceEq, Int.reduceLT, Int.reduceLE, Int.reduceNeg, Int.reduceAdd, Int.reduceSub, Int.reduceMul, Int.reduceToNat, Nat.reduceAdd, Nat.reduceSub, Nat.reduceEqDiff, Nat.reduceBEq, Nat.reduceLeDiff, Nat.reduceLT, t1, t4, aT, tn18, e1, e2]) | ((with_reducible refine WP.run sb_46_19 ?_); simp only [bk_46_0, bk_46_19, i_cI, i_cV, i_clt, i_dup, i_exc, i_gR, i_ic, i_isub, i_ldI, i_ldR, i_new, i_pop, i_rI, i_throw, sq, enl, lk, lst, okS, tkr, look, aft, thr, thrH, w1, List.elem_cons, List.elem_nil, List.length_cons, List.length_nil, gT_sI, gR_sI, gI_sR, gT_sR, hN_sI, hU_sI, hN_sR, hU_sR, true_and, and_true, beq_self_eq_true, Bool.true_or, Bool.or_true, Bool.or_false, Bool.false_or, if_true, if_false, ite_true, ite_false, reduceIte, Option.some.injEq, false_implies, true_implies, not_false_eq_true, not_true_eq_false, forall_const, and_self, Int.reduceEq, Int.reduceLT, Int.reduceLE, Int.reduceNeg, Int.reduceAdd, Int.reduceSub, Int.reduceMul, Int.reduceToNat, Nat.reduceAdd, Nat.reduceSub, Nat.reduceEqDiff, Nat.reduceBEq, Nat.reduceLeDiff, Nat.reduceLT, t1, t4, aT, tn18, e1, e2]) | ((with_reducible refine And.intro (by omega) (MP.eq (c_alSize a) ?_)); simp only [bk_46_0, bk_46_19, i_cI, i_cV, i_clt, i_dup, i_exc, i_gR, i_ic, i_isub, i_ldI, i_ldR, i_new, i_pop, i_rI, i_throw, sq, enl, lk, lst, okS, tkr, look, aft, thr, thrH, w1, List.elem_cons, List.elem_nil, List.length_cons, List.length_nil, gT_sI, gR_sI, gI_sR, gT_sR, hN_sI, hU_sI, hN_sR, hU_sR, true_and, and_true, beq_self_eq_true, Bool.true_or, Bool.or_true, Bool.or_false, Bool.false_or, if_true, if_false, ite_true, ite_false, reduceIte, Option.some.injEq, false_implies, true_implies, not_false_eq_true, not_true_eq_false, forall_const, and_self, Int.reduceEq, Int.reduceLT, Int.reduceLE, Int.reduceNeg, Int.reduceAdd, Int.reduceSub, Int.reduceMul, Int.reduceToNat, Nat.reduceAdd, Nat.reduceSub, Nat.reduceEqDiff, Nat.reduceBEq, Nat.reduceLeDiff, Nat.reduceLT, t1, t4, aT, tn18, e1, e2]) | ((with_reducible intro _); try (exfalso; omega)) | with_reducible apply And.intro | ((fail_if_success (with_reducible refine wpid ?_)); first | exact rg_toI _ | (simp only [rg, inA, okV] <;> omega) | omega | rfl | (simp [okV]; done)))
    all_goals first | exact hfin | exact l6 | omega
  · have hop : opMake S bb = ((S.1, S.2.1 ++ [(bb, none, [], [])], S.2.2), 0, (S.2.1.length : Int)) := by unfold opMake; rw [if_neg q]
    have e1 : gT (nw h 4 5) (hN h + 1) = (4, 5) := by rw [gT_nw, if_pos rfl]
    have l5 : lim s0 h 5 := hr.lim (by omega)
    have hr1 : Rm s0 (nw h 4 5) 30 := Rm.nw (b := 30) (n := 5) (hr.le (by omega))
    have hc := fun d' (hd' : 4 ≤ d') => c_iNew (l := l) (s0 := s0) (d := d') (p := hN h + 1) hd' (by omega) e1 (by rw [hN_nw]; exact Nat.le_refl _) hr1 hbz
    have F1 : Fr (fun _ _ => False) 30 h (iNw (nw h 4 5) (hN h + 1) (b2 bb)) := iNw_fr rfl
    have n1 : hN (iNw (nw h 4 5) (hN h + 1) (b2 bb)) = hN h + 4 := rfl
    have hic := fun O' hO' => iNw_IC (h := h) (s0 := s0) (O := O') (o := 2 + S.2.1.length) (p := hN h + 1) (b := bb) rfl hO'
    generalize hh1 : iNw (nw h 4 5) (hN h + 1) (b2 bb) = h1 at *
    have ux : ∀ p k, p ≤ hN h → gI h1 p k = gI h p k ∧ gR h1 p k = gR h p k := fun p k hp => ⟨F1.I hp (fun z => z), F1.R hp (fun z => z)⟩
    have d1 : gT h1 x = (1, 10) := by rw [F1.T (by omega)]; exact t1
    have d4 : gR h1 x 2 = x + 6 := by rw [(ux x 2 (by omega)).2]; exact t4
    have aN1 : ALn h1 (x + 6) (x + 7) 4 S.2.1.length := aN.fr F1 (by omega) (by omega) (fun _ z => z)
    have a1 := aN1.1
    have a1T := a1.1
    have iT : gT h1 (hN h + 1) = (4, 5) := by
      rw [← hh1]
      exact (iNw_IC (h := h) (s0 := s0) (O := fun _ => 0) (o := 0) (p := hN h + 1) (b := bb) rfl ⟨rfl, rfl, rfl, rfl⟩).1
    have hq5 : [4, 5, 14].elem (gT h1 (hN h + 1)).1 = true := by rw [iT]; rfl
    have hn4 : S.2.1.length < 4 := by omega
    have aN2 := aN1.add (q := hN h + 1) hn4 (by omega)
    have a2 := aN2.1
    have F2 : Fr (fun q _ => q = x + 6 ∨ q = x + 7) 0 h1 (aad h1 (x + 6) (x + 7) S.2.1.length (hN h + 1)) := aad_fr
    have d1' : gT (aad h1 (x + 6) (x + 7) S.2.1.length (hN h + 1)) x = (1, 10) := by rw [F2.T (by omega)]; exact d1
    have d4' : gR (aad h1 (x + 6) (x + 7) S.2.1.length (hN h + 1)) x 2 = x + 6 := by rw [F2.R (by omega) (by omega)]; exact d4
    have a2T := a2.1
    have e8 : ((S.2.1.length + 1 : Nat) : Int) - 1 = (S.2.1.length : Int) := by omega
    have aR : ∀ j, gR (aad h1 (x + 6) (x + 7) S.2.1.length (hN h + 1)) (x + 7) j = if j = S.2.1.length then hN h + 1 else gR h1 (x + 7) j := fun j => aad_R
    have hfin : mkC s0 x S bb 4300 O h (.inl (some (vI (S.2.1.length : Int)))) (aad h1 (x + 6) (x + 7) S.2.1.length (hN h + 1)) := by
      refine Or.inl ⟨by rw [hop], by rw [hop], ?_⟩
      rw [hop]
      generalize hh2 : aad h1 (x + 6) (x + 7) S.2.1.length (hN h + 1) = h2 at *
      have F : Fr (fun q _ => q = x + 6 ∨ q = x + 7) 30 h h2 := (F1.mono (Nat.le_refl _) (fun _ _ _ z => z.elim)).trans F2
      have l2 := F2.1
      have hN2 : hN h2 = hN h + 4 := by have := F2.2.1; omega
      have un : ∀ o, o ≠ 1 → Un O (fun q _ => q = x + 6 ∨ q = x + 7) h o := fun o ho q k' _ e z => by
        rcases z with z | z
        · exact ho (by rw [← e, z]; exact H.2.1.2.2 6 (by omega))
        · exact ho (by rw [← e, z]; exact H.2.1.2.2 7 (by omega))
      have ag : Ag O (fun q => if q ≤ hN h then O q else if q ≤ hN h + 4 then 2 + S.2.1.length else 0) h := fun q hq => if_pos hq
      have hOn : ∀ q, hN h < q → q ≤ hN h + 4 → (fun q => if q ≤ hN h then O q else if q ≤ hN h + 4 then 2 + S.2.1.length else 0) q = 2 + S.2.1.length := fun q h1 h2 => by
        show (if q ≤ hN h then O q else if q ≤ hN h + 4 then 2 + S.2.1.length else 0) = _
        rw [if_neg (by omega), if_pos h2]
      have hOz : ∀ q, hN h + 4 < q → (fun q => if q ≤ hN h then O q else if q ≤ hN h + 4 then 2 + S.2.1.length else 0) q = 0 := fun q h1 => by
        show (if q ≤ hN h then O q else if q ≤ hN h + 4 then 2 + S.2.1.length else 0) = _
        rw [if_neg (by omega), if_neg (by omega)]
      generalize (fun q => if q ≤ hN h then O q else if q ≤ hN h + 4 then 2 + S.2.1.length else 0) = O' at *
      have hic2 := hic O' ⟨hOn _ (by omega) (by omega), hOn _ (by omega) (by omega), hOn _ (by omega) (by omega), hOn _ (by omega) (by omega)⟩
      have ncut : ∀ q k, q ≤ hN h1 → q ≠ x + 6 ∧ q ≠ x + 7 → ¬ (fun q (_ : Nat) => q = x + 6 ∨ q = x + 7) q k := fun q k _ h1 z => by rcases z with z | z <;> simp_all
      obtain ⟨c1, ⟨c2, c3, c4⟩, ⟨c5, c5'⟩, ⟨n, c6⟩, ⟨c7, c8⟩, c9, c10, c11, c12, c13⟩ := H
      refine ⟨⟨O', ⟨c1.fr F c2 (fun k z => by omega) (fun k z => by omega), ⟨by omega, c3, fun j hj => by rw [ag _ (by omega)]; exact c4 j hj⟩, ⟨c5.fr F (by omega) (by omega) (fun k => by omega) (fun k => by omega), fun j hj => by rw [F.I (by omega) (by omega)]; exact c5' j hj⟩, ⟨n, c6.fr F (by omega) (by omega) (fun k => by omega) (fun k => by omega)⟩, ⟨by simp only [List.length_append, List.length_cons, List.length_nil, Nat.zero_add]; exact aN2, fun j y hy' => ?_⟩, fun s hs => by rw [F.I (by omega) (by omega)]; exact c9 s hs, ec_fr c10 F c2 (by omega) (by omega) (fun k => by omega) (un 50 (by omega)) ag, ml_fr c11 F c2 (by omega) (fun k => by omega) (fun k => by omega) (fun k hk => un (10 + k) (by omega)) ag, c12.fr F (un 60 (by omega)) ag, fun q hq => hOz q (by omega)⟩, ag⟩, ⟨_, F.le (by omega), un 70 (by omega)⟩⟩
      rw [aR]
      by_cases ej : j = S.2.1.length
      · subst ej
        simp only at hy'
        rw [List.getElem?_append_right (Nat.le_refl _)] at hy'
        simp at hy'
        subst hy'
        rw [if_pos rfl]
        exact ic_fr hic2 F2 (fun q k' hq e z => by
          rcases z with z | z <;> (rw [z, ag _ (by omega)] at e)
          · have := c4 6 (by omega); omega
          · have := c4 7 (by omega); omega) (fun q k' hq e z => by
          rcases z with z | z <;> (rw [z, ag _ (by omega)] at e)
          · have := c4 6 (by omega); omega
          · have := c4 7 (by omega); omega) (fun _ _ => rfl)
      · rw [if_neg ej]
        have hjl : j < S.2.1.length := by
          have := (List.getElem?_eq_some_iff.mp hy').1
          simp only [List.length_append, List.length_cons, List.length_nil] at this
          omega
        simp only at hy'
        rw [List.getElem?_append_left hjl] at hy'
        rw [(ux (x + 7) j (by omega)).2]
        exact ic_fr (c8 j y hy') F (un 0 (by omega)) (un (2 + j) (by omega)) ag
    refine MP.of 2 ml_46 pn_46 (Nat.le_of_ble_eq_true rfl) ?_
    repeat' (first | ((with_reducible refine WP.run sb_46_0 ?_); simp only [bk_46_0, bk_46_19, i_cI, i_cV, i_clt, i_dup, i_exc, i_gR, i_ic, i_isub, i_ldI, i_ldR, i_new, i_pop, i_rI, i_throw, sq, enl, lk, lst, okS, tkr, look, aft, thr, thrH, w1, List.elem_cons, List.elem_nil, List.length_cons, List.length_nil, gT_sI, gR_sI, gI_sR, gT_sR, hN_sI, hU_sI, hN_sR, hU_sR, true_and, and_true, beq_self_eq_true, Bool.true_or, Bool.or_true, Bool.or_false, Bool.false_or, if_true, if_false, ite_true, ite_false, reduceIte, Option.some.injEq, false_implies, true_implies, not_false_eq_true, not_true_eq_false, forall_const, and_self, Int.reduceEq, Int.reduceLT, Int.reduceLE, Int.reduceNeg, Int.reduceAdd, Int.reduceSub, Int.reduceMul, Int.reduceToNat, Nat.reduceAdd, Nat.reduceSub, Nat.reduceEqDiff, Nat.reduceBEq, Nat.reduceLeDiff, Nat.reduceLT, t1, t4, aT, tn4, d1, d4, a1T, d1', d4', a2T, e8]) | ((with_reducible refine WP.run sb_46_19 ?_); simp only [bk_46_0, bk_46_19, i_cI, i_cV, i_clt, i_dup, i_exc, i_gR, i_ic, i_isub, i_ldI, i_ldR, i_new, i_pop, i_rI, i_throw, sq, enl, lk, lst, okS, tkr, look, aft, thr, thrH, w1, List.elem_cons, List.elem_nil, List.length_cons, List.length_nil, gT_sI, gR_sI, gI_sR, gT_sR, hN_sI, hU_sI, hN_sR, hU_sR, true_and, and_true, beq_self_eq_true, Bool.true_or, Bool.or_true, Bool.or_false, Bool.false_or, if_true, if_false, ite_true, ite_false, reduceIte, Option.some.injEq, false_implies, true_implies, not_false_eq_true, not_true_eq_false, forall_const, and_self, Int.reduceEq, Int.reduceLT, Int.reduceLE, Int.reduceNeg, Int.reduceAdd, Int.reduceSub, Int.reduceMul, Int.reduceToNat, Nat.reduceAdd, Nat.reduceSub, Nat.reduceEqDiff, Nat.reduceBEq, Nat.reduceLeDiff, Nat.reduceLT, t1, t4, aT, tn4, d1, d4, a1T, d1', d4', a2T, e8]) | ((with_reducible refine And.intro (by omega) (MP.eq (c_alSize a) ?_)); simp only [bk_46_0, bk_46_19, i_cI, i_cV, i_clt, i_dup, i_exc, i_gR, i_ic, i_isub, i_ldI, i_ldR, i_new, i_pop, i_rI, i_throw, sq, enl, lk, lst, okS, tkr, look, aft, thr, thrH, w1, List.elem_cons, List.elem_nil, List.length_cons, List.length_nil, gT_sI, gR_sI, gI_sR, gT_sR, hN_sI, hU_sI, hN_sR, hU_sR, true_and, and_true, beq_self_eq_true, Bool.true_or, Bool.or_true, Bool.or_false, Bool.false_or, if_true, if_false, ite_true, ite_false, reduceIte, Option.some.injEq, false_implies, true_implies, not_false_eq_true, not_true_eq_false, forall_const, and_self, Int.reduceEq, Int.reduceLT, Int.reduceLE, Int.reduceNeg, Int.reduceAdd, Int.reduceSub, Int.reduceMul, Int.reduceToNat, Nat.reduceAdd, Nat.reduceSub, Nat.reduceEqDiff, Nat.reduceBEq, Nat.reduceLeDiff, Nat.reduceLT, t1, t4, aT, tn4, d1, d4, a1T, d1', d4', a2T, e8]) | ((with_reducible refine And.intro (by omega) (MP.eq (hc _ (by omega)) ?_)); simp only [bk_46_0, bk_46_19, i_cI, i_cV, i_clt, i_dup, i_exc, i_gR, i_ic, i_isub, i_ldI, i_ldR, i_new, i_pop, i_rI, i_throw, sq, enl, lk, lst, okS, tkr, look, aft, thr, thrH, w1, List.elem_cons, List.elem_nil, List.length_cons, List.length_nil, gT_sI, gR_sI, gI_sR, gT_sR, hN_sI, hU_sI, hN_sR, hU_sR, true_and, and_true, beq_self_eq_true, Bool.true_or, Bool.or_true, Bool.or_false, Bool.false_or, if_true, if_false, ite_true, ite_false, reduceIte, Option.some.injEq, false_implies, true_implies, not_false_eq_true, not_true_eq_false, forall_const, and_self, Int.reduceEq, Int.reduceLT, Int.reduceLE, Int.reduceNeg, Int.reduceAdd, Int.reduceSub, Int.reduceMul, Int.reduceToNat, Nat.reduceAdd, Nat.reduceSub, Nat.reduceEqDiff, Nat.reduceBEq, Nat.reduceLeDiff, Nat.reduceLT, t1, t4, aT, tn4, d1, d4, a1T, d1', d4', a2T, e8]) | ((with_reducible refine And.intro (by omega) (MP.eq (c_alAdd (by omega) a1 hq5 hn4) ?_)); simp only [bk_46_0, bk_46_19, i_cI, i_cV, i_clt, i_dup, i_exc, i_gR, i_ic, i_isub, i_ldI, i_ldR, i_new, i_pop, i_rI, i_throw, sq, enl, lk, lst, okS, tkr, look, aft, thr, thrH, w1, List.elem_cons, List.elem_nil, List.length_cons, List.length_nil, gT_sI, gR_sI, gI_sR, gT_sR, hN_sI, hU_sI, hN_sR, hU_sR, true_and, and_true, beq_self_eq_true, Bool.true_or, Bool.or_true, Bool.or_false, Bool.false_or, if_true, if_false, ite_true, ite_false, reduceIte, Option.some.injEq, false_implies, true_implies, not_false_eq_true, not_true_eq_false, forall_const, and_self, Int.reduceEq, Int.reduceLT, Int.reduceLE, Int.reduceNeg, Int.reduceAdd, Int.reduceSub, Int.reduceMul, Int.reduceToNat, Nat.reduceAdd, Nat.reduceSub, Nat.reduceEqDiff, Nat.reduceBEq, Nat.reduceLeDiff, Nat.reduceLT, t1, t4, aT, tn4, d1, d4, a1T, d1', d4', a2T, e8]) | ((with_reducible refine And.intro (by omega) (MP.eq (c_alSize a2) ?_)); simp only [bk_46_0, bk_46_19, i_cI, i_cV, i_clt, i_dup, i_exc, i_gR, i_ic, i_isub, i_ldI, i_ldR, i_new, i_pop, i_rI, i_throw, sq, enl, lk, lst, okS, tkr, look, aft, thr, thrH, w1, List.elem_cons, List.elem_nil, List.length_cons, List.length_nil, gT_sI, gR_sI, gI_sR, gT_sR, hN_sI, hU_sI, hN_sR, hU_sR, true_and, and_true, beq_self_eq_true, Bool.true_or, Bool.or_true, Bool.or_false, Bool.false_or, if_true, if_false, ite_true, ite_false, reduceIte, Option.some.injEq, false_implies, true_implies, not_false_eq_true, not_true_eq_false, forall_const, and_self, Int.reduceEq, Int.reduceLT, Int.reduceLE, Int.reduceNeg, Int.reduceAdd, Int.reduceSub, Int.reduceMul, Int.reduceToNat, Nat.reduceAdd, Nat.reduceSub, Nat.reduceEqDiff, Nat.reduceBEq, Nat.reduceLeDiff, Nat.reduceLT, t1, t4, aT, tn4, d1, d4, a1T, d1', d4', a2T, e8]) | ((with_reducible intro _); try (exfalso; omega)) | with_reducible apply And.intro | ((fail_if_success (with_reducible refine wpid ?_)); first | exact rg_toI _ | (simp only [rg, inA, okV] <;> omega) | omega | rfl | (simp [okV]; done)))
    all_goals first | exact hfin | exact l5 | omega
