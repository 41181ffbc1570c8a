/-! the component: what stays -/
/-- cells of the owner o are not written -/
abbrev Un (O : Nat → Nat) (W : Nat → Nat → Prop) (h : AH) (o : Nat) : Prop := ∀ q k, q ≤ hN h → O q = o → ¬ W q k
abbrev Ag (O O' : Nat → Nat) (h : AH) : Prop := ∀ q, q ≤ hN h → O' q = O q
/-- what an operation of the component leaves: 70 are cells of others -/
def cP (s0 : State) (x : Nat) (S : AS) (b : Nat) (O : Nat → Nat) (h h' : AH) : Prop := (∃ O', CR h' s0 O' x S ∧ Ag O O' h) ∧ ∃ W, Fr W b h h' ∧ Un O W h 70
def cQ (s0 : State) (x : Nat) (S : AS) (v : Int) (b : Nat) (O : Nat → Nat) (h : AH) (o : AO) (h' : AH) : Prop := o = .inl (some (vI v)) ∧ cP s0 x S b O h h'
theorem cP.rfl {s0 : State} {x b : Nat} {S : AS} {O : Nat → Nat} {h : AH} (H : CR h s0 O x S) : cP s0 x S b O h h := ⟨⟨O, H, fun _ _ => _root_.rfl⟩, ⟨fun _ _ => False, Fr.rfl, fun _ _ _ _ z => z⟩⟩
theorem AL.fr {W : Nat → Nat → Prop} {b : Nat} {h h' : AH} {p v c n : Nat} (H : AL h p v c n) (x : Fr W b h h') (hp : p ≤ hN h) (hv : v ≤ hN h) (wp : ∀ k, ¬ W p k) : AL h' p v c n := by
  obtain ⟨a1, a2, a3, a4, a5, a6, a7, a8⟩ := H
  exact ⟨by rw [x.T hp]; exact a1, by rw [x.R hp (wp _)]; exact a2, by rw [x.I hp (wp _)]; exact a3, by rw [x.T hv]; exact a4, a5, a6, by rw [x.I hp (wp _)]; exact a7, by rw [x.I hp (wp _)]; exact a8⟩
theorem ALn.fr {W : Nat → Nat → Prop} {b : Nat} {h h' : AH} {p v c n : Nat} (H : ALn h p v c n) (x : Fr W b h h') (hp : p ≤ hN h) (hv : v ≤ hN h) (wp : ∀ k, ¬ W p k) : ALn h' p v c n := ⟨H.1.fr x hp hv wp, by rw [x.I hp (wp _)]; exact H.2⟩
theorem ALn.add {h : AH} {p v c n q : Nat} (H : ALn h p v c n) (hn : n < c) (hne : p ≠ v) : ALn (aad h p v n q) p v c (n + 1) := by
  obtain ⟨⟨g1, g2, g3, g4, g5, g6, g7, g8⟩, g9⟩ := H
  have e2 : gI (aad h p v n q) p 2 = gI h p 2 + 1 := by
    unfold aad
    rw [gI_sI, if_neg (by omega), gI_sR, gI_sI, if_pos ⟨rfl, rfl⟩]
  refine ⟨⟨?_, ?_, ?_, ?_, by omega, g6, by rw [e2]; omega, by rw [e2]; omega⟩, by rw [e2]; omega⟩
  · unfold aad; rw [gT_sI, gT_sR, gT_sI]; exact g1
  · unfold aad; rw [gR_sI, gR_sR, if_neg (by omega), gR_sI]; exact g2
  · unfold aad; rw [gI_sI, if_pos ⟨rfl, rfl⟩]; omega
  · unfold aad; rw [gT_sI, gT_sR, gT_sI]; exact g4
theorem aad_fr {h : AH} {p v n q : Nat} : Fr (fun z _ => z = p ∨ z = v) 0 h (aad h p v n q) := by
  unfold aad
  exact ((Fr.rfl.sI (fun _ => Or.inl rfl)).sR (fun _ => Or.inr rfl)).sI (fun _ => Or.inl rfl)
theorem aad_R {h : AH} {p v n q j : Nat} : gR (aad h p v n q) v j = if j = n then q else gR h v j := by
  unfold aad
  rw [gR_sI, gR_sR, gR_sI]
  by_cases e : j = n
  · rw [if_pos ⟨rfl, e⟩, if_pos e]
  · rw [if_neg (fun z => e z.2), if_neg e]
theorem bd_fr {W : Nat → Nat → Prop} {b : Nat} {h h' : AH} {s0 : State} {O O' : Nat → Nat} {q : Nat} {v : VT 5} (H : BDc h s0 O q v) (x : Fr W b h h') (u0 : Un O W h 0) (ag : Ag O O' h) : BDc h' s0 O' q v := by
  obtain ⟨lo, hi, a1, a2, a3, a4⟩ := H
  have l1 := x.1
  exact ⟨lo, hi, a1, RV.T _ _ _ _ a2 (Sm.fr x a3 (fun p k p1 p2 => u0 p k (by omega) (a4 p p1 p2))), by omega, fun c c1 c2 => by rw [ag c (by omega)]; exact a4 c c1 c2⟩
theorem rk_fr {W : Nat → Nat → Prop} {b : Nat} {h h' : AH} {O O' : Nat → Nat} {q : Nat} {R : RU} (H : RKc h O q R) (x : Fr W b h h') (u0 : Un O W h 0) (ag : Ag O O' h) : RKc h' O' q R := by
  obtain ⟨lo, hi, a1, a2, a3, a4⟩ := H
  have l1 := x.1
  exact ⟨lo, hi, a1, a2.T (Sm.fr x a3 (fun p k p1 p2 => u0 p k (by omega) (a4 p p1 p2))), by omega, fun c c1 c2 => by rw [ag c (by omega)]; exact a4 c c1 c2⟩
theorem ic_fr {W : Nat → Nat → Prop} {b : Nat} {h h' : AH} {s0 : State} {O O' : Nat → Nat} {o p : Nat} {y : IA} (H : IC h s0 O o p y) (x : Fr W b h h') (u0 : Un O W h 0) (uo : Un O W h o) (ag : Ag O O' h) : IC h' s0 O' o p y := by
  obtain ⟨a1, a2, a3, a4, a5, a6, a7, a8, a9, a10, a11, a12, a13, a14, a15, a16⟩ := H
  have l1 := x.1
  have n0 := fun k => uo p k (by omega) a13
  have n1 := fun k => uo (p + 1) k (by omega) a14
  have n2 := fun k => uo (p + 2) k (by omega) a15
  have n3 := fun k => uo (p + 3) k (by omega) a16
  refine ⟨by rw [x.T (by omega)]; exact a1, by rw [x.I (by omega) (n0 _)]; exact a2, by rw [x.R (by omega) (n0 _)]; exact a3, by rw [x.R (by omega) (n0 _)]; exact a4, fun z => by rw [x.R (by omega) (n0 _)]; exact a5 z, fun v hv => by rw [x.R (by omega) (n0 _)]; exact bd_fr (a6 v hv) x u0 ag, by rw [x.I (by omega) (n0 _)]; exact a7, a8.fr x (by omega) (by omega) n1, fun k R hR => by rw [x.R (by omega) (n2 _)]; exact rk_fr (a9 k R hR) x u0 ag, by rw [x.T (by omega)]; exact a10, fun k s hs => by rw [x.I (by omega) (n3 _)]; exact a11 k s hs, by omega, by rw [ag _ (by omega)]; exact a13, by rw [ag _ (by omega)]; exact a14, by rw [ag _ (by omega)]; exact a15, by rw [ag _ (by omega)]; exact a16⟩
theorem mo_fr {W : Nat → Nat → Prop} {b : Nat} {h h' : AH} {O O' : Nat → Nat} {o p : Nat} {t : List Int} (H : MO h O o p t) (x : Fr W b h h') (uo : Un O W h o) (ag : Ag O O' h) : MO h' O' o p t := by
  obtain ⟨a1, s, v, c, a2, a3, a4, a5, a6, a7, a8, a9, a10⟩ := H
  have l1 := x.1
  exact ⟨by rw [x.T a5]; exact a1, s, v, c, by rw [x.R a5 (uo p _ a5 a8)]; exact a2, a3.fr x a6 a7 (fun k => uo s k a6 a9) (fun k => uo v k a7 a10), a4, by omega, by omega, by omega, by rw [ag _ a5]; exact a8, by rw [ag _ a6]; exact a9, by rw [ag _ a7]; exact a10⟩
theorem ml_fr {W : Nat → Nat → Prop} {b : Nat} {h h' : AH} {O O' : Nat → Nat} {xx : Nat} {ms : List MM} (H : ML h O xx ms) (x : Fr W b h h') (hx : xx + 12 ≤ hN h) (w5 : ¬ W xx 5) (w9 : ∀ k, ¬ W (xx + 9) k) (w10 : ∀ k, ¬ W (xx + 10) k) (um : ∀ k, k < 30 → Un O W h (10 + k)) (ag : Ag O O' h) : ML h' O' xx ms := by
  obtain ⟨a1, n, a2, a3, a4, a5⟩ := H
  refine ⟨by rw [x.I (by omega) w5]; exact a1, n, a2, a3, a4.fr x (by omega) (by omega) w9, fun k hk => ?_⟩
  obtain ⟨t, b1, b2'⟩ := a5 k hk
  rw [x.R (by omega) (w10 k)]
  have hb1 := b1
  obtain ⟨c1, s, v, c, c2, c3, c4, c5, c6, c7, c8, _⟩ := hb1
  refine ⟨t, mo_fr b1 x (um k (by omega)) ag, fun y hy => ?_⟩
  obtain ⟨d1, d2⟩ := b2' y hy
  exact ⟨d1, by rw [x.I c5 (um k (by omega) _ _ c5 c8)]; exact d2⟩
theorem ec_fr {W : Nat → Nat → Prop} {b : Nat} {h h' : AH} {O O' : Nat → Nat} {xx : Nat} {es : List Int} (H : EC h O xx es) (x : Fr W b h h') (hx : xx + 12 ≤ hN h) (w9 : ¬ W xx 9) (w8 : ¬ W xx 8) (w12 : ∀ k, ¬ W (xx + 12) k) (ue : Un O W h 50) (ag : Ag O O' h) : EC h' O' xx es := by
  obtain ⟨a1, c, a2, a3, a4, a5, a6, a7, a8⟩ := H
  have hw : ∀ k, ¬ W (gR h xx 8) k := fun k => by
    rcases a7 with e | e
    · rw [e]; exact w12 k
    · exact ue _ k a6 e
  have l1 := x.1
  have e8 : gR h' xx 8 = gR h xx 8 := x.R (by omega) w8
  refine ⟨by rw [x.I (by omega) w9]; exact a1, c, by rw [e8, x.T a6]; exact a2, a3, a4, a5, by rw [e8]; omega, ?_, fun k e he => by rw [e8, x.I a6 (hw k)]; exact a8 k e he⟩
  rw [e8, ag _ a6]
  exact a7
theorem STo.fr {W : Nat → Nat → Prop} {b : Nat} {h h' : AH} {s0 : State} {O O' : Nat → Nat} (H : STo h s0 O) (x : Fr W b h h') (u : Un O W h 60) (ag : Ag O O' h) : STo h' s0 O' := by
  have one : ∀ p t, STRo h O p t → STRo h' O' p t := fun p t ⟨v, ⟨a1, a2, a3, a4, a5, a6⟩, h2, h3, h4, h5, h6⟩ => by
    have wp := fun k => u p k h3 h5
    have wv := fun k => u v k h4 h6
    have l1 := x.1
    exact ⟨v, ⟨by rw [x.T h3]; exact a1, by rw [x.R h3 (wp _)]; exact a2, by rw [x.I h3 (wp _)]; exact a3, by rw [x.T h4]; exact a4, a5, fun k hk => by rw [x.I h4 (wv _)]; exact a6 k hk⟩, fun j hj => by rw [x.I h4 (wv _)]; exact h2 j hj, by omega, by omega, by rw [ag _ h3]; exact h5, by rw [ag _ h4]; exact h6⟩
  exact ⟨one _ _ H.1, one _ _ H.2.1, one _ _ H.2.2⟩
theorem DS.fr {W : Nat → Nat → Prop} {b : Nat} {h h' : AH} {xx : Nat} (H : DS h xx) (x : Fr W b h h') (hx : xx + 12 ≤ hN h) (w0 : ∀ k, W xx k → k = 5 ∨ k = 6 ∨ k = 8 ∨ k = 9) (w3 : ∀ k, W (xx + 3) k → k = 1) : DS h' xx := by
  obtain ⟨a1, a2, a3, a4, a5, a6, a7, a8, a9, a10, a11⟩ := H
  have n : ∀ k, k = 0 ∨ k = 1 ∨ k = 2 ∨ k = 3 ∨ k = 4 ∨ k = 7 → ¬ W xx k := fun k hk z => by have := w0 k z; omega
  exact ⟨by rw [x.T (by omega)]; exact a1, by rw [x.R (by omega) (n 0 (by omega))]; exact a2, by rw [x.R (by omega) (n 1 (by omega))]; exact a3, by rw [x.R (by omega) (n 2 (by omega))]; exact a4, by rw [x.R (by omega) (n 3 (by omega))]; exact a5, by rw [x.R (by omega) (n 4 (by omega))]; exact a6, by rw [x.R (by omega) (n 7 (by omega))]; exact a7, by rw [x.T (by omega)]; exact a8, by rw [x.R (by omega) (fun z => by have := w3 0 z; omega)]; exact a9, by rw [x.T (by omega)]; exact a10, by rw [x.T (by omega)]; exact a11⟩
/-- what only the desk's own cells are written for -/
abbrev WDk (x : Nat) (p k : Nat) : Prop := p = x ∧ k = 6 ∨ p = x + 1 ∨ p = x + 2 ∨ p = x + 3 ∧ k = 1 ∨ p = x + 4 ∨ p = x + 5 ∨ p = x + 8 ∨ p = x + 11
theorem wdk_un {h : AH} {s0 : State} {O : Nat → Nat} {x : Nat} {S : AS} (H : CR h s0 O x S) {o : Nat} (ho : o ≠ 1) : Un O (WDk x) h o := fun q k _ e z => by
  have f := H.2.1.2.2
  have g : ∀ i, i ≤ 12 → q = x + i → False := fun i hi hq => ho (by rw [← e, hq]; exact f i hi)
  rcases z with z | z | z | z | z | z | z | z
  · exact g 0 (by omega) z.1
  · exact g 1 (by omega) z
  · exact g 2 (by omega) z
  · exact g 3 (by omega) z.1
  · exact g 4 (by omega) z
  · exact g 5 (by omega) z
  · exact g 8 (by omega) z
  · exact g 11 (by omega) z
/-- the state after the text, the reader, the handlers or the place have changed -/
theorem CR.upd {h h' : AH} {s0 : State} {O : Nat → Nat} {x b n : Nat} {S : AS} {T : Tx} {N : Nat} {hs : Nat → Int} (H : CR h s0 O x S) (F : Fr (WDk x) b h h') (hT : SB h' (x + 1) (x + 2) 100 N ∧ ∀ j, j < N → gI h' (x + 2) j = T j) (hR : SB h' (x + 4) (x + 5) 100 n) (hH : ∀ s, s < 6 → gI h' (x + 8) s = hs s) : CR h' s0 (fun q => if q ≤ hN h then O q else 0) x ((T, N), S.2.1, hs, S.2.2.2) := by
  have un := fun o (ho : o ≠ 1) => wdk_un H ho
  obtain ⟨c1, ⟨c2, c3, c4⟩, c5, c6, ⟨c7, c8⟩, c9, c10, c11, c12, c13⟩ := H
  have l1 := F.1
  have ag : Ag O (fun q => if q ≤ hN h then O q else 0) h := fun q hq => if_pos hq
  refine ⟨c1.fr F c2 (fun k z => by omega) (fun k z => by omega), ⟨by omega, c3, fun i hi => by rw [ag _ (by omega)]; exact c4 i hi⟩, hT, ⟨n, hR⟩, ⟨c7.fr F (by omega) (by omega) (fun k z => by omega), fun i y hy => ?_⟩, hH, ec_fr c10 F c2 (by omega) (by omega) (fun k => by omega) (un 50 (by omega)) ag, ml_fr c11 F c2 (by omega) (fun k => by omega) (fun k => by omega) (fun k hk => un (10 + k) (by omega)) ag, c12.fr F (un 60 (by omega)) ag, fun q hq => ?_⟩
  · rw [F.R (by omega) (by omega)]
    exact ic_fr (c8 i y hy) F (un 0 (by omega)) (un (2 + i) (by omega)) ag
  · show (if q ≤ hN h then O q else 0) = 0
    split
    · next z => omega
    · rfl
theorem d_handler {l : Launch} {s0 : State} {d x : Nat} {h : AH} {O : Nat → Nat} {S : AS} {s f : Int} (hs : rg s) (hf : rg f) (w : WS S) (H : CR h s0 O x S) : MP l s0 41 d [vR x, vI s, vI f] h (cQ s0 x (opHandler S s f).1 (b2 (opHandler S s f).2) 0 O h) := by
  obtain ⟨t1, t2, t3, t4, t5, t6, t7, t8, t9, t10, t11⟩ := H.1
  unfold rg at hs hf
  by_cases g : 0 ≤ s ∧ s ≤ 5 ∧ 0 ≤ f ∧ f ≤ 3
  · have hfin : cQ s0 x (opHandler S s f).1 (b2 (opHandler S s f).2) 0 O h (.inl (some (vI 1))) (sI h (x + 8) s.toNat f) := by
      unfold opHandler
      rw [if_pos g]
      have F : Fr (WDk x) 0 h (sI h (x + 8) s.toNat f) := Fr.rfl.sI (fun _ => by omega)
      have y1 : Fr (fun p _ => p = x + 8) 0 h (sI h (x + 8) s.toNat f) := Fr.rfl.sI (fun _ => rfl)
      have c2 := H.2.1.1
      obtain ⟨n, c6⟩ := H.2.2.2.1
      refine ⟨rfl, ⟨_, H.upd F ⟨H.2.2.1.1.fr y1 (by omega) (by omega) (fun _ => by omega) (fun _ => by omega), fun j hj => by rw [y1.I (by omega) (by omega)]; exact H.2.2.1.2 j hj⟩ (c6.fr y1 (by omega) (by omega) (fun _ => by omega) (fun _ => by omega)) (fun j hj => ?_), fun q hq => if_pos hq⟩, ⟨WDk x, F, wdk_un H (by omega)⟩⟩
      rw [gI_sI]
      by_cases q : j = s.toNat
      · rw [if_pos ⟨rfl, q⟩]; show f = if (j : Int) = s then f else _; rw [if_pos (by omega)]
      · rw [if_neg (fun z => q z.2)]; show _ = if (j : Int) = s then f else S.2.2.1 j; rw [if_neg (by omega)]; exact H.2.2.2.2.2.1 j hj
    refine MP.of 3 ml_41 pn_41 (Nat.le_of_ble_eq_true rfl) ?_
    repeat' (first | ((with_reducible refine WP.run sb_41_0 ?_); simp only [bk_41_0, bk_41_19, bk_41_21, i_cge, i_cle, i_fall, i_gR, i_ic, i_ldI, i_ldR, i_rI, i_sI, i_zlt, sq, enl, lk, lst, okS, tkr, look, aft, thr, thrH, w1, List.elem_cons, List.elem_nil, List.length_cons, List.length_nil, gT_sI, gR_sI, gI_sR, gT_sR, hN_sI, hU_sI, hN_sR, hU_sR, true_and, and_true, beq_self_eq_true, Bool.true_or, Bool.or_true, Bool.or_false, Bool.false_or, if_true, if_false, ite_true, ite_false, reduceIte, Option.some.injEq, false_implies, true_implies, not_false_eq_true, not_true_eq_false, forall_const, and_self, Int.reduceEq, Int.reduceLT, Int.reduceLE, Int.reduceNeg, Int.reduceAdd, Int.reduceSub, Int.reduceMul, Int.reduceToNat, Nat.reduceAdd, Nat.reduceSub, Nat.reduceEqDiff, Nat.reduceBEq, Nat.reduceLeDiff, Nat.reduceLT, t1, t5, t10]) | ((with_reducible refine WP.run sb_41_19 ?_); simp only [bk_41_0, bk_41_19, bk_41_21, i_cge, i_cle, i_fall, i_gR, i_ic, i_ldI, i_ldR, i_rI, i_sI, i_zlt, sq, enl, lk, lst, okS, tkr, look, aft, thr, thrH, w1, List.elem_cons, List.elem_nil, List.length_cons, List.length_nil, gT_sI, gR_sI, gI_sR, gT_sR, hN_sI, hU_sI, hN_sR, hU_sR, true_and, and_true, beq_self_eq_true, Bool.true_or, Bool.or_true, Bool.or_false, Bool.false_or, if_true, if_false, ite_true, ite_false, reduceIte, Option.some.injEq, false_implies, true_implies, not_false_eq_true, not_true_eq_false, forall_const, and_self, Int.reduceEq, Int.reduceLT, Int.reduceLE, Int.reduceNeg, Int.reduceAdd, Int.reduceSub, Int.reduceMul, Int.reduceToNat, Nat.reduceAdd, Nat.reduceSub, Nat.reduceEqDiff, Nat.reduceBEq, Nat.reduceLeDiff, Nat.reduceLT, t1, t5, t10]) | ((with_reducible refine WP.run sb_41_21 ?_); simp only [bk_41_0, bk_41_19, bk_41_21, i_cge, i_cle, i_fall, i_gR, i_ic, i_ldI, i_ldR, i_rI, i_sI, i_zlt, sq, enl, lk, lst, okS, tkr, look, aft, thr, thrH, w1, List.elem_cons, List.elem_nil, List.length_cons, List.length_nil, gT_sI, gR_sI, gI_sR, gT_sR, hN_sI, hU_sI, hN_sR, hU_sR, true_and, and_true, beq_self_eq_true, Bool.true_or, Bool.or_true, Bool.or_false, Bool.false_or, if_true, if_false, ite_true, ite_false, reduceIte, Option.some.injEq, false_implies, true_implies, not_false_eq_true, not_true_eq_false, forall_const, and_self, Int.reduceEq, Int.reduceLT, Int.reduceLE, Int.reduceNeg, Int.reduceAdd, Int.reduceSub, Int.reduceMul, Int.reduceToNat, Nat.reduceAdd, Nat.reduceSub, Nat.reduceEqDiff, Nat.reduceBEq, Nat.reduceLeDiff, Nat.reduceLT, t1, t5, t10]) | ((with_reducible intro _); try (exfalso; omega)) | with_reducible apply And.intro | ((fail_if_success (with_reducible refine wpid ?_)); first | exact rg_toI _ | (simp only [rg, inA, okV] <;> omega) | omega | rfl | (simp [okV]; done)))
    all_goals exact hfin
  · have hfin : cQ s0 x (opHandler S s f).1 (b2 (opHandler S s f).2) 0 O h (.inl (some (vI 0))) h := by
      unfold opHandler
      rw [if_neg g]
      exact ⟨rfl, cP.rfl H⟩
    refine MP.of 3 ml_41 pn_41 (Nat.le_of_ble_eq_true rfl) ?_
    repeat' (first | ((with_reducible refine WP.run sb_41_0 ?_); simp only [bk_41_0, bk_41_19, bk_41_21, i_cge, i_cle, i_fall, i_gR, i_ic, i_ldI, i_ldR, i_rI, i_sI, i_zlt, sq, enl, lk, lst, okS, tkr, look, aft, thr, thrH, w1, List.elem_cons, List.elem_nil, List.length_cons, List.length_nil, gT_sI, gR_sI, gI_sR, gT_sR, hN_sI, hU_sI, hN_sR, hU_sR, true_and, and_true, beq_self_eq_true, Bool.true_or, Bool.or_true, Bool.or_false, Bool.false_or, if_true, if_false, ite_true, ite_false, reduceIte, Option.some.injEq, false_implies, true_implies, not_false_eq_true, not_true_eq_false, forall_const, and_self, Int.reduceEq, Int.reduceLT, Int.reduceLE, Int.reduceNeg, Int.reduceAdd, Int.reduceSub, Int.reduceMul, Int.reduceToNat, Nat.reduceAdd, Nat.reduceSub, Nat.reduceEqDiff, Nat.reduceBEq, Nat.reduceLeDiff, Nat.reduceLT, t1]) | ((with_reducible refine WP.run sb_41_19 ?_); simp only [bk_41_0, bk_41_19, bk_41_21, i_cge, i_cle, i_fall, i_gR, i_ic, i_ldI, i_ldR, i_rI, i_sI, i_zlt, sq, enl, lk, lst, okS, tkr, look, aft, thr, thrH, w1, List.elem_cons, List.elem_nil, List.length_cons, List.length_nil, gT_sI, gR_sI, gI_sR, gT_sR, hN_sI, hU_sI, hN_sR, hU_sR, true_and, and_true, beq_self_eq_true, Bool.true_or, Bool.or_true, Bool.or_false, Bool.false_or, if_true, if_false, ite_true, ite_false, reduceIte, Option.some.injEq, false_implies, true_implies, not_false_eq_true, not_true_eq_false, forall_const, and_self, Int.reduceEq, Int.reduceLT, Int.reduceLE, Int.reduceNeg, Int.reduceAdd, Int.reduceSub, Int.reduceMul, Int.reduceToNat, Nat.reduceAdd, Nat.reduceSub, Nat.reduceEqDiff, Nat.reduceBEq, Nat.reduceLeDiff, Nat.reduceLT, t1]) | ((with_reducible refine WP.run sb_41_21 ?_); simp only [bk_41_0, bk_41_19, bk_41_21, i_cge, i_cle, i_fall, i_gR, i_ic, i_ldI, i_ldR, i_rI, i_sI, i_zlt, sq, enl, lk, lst, okS, tkr, look, aft, thr, thrH, w1, List.elem_cons, List.elem_nil, List.length_cons, List.length_nil, gT_sI, gR_sI, gI_sR, gT_sR, hN_sI, hU_sI, hN_sR, hU_sR, true_and, and_true, beq_self_eq_true, Bool.true_or, Bool.or_true, Bool.or_false, Bool.false_or, if_true, if_false, ite_true, ite_false, reduceIte, Option.some.injEq, false_implies, true_implies, not_false_eq_true, not_true_eq_false, forall_const, and_self, Int.reduceEq, Int.reduceLT, Int.reduceLE, Int.reduceNeg, Int.reduceAdd, Int.reduceSub, Int.reduceMul, Int.reduceToNat, Nat.reduceAdd, Nat.reduceSub, Nat.reduceEqDiff, Nat.reduceBEq, Nat.reduceLeDiff, Nat.reduceLT, t1]) | ((with_reducible intro _); try (exfalso; omega)) | with_reducible apply And.intro | ((fail_if_success (with_reducible refine wpid ?_)); first | exact rg_toI _ | (simp only [rg, inA, okV] <;> omega) | omega | rfl | (simp [okV]; done)))
    all_goals exact hfin
/-- the text is taken into the reader -/
theorem d_take {l : Launch} {s0 : State} {d x : Nat} {h : AH} {O : Nat → Nat} {S : AS} (hd : 4 ≤ d) (w : WS S) (H : CR h s0 O x S) : MP l s0 97 d [vR (x + 3), vR (x + 1)] h (fun o h' => o = .inl none ∧ RD h' (x + 3) (x + 4) (x + 5) S.1.1 S.1.2 0 ∧ CR h' s0 (fun q => if q ≤ hN h then O q else 0) x (clr S) ∧ Fr (WDk x) 0 h h') := by
  obtain ⟨t1, t2, t3, t4, t5, t6, t7, t8, t9, t10, t11⟩ := H.1
  have c2 := H.2.1.1
  obtain ⟨n, c6⟩ := H.2.2.2.1
  refine MP.mono (c_take hd w.1 t8 t9 c6 H.2.2.1.1 H.2.2.1.2 ⟨by omega, by omega, by omega, by omega, by omega⟩ ⟨by omega, by omega⟩) (fun o h' hq => ?_)
  obtain ⟨rfl, a1, a2, a3⟩ := hq
  have F : Fr (WDk x) 0 h h' := a3.mono (Nat.le_refl _) (fun p k _ z => by omega)
  refine ⟨rfl, a1, H.upd (n := S.1.2) F ⟨a2, fun j hj => by omega⟩ a1.2.2.2.1 (fun s hs => by rw [a3.I (by omega) (by omega)]; exact H.2.2.2.2.2.1 s hs), F⟩
