/-! the component: events -/
theorem Fr.cpA {W : Nat → Nat → Prop} {b : Nat} {h0 h : AH} {u p a c n : Nat} (x : Fr W b h0 h) (hw : ∀ k, p ≤ hN h0 → W p k) : Fr W b h0 (cpA h u p a c n) := by
  obtain ⟨x1, x2, x3, x4, x5, x6⟩ := x
  refine ⟨x1, x2, x3, x4, x5, fun q j hq hn => ?_⟩
  rw [gI_cpA, gR_cpA, if_neg (fun c => hn (by rw [c.1]; exact hw j (by rw [← c.1]; exact hq)))]
  exact x6 q j hq hn
/-- what is listed or noted changes -/
theorem CR.ev {W : Nat → Nat → Prop} {h h' : AH} {s0 : State} {O O' : Nat → Nat} {x b : Nat} {S : AS} {es : List Int} {ms : List MM} (H : CR h s0 O x S) (F : Fr W b h h') (ag : Ag O O' h) (hO2 : ∀ q, hN h' < q → O' q = 0) (w0 : ∀ k, W x k → k = 5 ∨ k = 6 ∨ k = 8 ∨ k = 9) (w1 : ∀ i k, 1 ≤ i → i ≤ 8 → ¬ W (x + i) k) (un : ∀ o, o = 0 ∨ 2 ≤ o ∧ o < 6 ∨ o = 60 → Un O W h o) (hE : EC h' O' x es) (hM : ML h' O' x ms) : CR h' s0 O' x (S.1, S.2.1, S.2.2.1, es, ms) := by
  obtain ⟨c1, ⟨c2, c3, c4⟩, ⟨c5, c5'⟩, ⟨n, c6⟩, ⟨c7, c8⟩, c9, c10, c11, c12, c13⟩ := H
  have l1 := F.1
  have l4 : S.2.1.length ≤ 4 := c7.1.2.2.2.2.1
  refine ⟨c1.fr F c2 w0 (fun k z => absurd z (w1 3 k (by omega) (by omega))), ⟨by omega, c3, fun j hj => by rw [ag _ (by omega)]; exact c4 j hj⟩, ⟨c5.fr F (by omega) (by omega) (fun k => w1 1 k (by omega) (by omega)) (fun k => w1 2 k (by omega) (by omega)), fun j hj => by rw [F.I (by omega) (w1 2 j (by omega) (by omega))]; exact c5' j hj⟩, ⟨n, c6.fr F (by omega) (by omega) (fun k => w1 4 k (by omega) (by omega)) (fun k => w1 5 k (by omega) (by omega))⟩, ⟨c7.fr F (by omega) (by omega) (fun k => w1 6 k (by omega) (by omega)), fun j y hy' => ?_⟩, fun s hs => by rw [F.I (by omega) (w1 8 s (by omega) (by omega))]; exact c9 s hs, hE, hM, c12.fr F (un 60 (by omega)) ag, hO2⟩
  rw [F.R (by omega) (w1 7 j (by omega) (by omega))]
  have hj : j < 4 := by have := (List.getElem?_eq_some_iff.mp hy').1; simp only at this; omega
  exact ic_fr (c8 j y hy') F (un 0 (by omega)) (un (2 + j) (by omega)) ag
abbrev WEv (x ev : Nat) (q k : Nat) : Prop := q = x ∧ (k = 8 ∨ k = 9) ∨ q = ev
theorem wev_un {h : AH} {s0 : State} {O : Nat → Nat} {x : Nat} {S : AS} (H : CR h s0 O x S) {o : Nat} (h1 : o ≠ 1) (h2 : o ≠ 50) : Un O (WEv x (gR h x 8)) h o := fun q k _ e z => by
  have f := H.2.1.2.2
  obtain ⟨c, _, _, _, _, _, g, _⟩ := H.2.2.2.2.2.2.1.2
  rcases z with z | z
  · exact h1 (by rw [← e, z.1]; exact f 0 (by omega))
  · rcases g with g | g
    · exact h1 (by rw [← e, z, g]; exact f 12 (by omega))
    · exact h2 (by rw [← e, z, g])
theorem wev_x {h : AH} {s0 : State} {O : Nat → Nat} {x : Nat} {S : AS} (H : CR h s0 O x S) {i k : Nat} (h1 : 1 ≤ i) (h2 : i ≤ 11) : ¬ WEv x (gR h x 8) (x + i) k := fun z => by
  have f := H.2.1.2.2
  obtain ⟨c, _, _, _, _, _, g, _⟩ := H.2.2.2.2.2.2.1.2
  rcases z with z | z
  · omega
  · rcases g with g | g
    · omega
    · rw [← z, f i (by omega)] at g; omega
def evS (S : AS) (es : List Int) : AS := (S.1, S.2.1, S.2.2.1, S.2.2.2.1 ++ es, S.2.2.2.2)
theorem evS_nil (S : AS) : evS S [] = S := by unfold evS; rw [List.append_nil]
theorem evS_app (S : AS) (a b : List Int) : evS (evS S a) b = evS S (a ++ b) := by unfold evS; simp only [List.append_assoc]
/-- an event is noted -/
def ntE (h : AH) (x n : Nat) (e : Int) : AH := sI (sI h (gR h x 8) n e) x 9 ((n : Int) + 1)
theorem nt_fr {h : AH} {x n : Nat} {e : Int} : Fr (WEv x (gR h x 8)) 0 h (ntE h x n e) := (Fr.rfl.sI (fun _ => Or.inr rfl)).sI (fun _ => Or.inl ⟨rfl, Or.inr rfl⟩)
theorem ev_ne {h : AH} {s0 : State} {O : Nat → Nat} {x : Nat} {S : AS} (H : CR h s0 O x S) : gR h x 8 ≠ x := fun z => by
  obtain ⟨c, _, _, _, _, _, g, _⟩ := H.2.2.2.2.2.2.1.2
  rcases g with g | g
  · omega
  · rw [z] at g; have := H.2.1.2.2 0 (by omega); rw [Nat.add_zero] at this; omega
theorem nt_CR {h : AH} {s0 : State} {O : Nat → Nat} {x c : Nat} {S : AS} {e : Int} (H : CR h s0 O x S) (hc : gT h (gR h x 8) = (20, c)) (hn : S.2.2.2.1.length < c) : CR (ntE h x S.2.2.2.1.length e) s0 O x (evS S [e]) := by
  have ne := ev_ne H
  have F := nt_fr (h := h) (x := x) (n := S.2.2.2.1.length) (e := e)
  obtain ⟨e1, c', e2, e3, e4, e5, e6, e7, e8⟩ := H.2.2.2.2.2.2.1
  have c2 := H.2.1.1
  have hcc : c' = c := by rw [hc] at e2; simp only [Prod.mk.injEq] at e2; exact e2.2.symm
  subst hcc
  have r8 : gR (ntE h x S.2.2.2.1.length e) x 8 = gR h x 8 := by unfold ntE; rw [gR_sI, gR_sI]
  refine H.ev (O' := O) F (fun _ _ => rfl) H.2.2.2.2.2.2.2.2.2 (fun k z => ?_) (fun i k i1 i2 => wev_x H i1 (by omega)) (fun o ho => wev_un H (by omega) (by omega)) ?_ (ml_fr H.2.2.2.2.2.2.2.1 F c2 (fun z => by omega) (fun k => wev_x H (by omega) (by omega)) (fun k => wev_x H (by omega) (by omega)) (fun k hk => wev_un H (by omega) (by omega)) (fun _ _ => rfl))
  · rcases z with z | z
    · omega
    · omega
  · refine ⟨by unfold ntE; rw [gI_sI, if_pos ⟨rfl, rfl⟩]; simp, c', by rw [r8]; unfold ntE; rw [gT_sI, gT_sI]; exact e2, by simp; omega, e4, e5, by rw [r8]; exact e6, by rw [r8]; exact e7, fun k e' he => ?_⟩
    rw [r8]
    unfold ntE
    rw [gI_sI, if_neg (fun z => ne z.1), gI_sI]
    by_cases ek : k = S.2.2.2.1.length
    · subst ek
      rw [List.getElem?_append_right (Nat.le_refl _)] at he
      simp at he
      rw [if_pos ⟨rfl, rfl⟩, he]
    · have hjl : k < S.2.2.2.1.length := by
        have := (List.getElem?_eq_some_iff.mp he).1
        simp only [List.length_append, List.length_cons, List.length_nil] at this
        omega
      rw [List.getElem?_append_left hjl] at he
      rw [if_neg (fun z => ek z.2)]; exact e8 k e' he
/-- the events get more room -/
def grE (h : AH) (x n : Nat) : AH := sR (cpA (nw h 20 (2 * n)) (gR h x 8) (hN h + 1) 0 0 n) x 8 (hN h + 1)
theorem gr_CR {h : AH} {s0 : State} {O : Nat → Nat} {x : Nat} {S : AS} (H : CR h s0 O x S) (hc : gT h (gR h x 8) = (20, S.2.2.2.1.length)) (hn : S.2.2.2.1.length ≤ 390) : (∃ O', CR (grE h x S.2.2.2.1.length) s0 O' x S ∧ Ag O O' h) ∧ Fr (fun q k => q = x ∧ k = 8) 800 h (grE h x S.2.2.2.1.length) ∧ gR (grE h x S.2.2.2.1.length) x 8 = hN h + 1 ∧ gT (grE h x S.2.2.2.1.length) (hN h + 1) = (20, 2 * S.2.2.2.1.length) := by
  have F : Fr (fun q k => q = x ∧ k = 8) 800 h (grE h x S.2.2.2.1.length) := ((((Fr.rfl (b := 0)).nw (t := 20) (n := 2 * S.2.2.2.1.length)).cpA (fun k z => by omega)).sR (fun _ => ⟨rfl, rfl⟩)).le (by omega)
  obtain ⟨e1, c', e2, e3, e4, e5, e6, e7, e8⟩ := H.2.2.2.2.2.2.1
  have c2 := H.2.1.1
  have hcc : c' = S.2.2.2.1.length := by rw [hc] at e2; simp only [Prod.mk.injEq] at e2; exact e2.2.symm
  subst hcc
  have hN1 : hN (grE h x S.2.2.2.1.length) = hN h + 1 := rfl
  have r8 : gR (grE h x S.2.2.2.1.length) x 8 = hN h + 1 := by unfold grE; rw [gR_sR, if_pos ⟨rfl, rfl⟩]
  have rT : gT (grE h x S.2.2.2.1.length) (hN h + 1) = (20, 2 * S.2.2.2.1.length) := by unfold grE; rw [gT_sR, gT_cpA, gT_nw, if_pos rfl]
  refine ⟨⟨fun q => if q ≤ hN h then O q else if q = hN h + 1 then 50 else 0, ?_, fun q hq => if_pos hq⟩, F, r8, rT⟩
  have ag : Ag O (fun q => if q ≤ hN h then O q else if q = hN h + 1 then 50 else 0) h := fun q hq => if_pos hq
  have un : ∀ o, o ≠ 1 → Un O (fun q k => q = x ∧ k = 8) h o := fun o ho q k _ e z => ho (by rw [← e, z.1]; exact H.2.1.2.2 0 (by omega))
  refine H.ev (es := S.2.2.2.1) (ms := S.2.2.2.2) F ag (fun q hq => ?_) (fun k z => by omega) (fun i k i1 i2 => by omega) (fun o ho => un o (by omega)) ?_ (ml_fr H.2.2.2.2.2.2.2.1 F c2 (fun z => by omega) (fun k => by omega) (fun k => by omega) (fun k hk => un _ (by omega)) ag)
  · show (if q ≤ hN h then O q else if q = hN h + 1 then 50 else 0) = 0
    rw [if_neg (by omega), if_neg (by omega)]
  · refine ⟨by rw [F.I (by omega) (by omega)]; exact e1, 2 * S.2.2.2.1.length, by rw [r8]; exact rT, by omega, by omega, by omega, by rw [r8, hN1]; exact Nat.le_refl _, Or.inr ?_, fun k e he => ?_⟩
    · rw [r8]
      show (if hN h + 1 ≤ hN h then O (hN h + 1) else if hN h + 1 = hN h + 1 then 50 else 0) = 50
      rw [if_neg (by omega), if_pos rfl]
    · rw [r8]
      have hk := (List.getElem?_eq_some_iff.mp he).1
      unfold grE
      rw [gI_sR, gI_cpA, if_pos ⟨rfl, by omega, by omega⟩, gI_nw, if_neg (by omega)]
      rw [show 0 + (k - 0) = k by omega]
      exact e8 k e he
theorem Fr.trans2 {W W' : Nat → Nat → Prop} {a b : Nat} {h h' h'' : AH} (x : Fr W a h h') (y : Fr W' b h' h'') (hw : ∀ q k, q ≤ hN h → W' q k → W q k) : Fr W (a + b) h h'' := by
  obtain ⟨x1, x2, x3, x4, x5, x6⟩ := x
  obtain ⟨y1, y2, y3, y4, y5, y6⟩ := y
  refine ⟨by omega, by omega, by omega, by omega, fun p hp => ?_, fun p k hp hn => ?_⟩
  · rw [y5 p (by omega), x5 p hp]
  · rw [(y6 p k (by omega) (fun z => hn (hw p k hp z))).1, (y6 p k (by omega) (fun z => hn (hw p k hp z))).2]; exact x6 p k hp hn
/-- what noting may write -/
def WN (x : Nat) (O : Nat → Nat) (q k : Nat) : Prop := q = x ∧ (k = 8 ∨ k = 9) ∨ q = x + 12 ∨ O q = 50
def cNt (s0 : State) (x : Nat) (S : AS) (b : Nat) (O : Nat → Nat) (h h' : AH) : Prop := (∃ O', CR h' s0 O' x S ∧ Ag O O' h) ∧ Fr (WN x O) b h h'
theorem wn_un {h : AH} {s0 : State} {O : Nat → Nat} {x : Nat} {S : AS} (H : CR h s0 O x S) {o : Nat} (h1 : o ≠ 1) (h2 : o ≠ 50) : Un O (WN x O) h o := fun q k _ e z => by
  have f := H.2.1.2.2
  rcases z with z | z | z
  · exact h1 (by rw [← e, z.1]; exact f 0 (by omega))
  · exact h1 (by rw [← e, z]; exact f 12 (by omega))
  · omega
theorem wn_x {h : AH} {s0 : State} {O : Nat → Nat} {x : Nat} {S : AS} (H : CR h s0 O x S) {i k : Nat} (h1 : 1 ≤ i) (h2 : i ≤ 11) : ¬ WN x O (x + i) k := fun z => by
  have f := H.2.1.2.2 i (by omega)
  rcases z with z | z | z <;> omega
theorem cNt.cP {s0 : State} {x b : Nat} {S S0 : AS} {O : Nat → Nat} {h h' : AH} (H : CR h s0 O x S0) (z : cNt s0 x S b O h h') : cP s0 x S b O h h' := ⟨z.1, _, z.2, wn_un H (by omega) (by omega)⟩
theorem cNt.rfl {s0 : State} {x b : Nat} {S : AS} {O : Nat → Nat} {h : AH} (H : CR h s0 O x S) : cNt s0 x S b O h h := ⟨⟨O, H, fun _ _ => _root_.rfl⟩, Fr.rfl⟩
theorem cNt.tr {s0 : State} {x b1 b2 : Nat} {S : AS} {O O1 : Nat → Nat} {h h1 h2 : AH} (ag : Ag O O1 h) (f1 : Fr (WN x O) b1 h h1) (p2 : cNt s0 x S b2 O1 h1 h2) : cNt s0 x S (b1 + b2) O h h2 := by
  obtain ⟨⟨O2, c2, a2⟩, f2⟩ := p2
  have l1 := f1.1
  refine ⟨⟨O2, c2, fun q hq => by rw [a2 q (by omega), ag q hq]⟩, f1.trans2 f2 (fun q k hq z => ?_)⟩
  unfold WN at z
  rw [ag q hq] at z
  exact z
def nvQ (s0 : State) (x : Nat) (S : AS) (b : Nat) (O : Nat → Nat) (h : AH) (o : AO) (h' : AH) : Prop := o = .inl none ∧ cNt s0 x S b O h h'
def nvX (s0 : State) (x : Nat) (S : AS) (tg b : Nat) (O : Nat → Nat) (h : AH) (o : AO) (h' : AH) : Prop := ∃ q, o = .inr q ∧ gT h' q = (tg, 6) ∧ cNt s0 x S b O h h'
theorem wev_wn {h : AH} {s0 : State} {O : Nat → Nat} {x q k : Nat} {S : AS} (H : CR h s0 O x S) (z : WEv x (gR h x 8) q k) : WN x O q k := by
  obtain ⟨c, _, _, _, _, _, g, _⟩ := H.2.2.2.2.2.2.1.2
  rcases z with z | z
  · exact Or.inl z
  · rw [z]
    rcases g with g | g
    · exact Or.inr (Or.inl g)
    · exact Or.inr (Or.inr g)
theorem dn_40 {l : Launch} {s0 : State} {d x c : Nat} {h : AH} {O : Nat → Nat} {S : AS} {e : Int} {u : Option AV} {Q : AO → AH → Prop} (he : 0 ≤ e ∧ e ≤ 60) (H : CR h s0 O x S) (hc : gT h (gR h x 8) = (20, c)) (hn : S.2.2.2.1.length < c) (hQ : Q (.inl none) (ntE h x S.2.2.2.1.length e)) : WP l s0 50 d 40 [some (vR x), some (vI e), u] [] h Q := by
  have t1 := H.1.1
  have ne := ev_ne H
  obtain ⟨e1, c', e2, e3, e4, e5, e6, e7, e8⟩ := H.2.2.2.2.2.2.1
  have hcc : c' = c := by rw [hc] at e2; simp only [Prod.mk.injEq] at e2; exact e2.2.symm
  subst hcc
  have z1 : ((S.2.2.2.1.length : Nat) : Int).toNat = S.2.2.2.1.length := by omega
  have z2 : gI (sI h (gR h x 8) S.2.2.2.1.length e) x 9 = (S.2.2.2.1.length : Int) := by rw [gI_sI, if_neg (fun z => ne z.1.symm)]; exact e1
  refine WP.run sb_50_40 ?_
  simp only [bk_50_0, bk_50_40, i_acp, i_cne, i_dup, i_fall, i_gI, i_gR, i_iadd, i_ic, i_imul, i_ldI, i_ldR, i_len, i_na, i_pI, i_pR, i_ret, i_sI, i_stR, sq, enl, lk, lst, okS, tkr, look, aft, thr, thrH, w1, List.elem_cons, List.elem_nil, List.length_cons, List.length_nil, gT_sI, gR_sI, gI_sR, gT_sR, hN_sI, hU_sI, hN_sR, hU_sR, true_and, and_true, beq_self_eq_true, Bool.true_or, Bool.or_true, Bool.or_false, Bool.false_or, if_true, if_false, ite_true, ite_false, reduceIte, Option.some.injEq, false_implies, true_implies, not_false_eq_true, not_true_eq_false, forall_const, and_self, Int.reduceEq, Int.reduceLT, Int.reduceLE, Int.reduceNeg, Int.reduceAdd, Int.reduceSub, Int.reduceMul, Int.reduceToNat, Nat.reduceAdd, Nat.reduceSub, Nat.reduceEqDiff, Nat.reduceBEq, Nat.reduceLeDiff, Nat.reduceLT, t1, e1, e2, z1, z2]
  repeat' (first | ((with_reducible refine WP.run sb_50_0 ?_); simp only [bk_50_0, bk_50_40, i_acp, i_cne, i_dup, i_fall, i_gI, i_gR, i_iadd, i_ic, i_imul, i_ldI, i_ldR, i_len, i_na, i_pI, i_pR, i_ret, i_sI, i_stR, sq, enl, lk, lst, okS, tkr, look, aft, thr, thrH, w1, List.elem_cons, List.elem_nil, List.length_cons, List.length_nil, gT_sI, gR_sI, gI_sR, gT_sR, hN_sI, hU_sI, hN_sR, hU_sR, true_and, and_true, beq_self_eq_true, Bool.true_or, Bool.or_true, Bool.or_false, Bool.false_or, if_true, if_false, ite_true, ite_false, reduceIte, Option.some.injEq, false_implies, true_implies, not_false_eq_true, not_true_eq_false, forall_const, and_self, Int.reduceEq, Int.reduceLT, Int.reduceLE, Int.reduceNeg, Int.reduceAdd, Int.reduceSub, Int.reduceMul, Int.reduceToNat, Nat.reduceAdd, Nat.reduceSub, Nat.reduceEqDiff, Nat.reduceBEq, Nat.reduceLeDiff, Nat.reduceLT, t1, e1, e2, z1, z2]) | ((with_reducible intro _); try (exfalso; omega)) | with_reducible apply And.intro | ((fail_if_success (with_reducible refine wpid ?_)); first | exact rg_toI _ | (simp only [rg, inA, okV] <;> omega) | omega | rfl | (simp [okV]; done)))
  all_goals exact hQ
theorem d_note {l : Launch} {s0 : State} {d x : Nat} {h : AH} {O : Nat → Nat} {S : AS} {e : Int} (hd : 1 ≤ d) (hr : Rm s0 h 800) (he : 0 ≤ e ∧ e ≤ 60) (w : ∀ e ∈ S.2.2.2.1, 0 ≤ e ∧ e ≤ 60) (hn : S.2.2.2.1.length ≤ 390) (H : CR h s0 O x S) : MP l s0 50 d [vR x, vI e] h (nvQ s0 x (evS S [e]) 800 O h) := by
  have t1 := H.1.1
  have ne := ev_ne H
  have hec := H.2.2.2.2.2.2.1
  obtain ⟨e1, c, e2, e3, e4, e5, e6, e7, e8⟩ := hec
  by_cases q : S.2.2.2.1.length = c
  · subst q
    obtain ⟨⟨O1, g1, g2⟩, g3, g4, g5⟩ := gr_CR H e2 hn
    have hQ : nvQ s0 x (evS S [e]) 800 O h (.inl none) (ntE (grE h x S.2.2.2.1.length) x S.2.2.2.1.length e) := by
      have c2 := nt_CR (e := e) g1 (by rw [g4]; exact g5) (by omega)
      have F2 := nt_fr (h := grE h x S.2.2.2.1.length) (x := x) (n := S.2.2.2.1.length) (e := e)
      have := cNt.tr (b1 := 800) (b2 := 0) g2 (g3.mono (Nat.le_refl _) (fun q k _ z => Or.inl ⟨z.1, Or.inl z.2⟩)) ⟨⟨O1, c2, fun _ _ => rfl⟩, F2.mono (Nat.le_refl _) (fun q k _ z => wev_wn g1 z)⟩
      exact ⟨rfl, this⟩
    have hW := fun u => dn_40 (l := l) (d := d) (u := u) he g1 (by rw [g4]; exact g5) (by omega) hQ
    have z1 : (2 * ((S.2.2.2.1.length : Nat) : Int)).toNat = 2 * S.2.2.2.1.length := by omega
    have z3 : (x = hN h + 1) = False := by simp; have := H.2.1.1; omega
    have z4 : (gR h x 8 = hN h + 1) = False := by simp; omega
    have z2 : ((S.2.2.2.1.length : Nat) : Int).toNat = S.2.2.2.1.length := by omega
    have z5 : (0 : Int).toNat = 0 := rfl
    refine MP.of 3 ml_50 pn_50 (Nat.le_of_ble_eq_true rfl) ?_
    refine WP.run sb_50_0 ?_
    simp only [bk_50_0, bk_50_40, i_acp, i_cne, i_dup, i_fall, i_gI, i_gR, i_iadd, i_ic, i_imul, i_ldI, i_ldR, i_len, i_na, i_pI, i_pR, i_ret, i_sI, i_stR, sq, enl, lk, lst, okS, tkr, look, aft, thr, thrH, w1, List.elem_cons, List.elem_nil, List.length_cons, List.length_nil, gT_sI, gR_sI, gI_sR, gT_sR, hN_sI, hU_sI, hN_sR, hU_sR, true_and, and_true, beq_self_eq_true, Bool.true_or, Bool.or_true, Bool.or_false, Bool.false_or, if_true, if_false, ite_true, ite_false, reduceIte, Option.some.injEq, false_implies, true_implies, not_false_eq_true, not_true_eq_false, forall_const, and_self, Int.reduceEq, Int.reduceLT, Int.reduceLE, Int.reduceNeg, Int.reduceAdd, Int.reduceSub, Int.reduceMul, Int.reduceToNat, Nat.reduceAdd, Nat.reduceSub, Nat.reduceEqDiff, Nat.reduceBEq, Nat.reduceLeDiff, Nat.reduceLT, t1, e1, e2, z1, z2, z3, z4, z5, gT_nw, gI_nw, gR_nw, gT_cpA, gI_cpA, gR_cpA]
    refine ⟨by decide, by unfold rg; omega, ⟨by omega, by omega⟩, hr.lim (by omega), ⟨⟨by omega, by omega, by omega, by omega⟩, fun k hk => ?_, by omega⟩, hW _⟩
    have hx : S.2.2.2.1[k]? = some S.2.2.2.1[k] := List.getElem?_eq_getElem hk
    have h1 := e8 k _ hx
    have h2 := w _ (List.mem_of_getElem? hx)
    rw [Nat.zero_add, h1]
    show rg _
    unfold rg; omega
  · have hQ : nvQ s0 x (evS S [e]) 800 O h (.inl none) (ntE h x S.2.2.2.1.length e) := ⟨rfl, ⟨O, nt_CR H e2 (by omega), fun _ _ => rfl⟩, nt_fr.mono (by omega) (fun q k _ z => wev_wn H z)⟩
    have hW := fun u => dn_40 (l := l) (d := d) (u := u) he H e2 (by omega) hQ
    refine MP.of 3 ml_50 pn_50 (Nat.le_of_ble_eq_true rfl) ?_
    repeat' (first | ((with_reducible refine WP.run sb_50_0 ?_); simp only [bk_50_0, bk_50_40, i_acp, i_cne, i_dup, i_fall, i_gI, i_gR, i_iadd, i_ic, i_imul, i_ldI, i_ldR, i_len, i_na, i_pI, i_pR, i_ret, i_sI, i_stR, sq, enl, lk, lst, okS, tkr, look, aft, thr, thrH, w1, List.elem_cons, List.elem_nil, List.length_cons, List.length_nil, gT_sI, gR_sI, gI_sR, gT_sR, hN_sI, hU_sI, hN_sR, hU_sR, true_and, and_true, beq_self_eq_true, Bool.true_or, Bool.or_true, Bool.or_false, Bool.false_or, if_true, if_false, ite_true, ite_false, reduceIte, Option.some.injEq, false_implies, true_implies, not_false_eq_true, not_true_eq_false, forall_const, and_self, Int.reduceEq, Int.reduceLT, Int.reduceLE, Int.reduceNeg, Int.reduceAdd, Int.reduceSub, Int.reduceMul, Int.reduceToNat, Nat.reduceAdd, Nat.reduceSub, Nat.reduceEqDiff, Nat.reduceBEq, Nat.reduceLeDiff, Nat.reduceLT, t1, e1, e2]) | ((with_reducible intro _); try (exfalso; omega)) | with_reducible apply And.intro | ((fail_if_success (with_reducible refine wpid ?_)); first | exact rg_toI _ | (simp only [rg, inA, okV] <;> omega) | omega | rfl | (simp [okV]; done)))
    all_goals exact hW _
/-! states are set up and torn down -/
def suC (s0 : State) (x : Nat) (S : AS) (s : Int) (O : Nat → Nat) (h : AH) (o : AO) (h' : AH) : Prop := ((S.2.2.1 s.toNat = 0 ∨ S.2.2.1 s.toNat = 2) ∧ (nvX s0 x S 17 800 O h o h' ∨ nvX s0 x S 18 800 O h o h')) ∨ (¬ (S.2.2.1 s.toNat = 0 ∨ S.2.2.1 s.toNat = 2) ∧ nvQ s0 x (evS S [10 * s]) 800 O h o h')
theorem cNt.exc {s0 : State} {x : Nat} {S : AS} {O : Nat → Nat} {h : AH} {t : Nat} (H : CR h s0 O x S) : cNt s0 x S 800 O h (nw h t 6) := by
  have F : Fr (fun _ _ => False) 7 h (nw h t 6) := ((Fr.rfl (b := 0)).nw (t := t) (n := 6)).le (by omega)
  exact ⟨⟨_, H.rd (F.mono (Nat.le_refl _) (fun _ _ _ z => z.elim)), ag_if⟩, F.mono (by omega) (fun _ _ _ z => z.elim)⟩
theorem d_setUp {l : Launch} {s0 : State} {d x : Nat} {h : AH} {O : Nat → Nat} {S : AS} {s : Int} (hd : 8 ≤ d) (hr : Rm s0 h 800) (hs : 0 ≤ s ∧ s ≤ 5) (w : WS S) (hn : S.2.2.2.1.length ≤ 390) (H : CR h s0 O x S) : MP l s0 54 d [vR x, vI s] h (suC s0 x S s O h) := by
  obtain ⟨t1, t2, t3, t4, t5, t6, t7, t8, t9, t10, t11⟩ := H.1
  have hh := H.2.2.2.2.2.1 s.toNat (by omega)
  have hw := w.2.2.2.1 s.toNat (by omega)
  have l6 : lim s0 h 6 := hr.lim (by omega)
  by_cases q : S.2.2.1 s.toNat = 0
  · have hfin : suC s0 x S s O h (.inr (hN h + 1)) (nw h 18 6) := Or.inl ⟨Or.inl q, Or.inr ⟨_, rfl, exc18_T h, cNt.exc H⟩⟩
    rw [q] at hh
    have x1 := exc18_T h
    have x2 := exc18_R h
    refine MP.of 2 ml_54 pn_54 (Nat.le_of_ble_eq_true rfl) ?_
    repeat' (first | ((with_reducible refine WP.run sb_54_0 ?_); simp only [bk_54_0, bk_54_17, bk_54_35, i_aI, i_cV, i_cne, i_dup, i_exc, i_gR, i_ic, i_imul, i_ldI, i_ldR, i_new, i_ret, i_throw, i_zne, sq, enl, lk, lst, okS, tkr, look, aft, thr, thrH, w1, List.elem_cons, List.elem_nil, List.length_cons, List.length_nil, gT_sI, gR_sI, gI_sR, gT_sR, hN_sI, hU_sI, hN_sR, hU_sR, true_and, and_true, beq_self_eq_true, Bool.true_or, Bool.or_true, Bool.or_false, Bool.false_or, if_true, if_false, ite_true, ite_false, reduceIte, Option.some.injEq, false_implies, true_implies, not_false_eq_true, not_true_eq_false, forall_const, and_self, Int.reduceEq, Int.reduceLT, Int.reduceLE, Int.reduceNeg, Int.reduceAdd, Int.reduceSub, Int.reduceMul, Int.reduceToNat, Nat.reduceAdd, Nat.reduceSub, Nat.reduceEqDiff, Nat.reduceBEq, Nat.reduceLeDiff, Nat.reduceLT, t1, t5, t10, hh, tn18, x1, x2]) | ((with_reducible refine WP.run sb_54_17 ?_); simp only [bk_54_0, bk_54_17, bk_54_35, i_aI, i_cV, i_cne, i_dup, i_exc, i_gR, i_ic, i_imul, i_ldI, i_ldR, i_new, i_ret, i_throw, i_zne, sq, enl, lk, lst, okS, tkr, look, aft, thr, thrH, w1, List.elem_cons, List.elem_nil, List.length_cons, List.length_nil, gT_sI, gR_sI, gI_sR, gT_sR, hN_sI, hU_sI, hN_sR, hU_sR, true_and, and_true, beq_self_eq_true, Bool.true_or, Bool.or_true, Bool.or_false, Bool.false_or, if_true, if_false, ite_true, ite_false, reduceIte, Option.some.injEq, false_implies, true_implies, not_false_eq_true, not_true_eq_false, forall_const, and_self, Int.reduceEq, Int.reduceLT, Int.reduceLE, Int.reduceNeg, Int.reduceAdd, Int.reduceSub, Int.reduceMul, Int.reduceToNat, Nat.reduceAdd, Nat.reduceSub, Nat.reduceEqDiff, Nat.reduceBEq, Nat.reduceLeDiff, Nat.reduceLT, t1, t5, t10, hh, tn18, x1, x2]) | ((with_reducible refine WP.run sb_54_35 ?_); simp only [bk_54_0, bk_54_17, bk_54_35, i_aI, i_cV, i_cne, i_dup, i_exc, i_gR, i_ic, i_imul, i_ldI, i_ldR, i_new, i_ret, i_throw, i_zne, sq, enl, lk, lst, okS, tkr, look, aft, thr, thrH, w1, List.elem_cons, List.elem_nil, List.length_cons, List.length_nil, gT_sI, gR_sI, gI_sR, gT_sR, hN_sI, hU_sI, hN_sR, hU_sR, true_and, and_true, beq_self_eq_true, Bool.true_or, Bool.or_true, Bool.or_false, Bool.false_or, if_true, if_false, ite_true, ite_false, reduceIte, Option.some.injEq, false_implies, true_implies, not_false_eq_true, not_true_eq_false, forall_const, and_self, Int.reduceEq, Int.reduceLT, Int.reduceLE, Int.reduceNeg, Int.reduceAdd, Int.reduceSub, Int.reduceMul, Int.reduceToNat, Nat.reduceAdd, Nat.reduceSub, Nat.reduceEqDiff, Nat.reduceBEq, Nat.reduceLeDiff, Nat.reduceLT, t1, t5, t10, hh, tn18, x1, x2]) | ((with_reducible intro _); try (exfalso; omega)) | with_reducible apply And.intro | ((fail_if_success (with_reducible refine wpid ?_)); first | exact rg_toI _ | (simp only [rg, inA, okV] <;> omega) | omega | rfl | (simp [okV]; done)))
    all_goals first | exact hfin | exact l6 | omega
  · by_cases q2 : S.2.2.1 s.toNat = 2
    · have hfin : suC s0 x S s O h (.inr (hN h + 1)) (nw h 17 6) := Or.inl ⟨Or.inr q2, Or.inl ⟨_, rfl, exc_T h, cNt.exc H⟩⟩
      rw [q2] at hh
      have x1 := exc_T h
      have x2 := exc_R h
      refine MP.of 2 ml_54 pn_54 (Nat.le_of_ble_eq_true rfl) ?_
      repeat' (first | ((with_reducible refine WP.run sb_54_0 ?_); simp only [bk_54_0, bk_54_17, bk_54_35, i_aI, i_cV, i_cne, i_dup, i_exc, i_gR, i_ic, i_imul, i_ldI, i_ldR, i_new, i_ret, i_throw, i_zne, sq, enl, lk, lst, okS, tkr, look, aft, thr, thrH, w1, List.elem_cons, List.elem_nil, List.length_cons, List.length_nil, gT_sI, gR_sI, gI_sR, gT_sR, hN_sI, hU_sI, hN_sR, hU_sR, true_and, and_true, beq_self_eq_true, Bool.true_or, Bool.or_true, Bool.or_false, Bool.false_or, if_true, if_false, ite_true, ite_false, reduceIte, Option.some.injEq, false_implies, true_implies, not_false_eq_true, not_true_eq_false, forall_const, and_self, Int.reduceEq, Int.reduceLT, Int.reduceLE, Int.reduceNeg, Int.reduceAdd, Int.reduceSub, Int.reduceMul, Int.reduceToNat, Nat.reduceAdd, Nat.reduceSub, Nat.reduceEqDiff, Nat.reduceBEq, Nat.reduceLeDiff, Nat.reduceLT, t1, t5, t10, hh, tn17, x1, x2]) | ((with_reducible refine WP.run sb_54_17 ?_); simp only [bk_54_0, bk_54_17, bk_54_35, i_aI, i_cV, i_cne, i_dup, i_exc, i_gR, i_ic, i_imul, i_ldI, i_ldR, i_new, i_ret, i_throw, i_zne, sq, enl, lk, lst, okS, tkr, look, aft, thr, thrH, w1, List.elem_cons, List.elem_nil, List.length_cons, List.length_nil, gT_sI, gR_sI, gI_sR, gT_sR, hN_sI, hU_sI, hN_sR, hU_sR, true_and, and_true, beq_self_eq_true, Bool.true_or, Bool.or_true, Bool.or_false, Bool.false_or, if_true, if_false, ite_true, ite_false, reduceIte, Option.some.injEq, false_implies, true_implies, not_false_eq_true, not_true_eq_false, forall_const, and_self, Int.reduceEq, Int.reduceLT, Int.reduceLE, Int.reduceNeg, Int.reduceAdd, Int.reduceSub, Int.reduceMul, Int.reduceToNat, Nat.reduceAdd, Nat.reduceSub, Nat.reduceEqDiff, Nat.reduceBEq, Nat.reduceLeDiff, Nat.reduceLT, t1, t5, t10, hh, tn17, x1, x2]) | ((with_reducible refine WP.run sb_54_35 ?_); simp only [bk_54_0, bk_54_17, bk_54_35, i_aI, i_cV, i_cne, i_dup, i_exc, i_gR, i_ic, i_imul, i_ldI, i_ldR, i_new, i_ret, i_throw, i_zne, sq, enl, lk, lst, okS, tkr, look, aft, thr, thrH, w1, List.elem_cons, List.elem_nil, List.length_cons, List.length_nil, gT_sI, gR_sI, gI_sR, gT_sR, hN_sI, hU_sI, hN_sR, hU_sR, true_and, and_true, beq_self_eq_true, Bool.true_or, Bool.or_true, Bool.or_false, Bool.false_or, if_true, if_false, ite_true, ite_false, reduceIte, Option.some.injEq, false_implies, true_implies, not_false_eq_true, not_true_eq_false, forall_const, and_self, Int.reduceEq, Int.reduceLT, Int.reduceLE, Int.reduceNeg, Int.reduceAdd, Int.reduceSub, Int.reduceMul, Int.reduceToNat, Nat.reduceAdd, Nat.reduceSub, Nat.reduceEqDiff, Nat.reduceBEq, Nat.reduceLeDiff, Nat.reduceLT, t1, t5, t10, hh, tn17, x1, x2]) | ((with_reducible intro _); try (exfalso; omega)) | with_reducible apply And.intro | ((fail_if_success (with_reducible refine wpid ?_)); first | exact rg_toI _ | (simp only [rg, inA, okV] <;> omega) | omega | rfl | (simp [okV]; done)))
      all_goals first | exact hfin | exact l6 | omega
    · have hfin : ∀ o h', nvQ s0 x (evS S [10 * s]) 800 O h o h' → suC s0 x S s O h o h' := fun o h' z => Or.inr ⟨fun z => by omega, z⟩
      have hnt := fun d' (hd' : 1 ≤ d') => d_note (l := l) (s0 := s0) (d := d') (e := 10 * s) hd' hr (by omega) w.2.2.2.2.1 hn H
      refine MP.of 2 ml_54 pn_54 (Nat.le_of_ble_eq_true rfl) ?_
      repeat' (first | ((with_reducible refine WP.run sb_54_0 ?_); simp only [bk_54_0, bk_54_17, bk_54_35, i_aI, i_cV, i_cne, i_dup, i_exc, i_gR, i_ic, i_imul, i_ldI, i_ldR, i_new, i_ret, i_throw, i_zne, sq, enl, lk, lst, okS, tkr, look, aft, thr, thrH, w1, List.elem_cons, List.elem_nil, List.length_cons, List.length_nil, gT_sI, gR_sI, gI_sR, gT_sR, hN_sI, hU_sI, hN_sR, hU_sR, true_and, and_true, beq_self_eq_true, Bool.true_or, Bool.or_true, Bool.or_false, Bool.false_or, if_true, if_false, ite_true, ite_false, reduceIte, Option.some.injEq, false_implies, true_implies, not_false_eq_true, not_true_eq_false, forall_const, and_self, Int.reduceEq, Int.reduceLT, Int.reduceLE, Int.reduceNeg, Int.reduceAdd, Int.reduceSub, Int.reduceMul, Int.reduceToNat, Nat.reduceAdd, Nat.reduceSub, Nat.reduceEqDiff, Nat.reduceBEq, Nat.reduceLeDiff, Nat.reduceLT, t1, t5, t10, hh]) | ((with_reducible refine WP.run sb_54_17 ?_); simp only [bk_54_0, bk_54_17, bk_54_35, i_aI, i_cV, i_cne, i_dup, i_exc, i_gR, i_ic, i_imul, i_ldI, i_ldR, i_new, i_ret, i_throw, i_zne, sq, enl, lk, lst, okS, tkr, look, aft, thr, thrH, w1, List.elem_cons, List.elem_nil, List.length_cons, List.length_nil, gT_sI, gR_sI, gI_sR, gT_sR, hN_sI, hU_sI, hN_sR, hU_sR, true_and, and_true, beq_self_eq_true, Bool.true_or, Bool.or_true, Bool.or_false, Bool.false_or, if_true, if_false, ite_true, ite_false, reduceIte, Option.some.injEq, false_implies, true_implies, not_false_eq_true, not_true_eq_false, forall_const, and_self, Int.reduceEq, Int.reduceLT, Int.reduceLE, Int.reduceNeg, Int.reduceAdd, Int.reduceSub, Int.reduceMul, Int.reduceToNat, Nat.reduceAdd, Nat.reduceSub, Nat.reduceEqDiff, Nat.reduceBEq, Nat.reduceLeDiff, Nat.reduceLT, t1, t5, t10, hh]) | ((with_reducible refine WP.run sb_54_35 ?_); simp only [bk_54_0, bk_54_17, bk_54_35, i_aI, i_cV, i_cne, i_dup, i_exc, i_gR, i_ic, i_imul, i_ldI, i_ldR, i_new, i_ret, i_throw, i_zne, sq, enl, lk, lst, okS, tkr, look, aft, thr, thrH, w1, List.elem_cons, List.elem_nil, List.length_cons, List.length_nil, gT_sI, gR_sI, gI_sR, gT_sR, hN_sI, hU_sI, hN_sR, hU_sR, true_and, and_true, beq_self_eq_true, Bool.true_or, Bool.or_true, Bool.or_false, Bool.false_or, if_true, if_false, ite_true, ite_false, reduceIte, Option.some.injEq, false_implies, true_implies, not_false_eq_true, not_true_eq_false, forall_const, and_self, Int.reduceEq, Int.reduceLT, Int.reduceLE, Int.reduceNeg, Int.reduceAdd, Int.reduceSub, Int.reduceMul, Int.reduceToNat, Nat.reduceAdd, Nat.reduceSub, Nat.reduceEqDiff, Nat.reduceBEq, Nat.reduceLeDiff, Nat.reduceLT, t1, t5, t10, hh]) | (with_reducible refine And.intro (by omega) (MP.mono (hnt _ (by omega)) (mog ?_))) | ((with_reducible intro _); try (exfalso; omega)) | with_reducible apply And.intro | ((fail_if_success (with_reducible refine wpid ?_)); first | exact rg_toI _ | (simp only [rg, inA, okV] <;> omega) | omega | rfl | (simp [okV]; done)))
      all_goals
        intro o h' hq
        have hz := hfin o h' hq
        obtain ⟨rfl, _⟩ := hq
        simp only [bk_54_0, bk_54_17, bk_54_35, i_aI, i_cV, i_cne, i_dup, i_exc, i_gR, i_ic, i_imul, i_ldI, i_ldR, i_new, i_ret, i_throw, i_zne, sq, enl, lk, lst, okS, tkr, look, aft, thr, thrH, w1, List.elem_cons, List.elem_nil, List.length_cons, List.length_nil, gT_sI, gR_sI, gI_sR, gT_sR, hN_sI, hU_sI, hN_sR, hU_sR, true_and, and_true, beq_self_eq_true, Bool.true_or, Bool.or_true, Bool.or_false, Bool.false_or, if_true, if_false, ite_true, ite_false, reduceIte, Option.some.injEq, false_implies, true_implies, not_false_eq_true, not_true_eq_false, forall_const, and_self, Int.reduceEq, Int.reduceLT, Int.reduceLE, Int.reduceNeg, Int.reduceAdd, Int.reduceSub, Int.reduceMul, Int.reduceToNat, Nat.reduceAdd, Nat.reduceSub, Nat.reduceEqDiff, Nat.reduceBEq, Nat.reduceLeDiff, Nat.reduceLT]
        exact hz
def tdC (s0 : State) (x : Nat) (S : AS) (s : Int) (O : Nat → Nat) (h : AH) (o : AO) (h' : AH) : Prop := (S.2.2.1 s.toNat = 3 ∧ nvX s0 x S 18 800 O h o h') ∨ (S.2.2.1 s.toNat ≠ 3 ∧ nvQ s0 x (evS S [10 * s + 1]) 800 O h o h')
theorem d_tearDown {l : Launch} {s0 : State} {d x : Nat} {h : AH} {O : Nat → Nat} {S : AS} {s : Int} (hd : 8 ≤ d) (hr : Rm s0 h 800) (hs : 0 ≤ s ∧ s ≤ 5) (w : WS S) (hn : S.2.2.2.1.length ≤ 390) (H : CR h s0 O x S) : MP l s0 56 d [vR x, vI s] h (tdC s0 x S s O h) := by
  obtain ⟨t1, t2, t3, t4, t5, t6, t7, t8, t9, t10, t11⟩ := H.1
  have hh := H.2.2.2.2.2.1 s.toNat (by omega)
  have hw := w.2.2.2.1 s.toNat (by omega)
  have l6 : lim s0 h 6 := hr.lim (by omega)
  by_cases q : S.2.2.1 s.toNat = 3
  · have hfin : tdC s0 x S s O h (.inr (hN h + 1)) (nw h 18 6) := Or.inl ⟨q, ⟨_, rfl, exc18_T h, cNt.exc H⟩⟩
    rw [q] at hh
    have x1 := exc18_T h
    have x2 := exc18_R h
    refine MP.of 2 ml_56 pn_56 (Nat.le_of_ble_eq_true rfl) ?_
    repeat' (first | ((with_reducible refine WP.run sb_56_0 ?_); simp only [bk_56_0, bk_56_18, i_aI, i_cV, i_cne, i_dup, i_exc, i_gR, i_iadd, i_ic, i_imul, i_ldI, i_ldR, i_new, i_ret, i_throw, sq, enl, lk, lst, okS, tkr, look, aft, thr, thrH, w1, List.elem_cons, List.elem_nil, List.length_cons, List.length_nil, gT_sI, gR_sI, gI_sR, gT_sR, hN_sI, hU_sI, hN_sR, hU_sR, true_and, and_true, beq_self_eq_true, Bool.true_or, Bool.or_true, Bool.or_false, Bool.false_or, if_true, if_false, ite_true, ite_false, reduceIte, Option.some.injEq, false_implies, true_implies, not_false_eq_true, not_true_eq_false, forall_const, and_self, Int.reduceEq, Int.reduceLT, Int.reduceLE, Int.reduceNeg, Int.reduceAdd, Int.reduceSub, Int.reduceMul, Int.reduceToNat, Nat.reduceAdd, Nat.reduceSub, Nat.reduceEqDiff, Nat.reduceBEq, Nat.reduceLeDiff, Nat.reduceLT, t1, t5, t10, hh, tn18, x1, x2]) | ((with_reducible refine WP.run sb_56_18 ?_); simp only [bk_56_0, bk_56_18, i_aI, i_cV, i_cne, i_dup, i_exc, i_gR, i_iadd, i_ic, i_imul, i_ldI, i_ldR, i_new, i_ret, i_throw, sq, enl, lk, lst, okS, tkr, look, aft, thr, thrH, w1, List.elem_cons, List.elem_nil, List.length_cons, List.length_nil, gT_sI, gR_sI, gI_sR, gT_sR, hN_sI, hU_sI, hN_sR, hU_sR, true_and, and_true, beq_self_eq_true, Bool.true_or, Bool.or_true, Bool.or_false, Bool.false_or, if_true, if_false, ite_true, ite_false, reduceIte, Option.some.injEq, false_implies, true_implies, not_false_eq_true, not_true_eq_false, forall_const, and_self, Int.reduceEq, Int.reduceLT, Int.reduceLE, Int.reduceNeg, Int.reduceAdd, Int.reduceSub, Int.reduceMul, Int.reduceToNat, Nat.reduceAdd, Nat.reduceSub, Nat.reduceEqDiff, Nat.reduceBEq, Nat.reduceLeDiff, Nat.reduceLT, t1, t5, t10, hh, tn18, x1, x2]) | ((with_reducible intro _); try (exfalso; omega)) | with_reducible apply And.intro | ((fail_if_success (with_reducible refine wpid ?_)); first | exact rg_toI _ | (simp only [rg, inA, okV] <;> omega) | omega | rfl | (simp [okV]; done)))
    all_goals first | exact hfin | exact l6 | omega
  · have hfin : ∀ o h', nvQ s0 x (evS S [10 * s + 1]) 800 O h o h' → tdC s0 x S s O h o h' := fun o h' z => Or.inr ⟨q, z⟩
    have hnt := fun d' (hd' : 1 ≤ d') => d_note (l := l) (s0 := s0) (d := d') (e := 10 * s + 1) hd' hr (by omega) w.2.2.2.2.1 hn H
    refine MP.of 2 ml_56 pn_56 (Nat.le_of_ble_eq_true rfl) ?_
    repeat' (first | ((with_reducible refine WP.run sb_56_0 ?_); simp only [bk_56_0, bk_56_18, i_aI, i_cV, i_cne, i_dup, i_exc, i_gR, i_iadd, i_ic, i_imul, i_ldI, i_ldR, i_new, i_ret, i_throw, sq, enl, lk, lst, okS, tkr, look, aft, thr, thrH, w1, List.elem_cons, List.elem_nil, List.length_cons, List.length_nil, gT_sI, gR_sI, gI_sR, gT_sR, hN_sI, hU_sI, hN_sR, hU_sR, true_and, and_true, beq_self_eq_true, Bool.true_or, Bool.or_true, Bool.or_false, Bool.false_or, if_true, if_false, ite_true, ite_false, reduceIte, Option.some.injEq, false_implies, true_implies, not_false_eq_true, not_true_eq_false, forall_const, and_self, Int.reduceEq, Int.reduceLT, Int.reduceLE, Int.reduceNeg, Int.reduceAdd, Int.reduceSub, Int.reduceMul, Int.reduceToNat, Nat.reduceAdd, Nat.reduceSub, Nat.reduceEqDiff, Nat.reduceBEq, Nat.reduceLeDiff, Nat.reduceLT, t1, t5, t10, hh]) | ((with_reducible refine WP.run sb_56_18 ?_); simp only [bk_56_0, bk_56_18, i_aI, i_cV, i_cne, i_dup, i_exc, i_gR, i_iadd, i_ic, i_imul, i_ldI, i_ldR, i_new, i_ret, i_throw, sq, enl, lk, lst, okS, tkr, look, aft, thr, thrH, w1, List.elem_cons, List.elem_nil, List.length_cons, List.length_nil, gT_sI, gR_sI, gI_sR, gT_sR, hN_sI, hU_sI, hN_sR, hU_sR, true_and, and_true, beq_self_eq_true, Bool.true_or, Bool.or_true, Bool.or_false, Bool.false_or, if_true, if_false, ite_true, ite_false, reduceIte, Option.some.injEq, false_implies, true_implies, not_false_eq_true, not_true_eq_false, forall_const, and_self, Int.reduceEq, Int.reduceLT, Int.reduceLE, Int.reduceNeg, Int.reduceAdd, Int.reduceSub, Int.reduceMul, Int.reduceToNat, Nat.reduceAdd, Nat.reduceSub, Nat.reduceEqDiff, Nat.reduceBEq, Nat.reduceLeDiff, Nat.reduceLT, t1, t5, t10, hh]) | (with_reducible refine And.intro (by omega) (MP.mono (hnt _ (by omega)) (mog ?_))) | ((with_reducible intro _); try (exfalso; omega)) | with_reducible apply And.intro | ((fail_if_success (with_reducible refine wpid ?_)); first | exact rg_toI _ | (simp only [rg, inA, okV] <;> omega) | omega | rfl | (simp [okV]; done)))
    all_goals
      intro o h' hq
      have hz := hfin o h' hq
      obtain ⟨rfl, _⟩ := hq
      simp only [bk_56_0, bk_56_18, i_aI, i_cV, i_cne, i_dup, i_exc, i_gR, i_iadd, i_ic, i_imul, i_ldI, i_ldR, i_new, i_ret, i_throw, sq, enl, lk, lst, okS, tkr, look, aft, thr, thrH, w1, List.elem_cons, List.elem_nil, List.length_cons, List.length_nil, gT_sI, gR_sI, gI_sR, gT_sR, hN_sI, hU_sI, hN_sR, hU_sR, true_and, and_true, beq_self_eq_true, Bool.true_or, Bool.or_true, Bool.or_false, Bool.false_or, if_true, if_false, ite_true, ite_false, reduceIte, Option.some.injEq, false_implies, true_implies, not_false_eq_true, not_true_eq_false, forall_const, and_self, Int.reduceEq, Int.reduceLT, Int.reduceLE, Int.reduceNeg, Int.reduceAdd, Int.reduceSub, Int.reduceMul, Int.reduceToNat, Nat.reduceAdd, Nat.reduceSub, Nat.reduceEqDiff, Nat.reduceBEq, Nat.reduceLeDiff, Nat.reduceLT]
      exact hz
