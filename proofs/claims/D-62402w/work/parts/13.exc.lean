/-! new IllegalArgumentException(), new IllegalStateException(): the constructor -/
theorem lst_move {s0 s : State} (al : s0.vm.Alike s.vm) (old : ∀ a : Nat, a < s0.heap.size → s.heap[a]? = s0.heap[a]?) {o n d : String} {A A' : Array Value} (h : (Cond.laysStatic o n d).before A s0 = true) : (Cond.laysStatic o n d).before A' s = true := by
  obtain ⟨c, k, i, f, a, cell, hc, hi, hst, ha, hcell, hs, hcls, hlt, hty⟩ := Cond.laysStatic_spec h
  obtain ⟨k', hi', he⟩ := State.fieldFound?_setVm al hi
  have hi' : s.fieldFound? o n d = some (c, k', i, f) := hi'
  have hc' : s.vm.findClass o = some c := by rw [al.findClass]; exact hc
  have ha' : k'.statics = some a := by rw [he]; exact ha
  have hty' : k'.staticTypes[f.slot]? = some f.type := by rw [he]; exact hty
  have hcell' : s.heap[a]? = some cell := by rw [old a (Array.getElem?_eq_some_iff.mp hcell).1]; exact hcell
  simp [Cond.before, Cond.holds, Cond.value, hc', hi', ha', hcell', hst, hs, hcls, hlt, hty']
theorem sref_move {s0 s : State} (al : s0.vm.Alike s.vm) (old : ∀ a : Nat, a < s0.heap.size → s.heap[a]? = s0.heap[a]?) {o n d : String} {A A' : Array Value} (hl : (Cond.laysStatic o n d).before A s0 = true) (h : (Cond.isRef (.static o n d)).before A s0 = true) : (Cond.isRef (.static o n d)).before A' s = true := by
  obtain ⟨v, hv, hr⟩ := Cond.isRef_spec h
  obtain ⟨c, k, i, f, a, cell, hc, hi, hst, ha, hcell, hs, hcls, hlt, hty⟩ := Cond.laysStatic_spec hl
  obtain ⟨hst', a', cell', ha'', hcell', -, hslot⟩ := Term.static_spec hi hv
  cases ha.symm.trans ha''
  cases hcell.symm.trans hcell'
  obtain ⟨k', hi', he⟩ := State.fieldFound?_setVm al hi
  have hi' : s.fieldFound? o n d = some (c, k', i, f) := hi'
  have ha' : k'.statics = some a := by rw [he]; exact ha
  have hcell2 : s.heap[a]? = some cell := by rw [old a (Array.getElem?_eq_some_iff.mp hcell).1]; exact hcell
  have hev : (Term.static o n d).eval A' s none [] s = some v := by
    simp [Term.eval, State.fieldNamed?, hi', hst, ha', hcell2, hs, hslot]
  cases v <;> simp [Value.isRef] at hr <;> simp [Cond.before, Cond.holds, Cond.value, hev]
def exN : List String := ["java/lang/RuntimeException", "java/lang/Exception"]
def exR (X : String) : List Cond := [.instantiable X 6, .castable X X, .selects X Bundle.tFill0 Bundle.tFill0, .selects X Bundle.tFill Bundle.tFill,
   .lays X Bundle.tN "cause" "Ljava/lang/Throwable;", .lays X Bundle.tN "stackTrace" Bundle.steD, .lays X Bundle.tN "suppressedExceptions" Bundle.listD, .lays X Bundle.tN "detailMessage" "Ljava/lang/String;",
   .fieldLink Bundle.tN 198 Bundle.tN "backtrace" "Ljava/lang/Object;", .lays Bundle.tN Bundle.tN "backtrace" "Ljava/lang/Object;", .lays X Bundle.tN "backtrace" "Ljava/lang/Object;"]
def exT : List Cond := [.isRef (.static Bundle.tN "UNASSIGNED_STACK" Bundle.steD), .isRef (.static Bundle.tN "SUPPRESSED_SENTINEL" Bundle.listD)]
def exchk (w : Cond) : Bool := match w with
  | .laysStatic a b c => decide (Cond.laysStatic a b c ∈ lw_tbl)
  | w => decide (w ∈ lw_tbl) && wB w && w.onTables
theorem tl_ex17 : (Bundle.throwableAtoms ++ Bundle.chain0Atoms "java/lang/IllegalArgumentException" exN ++ exR "java/lang/IllegalArgumentException").all exchk = true := by decide +kernel
theorem tl_ex18 : (Bundle.throwableAtoms ++ Bundle.chain0Atoms "java/lang/IllegalStateException" exN ++ exR "java/lang/IllegalStateException").all exchk = true := by decide +kernel
theorem tl_exT : ∀ w ∈ exT, w ∈ gflat := by decide +kernel
theorem tl_exL : Cond.laysStatic Bundle.tN "UNASSIGNED_STACK" Bundle.steD ∈ lw_tbl ∧ Cond.laysStatic Bundle.tN "SUPPRESSED_SENTINEL" Bundle.listD ∈ lw_tbl := by decide +kernel
theorem ex_atoms {l : Launch} {s0 : State} {i d : Nat} {p : Program} {s : State} {m : MethodId} {meth : Method} {c : Code} {R : Room} (C : Cx l s0 i d p s m meth c R) {ix : Nat} {X : String} (hX : X = "java/lang/IllegalArgumentException" ∨ X = "java/lang/IllegalStateException") (hl : Cond.methodLink (mi i).1.cls ix (Bundle.init0 X) ∈ lw_tbl) (args : Array Value) :
    ∀ w ∈ Bundle.ownAtoms0 (mi i).1.cls ix X exN, w.before args s = true := by
  obtain ⟨b, g1, g2⟩ := C.gg.flat
  have hall : (Bundle.throwableAtoms ++ Bundle.chain0Atoms X exN ++ exR X).all exchk = true := by
    rcases hX with h | h <;> subst h
    · exact tl_ex17
    · exact tl_ex18
  rw [List.all_eq_true] at hall
  have key : ∀ w, exchk w = true → w.before args s = true := by
    intro w hw
    unfold exchk at hw
    split at hw
    · exact lst_move C.al C.old (g1 _ (of_decide_eq_true hw))
    · simp only [Bool.and_eq_true, decide_eq_true_eq] at hw
      exact C.wd.use hw.1.1 hw.1.2 hw.2 args
  have kT : ∀ w ∈ exT, w.before args s = true := by
    intro w hw
    have h9 := g2 _ (tl_exT w hw)
    simp only [exT, List.mem_cons, List.not_mem_nil, or_false] at hw
    rcases hw with rfl | rfl
    · exact sref_move C.al C.old (g1 _ tl_exL.1) h9
    · exact sref_move C.al C.old (g1 _ tl_exL.2) h9
  intro w hw
  unfold Bundle.ownAtoms0 at hw
  rcases List.mem_append.mp hw with hw | hw
  · exact key w (hall w (List.mem_append_left _ hw))
  · simp only [List.mem_cons, List.not_mem_nil, or_false] at hw
    rcases hw with rfl | rfl | rfl | rfl | rfl | rfl | rfl | rfl | rfl | rfl | rfl | rfl | rfl | rfl
    · exact C.wd.use hl rfl rfl args
    · exact key _ (hall _ (List.mem_append_right _ (by simp [exR])))
    · exact key _ (hall _ (List.mem_append_right _ (by simp [exR])))
    · exact key _ (hall _ (List.mem_append_right _ (by simp [exR])))
    · exact key _ (hall _ (List.mem_append_right _ (by simp [exR])))
    · exact key _ (hall _ (List.mem_append_right _ (by simp [exR])))
    · exact key _ (hall _ (List.mem_append_right _ (by simp [exR])))
    · exact key _ (hall _ (List.mem_append_right _ (by simp [exR])))
    · exact key _ (hall _ (List.mem_append_right _ (by simp [exR])))
    · exact kT _ (by simp [exT])
    · exact kT _ (by simp [exT])
    · exact key _ (hall _ (List.mem_append_right _ (by simp [exR])))
    · exact key _ (hall _ (List.mem_append_right _ (by simp [exR])))
    · exact key _ (hall _ (List.mem_append_right _ (by simp [exR])))
def i_exc (t ml : Nat) : Tr := fun _ _ d _ _ ls st h K => match st with
  | .inr (.inl q) :: r => (gT h q = (t, 6) ∧ gR h q 0 = 0 ∧ r.length ≤ 8 ∧ 6 ≤ d ∧ ls.length = ml) ∧ K ls r h
  | _ => False
theorem tk_of {s : State} {cell : Cell} {kX : Class} {f : Field} {v : Value} (hk : s.vm.classes[cell.cls]? = some kX) (hord : kX.kind = .ordinary) (hvm : cell.vm = .none) (hsz : cell.slots.size = kX.instanceTypes.size) (hty : kX.instanceTypes[f.slot]? = some f.type) (hv : fits f.type v = true) : Takes s cell f v := by
  refine ⟨by rw [hsz]; exact (Array.getElem?_eq_some_iff.mp hty).1, ?_⟩
  rw [hvm]
  exact fresh_fits (s := s) (U := s) (Vm.Alike.refl _) hk hord hty hv
set_option maxHeartbeats 4000000 in
theorem sd_exc {i pc ix t ml : Nat} (hd : decode (mi i).2.1 pc = .ok (.invokespecial ix, 3)) (ht : t = 17 ∨ t = 18) (hl : Cond.methodLink (mi i).1.cls ix (Bundle.init0 (cN t)) ∈ lw_tbl) (hml : (mi i).2.2.1 = ml) : Sd i pc 3 (i_exc t ml) := by
  intro l s0 d Q J K ls st h hk hJ hK p e s m args below meth c R H locs cls C A
  unfold i_exc at hk
  split at hk
  · next q r =>
    obtain ⟨⟨h0, hgr, h2, h3, h4⟩, hk⟩ := hk
    have h1 : (gT h q).1 = t := by rw [h0]
    have h6 : (gT h q).2 = 6 := by rw [h0]
    have htg : (gT h q).1 ∈ tgs := by rw [h1]; rcases ht with rfl | rfl <;> decide
    have htl : 0 < (cF (gT h q).1).length := by rw [h1]; rcases ht with rfl | rfl <;> decide
    have hcT : cT (gT h q).1 0 = ("java/lang/Throwable", "backtrace", "Ljava/lang/Object;", false) := by rw [h1]; rcases ht with rfl | rfl <;> rfl
    have hlt3 : (gT h q).1 < 30 := by rw [h1]; rcases ht with rfl | rfl <;> decide
    obtain ⟨a, cell, hcell, hc1⟩ := A.1.cell (tg_ne0 htg)
    have hqa := hc1.1
    subst hqa
    have hb3 := hc1.2.2.2.2.2.2 hlt3
    have hX : cN t = "java/lang/IllegalArgumentException" ∨ cN t = "java/lang/IllegalStateException" := by rcases ht with rfl | rfl; exact Or.inl rfl; exact Or.inr rfl
    have at0 := ex_atoms C hX hl args
    have hcls : Bundle.fit (cN t) = true := by rcases ht with rfl | rfl <;> decide +kernel
    have hnames : ∀ n ∈ exN, Bundle.fit n = true := by decide +kernel
    intro T0 hT X
    have htr : e.platform.stackTraces = false := by rw [Example.NoTraceControls.admits_follows X.admits]; exact C.gg.1
    have howns : e.platform.frameOwnsMonitors = true := by rw [X.admits.platform]
    have hfin : e.platform.finalization = false := by rw [X.admits.platform]
    have hpl : e.platform.magicAccessors = ({} : Platform).magicAccessors := by rw [X.admits.platform]
    have a' : ∀ x, x ∈ Bundle.ownAtoms0 (mi i).1.cls ix (cN t) exN → x.holds args s none s [] = true := fun x hx => at0 x hx
    obtain ⟨T, Z, L, LZ, Y⟩ := ThrowableC.of_atoms (args := args) howns hfin hpl (fun x hx => at0 x (by simp [Bundle.ownAtoms0, hx]))
    obtain ⟨P1, Ps, hlen, L1, hL, hP1m, hlink1, hlink⟩ := Bundle.chain0 (args := args) hpl Y.init0 exN (cN t) hcls hnames (fun x hx => at0 x (by simp [Bundle.ownAtoms0, hx]))
    have hfound : s.vm.findClass (cN t) = some P1.m.cls := findClass_of_methodNamed hP1m
    have hcc : s.vm.findClass (cN t) = some cell.cls := by
      have h9 : s.vm.findClass (cN t) = s0.vm.findClass (cN t) := C.al.findClass _ _
      have h10 := cok_f htg hc1.2.1
      rw [h1] at h10
      rw [h9]; exact h10
    have hcc2 : P1.m.cls = cell.cls := Option.some.inj (hfound.symm.trans hcc)
    obtain ⟨c1, kX, hc1', hkx, hord, -, -, hn6⟩ := Cond.instantiable_spec (a' (.instantiable (cN t) 6) (by simp [Bundle.ownAtoms0]))
    cases Option.some.inj (hc1'.symm.trans hcc)
    have hsel0 : selectMethod e.platform s.vm cell.cls T.fill0 = .method T.fill0 := by
      obtain ⟨c2, r2, m2, q1, q2, q3, q4, -⟩ := Cond.selects_spec (a' (.selects (cN t) Bundle.tFill0 Bundle.tFill0) (by simp [Bundle.ownAtoms0]))
      cases Option.some.inj (q1.symm.trans hcc)
      cases Option.some.inj (q2.symm.trans (State.methodFound?_of_named Y.fill0 (by decide)))
      cases Option.some.inj (q3.symm.trans Y.fill0)
      rw [Launch.admits_selectMethod X.admits]; exact q4
    have hselF : selectMethod e.platform s.vm cell.cls T.fill = .method T.fill := by
      obtain ⟨c2, r2, m2, q1, q2, q3, q4, -⟩ := Cond.selects_spec (a' (.selects (cN t) Bundle.tFill Bundle.tFill) (by simp [Bundle.ownAtoms0]))
      cases Option.some.inj (q1.symm.trans hcc)
      cases Option.some.inj (q2.symm.trans (State.methodFound?_of_named Y.fill (by decide)))
      cases Option.some.inj (q3.symm.trans Y.fill)
      rw [Launch.admits_selectMethod X.admits]; exact q4
    obtain ⟨cellS0, hcS0, hiss⟩ := Y.statics
    obtain ⟨u0, hu0⟩ := Cond.staticRefV Y.unassigned L.unassignedStatic L.statics hcS0 hiss (a' (.isRef (.static Bundle.tN "UNASSIGNED_STACK" Bundle.steD)) (by simp [Bundle.ownAtoms0]))
    obtain ⟨sen, hsen⟩ := Cond.staticRefV Y.sentinel L.sentinelStatic L.statics hcS0 hiss (a' (.isRef (.static Bundle.tN "SUPPRESSED_SENTINEL" Bundle.listD)) (by simp [Bundle.ownAtoms0]))
    obtain ⟨ci198, i198, fB, hk198, hg198, ha198, hsB, -, hnB, htB, hffB⟩ := Cond.ownField (t := .object "java/lang/Object") Y.found L.cls (by decide +kernel) (a' (.fieldLink Bundle.tN 198 Bundle.tN "backtrace" "Ljava/lang/Object;") (by simp [Bundle.ownAtoms0])) (a' (.lays Bundle.tN Bundle.tN "backtrace" "Ljava/lang/Object;") (by simp [Bundle.ownAtoms0])) e.platform hpl
    have haSold : T.aS < s0.heap.size := by
      obtain ⟨b0, g1, -⟩ := C.gg.flat
      obtain ⟨y1, y2, y3, y4, ya, ycell, yc, yi, -, yst, yhc, -⟩ := Cond.laysStatic_spec (g1 _ tl_exL.1)
      obtain ⟨k', hi', he⟩ := State.fieldFound?_setVm C.al yi
      have hi' : s.fieldFound? Bundle.tN "UNASSIGNED_STACK" Bundle.steD = some (y1, k', y3, y4) := hi'
      have e9 := hi'.symm.trans Y.unassigned
      cases e9
      have e10 := L.statics
      rw [he] at e10
      have e11 : y2.statics = some T.aS := e10
      cases yst.symm.trans e11
      exact (Array.getElem?_eq_some_iff.mp yhc).1
    have hcellS : T0.heap[T.aS]? = some cellS0 := by
      rw [hT, A.1.2.2.1 _ haSold, ← C.old _ haSold]; exact hcS0
    have hknownS : cellS0.vm ≠ .unknown := by
      intro hu; rw [hu] at hiss; cases hiss
    have hneS : T.aS ≠ a := Nat.ne_of_lt (Nat.lt_of_lt_of_le haSold hb3.1)
    obtain ⟨tyC, dC, hdC, hdnC⟩ := Cond.laysAt hcc hkx Y.cause (a' (.lays (cN t) Bundle.tN "cause" "Ljava/lang/Throwable;") (by simp [Bundle.ownAtoms0]))
    obtain ⟨tyS, dS, hdS, hdnS⟩ := Cond.laysAt hcc hkx Y.stack (a' (.lays (cN t) Bundle.tN "stackTrace" Bundle.steD) (by simp [Bundle.ownAtoms0]))
    obtain ⟨tyP, dP, hdP, hdnP⟩ := Cond.laysAt hcc hkx Y.supp (a' (.lays (cN t) Bundle.tN "suppressedExceptions" Bundle.listD) (by simp [Bundle.ownAtoms0]))
    obtain ⟨tyB, dB, hdB, hdnB⟩ := Cond.laysAt hcc hkx hffB (a' (.lays (cN t) Bundle.tN "backtrace" "Ljava/lang/Object;") (by simp [Bundle.ownAtoms0]))
    have bC := Cond.laysApart hdB hdC hdnB hdnC (by rw [hnB, Y.causeName]; decide)
    have bS := Cond.laysApart hdB hdS hdnB hdnS (by rw [hnB, Y.stackName]; decide)
    have bP := Cond.laysApart hdB hdP hdnB hdnP (by rw [hnB, Y.suppName]; decide)
    have hsoB : sx s0 (gT h (a + 1)).1 0 = fB.slot := by
      obtain ⟨z1, z2, z3, z4, z5, z6, -, -, z9, -, z11, -⟩ := fld_at C.gg.2.1 C.wd C.al htg htl
      rw [sx_f htg, ← z11]
      rw [hcT] at z9
      have e9 := z9.symm.trans hffB
      cases e9
      rfl
    have hbk : cell.slots[fB.slot]? = some .null := by
      have h9 := hc1.2.2.2.2.2.1 0 (by rw [nk_f htg]; exact htl)
      rw [hsoB, hgr] at h9
      have hkd : kd (gT h (a + 1)).1 0 = 5 := by rw [h1]; rcases ht with rfl | rfl <;> decide
      rw [hkd] at h9
      exact h9
    have hsz6 : cell.slots.size = kX.instanceTypes.size := by rw [hc1.2.2.2.2.1, hn6, h6]
    have hskip : SkipFacts T e.platform s (fun u => u) u0 ((preparedCellV T.toThrowableT cell a u0 sen).withEntry T0.cur) :=
      ⟨{ ci198 := ci198, i198 := i198, fBack := fB }, ⟨hk198, hg198, ha198, hsB⟩, by
        simpa [preparedCellV, Cell.setSlot, Cell.withEntry, Array.getElem?_setIfInBounds, bC, bS, bP, bC.symm, bS.symm, bP.symm] using hbk, fun _ _ => rfl⟩
    have hcell0 : T0.heap[a]? = some cell := by rw [hT]; exact hcell
    obtain ⟨tm, methC, cdC', kC, vm₁, hnC, -, -, -, -, -, -, -, hW₁, st1⟩ := Steps.initCold (tb := p.tables) (e := e) (below := below) (s := s) (U := T0) X.here C.exec X.warmed hpl C.own (t := Bundle.init0 (cN t)) rfl rfl (Bundle.fit_spec hcls).2
      (a' (.methodLink (mi i).1.cls ix (Bundle.init0 (cN t))) (by simp [Bundle.ownAtoms0])) (at0 (.instanceMethod (Bundle.init0 (cN t))) (by simp [Bundle.ownAtoms0, Bundle.chain0Atoms, Bundle.passAtoms, exN])) (bytes := Bundle.five) (maxL := 1) (at0 (.code (Bundle.init0 (cN t)) Bundle.five 1 none) (by simp [Bundle.ownAtoms0, Bundle.chain0Atoms, Bundle.passAtoms, exN]))
      (f := F0 m pc cls ((vR (a + 1) :: r).map cv)) rfl (a := a) (rest := r.map cv) rfl (by rw [C.code]; exact hd)
    cases Option.some.inj (hnC.symm.trans hP1m)
    have X₁ := X.noted hW₁
    have hR := C.room
    have hcat : ∀ st : XS, ((st.map cv).map fun v => v.category).sum ≤ 2 * st.length := by
      intro st
      induction st with
      | nil => simp
      | cons a r ih =>
        have : (cv a).category ≤ 2 := by rcases lv_cat (cv a) with q | q <;> omega
        simp only [List.map_cons, List.sum_cons, List.length_cons]
        omega
    have hc8 := hcat r
    have hlen2 : Ps.length = 2 := hlen
    obtain ⟨vm₂, X₂, st2⟩ := X₁.ctorPlainOffV C.exec (g := F0 m pc cls (r.map cv)) rfl (by rw [C.maxL, hml, ← h4]; exact A.lo.1) T L Z LZ (P1 :: Ps)
      (fun P hP => by rcases List.mem_cons.mp hP with rfl | hP; exact L1; exact hL P hP) ⟨hlink1, hlink⟩ (u0 := u0) (sen := sen) (self := a) (cell := cell) (cellS := cellS0)
      hcell0 (VmData.noStatics_of hc1.2.2.1) hc1.2.2.2.1 (by rw [hb3.2.2]) (by rw [hb3.2.2]) hsel0 hselF hcellS hneS hknownS hu0 hsen
      (tk_of hkx hord hb3.2.1 hsz6 tyC (by rw [Y.causeType]; rfl)) (tk_of hkx hord hb3.2.1 hsz6 tyS (by rw [Y.stackType]; exact fits_refV_array _ u0)) (tk_of hkx hord hb3.2.1 hsz6 tyP (by rw [Y.suppType]; exact fits_refV_object _ sen)) Y.objLocals hskip htr [] (by rw [C.code]; exact hd)
      (by rw [hR]; simp only [List.length_cons, hlen2]; show 5 < d; omega) (by rw [hR]; simp only [List.length_cons, hlen2]; show 2 * 0 + _ + _ ≤ 64 * d; omega)
    have hlt : a < T0.heap.size := (Array.getElem?_eq_some_iff.mp hcell0).1
    generalize hc' : (preparedCellV T.toThrowableT cell a u0 sen).setSlot T.fStack.slot u0.v = cell' at X₂ st2
    have p1 : cell'.cls = cell.cls := by rw [← hc']; rfl
    have p2 : cell'.vm = cell.vm := by rw [← hc']; rfl
    have p3 : cell'.monitor = cell.monitor := by rw [← hc']; rfl
    have p4 : cell'.slots.size = cell.slots.size := by rw [← hc']; simp [preparedCellV, Cell.setSlot]
    have p5 : cell'.slots[fB.slot]? = cell.slots[fB.slot]? := by
      rw [← hc']; simp [preparedCellV, Cell.setSlot, Array.getElem?_setIfInBounds, bC, bS, bP, bC.symm, bS.symm, bP.symm]
    have e1 : (((T0.setVm vm₁).setVm vm₂).setCell a cell').heap[a]? = some cell' := heapAt_setCell_self _ hlt
    have e2 : (((T0.setVm vm₁).setVm vm₂).setCell a cell').heap.size = H.size := by rw [size_setCell]; exact congrArg Array.size hT
    have e3 : ∀ b, b ≠ a → (((T0.setVm vm₁).setVm vm₂).setCell a cell').heap[b]? = H[b]? := fun b hb => by rw [heapAt_setCell_ne _ (Ne.symm hb)]; exact congrArg (fun z : Heap => z[b]?) hT
    generalize hT' : ((T0.setVm vm₁).setVm vm₂).setCell a cell' = T' at X₂ st2 e1 e2 e3
    have hsz : ∀ b : Nat, (T'.heap[b]?).map (fun c => c.slots.size) = (H[b]?).map (fun c => c.slots.size) := by
      intro b
      by_cases hb : b = a
      · subst hb; rw [e1, hcell]; simp [p4]
      · rw [e3 b hb]
    have hAbs : Abs s0 h T'.heap := by
      obtain ⟨a1, a2, a3, a4, a6, a5⟩ := A.1
      refine ⟨by rw [e2]; exact a1, by rw [e2]; exact a2, fun b hb => by rw [e3 b (by have := hb3.1; omega)]; exact a3 b hb, by rw [us_same e2 hsz]; exact a4, a6, fun q hq => ?_⟩
      obtain ⟨b, x, b1, b2⟩ := a5 q hq
      by_cases hb : b = a
      · subst hb
        cases hcell.symm.trans b1
        have hqa := b2.1
        subst hqa
        refine ⟨b, cell', e1, rfl, by rw [p1]; exact b2.2.1, by rw [p2]; exact b2.2.2.1, by rw [p2]; exact b2.2.2.2.1, by rw [p4]; exact b2.2.2.2.2.1, fun k hkk => ?_, fun z => by rw [p2, p3]; exact b2.2.2.2.2.2.2 z⟩
        have hk0 : k = 0 := by
          rw [nk_f htg, h1] at hkk
          rcases ht with rfl | rfl
          · have : (cF 17).length = 1 := by decide
            omega
          · have : (cF 18).length = 1 := by decide
            omega
        subst hk0
        have h9 := b2.2.2.2.2.2.1 0 hkk
        rw [hsoB] at h9 ⊢
        rw [p5]; exact h9
      · exact ⟨b, x, by rw [e3 b hb]; exact b1, b2⟩
    have hA' : At1 s0 s h T'.heap (locs ++ [⟨a, T.fCause.slot⟩, ⟨a, T.fStack.slot⟩, ⟨a, T.fSupp.slot⟩, ⟨a, T.fStack.slot⟩]) cls ls := by
      refine ⟨hAbs, by rw [e2]; exact A.2.1, by rw [us_same e2 hsz, us_same e2 hsz]; exact A.2.2.1, A.2.2.2.1, fun q hq => ?_⟩
      rcases List.mem_append.mp hq with z | z
      · exact A.2.2.2.2 q z
      · simp only [List.mem_cons, List.not_mem_nil, or_false] at z
        rcases z with rfl | rfl | rfl | rfl <;> exact hb3.1
    have k9 := hK _ _ _ hk p e s m args below meth c R T'.heap _ cls C hA'
    rw [e2, us_same (b := s.heap.size) e2 hsz] at k9
    obtain ⟨t9, z1, z2⟩ := k9 T' rfl X₂
    exact ⟨t9, st1 _ (fun acts => by rw [doInvoke_state]; exact st2 _ z1), z2⟩
  · exact hk.elim
