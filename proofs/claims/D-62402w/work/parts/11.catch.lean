/-! an exception is caught; the catch type may be resolved then and there -/
theorem fh_cold {E : CtlPost} {e : Env} {d : Bool} {acts : List Action} {s : State} {f : JFrame} {a : Addr} {Q : Handler → Pre} {x : ExceptionTableEntry} {t : List ExceptionTableEntry} {c : ClassId} {cell : Cell} {vm' : Vm} (hx : covers x f.pc = true) (h0 : x.catchType ≠ 0)
    (hg : (resolveClass f.method.cls x.catchType).Gives e.toSetting s.vm (.ok c) vm') (hsz : vm'.classes.size ≤ s.vm.classes.size) (hcell : s.heap[a]? = some cell) (hobj : ∀ k, cell.vm ≠ .statics k)
    (hk : ∃ k, vm'.classes[cell.cls]? = some k) (hc : ∃ k, vm'.classes[c]? = some k) :
    wp (findHandler.go f a (x :: t)) Q E e d acts s ↔ if vm'.assignable cell.cls c = true then Q (.found x.handlerPc) d acts (s.setVm vm') else wp (findHandler.go f a t) Q E e d acts (s.setVm vm') := by
  simp only [covers] at hx
  obtain ⟨ha, ht⟩ := hg.op (op := VmOp.resolveClass f.method.cls x.catchType) rfl
  cases hfit : vm'.assignable cell.cls c <;>
    simp [findHandler.go, hx, h0, ha, ht, hsz, hcell, hobj, hk, hc, hfit, VmOp.dirties, VmOp.acts]
/-- the search gives h, and leaves the tables vm' -/
def FindsTo (e : Env) (s : State) (f : JFrame) (a : Addr) (h : Handler) (vm' : Vm) : Prop :=
  ∀ (Q : Handler → Pre) (E : CtlPost) (d : Bool) (acts : List Action), wp (findHandler f a) Q E e d acts s ↔ Q h d acts (s.setVm vm')
theorem st_catchTo {e : Env} {s : State} {a : Addr} {f : JFrame} {r : List Frame} {pc : Nat} {vm' : Vm} (hfind : FindsTo e s f a (.found pc) vm') :
    (stepThrowing e s a (.java f :: r)).Is ((s.setVm vm').setFrames (.java { f with pc := pc, stack := [.ref a] } :: r)) [] := by
  simp only [stepThrowing, searchFrame, vmDo]
  generalize hr : Sem.go _ e false [] s = res
  obtain ⟨as, rfl, ha⟩ := Sem.eq_ok_of hr (a := Handler.found pc) (s' := s.setVm vm') (acts' := []) (by simp [hfind _ _ _ _])
  exact ⟨rfl, ha⟩
theorem st_caughtTo {tb : Tables} {e : Env} {s target : State} {g : JFrame} {c : Code} {below : List Frame} {a : Addr} {vm' : Vm} (h : At s g.method c below) {pc : Nat} (hfind : FindsTo e ((s.setTop g).pushFrame (.throwing a)) g a (.found pc) vm')
    (hrest : Steps tb e below ((s.setVm vm').setTop { g with pc := pc, stack := [.ref a] }) target) :
    Steps tb e below ((s.setTop g).pushFrame (.throwing a)) target := by
  obtain ⟨hgo, hw⟩ := h.throwing a
  refine Steps.head hgo hw ?_
  rw [stepThread_throwing (frames_entered h.top _), (st_catchTo (s := (s.setTop g).pushFrame (.throwing a)) hfind).1]
  obtain ⟨g₀, hg⟩ := Option.isSome_iff_exists.mp h.top
  obtain ⟨r, hr⟩ := State.topJava?_eq_some.mp hg
  have hr' : (s.setVm vm').frames = .java g₀ :: r := hr
  rw [State.setTop_of_frames _ hr'] at hrest
  have e1 : (((s.setTop g).pushFrame (.throwing a)).setVm vm').setFrames (.java { g with pc := pc, stack := [.ref a] } :: s.frames.tail) = (s.setVm vm').setFrames (.java { g with pc := pc, stack := [.ref a] } :: r) := by
    rw [State.pushFrame, State.setTop_of_frames _ hr, State.setFrames_setFrames, hr]
    show ((s.setFrames _).setVm vm').setFrames _ = _
    have : ∀ fs, (s.setFrames fs).setVm vm' = (s.setVm vm').setFrames fs := fun _ => rfl
    rw [this, State.setFrames_setFrames]
    rfl
  rw [e1]
  exact hrest
def thrH (J : Nat → XL → XS → AH → Prop) (ls : XL) (q : Nat) (h : AH) (hs : List (Nat × List Nat × List Nat)) : Prop := match hs with
  | [] => False
  | x :: r => (x.2.1.elem (gT h q).1 = true ∧ J x.1 ls [vR q] h) ∨ (x.2.2.elem (gT h q).1 = true ∧ thrH J ls q h r)
def thr (Q : AO → AH → Prop) (J : Nat → XL → XS → AH → Prop) (ls : XL) (q : Nat) (h : AH) (hs : List (Nat × List Nat × List Nat)) : Prop := match hs with
  | [] => Q (.inr q) h
  | x :: r => thrH J ls q h (x :: r)
def tup (h : ExceptionTableEntry) : Nat × Nat × Nat × Nat := (h.startPc, h.endPc, h.handlerPc, h.catchType)
/-- the search through a table's rest -/
def HG (i pc : Nat) (tb : List (Nat × Nat × Nat × Nat)) (hs : List (Nat × List Nat × List Nat)) : Prop :=
  ∀ (l : Launch) (s0 : State) (d : Nat) (J : Nat → XL → XS → AH → Prop) (ls : XL) (rest : XS) (h : AH) (q : Nat) (p : Program) (e : Env) (s : State) (m : MethodId) (args : Array Value) (below : List Frame) (meth : Method) (c : Code) (R : Room) (H : Heap) (locs : List Loc) (cls : Array Slot) (cells slots : Nat),
    Cx l s0 i d p s m meth c R → At1 s0 s h H locs cls ls → ∀ T : State, T.heap = H → Stand p l e R s m args below meth c T locs cells slots → thrH J ls q h hs →
    ∀ es : List ExceptionTableEntry, es.map tup = tb →
    ∃ (pc' : Nat) (vm' : Vm), J pc' ls [vR q] h ∧ q ≠ 0 ∧ Stand p l e R s m args below meth c (T.setVm vm') locs cells slots ∧
      ∀ (Q : Handler → Pre) (E : CtlPost) (dd : Bool) (acts : List Action), wp (findHandler.go (F0 m pc cls (rest.map cv)) (q - 1) es) Q E e dd acts ((T.setTop (F0 m pc cls (rest.map cv))).pushFrame (.throwing (q - 1))) ↔ Q (.found pc') dd acts (((T.setVm vm').setTop (F0 m pc cls (rest.map cv))).pushFrame (.throwing (q - 1)))
theorem HG.nil {i pc : Nat} : HG i pc [] [] := by
  intro l s0 d J ls rest h q p e s m args below meth c R H locs cls cells slots C A T hT X ht
  exact ht.elim
theorem HG.skip {i pc : Nat} {y : Nat × Nat × Nat × Nat} {tb : List (Nat × Nat × Nat × Nat)} {hs : List (Nat × List Nat × List Nat)} (hy : (decide (y.1 ≤ pc) && decide (pc < y.2.1)) = false) (hr : HG i pc tb hs) : HG i pc (y :: tb) hs := by
  intro l s0 d J ls rest h q p e s m args below meth c R H locs cls cells slots C A T hT X ht es hes
  cases es with
  | nil => simp at hes
  | cons x es =>
    simp only [List.map_cons, List.cons.injEq] at hes
    obtain ⟨e1, e2⟩ := hes
    subst e1
    obtain ⟨pc', vm', k1, k0, k2, k3⟩ := hr l s0 d J ls rest h q p e s m args below meth c R H locs cls cells slots C A T hT X ht es e2
    refine ⟨pc', vm', k1, k0, k2, fun Q E dd acts => ?_⟩
    rw [W.findHandler_go_skip (x := x) (f := F0 m pc cls (rest.map cv)) hy]
    exact k3 Q E dd acts
theorem HG.cov {i pc hp : Nat} {ts ns : List Nat} {nm : String} {y : Nat × Nat × Nat × Nat} {tb : List (Nat × Nat × Nat × Nat)} {hs : List (Nat × List Nat × List Nat)} (hy : (decide (y.1 ≤ pc) && decide (pc < y.2.1)) = true) (hh : y.2.2.1 = hp) (h0 : y.2.2.2 ≠ 0) (hl : Cond.classLink (mi i).1.cls y.2.2.2 nm ∈ lw_tbl) (ho : okC ts nm = true) (hn : okNC ns nm = true) (hr : HG i pc tb hs) : HG i pc (y :: tb) ((hp, ts, ns) :: hs) := by
  intro l s0 d J ls rest h q p e s m args below meth c R H locs cls cells slots C A T hT X ht es hes
  cases es with
  | nil => simp at hes
  | cons x es =>
    simp only [List.map_cons, List.cons.injEq] at hes
    obtain ⟨e1, e2⟩ := hes
    subst e1
    have hpl : e.platform.magicAccessors = ({} : Platform).magicAccessors := by rw [X.admits.platform]
    obtain ⟨cT, hcT, hcl⟩ := Cond.classLink_spec C.own (C.wd.use hl rfl rfl args) e.platform hpl
    obtain ⟨dk, _, _, kt, hd, _, _, _, _, hkt, _, hopen⟩ := hcl.here
    have hcl₀ := X.warmed.classLinks hcl
    have hW' : s.WarmedH (T.vm.noted m.cls x.catchType (.cls cT)) := X.warmed.noted hd hopen (State.rightAt_cls hcl)
    obtain ⟨kt', hkt', -⟩ := hW'.alike.2.2 _ _ hkt
    have X' := X.noted hW'
    have htag : isA (gT h q).1 = false ∧ (gT h q).1 ≠ 0 := by
      rcases ht with ⟨t1, -⟩ | ⟨t1, -⟩
      · obtain ⟨o1, o2, -⟩ := okC_at ho t1; exact ⟨o1, o2⟩
      · obtain ⟨o1, o2, -⟩ := okNC_at hn t1; exact ⟨o1, o2⟩
    obtain ⟨a, hqa, cell, hcell, hst, hcc⟩ := obj_at C.al A.1 htag.1 htag.2
    subst hqa
    obtain ⟨ks, hks, -⟩ := Vm.findClass_spec hcc
    obtain ⟨ks', hks', -⟩ := hW'.alike.2.2 _ _ hks
    have hasg : ∀ b : Bool, s.vm.assignable cell.cls cT = b → (T.vm.noted m.cls x.catchType (.cls cT)).assignable cell.cls cT = b := fun b hb => by rw [hW'.alike.assignable]; exact hb
    have hbase : ∀ (Q : Handler → Pre) (E : CtlPost) (dd : Bool) (acts : List Action), wp (findHandler.go (F0 m pc cls (rest.map cv)) a (x :: es)) Q E e dd acts ((T.setTop (F0 m pc cls (rest.map cv))).pushFrame (.throwing a)) ↔
        if (T.vm.noted m.cls x.catchType (.cls cT)).assignable cell.cls cT = true then Q (.found x.handlerPc) dd acts ((((T.setTop (F0 m pc cls (rest.map cv))).pushFrame (.throwing a))).setVm (T.vm.noted m.cls x.catchType (.cls cT))) else wp (findHandler.go (F0 m pc cls (rest.map cv)) a es) Q E e dd acts ((((T.setTop (F0 m pc cls (rest.map cv))).pushFrame (.throwing a))).setVm (T.vm.noted m.cls x.catchType (.cls cT))) := by
      intro Q E dd acts
      refine fh_cold (f := F0 m pc cls (rest.map cv)) (c := cT) (cell := cell) hy h0 ?_ ?_ ?_ (VmData.noStatics_of hst) ⟨_, hks'⟩ ⟨_, hkt'⟩
      · rw [Stand.throwing_vm]; exact resolveClass_links e.toSetting hcl₀
      · rw [Stand.throwing_vm]; simp
      · rw [Stand.throwing_heap, hT]; exact hcell
    have hset : (((T.setTop (F0 m pc cls (rest.map cv))).pushFrame (.throwing a))).setVm (T.vm.noted m.cls x.catchType (.cls cT)) = (((T.setVm (T.vm.noted m.cls x.catchType (.cls cT))).setTop (F0 m pc cls (rest.map cv))).pushFrame (.throwing a)) := by
      obtain ⟨g₀, hg⟩ := Option.isSome_iff_exists.mp X.here.top
      obtain ⟨r, hr⟩ := State.topJava?_eq_some.mp hg
      have hr' : (T.setVm (T.vm.noted m.cls x.catchType (.cls cT))).frames = .java g₀ :: r := hr
      rw [State.setTop_of_frames _ hr, State.setTop_of_frames _ hr']
      rfl
    rcases ht with ⟨t1, t2⟩ | ⟨t1, t2⟩
    · obtain ⟨o1, o2, o3⟩ := okC_at ho t1
      obtain ⟨c1, c2, d1, d2, d3⟩ := Cond.castable_spec (C.wd.use o3 rfl rfl #[])
      cases d1.symm.trans hcc
      cases d2.symm.trans hcT
      refine ⟨hp, _, t2, Nat.succ_ne_zero _, X', fun Q E dd acts => ?_⟩
      show wp (findHandler.go _ a (x :: es)) Q E e dd acts _ ↔ _
      refine (hbase Q E dd acts).trans ?_
      rw [if_pos (hasg _ d3), hset]
      have : x.handlerPc = hp := hh
      rw [this]
      exact Iff.rfl
    · obtain ⟨o1, o2, o3⟩ := okNC_at hn t1
      obtain ⟨c1, c2, d1, d2, d3⟩ := nc_at C.gg C.al o3
      cases d1.symm.trans hcc
      cases d2.symm.trans hcT
      obtain ⟨pc', vm', k1, k0, k2, k3⟩ := hr l s0 d J ls rest h (a + 1) p e s m args below meth c R H locs cls cells slots C A (T.setVm (T.vm.noted m.cls x.catchType (.cls cT))) hT X' t2 es e2
      refine ⟨pc', vm', k1, k0, k2, fun Q E dd acts => ?_⟩
      show wp (findHandler.go _ a (x :: es)) Q E e dd acts _ ↔ _
      refine (hbase Q E dd acts).trans ?_
      rw [if_neg (by rw [hasg _ d3]; decide), hset]
      exact k3 Q E dd acts
theorem TW.catch {l : Launch} {s0 : State} {i d pc : Nat} {ls : XL} {rest : XS} {h : AH} {q : Nat} {Q : AO → AH → Prop} {J : Nat → XL → XS → AH → Prop} {hs : List (Nat × List Nat × List Nat)} (hg : HG i pc (mi i).2.2.2.2 hs) (ht : thrH J ls q h hs) (hJ : ∀ t ls st h, J t ls st h → WP l s0 i d t ls st h Q) : TW l s0 i d pc ls rest h q Q := by
  intro p e s m args below meth c R H locs cls C A T hT X
  obtain ⟨pc', vm', k1, k0, k2, k3⟩ := hg l s0 d J ls rest h q p e s m args below meth c R H locs cls _ _ C A T hT X ht c.exceptionTable.toList C.exc
  obtain ⟨t, z1, z2⟩ := hJ _ _ _ _ k1 p e s m args below meth c R H locs cls C A (T.setVm vm') hT k2
  refine ⟨t, ?_, z2⟩
  have hm' : ((T.setTop (F0 m pc cls (rest.map cv))).pushFrame (.throwing (q - 1))).vm.method? m = some meth := by rw [Stand.throwing_vm]; exact X.method'
  refine st_caughtTo (g := F0 m pc cls (rest.map cv)) (pc := pc') (vm' := vm') X.here ?_ ?_
  · intro Q E dd acts
    rw [W.findHandler_eq (f := F0 m pc cls (rest.map cv)) hm' X.code, k3 Q E dd acts]
    have hset : (((T.setTop (F0 m pc cls (rest.map cv))).pushFrame (.throwing (q - 1)))).setVm vm' = (((T.setVm vm').setTop (F0 m pc cls (rest.map cv))).pushFrame (.throwing (q - 1))) := by
      obtain ⟨g₀, hg⟩ := Option.isSome_iff_exists.mp X.here.top
      obtain ⟨r, hr⟩ := State.topJava?_eq_some.mp hg
      have hr' : (T.setVm vm').frames = .java g₀ :: r := hr
      rw [State.setTop_of_frames _ hr, State.setTop_of_frames _ hr']
      rfl
    rw [hset]
  · obtain ⟨a, rfl⟩ : ∃ a, q = a + 1 := ⟨q - 1, by omega⟩
    exact z1
def HsOk (i pc : Nat) (hs : List (Nat × List Nat × List Nat)) : Prop := ∀ (l : Launch) (s0 : State) (d : Nat) (Q : AO → AH → Prop) (J : Nat → XL → XS → AH → Prop) (ls : XL) (rest : XS) (h : AH) (q : Nat),
  thr Q J ls q h hs → (∀ t ls st h, J t ls st h → WP l s0 i d t ls st h Q) → TW l s0 i d pc ls rest h q Q
theorem HsOk.nil {i pc : Nat} (hn : noH i pc = true) : HsOk i pc [] := fun _ _ _ _ _ _ _ _ _ ht _ => TW.out hn ht
theorem HsOk.cons {i pc : Nat} {x : Nat × List Nat × List Nat} {hs : List (Nat × List Nat × List Nat)} (hg : HG i pc (mi i).2.2.2.2 (x :: hs)) : HsOk i pc (x :: hs) := fun _ _ _ _ _ _ _ _ _ ht hJ => TW.catch hg ht hJ
