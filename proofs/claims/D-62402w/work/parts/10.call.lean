/-! calls -/
theorem tight {p : Program} {l : Launch} {e : Env} {R : Room} {s : State} {m : MethodId} {args : Array Value} {below : List Frame} {meth : Method} {c : Code} {T : State} {locs : List Loc} {cells slots : Nat} (X : Stand p l e R s m args below meth c T locs cells slots) : Stand p l e R s m args below meth c T locs (T.heap.size - s.heap.size) (us s.heap.size T.heap) := by
  obtain ⟨q1, q2, q3, q4, q5, q6⟩ := X.same
  refine { X with same := ⟨q1, q2, ?_, q4, Nat.le_refl _, q6⟩ }
  have q2' : s.heap.size ≤ T.heap.size := q2
  show T.heap.size ≤ s.heap.size + (T.heap.size - s.heap.size)
  omega
/-- the callee's code row -/
theorem cd_spec {j : Nat} {args : Array Value} {s : State} {mk : MethodId} (hn : s.methodNamed? (mi j).1 = some mk) (h : (cdC j).before args s = true) :
    ∃ meth c, s.vm.method? mk = some meth ∧ meth.code = some c ∧ c.code = (mi j).2.1 ∧ c.maxLocals = (mi j).2.2.1 ∧ meth.sig.returnType = (mi j).2.2.2.1 ∧ meth.locks = false ∧ c.exceptionTable.toList.map (fun h => (h.startPc, h.endPc, h.handlerPc, h.catchType)) = (mi j).2.2.2.2 ∧ parseMethodDescriptor (mi j).1.desc = some meth.sig := by
  unfold cdC at h
  split at h
  · next he =>
    obtain ⟨meth, c, h1, h2, h3, h4, h5, h6, h7, h8⟩ := Cond.code_spec hn h
    refine ⟨meth, c, h1, h2, h3, h4, h5, h6, ?_, h8⟩
    have h0 : c.exceptionTable.size = 0 := by simpa [Array.isEmpty] using h7
    have h9 : c.exceptionTable.toList = [] := List.eq_nil_of_length_eq_zero (by simpa using h0)
    rw [h9, he]; rfl
  · obtain ⟨m', meth, c, h0, h1, h2, h3, h4, h5, h6, h7, h8⟩ := Cond.codeWith_spec h
    cases hn.symm.trans h0
    exact ⟨meth, c, h1, h2, h3, h4, h6, h7, h5, h8⟩
theorem cd_tab (j : Nat) : (cdC j).onTables = true ∧ wB (cdC j) = true := by
  unfold cdC
  split <;> exact ⟨rfl, rfl⟩
/-- a throw that has come to this frame -/
def TW (l : Launch) (s0 : State) (i d pc : Nat) (ls : XL) (rest : XS) (h : AH) (q : Nat) (Q : AO → AH → Prop) : Prop :=
  ∀ (p : Program) (e : Env) (s : State) (m : MethodId) (args : Array Value) (below : List Frame) (meth : Method) (c : Code) (R : Room) (H : Heap) (locs : List Loc) (cls : Array Slot),
    Cx l s0 i d p s m meth c R → At1 s0 s h H locs cls ls → ∀ T : State, T.heap = H → Stand p l e R s m args below meth c T locs (H.size - s.heap.size) (us s.heap.size H) →
    ∃ t, Steps p.tables e below ((T.setTop (F0 m pc cls (rest.map cv))).pushFrame (.throwing (q - 1))) t ∧ EQ s0 s below Q t
theorem TW.out {l : Launch} {s0 : State} {i d pc : Nat} {ls : XL} {rest : XS} {h : AH} {q : Nat} {Q : AO → AH → Prop} (hn : noH i pc = true) (hq : Q (.inr q) h) : TW l s0 i d pc ls rest h q Q := by
  intro p e s m args below meth c R H locs cls C A T hT X
  have hlocks := C.locks
  obtain ⟨h1, h2, h3, h4, h5⟩ := X.leaveThrown (q - 1) (g := F0 m pc cls (rest.map cv)) rfl rfl rfl (noH_out C hn) hlocks
  subst hT
  exact ⟨_, h1, .threw (q - 1), h2, h3, .inr q, h, rfl, A.1, hq, h4, locs, h5, A.2.2.2.2⟩
theorem call_fin {l : Launch} {s0 : State} {i d pc j d' : Nat} {ls : XL} {rest : XS} {as : List AV} {h : AH} {Q Q' : AO → AH → Prop} {ig : Instr}
    {p : Program} {e : Env} {s : State} {m : MethodId} {args : Array Value} {below : List Frame} {meth : Method} {c : Code} {R : Room} {H : Heap} {locs : List Loc} {cls : Array Slot} {T : State} {vm₁ : Vm} {mk : MethodId} {g0 : JFrame}
    (C : Cx l s0 i d p s m meth c R) (A : At1 s0 s h H locs cls ls) (hT : T.heap = H) (X₁ : Stand p l e R s m args below meth c (T.setVm vm₁) locs (H.size - s.heap.size) (us s.heap.size H))
    (hsz : cls.size = c.maxLocals) (hdg : decode (mi i).2.1 pc = .ok (ig, 3)) (hn : s.methodNamed? (mi j).1 = some mk) (hcd : cdC j ∈ lw_tbl) (hini : Cond.initialized (mi j).1.cls ∈ lw_tbl) (hmx : (mi j).2.2.1 ≤ 30)
    (hM : MP l s0 j d' as h Q') (hd : d' + 1 ≤ d) (hr : rest.length ≤ 8)
    (hst : ∀ target, Steps p.tables e below (doInvoke e ((T.setVm vm₁).setTop (F0 m pc cls (rest.map cv))) [] mk (as.map cv).toArray).1 target → Steps p.tables e below (T.setTop g0) target)
    (hret : ∀ v h', Q' (.inl v) h' → WP l s0 i d (pc + 3) ls (v.toList ++ rest) h' Q) (hthr : ∀ q h', Q' (.inr q) h' → TW l s0 i d pc ls rest h' q Q) :
    ∃ t, Steps p.tables e below (T.setTop g0) t ∧ EQ s0 s below Q t := by
  subst hT
  have hn1 := X₁.named hn
  have hWd : Wd (T.setVm vm₁) := Wd.move X₁.warmed C.wd
  have h2 : (cdC j).before (as.map cv).toArray (T.setVm vm₁) = true := hWd.use hcd (cd_tab j).2 (cd_tab j).1 _
  obtain ⟨methY, cY, hmY, hcY, -, hlY, -, -, -, -⟩ := cd_spec hn1 h2
  obtain ⟨kY, hkY, -⟩ := className_of_methodNamed hn1
  have hinitY : kY.init = .initialized := Cond.initialized_spec (findClass_of_methodNamed hn1) hkY (hWd.use hini rfl rfl #[])
  have h1 : At (T.setVm vm₁) (F0 m pc cls (rest.map cv)).method c below := X₁.here
  have hR := C.room
  have hAb := A.1
  have hlim := hAb.2.2.2.2.1
  have hN0 := hAb.1
  have hU0 := hAb.2.2.2.1
  have hus := A.2.2.1
  have hsz2 := A.2.1
  have hcat : ∀ st : XS, ((st.map cv).map fun v => v.category).sum ≤ 2 * st.length := by
    intro st
    induction st with
    | nil => simp
    | cons a r ih =>
      have : (cv a).category ≤ 2 := by rcases lv_cat (cv a) with q | q <;> omega
      simp only [List.map_cons, List.sum_cons, List.length_cons]
      omega
  have hc8 := hcat rest
  have hroom : ((T.setVm vm₁).calling (F0 m pc cls (rest.map cv)) mk (as.map cv).toArray).hasRoom e.platform (rm s0 (hN h) (hU h) d') = true := by
    refine X₁.room_calling (g := F0 m pc cls (rest.map cv)) (R' := rm s0 (hN h) (hU h) d') hsz hmY hcY ?_ ?_ ?_ ?_
    · rw [hR]; exact hd
    · rw [hR, hlY]
      show 2 * 0 + _ + _ + 64 * d' ≤ 64 * d
      have : ((F0 m pc cls (rest.map cv)).stack.map fun v => v.category).sum ≤ 2 * rest.length := hc8
      omega
    · rw [hR]
      show _ + (s0.heap.size + 600128 - hN h) ≤ s0.heap.size + 600128 - s.heap.size
      omega
    · rw [hR]
      show _ + (7301098 - hU h) ≤ 7301098 - us s0.heap.size s.heap
      omega
  have happ : (headSpec [cdC j] (rm s0 (hN h) (hU h) d')).appliesLoose (mi j).1 e.platform ((T.setVm vm₁).calling (F0 m pc cls (rest.map cv)) mk (as.map cv).toArray) = true := by
    refine Spec.appliesLoose_calling (g := F0 m pc cls (rest.map cv)) h1 (by rw [C.code]; exact hdg) hn1 hkY hinitY hroom ?_
    exact atoms_intro (fun w hw => by rw [List.mem_singleton] at hw; subst hw; exact h2)
  obtain ⟨mid, hmid⟩ := h1.above
  have hfr : ((T.setVm vm₁).setTop (F0 m pc cls (rest.map cv))).frames = (.java (F0 m pc cls (rest.map cv)) :: mid) ++ below := by rw [State.frames_setTop' _ h1.top, hmid]; rfl
  obtain ⟨o, s₂, hsteps, -, hend, hq⟩ := Steps.callFree hM p X₁.admits X₁.cas X₁.clock (acts := []) hfr happ ⟨rfl, C.gg, State.WarmedH.trans C.warm X₁.warmed, A.1⟩ trivial
  have hst2 := hst _ hsteps
  obtain ⟨ao, h', e1, e2, e3, e4, L, e5, e6⟩ := hq
  have htail : (T.setVm vm₁).frames.tail = below := X₁.tail
  rw [State.frames_setTop' _ h1.top, htail] at hend
  cases ao with
  | inl v =>
    have e1 : o = .returned (v.map cv) := e1
    subst e1
    obtain ⟨T', X', hW', hsm, ht⟩ := X₁.outOf (g := F0 m pc cls (rest.map cv)) rfl (by rw [C.code]; exact hdg) hend e4 e5
    have hh : T'.heap = s₂.heap := by rw [ht]; rfl
    have X2 := tight X'
    have hA2 : At1 s0 s h' T'.heap (locs ++ L) cls ls := by
      refine ⟨by rw [hh]; exact e2, ?_, ?_, A.2.2.2.1, ?_⟩
      · exact X2.same.2.1
      · refine us_split C.hs rfl X2.same.2.1 (fun b hb => ?_)
        obtain ⟨c', q1, -, q3, -⟩ := X2.same.2.2.2.2.2 b s.heap[b] (Array.getElem?_eq_getElem hb)
        have q1' : T'.heap[b]? = some c' := q1
        rw [q1', Array.getElem?_eq_getElem hb]
        exact congrArg some q3
      · intro q hq
        rcases List.mem_append.mp hq with z | z
        · exact A.2.2.2.2 q z
        · exact e6 q z
    obtain ⟨t, k1, k2⟩ := hret v h' e3 p e s m args below meth c R T'.heap (locs ++ L) cls C hA2 T' rfl X2
    refine ⟨t, ?_, k2⟩
    refine hst2.trans ?_
    rw [ht]
    have e9 : F0 m (pc + 3) cls ((v.toList ++ rest).map cv) = { F0 m pc cls (rest.map cv) with pc := pc + 3, stack := (v.map cv).toList ++ rest.map cv } := by
      cases v <;> rfl
    rw [e9] at k1
    exact k1
  | inr q =>
    have e1 : o = .threw (q - 1) := e1
    subst e1
    obtain ⟨T', X', hW', hsm, ht⟩ := X₁.outOfThrown (g := F0 m pc cls (rest.map cv)) rfl hend e4 e5
    have hh : T'.heap = s₂.heap := by rw [ht]; exact (Stand.throwing_heap T' (F0 m pc cls (rest.map cv)) (q - 1)).symm
    have X2 := tight X'
    have hA2 : At1 s0 s h' T'.heap (locs ++ L) cls ls := by
      refine ⟨by rw [hh]; exact e2, ?_, ?_, A.2.2.2.1, ?_⟩
      · exact X2.same.2.1
      · refine us_split C.hs rfl X2.same.2.1 (fun b hb => ?_)
        obtain ⟨c', q1, -, q3, -⟩ := X2.same.2.2.2.2.2 b s.heap[b] (Array.getElem?_eq_getElem hb)
        have q1' : T'.heap[b]? = some c' := q1
        rw [q1', Array.getElem?_eq_getElem hb]
        exact congrArg some q3
      · intro q hq
        rcases List.mem_append.mp hq with z | z
        · exact A.2.2.2.2 q z
        · exact e6 q z
    obtain ⟨t, k1, k2⟩ := hthr q h' e3 p e s m args below meth c R T'.heap (locs ++ L) cls C hA2 T' rfl X2
    exact ⟨t, hst2.trans (by rw [ht]; exact k1), k2⟩
