/-! the heap that an abstract heap stands for -/
def isA (t : Nat) : Bool := t / 10 == 2 || t / 10 == 4
/-- the kind of what stands at place k of a cell with the tag t -/
def kd (t k : Nat) : Nat := if isA t then t % 10 else (cK t).getD k 0
def aTy (k : Nat) : FieldType := match k with
  | 0 => .int
  | 1 => .char
  | 2 => .boolean
  | 3 => .byte
  | 4 => .long
  | _ => .object "java/lang/Object"
def cT (t : Nat) : u_T := fun k => (cF t).getD k ("", "", "", false)
def so (s0 : State) (q : String × String × String × Bool) : Nat := match s0.fieldFound? q.1 q.2.1 q.2.2.1 with
  | some x => x.2.2.2.slot
  | none => 0
def sx (s0 : State) (t k : Nat) : Nat := if isA t then k else so s0 (cT t k)
def nk (t : Nat × Nat) : Nat := if isA t.1 then t.2 else (cF t.1).length
def slv (k : Nat) (z : Int) (q : Nat) : Value := if k = 5 then cR q else if k = 4 then .long (Int64.ofInt z) else .int (Int32.ofInt z)
/-- the class of a cell is the one that its tag says -/
def cok (s0 : State) (t : Nat) (c : ClassId) : Prop :=
  if isA t then ∃ (k : Class) (comp : ClassId), s0.vm.classes[c]? = some k ∧ k.kind = .array comp (aTy (t % 10)) ∧ (t % 10 = 5 → s0.vm.findClass "java/lang/Object" = some comp)
  else s0.vm.findClass (cN t) = some c
def Cell1 (s0 : State) (h : AH) (p a : Nat) (cell : Cell) : Prop :=
  p = a + 1 ∧ cok s0 (gT h p).1 cell.cls ∧ cell.vm.isStatics = false ∧ cell.vm ≠ .unknown ∧ cell.slots.size = (gT h p).2 ∧
  (∀ k, k < nk (gT h p) → cell.slots[sx s0 (gT h p).1 k]? = some (slv (kd (gT h p).1 k) (gI h p k) (gR h p k))) ∧
  ((gT h p).1 < 30 → s0.heap.size ≤ a ∧ cell.vm = .none ∧ cell.monitor = {})
def Abs (s0 : State) (h : AH) (H : Heap) : Prop :=
  H.size = hN h ∧ s0.heap.size ≤ H.size ∧ (∀ a : Nat, a < s0.heap.size → H[a]? = s0.heap[a]?) ∧ us s0.heap.size H = hU h ∧ (hN h ≤ s0.heap.size + 600128 ∧ hU h ≤ 7301098) ∧
  ∀ p : Nat, (gT h p).1 ≠ 0 → ∃ (a : Nat) (cell : Cell), H[a]? = some cell ∧ Cell1 s0 h p a cell
/-! words of the tables that hold at every warmer state -/
def wB (w : Cond) : Bool := (w.onTables && (w.keeps || w.faceAtom)) || (match w with | .methodLinkNest .. => true | .fieldLinkNest .. => true | .arrayClass _ => true | _ => false)
def Wd (s : State) : Prop := ∀ w ∈ lw_tbl, wB w = true → va_Nw w s
theorem wB_move {w : Cond} {s U : State} (hW : s.WarmedH U.vm) (hb : wB w = true) (h : va_Nw w s) : va_Nw w U := by
  unfold wB at hb
  rw [Bool.or_eq_true] at hb
  rcases hb with hb | hb
  · simp only [Bool.and_eq_true, Bool.or_eq_true] at hb
    obtain ⟨h1, h2 | h2⟩ := hb
    · have h3 := Cond.onTables_warm (T := U) (args' := #[]) hW h1 h2 h
      rwa [State.setVm_self] at h3
    · exact va_tabs h1 (rfl : (s.setVm U.vm).vm = U.vm) (Cond.faceAtom_setVm hW.alike _ h2 h)
  · match w, hb with
    | .methodLinkNest _ _ _ _, _ => exact va_Nw.warmM hW h
    | .fieldLinkNest _ _ _ _ _ _, _ => exact va_Nw.warmF hW h
    | .arrayClass ty, _ => exact word_at hW (Or.inr ⟨ty, rfl⟩) h
theorem Wd.move {s U : State} (hW : s.WarmedH U.vm) (h : Wd s) : Wd U := fun w hw hb => wB_move hW hb (h w hw hb)
theorem Wd.use {s : State} (h : Wd s) {w : Cond} (hw : w ∈ lw_tbl) (hb : wB w = true) (hc : w.onTables = true) (args : Array Value) : w.before args s = true := va_Nw.use hc (h w hw hb)
theorem Wd.arr {s : State} (h : Wd s) {ty : FieldType} (hw : Cond.arrayClass ty ∈ lw_tbl) (args : Array Value) : (Cond.arrayClass ty).before args s = true := h _ hw rfl
/-! outcomes, method ends -/
abbrev AO : Type := Option AV ⊕ Nat
def co (o : AO) : Outcome := match o with
  | .inl v => .returned (v.map cv)
  | .inr p => .threw (p - 1)
abbrev XL : Type := List (Option AV)
abbrev XS : Type := List AV
def lsOk (cls : Array Slot) (ls : XL) : Prop := cls.size = ls.length ∧ lv_wf cls ∧ ∀ (i : Nat) (v : AV), ls[i]? = some (some v) → cls[i]? = some (.val (cv v))
/-- what is given of the start s0 of the law -/
def GG (l : Launch) (s0 : State) : Prop := l.stackTraces = false ∧ Wd s0 ∧ ∃ b : Nat, (∀ w ∈ lw_tbl, w.before #[Value.ref b] s0 = true) ∧ (Jvm.Cond.and given_1 narrow_1).before #[Value.ref b] s0 = true
def rm (s0 : State) (n u d : Nat) : Room := { frames := d, cells := s0.heap.size + 600128 - n, slots := 7301098 - u, locals := 64 * d }
def cdC (i : Nat) : Cond := if (mi i).2.2.2.2 = [] then .code (mi i).1 (mi i).2.1 (mi i).2.2.1 (mi i).2.2.2.1 else .codeWith (mi i).1 (mi i).2.1 (mi i).2.2.1 (mi i).2.2.2.1 (mi i).2.2.2.2
def Ends (s0 s : State) (Q : AO → AH → Prop) (o : Outcome) (t : State) : Prop :=
  ∃ (ao : AO) (h' : AH), o = co ao ∧ Abs s0 h' t.heap ∧ Q ao h' ∧ s.WarmedH t.vm ∧ ∃ L : List Loc, s.sameButNew ({ t with vm := s.vm } : State) L (t.heap.size - s.heap.size) (us s.heap.size t.heap) ∧ ∀ q ∈ L, s0.heap.size ≤ q.base
def EQ (s0 s : State) (below : List Frame) (Q : AO → AH → Prop) : State → Prop := fun t => ∃ o, t.status = .running ∧ Ended t below o ∧ Ends s0 s Q o t
/-- a frame of the method i -/
def Cx (l : Launch) (s0 : State) (i d : Nat) (p : Program) (s : State) (m : MethodId) (meth : Method) (c : Code) (R : Room) : Prop :=
  GG l s0 ∧ p.tables.exec = Jvm.exec ∧ c.code = (mi i).2.1 ∧ c.maxLocals = (mi i).2.2.1 ∧ meth.sig.returnType = (mi i).2.2.2.1 ∧ meth.locks = false ∧ s.methodNamed? (mi i).1 = some m ∧ meth.name = (mi i).1.name ∧
  c.exceptionTable.toList.map (fun h => (h.startPc, h.endPc, h.handlerPc, h.catchType)) = (mi i).2.2.2.2 ∧ s0.WarmedH s.vm ∧ s0.heap.size ≤ s.heap.size ∧ (∀ a : Nat, a < s0.heap.size → s.heap[a]? = s0.heap[a]?) ∧
  R = rm s0 s.heap.size (us s0.heap.size s.heap) d
theorem Cx.gg {l : Launch} {s0 : State} {i d : Nat} {p : Program} {s : State} {m : MethodId} {meth : Method} {c : Code} {R : Room} (h : Cx l s0 i d p s m meth c R) : GG l s0 := h.1
theorem Cx.exec {l : Launch} {s0 : State} {i d : Nat} {p : Program} {s : State} {m : MethodId} {meth : Method} {c : Code} {R : Room} (h : Cx l s0 i d p s m meth c R) : p.tables.exec = Jvm.exec := h.2.1
theorem Cx.code {l : Launch} {s0 : State} {i d : Nat} {p : Program} {s : State} {m : MethodId} {meth : Method} {c : Code} {R : Room} (h : Cx l s0 i d p s m meth c R) : c.code = (mi i).2.1 := h.2.2.1
theorem Cx.maxL {l : Launch} {s0 : State} {i d : Nat} {p : Program} {s : State} {m : MethodId} {meth : Method} {c : Code} {R : Room} (h : Cx l s0 i d p s m meth c R) : c.maxLocals = (mi i).2.2.1 := h.2.2.2.1
theorem Cx.ret {l : Launch} {s0 : State} {i d : Nat} {p : Program} {s : State} {m : MethodId} {meth : Method} {c : Code} {R : Room} (h : Cx l s0 i d p s m meth c R) : meth.sig.returnType = (mi i).2.2.2.1 := h.2.2.2.2.1
theorem Cx.locks {l : Launch} {s0 : State} {i d : Nat} {p : Program} {s : State} {m : MethodId} {meth : Method} {c : Code} {R : Room} (h : Cx l s0 i d p s m meth c R) : meth.locks = false := h.2.2.2.2.2.1
theorem Cx.named {l : Launch} {s0 : State} {i d : Nat} {p : Program} {s : State} {m : MethodId} {meth : Method} {c : Code} {R : Room} (h : Cx l s0 i d p s m meth c R) : s.methodNamed? (mi i).1 = some m := h.2.2.2.2.2.2.1
theorem Cx.own {l : Launch} {s0 : State} {i d : Nat} {p : Program} {s : State} {m : MethodId} {meth : Method} {c : Code} {R : Room} (h : Cx l s0 i d p s m meth c R) : s.vm.findClass (mi i).1.cls = some m.cls := findClass_of_methodNamed h.named
theorem Cx.nm {l : Launch} {s0 : State} {i d : Nat} {p : Program} {s : State} {m : MethodId} {meth : Method} {c : Code} {R : Room} (h : Cx l s0 i d p s m meth c R) : meth.name = (mi i).1.name := h.2.2.2.2.2.2.2.1
theorem Cx.exc {l : Launch} {s0 : State} {i d : Nat} {p : Program} {s : State} {m : MethodId} {meth : Method} {c : Code} {R : Room} (h : Cx l s0 i d p s m meth c R) : c.exceptionTable.toList.map (fun h => (h.startPc, h.endPc, h.handlerPc, h.catchType)) = (mi i).2.2.2.2 := h.2.2.2.2.2.2.2.2.1
theorem Cx.warm {l : Launch} {s0 : State} {i d : Nat} {p : Program} {s : State} {m : MethodId} {meth : Method} {c : Code} {R : Room} (h : Cx l s0 i d p s m meth c R) : s0.WarmedH s.vm := h.2.2.2.2.2.2.2.2.2.1
theorem Cx.wd {l : Launch} {s0 : State} {i d : Nat} {p : Program} {s : State} {m : MethodId} {meth : Method} {c : Code} {R : Room} (h : Cx l s0 i d p s m meth c R) : Wd s := Wd.move h.warm h.gg.2.1
theorem Cx.al {l : Launch} {s0 : State} {i d : Nat} {p : Program} {s : State} {m : MethodId} {meth : Method} {c : Code} {R : Room} (h : Cx l s0 i d p s m meth c R) : s0.vm.Alike s.vm := h.warm.alike
theorem Cx.hs {l : Launch} {s0 : State} {i d : Nat} {p : Program} {s : State} {m : MethodId} {meth : Method} {c : Code} {R : Room} (h : Cx l s0 i d p s m meth c R) : s0.heap.size ≤ s.heap.size := h.2.2.2.2.2.2.2.2.2.2.1
theorem Cx.old {l : Launch} {s0 : State} {i d : Nat} {p : Program} {s : State} {m : MethodId} {meth : Method} {c : Code} {R : Room} (h : Cx l s0 i d p s m meth c R) : ∀ a : Nat, a < s0.heap.size → s.heap[a]? = s0.heap[a]? := h.2.2.2.2.2.2.2.2.2.2.2.1
theorem Cx.room {l : Launch} {s0 : State} {i d : Nat} {p : Program} {s : State} {m : MethodId} {meth : Method} {c : Code} {R : Room} (h : Cx l s0 i d p s m meth c R) : R = rm s0 s.heap.size (us s0.heap.size s.heap) d := h.2.2.2.2.2.2.2.2.2.2.2.2
/-- a walk stands at the heap H, which is h -/
def At1 (s0 s : State) (h : AH) (H : Heap) (locs : List Loc) (cls : Array Slot) (ls : XL) : Prop :=
  Abs s0 h H ∧ s.heap.size ≤ H.size ∧ us s0.heap.size H = us s0.heap.size s.heap + us s.heap.size H ∧ lsOk cls ls ∧ ∀ q ∈ locs, s0.heap.size ≤ q.base
def WP (l : Launch) (s0 : State) (i d pc : Nat) (ls : XL) (st : XS) (h : AH) (Q : AO → AH → Prop) : Prop :=
  ∀ (p : Program) (e : Env) (s : State) (m : MethodId) (args : Array Value) (below : List Frame) (meth : Method) (c : Code) (R : Room) (H : Heap) (locs : List Loc) (cls : Array Slot),
    Cx l s0 i d p s m meth c R → At1 s0 s h H locs cls ls →
    W p l e R s m args below meth c H locs (H.size - s.heap.size) (us s.heap.size H) (EQ s0 s below Q) (F0 m pc cls (st.map cv))
def MP (l : Launch) (s0 : State) (i d : Nat) (args : List AV) (h : AH) (Q : AO → AH → Prop) : Prop :=
  MetFree l (mi i).1 (headSpec [cdC i] (rm s0 (hN h) (hU h) d)) (fun a s => a = (args.map cv).toArray ∧ GG l s0 ∧ s0.WarmedH s.vm ∧ Abs s0 h s.heap) (fun _ _ _ _ _ => True) (fun _ s o t => Ends s0 s Q o t)
theorem Ends.mono {s0 s t : State} {Q Q' : AO → AH → Prop} {o : Outcome} (h : Ends s0 s Q o t) (hq : ∀ a b, Q a b → Q' a b) : Ends s0 s Q' o t := by
  obtain ⟨ao, h', e1, e2, e3, e4⟩ := h
  exact ⟨ao, h', e1, e2, hq _ _ e3, e4⟩
theorem MP.mono {l : Launch} {s0 : State} {i d : Nat} {args : List AV} {h : AH} {Q Q' : AO → AH → Prop} (H : MP l s0 i d args h Q) (hq : ∀ o h', Q o h' → Q' o h') : MP l s0 i d args h Q' := by
  intro p e ha hc hk s m args below hf happ hP hK
  obtain ⟨n, o, h1, h2, h3, h4⟩ := H p e ha hc hk s m args below hf happ hP hK
  exact ⟨n, o, h1, h2, h3, h4.mono hq⟩
theorem WP.mono {l : Launch} {s0 : State} {i d pc : Nat} {ls : XL} {st : XS} {h : AH} {Q Q' : AO → AH → Prop} (H : WP l s0 i d pc ls st h Q) (hq : ∀ o h', Q o h' → Q' o h') : WP l s0 i d pc ls st h Q' := by
  intro p e s m args below meth c R H' locs cls C A T hT X
  obtain ⟨t, h1, o, h2, h3, h4⟩ := H p e s m args below meth c R H' locs cls C A T hT X
  exact ⟨t, h1, o, h2, h3, h4.mono hq⟩
theorem WP.gg {l : Launch} {s0 : State} {i d pc : Nat} {ls : XL} {st : XS} {h : AH} {Q : AO → AH → Prop} (H : GG l s0 → WP l s0 i d pc ls st h Q) : WP l s0 i d pc ls st h Q :=
  fun p e s m args below meth c R H' locs cls C A => H C.gg p e s m args below meth c R H' locs cls C A
/-! steps -/
abbrev KT : Type := XL → XS → AH → Prop
abbrev Tr : Type := Launch → State → Nat → (AO → AH → Prop) → (Nat → XL → XS → AH → Prop) → XL → XS → AH → KT → Prop
def Sd (i pc n : Nat) (tr : Tr) : Prop := ∀ (l : Launch) (s0 : State) (d : Nat) (Q : AO → AH → Prop) (J : Nat → XL → XS → AH → Prop) (K : KT) (ls : XL) (st : XS) (h : AH),
  tr l s0 d Q J ls st h K → (∀ t ls st h, J t ls st h → WP l s0 i d t ls st h Q) → (∀ ls st h, K ls st h → WP l s0 i d (pc + n) ls st h Q) → WP l s0 i d pc ls st h Q
def sq (a b : Tr) : Tr := fun l s0 d Q J ls st h K => a l s0 d Q J ls st h (fun ls st h => b l s0 d Q J ls st h K)
theorem Sd.sq {i pc a b : Nat} {x y : Tr} (hx : Sd i pc a x) (hy : Sd i (pc + a) b y) : Sd i pc (a + b) (sq x y) := by
  intro l s0 d Q J K ls st h hk hJ hK
  refine hx l s0 d Q J _ ls st h hk hJ (fun ls st h h2 => hy l s0 d Q J K ls st h h2 hJ (fun ls st h h3 => ?_))
  rw [Nat.add_assoc]
  exact hK ls st h h3
theorem WP.run {l : Launch} {s0 : State} {i d pc n : Nat} {ls : XL} {st : XS} {h : AH} {Q : AO → AH → Prop} {tr : Tr} (hs : Sd i pc n tr)
    (hk : tr l s0 d Q (fun t ls st h => WP l s0 i d t ls st h Q) ls st h (fun ls st h => WP l s0 i d (pc + n) ls st h Q)) : WP l s0 i d pc ls st h Q :=
  hs l s0 d Q _ _ ls st h hk (fun _ _ _ _ h => h) (fun _ _ _ h => h)
