theorem fld_at {s0 s : State} (hw0 : Wd s0) (hw : Wd s) (al : s0.vm.Alike s.vm) {t k : Nat} (ht : t ∈ tgs) (hk : k < (cF t).length) :
    ∃ (c : ClassId) (kc : Class) (cf : ClassId) (kf : Class) (fi : Nat) (f : Field), s.vm.findClass (cN t) = some c ∧ s.vm.classes[c]? = some kc ∧ s.fieldFound? (cT t k).1 (cT t k).2.1 (cT t k).2.2.1 = some (cf, kf, fi, f) ∧ f.isStatic = false ∧
      f.slot = so s0 (cT t k) ∧ kc.instanceTypes[f.slot]? = some f.type ∧ f.type = fTy t k ∧
      ((cT t k).2.2.2 = false → hasFlag f.accessFlags Acc.final = false) ∧ ((cT t k).2.2.2 = true → s.vm.findClass (cT t k).1 = some cf) := by
  have h0 : ∀ {u : State}, Wd u → (u_lay (cN t) (cT t) k).before #[] u = true := fun hu => by
    refine hu.use (tl_lay t ht k hk) ?_ ?_ #[]
    · unfold u_lay; split <;> rfl
    · unfold u_lay; split <;> rfl
  have e : ∀ {u : State}, Wd u → ∃ (c : ClassId) (kc : Class) (cf : ClassId) (kf : Class) (fi : Nat) (f : Field), u.vm.findClass (cN t) = some c ∧ u.vm.classes[c]? = some kc ∧ u.fieldFound? (cT t k).1 (cT t k).2.1 (cT t k).2.2.1 = some (cf, kf, fi, f) ∧ f.isStatic = false ∧ kc.instanceTypes[f.slot]? = some f.type ∧
      ((cT t k).2.2.2 = false → hasFlag f.accessFlags Acc.final = false) ∧ ((cT t k).2.2.2 = true → u.vm.findClass (cT t k).1 = some cf) := fun hu => by
    have h := h0 hu
    unfold u_lay at h
    split at h
    · next hf =>
      obtain ⟨c, kc, cf, kf, fi, f, h1, h2, h3, h4, h5, h6, h7, h8, -⟩ := Cond.laysFinal_spec h
      exact ⟨c, kc, cf, kf, fi, f, h1, h2, h3, h4, h8, (fun q => by rw [hf] at q; cases q), fun _ => h7⟩
    · next hf =>
      obtain ⟨c, kc, cf, kf, fi, f, h1, h2, h3, h4, h5, h6, h7, -⟩ := Cond.lays_spec h
      exact ⟨c, kc, cf, kf, fi, f, h1, h2, h3, h4, h7, fun _ => h5, fun q => absurd q hf⟩
  obtain ⟨c, kc, cf, kf, fi, f, h1, h2, h3, h4, h5, h6, h7⟩ := e hw
  obtain ⟨-, -, cf0, kf0, fi0, f0, -, -, g3, -⟩ := e hw0
  obtain ⟨k', hi', -⟩ := State.fieldFound?_setVm al g3
  have hi' : s.fieldFound? (cT t k).1 (cT t k).2.1 (cT t k).2.2.1 = some (cf0, k', fi0, f0) := hi'
  cases h3.symm.trans hi'
  refine ⟨c, kc, cf, kf, fi, f, h1, h2, h3, h4, ?_, h5, (State.fieldFound?_type h3 (tl_ty t ht k hk)).2, h6, h7⟩
  unfold so
  rw [g3]
theorem so_apart {s0 : State} (hw0 : Wd s0) {t : Nat} (ht : t ∈ tgs) {a b : Nat} (ha : a < (cF t).length) (hb : b < (cF t).length) (hne : a ≠ b) : so s0 (cT t a) ≠ so s0 (cT t b) := by
  have lay : ∀ k, k < (cF t).length → (Cond.lays (cN t) (cT t k).1 (cT t k).2.1 (cT t k).2.2.1).before #[] s0 = true ∨ (Cond.laysFinal (cN t) (cT t k).1 (cT t k).2.1 (cT t k).2.2.1).before #[] s0 = true := by
    intro k hk
    have h : (u_lay (cN t) (cT t) k).before #[] s0 = true := by
      refine hw0.use (tl_lay t ht k hk) ?_ ?_ #[]
      · unfold u_lay; split <;> rfl
      · unfold u_lay; split <;> rfl
    unfold u_lay at h
    split at h
    · exact Or.inr h
    · exact Or.inl h
  obtain ⟨-, -, cf, kf, fi, f, -, -, h3, -, h5, -⟩ := fld_at hw0 hw0 (Vm.Alike.refl _) ht ha
  obtain ⟨-, -, cf', kf', fi', f', -, -, g3, -, g5, -⟩ := fld_at hw0 hw0 (Vm.Alike.refl _) ht hb
  rw [← h5, ← g5]
  refine u_apart (lay a ha) (lay b hb) h3 g3 ?_
  rw [(State.fieldFound?_type h3 (tl_ty t ht a ha)).1, (State.fieldFound?_type g3 (tl_ty t ht b hb)).1]
  exact tl_nm t ht a ha b hb hne
/-- the field that the pool names, where a class may only inherit it -/
def refOk (ref decl name desc : String) : Prop := ref = decl ∨ Cond.sameField ref decl name desc ∈ lw_tbl
theorem refOk.use {ref decl name desc : String} (h : refOk ref decl name desc) {s : State} (hw : Wd s) (x : ClassId × Class × Nat × Field) (hx : s.fieldFound? decl name desc = some x) : s.fieldFound? ref name desc = some x := by
  rcases h with h | h
  · rw [h]; exact hx
  · exact u_same (hw.use h rfl rfl #[]) x hx
def okF (k : Nat) (ts : List Nat) (decl name desc : String) (r : Bool) : Bool := ts.all fun t => tgs.elem t && decide (k < (cF t).length) && decide ((cT t k).1 = decl) && decide ((cT t k).2.1 = name) && decide ((cT t k).2.2.1 = desc) && (if r then decide (kd t k = 5) else decide (kd t k < 4))
theorem okF_at {k : Nat} {ts : List Nat} {decl name desc : String} {r : Bool} (h : okF k ts decl name desc r = true) {t : Nat} (ht : ts.elem t = true) : t ∈ tgs ∧ k < (cF t).length ∧ (cT t k).1 = decl ∧ (cT t k).2.1 = name ∧ (cT t k).2.2.1 = desc ∧ (if r then kd t k = 5 else kd t k < 4) := by
  unfold okF at h
  rw [List.all_eq_true] at h
  have h1 := h t (List.elem_iff.mp ht)
  simp only [Bool.and_eq_true, decide_eq_true_eq] at h1
  refine ⟨List.elem_iff.mp h1.1.1.1.1.1, h1.1.1.1.1.2, h1.1.1.1.2, h1.1.1.2, h1.1.2, ?_⟩
  cases r <;> simpa using h1.2
theorem tg_ne0 {t : Nat} (h : t ∈ tgs) : t ≠ 0 := by
  intro e; subst e; exact absurd h (by decide)
theorem Abs.cell {s0 : State} {h : AH} {H : Heap} (A : Abs s0 h H) {p : Nat} (hp : (gT h p).1 ≠ 0) : ∃ (a : Nat) (cell : Cell), H[a]? = some cell ∧ Cell1 s0 h p a cell := A.2.2.2.2.2 p hp
theorem nk_f {t : Nat × Nat} (h : t.1 ∈ tgs) : nk t = (cF t.1).length := by unfold nk; rw [tl_A _ h]; rfl
theorem sx_f {s0 : State} {t k : Nat} (h : t ∈ tgs) : sx s0 t k = so s0 (cT t k) := by unfold sx; rw [tl_A _ h]; rfl
theorem cok_f {s0 : State} {t : Nat} {c : ClassId} (ht : t ∈ tgs) (h : cok s0 t c) : s0.vm.findClass (cN t) = some c := by unfold cok at h; rw [tl_A _ ht] at h; exact h
def i_gI (k : Nat) (ts : List Nat) : Tr := fun _ _ _ _ _ ls st h K => match st with
  | .inr (.inl p) :: r => ts.elem (gT h p).1 = true ∧ K ls (vI (gI h p k) :: r) h
  | _ => False
def i_gR (k : Nat) (ts : List Nat) : Tr := fun _ _ _ _ _ ls st h K => match st with
  | .inr (.inl p) :: r => ts.elem (gT h p).1 = true ∧ K ls (vR (gR h p k) :: r) h
  | _ => False
theorem sd_gI {i pc ix k : Nat} {ts : List Nat} {ref decl name desc : String} (hd : decode (mi i).2.1 pc = .ok (.getfield ix, 3)) (hl : Cond.fieldLink (mi i).1.cls ix ref name desc ∈ lw_tbl) (hr : refOk ref decl name desc) (hf : okF k ts decl name desc false = true) : Sd i pc 3 (i_gI k ts) := by
  intro l s0 d Q J K ls st h hk hJ hK p e s m args below meth c R H locs cls C A
  unfold i_gI at hk
  split at hk
  · next p r =>
    obtain ⟨ht, hk⟩ := hk
    obtain ⟨g1, g2, g3, g4, g5, g6⟩ := okF_at hf ht
    obtain ⟨a, cell, hc, rfl, ck, -, hkn, -, hv, -⟩ := A.1.cell (p := p) (tg_ne0 g1)
    have hv := hv k (by rw [nk_f g1]; exact g2)
    obtain ⟨c1, kc, cf, kf, fi, f, f1, f2, f3, f4, f5, -⟩ := fld_at C.gg.2.1 C.wd C.al g1 g2
    rw [g3, g4, g5] at f3
    rw [sx_f g1] at hv
    have hv : cell.slots[f.slot]? = some (cv (vI (gI h (a + 1) k))) := by
      rw [f5, hv]
      unfold slv
      rw [if_neg (by simp at g6; omega), if_neg (by simp at g6; omega)]
      rfl
    exact W.getf C.exec C.code C.own (C.wd.use hl rfl rfl args) (hr.use C.wd _ f3) f4 hc hkn hv rfl rfl hd (hK _ _ _ hk p e s m args below meth c R H locs cls C A)
  · exact hk.elim
theorem sd_gR {i pc ix k : Nat} {ts : List Nat} {ref decl name desc : String} (hd : decode (mi i).2.1 pc = .ok (.getfield ix, 3)) (hl : Cond.fieldLink (mi i).1.cls ix ref name desc ∈ lw_tbl) (hr : refOk ref decl name desc) (hf : okF k ts decl name desc true = true) : Sd i pc 3 (i_gR k ts) := by
  intro l s0 d Q J K ls st h hk hJ hK p e s m args below meth c R H locs cls C A
  unfold i_gR at hk
  split at hk
  · next p r =>
    obtain ⟨ht, hk⟩ := hk
    obtain ⟨g1, g2, g3, g4, g5, g6⟩ := okF_at hf ht
    obtain ⟨a, cell, hc, rfl, ck, -, hkn, -, hv, -⟩ := A.1.cell (p := p) (tg_ne0 g1)
    have hv := hv k (by rw [nk_f g1]; exact g2)
    obtain ⟨c1, kc, cf, kf, fi, f, f1, f2, f3, f4, f5, -⟩ := fld_at C.gg.2.1 C.wd C.al g1 g2
    rw [g3, g4, g5] at f3
    rw [sx_f g1] at hv
    have hv : cell.slots[f.slot]? = some (cv (vR (gR h (a + 1) k))) := by
      rw [f5, hv]
      unfold slv
      rw [if_pos (by simpa using g6)]
      rfl
    exact W.getf C.exec C.code C.own (C.wd.use hl rfl rfl args) (hr.use C.wd _ f3) f4 hc hkn hv rfl rfl hd (hK _ _ _ hk p e s m args below meth c R H locs cls C A)
  · exact hk.elim
theorem sd_gRN {i pc ix k : Nat} {ts : List Nat} {decl name desc host : String} (hd : decode (mi i).2.1 pc = .ok (.getfield ix, 3)) (hl : Cond.fieldLinkNest (mi i).1.cls ix decl name desc host ∈ lw_tbl) (hf : okF k ts decl name desc true = true) : Sd i pc 3 (i_gR k ts) := by
  intro l s0 d Q J K ls st h hk hJ hK p e s m args below meth c R H locs cls C A
  unfold i_gR at hk
  split at hk
  · next p r =>
    obtain ⟨ht, hk⟩ := hk
    obtain ⟨g1, g2, g3, g4, g5, g6⟩ := okF_at hf ht
    obtain ⟨a, cell, hc, rfl, ck, -, hkn, -, hv, -⟩ := A.1.cell (p := p) (tg_ne0 g1)
    have hv := hv k (by rw [nk_f g1]; exact g2)
    obtain ⟨c1, kc, cf, kf, fi, f, f1, f2, f3, f4, f5, -⟩ := fld_at C.gg.2.1 C.wd C.al g1 g2
    rw [g3, g4, g5] at f3
    rw [sx_f g1] at hv
    have hv : cell.slots[f.slot]? = some (cv (vR (gR h (a + 1) k))) := by
      rw [f5, hv]
      unfold slv
      rw [if_pos (by simpa using g6)]
      rfl
    exact va_Wgetf C.exec C.code C.own (C.wd.use hl rfl rfl args) f3 f4 hc hkn hv rfl rfl hd (hK _ _ _ hk p e s m args below meth c R H locs cls C A)
  · exact hk.elim
/-! writing one place of a cell -/
theorem Cell1.other {s0 : State} {h h' : AH} {q b : Nat} {x : Cell} (hx : Cell1 s0 h q b x) (e1 : gT h' q = gT h q) (e2 : ∀ k, k < nk (gT h q) → gI h' q k = gI h q k) (e3 : ∀ k, k < nk (gT h q) → gR h' q k = gR h q k) : Cell1 s0 h' q b x := by
  obtain ⟨x1, x2, x3, x4, x5, x6, x7⟩ := hx
  refine ⟨x1, by rw [e1]; exact x2, x3, x4, by rw [e1]; exact x5, ?_, by rw [e1]; exact x7⟩
  rw [e1]
  intro k hk
  rw [e2 k hk, e3 k hk]
  exact x6 k hk
theorem setSlot_cls (x : Cell) (i : Nat) (v : Value) : (x.setSlot i v).cls = x.cls := rfl
theorem setSlot_vm (x : Cell) (i : Nat) (v : Value) : (x.setSlot i v).vm = x.vm := rfl
theorem setSlot_mon (x : Cell) (i : Nat) (v : Value) : (x.setSlot i v).monitor = x.monitor := rfl
theorem setSlot_size (x : Cell) (i : Nat) (v : Value) : (x.setSlot i v).slots.size = x.slots.size := by simp [Cell.setSlot]
theorem setSlot_get (x : Cell) (i : Nat) (v : Value) (j : Nat) (hi : i < x.slots.size) : (x.setSlot i v).slots[j]? = if j = i then some v else x.slots[j]? := by
  simp only [Cell.setSlot, Array.getElem?_setIfInBounds]
  by_cases h : i = j
  · subst h; simp [hi]
  · rw [if_neg h, if_neg (Ne.symm h)]
theorem Abs.set {s0 : State} {h h' : AH} {H H' : Heap} (A : Abs s0 h H) {a k : Nat} {cell : Cell} {v : Value} (hc : H[a]? = some cell) (h1 : Cell1 s0 h (a + 1) a cell) (ht : (gT h (a + 1)).1 < 30) (hk : k < nk (gT h (a + 1)))
    (hap : ∀ j, j < nk (gT h (a + 1)) → j ≠ k → sx s0 (gT h (a + 1)).1 j ≠ sx s0 (gT h (a + 1)).1 k)
    (e1 : H'[a]? = some (cell.setSlot (sx s0 (gT h (a + 1)).1 k) v)) (e2 : H'.size = H.size) (e3 : ∀ q, q ≠ a → H'[q]? = H[q]?)
    (n1 : hN h' = hN h) (n2 : hU h' = hU h) (n3 : ∀ q, gT h' q = gT h q) (n4 : ∀ q j, ¬ (q = a + 1 ∧ j = k) → gI h' q j = gI h q j ∧ gR h' q j = gR h q j) (n5 : v = slv (kd (gT h (a + 1)).1 k) (gI h' (a + 1) k) (gR h' (a + 1) k)) : Abs s0 h' H' := by
  obtain ⟨a1, a2, a3, a4, a6, a5⟩ := A
  have hba : s0.heap.size ≤ a := (h1.2.2.2.2.2.2 ht).1
  have hsl := h1.2.2.2.2.2.1 k hk
  have hlt : sx s0 (gT h (a + 1)).1 k < cell.slots.size := (Array.getElem?_eq_some_iff.mp hsl).1
  refine ⟨by rw [e2, n1]; exact a1, by rw [e2]; exact a2, fun b hb => by rw [e3 b (by omega)]; exact a3 b hb, ?_, by rw [n1, n2]; exact a6, fun q hq => ?_⟩
  · rw [n2, ← a4]
    refine us_same e2 (fun b => ?_)
    by_cases hb : b = a
    · subst hb; rw [e1, hc]; simp [setSlot_size]
    · rw [e3 b hb]
  · rw [n3] at hq
    obtain ⟨b, x, b1, b2⟩ := a5 q hq
    by_cases hb : b = a
    · subst hb
      cases hc.symm.trans b1
      have hqa : q = b + 1 := b2.1
      subst hqa
      refine ⟨b, _, e1, rfl, ?_⟩
      rw [n3]
      refine ⟨h1.2.1, h1.2.2.1, h1.2.2.2.1, by rw [setSlot_size]; exact h1.2.2.2.2.1, fun j hj => ?_, fun h9 => h1.2.2.2.2.2.2 h9⟩
      rw [setSlot_get _ _ _ _ hlt]
      by_cases hjk : j = k
      · subst hjk
        rw [if_pos rfl, n5]
      · rw [if_neg (hap j hj hjk)]
        obtain ⟨m1, m2⟩ := n4 (b + 1) j (fun z => hjk z.2)
        rw [m1, m2]
        exact h1.2.2.2.2.2.1 j hj
    · refine ⟨b, x, by rw [e3 b hb]; exact b1, b2.other (n3 q) ?_ ?_⟩
      · intro j _
        exact (n4 q j (fun z => hb (by have := b2.1; omega))).1
      · intro j _
        exact (n4 q j (fun z => hb (by have := b2.1; omega))).2
theorem At1.set {s0 s : State} {h h' : AH} {H H' : Heap} {locs : List Loc} {cls : Array Slot} {ls : XL} (A : At1 s0 s h H locs cls ls) {a j : Nat} (hA : Abs s0 h' H') (hb : s0.heap.size ≤ a) (e2 : H'.size = H.size) (hs : ∀ b : Nat, (H'[b]?).map (fun c => c.slots.size) = (H[b]?).map (fun c => c.slots.size)) : At1 s0 s h' H' (locs ++ [⟨a, j⟩]) cls ls := by
  refine ⟨hA, by rw [e2]; exact A.2.1, ?_, A.2.2.2.1, ?_⟩
  · rw [us_same e2 hs, us_same e2 hs]; exact A.2.2.1
  · intro q hq
    rcases List.mem_append.mp hq with h | h
    · exact A.2.2.2.2 q h
    · rw [List.mem_singleton] at h; subst h; exact hb
theorem sz_set {H H' : Heap} {a i : Nat} {cell : Cell} {v : Value} (hc : H[a]? = some cell) (e1 : H'[a]? = some (cell.setSlot i v)) (e3 : ∀ q, q ≠ a → H'[q]? = H[q]?) (b : Nat) : (H'[b]?).map (fun c => c.slots.size) = (H[b]?).map (fun c => c.slots.size) := by
  by_cases hb : b = a
  · subst hb; rw [e1, hc]; simp [setSlot_size]
  · rw [e3 b hb]
/-- the exact book -/
theorem us_eq {s0 s : State} {H H' : Heap} (e2 : H'.size = H.size) (hs : ∀ b : Nat, (H'[b]?).map (fun c => c.slots.size) = (H[b]?).map (fun c => c.slots.size)) : H'.size - s.heap.size = H.size - s.heap.size ∧ us s.heap.size H' = us s.heap.size H := ⟨by rw [e2], us_same e2 hs⟩
/-- what a small type takes -/
def okV (k : Nat) (z : Int) : Prop := match k with
  | 1 => 0 ≤ z ∧ z < 65536
  | 2 => z = 0 ∨ z = 1
  | 3 => -128 ≤ z ∧ z < 128
  | _ => rg z
theorem okV_rg {k : Nat} {z : Int} (h : okV k z) : rg z := by
  unfold okV at h
  split at h
  · exact ⟨by omega, by omega⟩
  · rcases h with h | h <;> subst h <;> exact ⟨by decide, by decide⟩
  · exact ⟨by omega, by omega⟩
  · exact h
theorem okV_nar {k : Nat} (hk : k < 4) {z : Int} (h : okV k z) : narrow (aTy k) (.int (Int32.ofInt z)) = .int (Int32.ofInt z) ∧ fits (aTy k) (.int (Int32.ofInt z)) = true := by
  have hr := okV_rg h
  match k, hk, h with
  | 0, _, _ => exact ⟨rfl, rfl⟩
  | 1, _, h =>
    obtain ⟨h0, h1⟩ := h
    obtain ⟨n, rfl⟩ := Int.eq_ofNat_of_zero_le h0
    have e : Int32.ofInt (Int.ofNat n) = nI n := Int32.ofInt_eq_ofNat
    have e' : Int32.ofInt (n : Int) = nI n := e
    rw [e']
    exact pk_charN (by omega)
  | 2, _, h =>
    rcases h with h | h <;> subst h <;> exact ⟨by decide, by decide⟩
  | 3, _, h =>
    refine ⟨?_, ?_⟩
    · show Value.int _ = _
      exact congrArg Value.int (i2b_ok h.1 h.2)
    · show (decide ((-128 : Int32) ≤ Int32.ofInt z) && decide (Int32.ofInt z ≤ 127)) = true
      have e1 : (-128 : Int32) = Int32.ofInt (-128) := by decide
      have e2 : (127 : Int32) = Int32.ofInt 127 := by decide
      have r1 : rg (-128) := ⟨by decide, by decide⟩
      have r2 : rg 127 := ⟨by decide, by decide⟩
      rw [e1, e2]
      simp only [rg_le r1 hr, rg_le hr r2, Bool.and_eq_true, decide_eq_true_eq]
      have := h.1
      have := h.2
      omega
theorem ref_nar {ty : FieldType} (h : ty.isReference = true) (q : Nat) : narrow ty (cR q) = cR q ∧ fits ty (cR q) = true := by
  cases ty <;> simp [FieldType.isReference] at h <;> cases q <;> exact ⟨rfl, rfl⟩
