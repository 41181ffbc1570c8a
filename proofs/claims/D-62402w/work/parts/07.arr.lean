/-! writing fields -/
def i_pI (k : Nat) (ts : List Nat) (v : Nat) : Tr := fun _ _ _ _ _ ls st h K => match st with
  | .inl z :: .inr (.inl p) :: r => ts.elem (gT h p).1 = true ∧ okV v z ∧ K ls r (sI h p k z)
  | _ => False
def i_pR (k : Nat) (ts : List Nat) : Tr := fun _ _ _ _ _ ls st h K => match st with
  | .inr (.inl q) :: .inr (.inl p) :: r => ts.elem (gT h p).1 = true ∧ K ls r (sR h p k q)
  | _ => False
def okW (i k : Nat) (ts : List Nat) (decl : String) (v : Nat) : Bool := ts.all fun t => decide (t < 30) && decide (kd t k = v) && ((cT t k).2.2.2 == false || (decide ((mi i).1.cls = decl) && decide ((mi i).1.name = "<init>")))
theorem okW_at {i k : Nat} {ts : List Nat} {decl : String} {v : Nat} (h : okW i k ts decl v = true) {t : Nat} (ht : ts.elem t = true) : t < 30 ∧ kd t k = v ∧ ((cT t k).2.2.2 = false ∨ ((cT t k).2.2.2 = true ∧ (mi i).1.cls = decl ∧ (mi i).1.name = "<init>")) := by
  unfold okW at h
  rw [List.all_eq_true] at h
  have h1 := h t (List.elem_iff.mp ht)
  simp only [Bool.and_eq_true, Bool.or_eq_true, decide_eq_true_eq, beq_iff_eq] at h1
  refine ⟨h1.1.1, h1.1.2, ?_⟩
  cases hb : (cT t k).2.2.2
  · exact Or.inl rfl
  · rcases h1.2 with q | q
    · rw [hb] at q; cases q
    · exact Or.inr ⟨rfl, q⟩
theorem put_core {i pc ix k : Nat} {ts : List Nat} {ref decl name desc : String} {b : Bool} {v : Nat} (hd : decode (mi i).2.1 pc = .ok (.putfield ix, 3)) (hl : Cond.fieldLink (mi i).1.cls ix ref name desc ∈ lw_tbl) (hr : refOk ref decl name desc) (hf : okF k ts decl name desc b = true) (hw : okW i k ts decl v = true)
    {l : Launch} {s0 : State} {d : Nat} {Q : AO → AH → Prop} {ls : XL} {st r : XS} {h h' : AH} {q : Nat} {x : AV} (hst : st = x :: vR q :: r) (ht : ts.elem (gT h q).1 = true)
    (hx : ∀ ty : FieldType, (v < 4 → ty = aTy v) → (v = 5 → ty.isReference = true) → narrow ty (cv x) = cv x ∧ fits ty (cv x) = true)
    (n1 : hN h' = hN h) (n2 : hU h' = hU h) (n3 : ∀ q, gT h' q = gT h q) (n4 : ∀ q' j, ¬ (q' = q ∧ j = k) → gI h' q' j = gI h q' j ∧ gR h' q' j = gR h q' j) (n5 : cv x = slv v (gI h' q k) (gR h' q k))
    (hK : WP l s0 i d (pc + 3) ls r h' Q) : WP l s0 i d pc ls st h Q := by
  subst hst
  intro p e s m args below meth c R H locs cls C A
  obtain ⟨g1, g2, g3, g4, g5, g6⟩ := okF_at hf ht
  obtain ⟨w1, w2, w3⟩ := okW_at hw ht
  obtain ⟨a, cell, hc, hc1⟩ := A.1.cell (p := q) (tg_ne0 g1)
  have hqa := hc1.1
  subst hqa
  obtain ⟨c1, kc, cf, kf, fi, f, f1, f2, f3, f4, f5, f6, f7, f8, f9⟩ := fld_at C.gg.2.1 C.wd C.al g1 g2
  have hkn : k < nk (gT h (a + 1)) := by rw [nk_f g1]; exact g2
  have hsl := hc1.2.2.2.2.2.1 k hkn
  have hsx : sx s0 (gT h (a + 1)).1 k = f.slot := by rw [sx_f g1, f5]
  have hlt : f.slot < cell.slots.size := by rw [← hsx]; exact (Array.getElem?_eq_some_iff.mp hsl).1
  obtain ⟨b1, b2, b3⟩ := hc1.2.2.2.2.2.2 w1
  have hcls : cell.cls = c1 := by
    have h9 := cok_f g1 hc1.2.1
    have h10 : s.vm.findClass (cN (gT h (a + 1)).1) = s0.vm.findClass (cN (gT h (a + 1)).1) := C.al.findClass _ _
    rw [f1, h9] at h10
    exact (Option.some.inj h10).symm
  have hk1 := tl_k1 _ g1 k g2
  obtain ⟨x1, x2⟩ := hx f.type (fun q9 => by rw [f7, ← w2]; exact hk1.1 (by rw [w2]; exact q9)) (fun q9 => by rw [f7]; exact hk1.2.1 (by rw [w2]; exact q9))
  have hord : kc.kind = .ordinary := by
    obtain ⟨c9, k9, y1, y2, y3, -⟩ := Cond.instantiable_spec (C.wd.use (tl_in (gT h (a + 1)).1 (by revert g1; generalize (gT h (a + 1)).1 = t; revert t; decide)) rfl rfl #[])
    cases y1.symm.trans f1
    cases y2.symm.trans f2
    exact y3
  have hfit : s.fitsSlot cell.cls cell.vm f.slot (cv x) = true := by
    rw [hcls, b2]
    exact fresh_fits (s := s) (U := s) (Vm.Alike.refl _) f2 hord f6 x2
  rw [g3, g4, g5] at f3
  have hfin : hasFlag f.accessFlags Acc.final = false ∨ (m.cls = cf ∧ meth.name = "<init>") := by
    rcases w3 with q9 | ⟨q9, q10, q11⟩
    · exact Or.inl (f8 q9)
    · refine Or.inr ⟨?_, by rw [C.nm]; exact q11⟩
      have h9 := f9 q9
      have h10 := C.own
      rw [q10, ← g3, h9] at h10
      exact (Option.some.inj h10).symm
  refine W.putf C.exec C.code C.own (C.wd.use hl rfl rfl args) (hr.use C.wd _ f3) f4 hfin hc hc1.2.2.2.1 hlt x1 hfit rfl rfl hd ?_
  have ha : a < H.size := (Array.getElem?_eq_some_iff.mp hc).1
  have e1 : (H.setIfInBounds a (cell.setSlot f.slot (cv x)))[a]? = some (cell.setSlot f.slot (cv x)) := by simp [Array.getElem?_setIfInBounds, ha]
  have e2 : (H.setIfInBounds a (cell.setSlot f.slot (cv x))).size = H.size := by simp
  have e3 : ∀ q, q ≠ a → (H.setIfInBounds a (cell.setSlot f.slot (cv x)))[q]? = H[q]? := by
    intro q hq
    simp [Array.getElem?_setIfInBounds, Ne.symm hq]
  generalize H.setIfInBounds a (cell.setSlot f.slot (cv x)) = H' at e1 e2 e3 ⊢
  have hs := sz_set hc e1 e3
  obtain ⟨u1, u2⟩ := us_eq (s0 := s0) (s := s) e2 hs
  rw [← u1, ← u2]
  refine hK p e s m args below meth c R H' _ cls C (A.set (a := a) (A.1.set (k := k) (v := cv x) hc hc1 w1 hkn ?_ (by rw [hsx]; exact e1) e2 e3 n1 n2 n3 n4 (by rw [w2]; exact n5)) b1 e2 hs)
  intro j hj hjk
  rw [sx_f g1, sx_f g1]
  exact so_apart C.gg.2.1 g1 (by rw [nk_f g1] at hj; exact hj) g2 hjk
theorem sd_pI {i pc ix k v : Nat} {ts : List Nat} {ref decl name desc : String} (hd : decode (mi i).2.1 pc = .ok (.putfield ix, 3)) (hl : Cond.fieldLink (mi i).1.cls ix ref name desc ∈ lw_tbl) (hr : refOk ref decl name desc) (hf : okF k ts decl name desc false = true) (hw : okW i k ts decl v = true) (hv : v < 4) : Sd i pc 3 (i_pI k ts v) := by
  intro l s0 d Q J K ls st h hk hJ hK
  unfold i_pI at hk
  split at hk
  · next z q r =>
    obtain ⟨ht, ho, hk⟩ := hk
    refine put_core hd hl hr hf hw (h' := sI h q k z) rfl ht ?_ rfl rfl (fun _ => rfl) (fun q' j hne => ⟨by rw [gI_sI, if_neg hne], rfl⟩) ?_ (hK _ _ _ hk)
    · intro ty h1 h2
      rw [h1 hv]
      exact okV_nar hv ho
    · rw [gI_sI, if_pos ⟨rfl, rfl⟩]
      unfold slv
      rw [if_neg (by omega), if_neg (by omega)]
      rfl
  · exact hk.elim
theorem sd_pR {i pc ix k : Nat} {ts : List Nat} {ref decl name desc : String} (hd : decode (mi i).2.1 pc = .ok (.putfield ix, 3)) (hl : Cond.fieldLink (mi i).1.cls ix ref name desc ∈ lw_tbl) (hr : refOk ref decl name desc) (hf : okF k ts decl name desc true = true) (hw : okW i k ts decl 5 = true) : Sd i pc 3 (i_pR k ts) := by
  intro l s0 d Q J K ls st h hk hJ hK
  unfold i_pR at hk
  split at hk
  · next z q r =>
    obtain ⟨ht, hk⟩ := hk
    refine put_core hd hl hr hf hw (h' := sR h q k z) rfl ht ?_ rfl rfl (fun _ => rfl) (fun q' j hne => ⟨rfl, by rw [gR_sR, if_neg hne]⟩) ?_ (hK _ _ _ hk)
    · intro ty h1 h2
      exact ref_nar (h2 rfl) z
    · rw [gR_sR, if_pos ⟨rfl, rfl⟩]
      rfl
  · exact hk.elim
/-! arrays -/
theorem cok_a {s0 s : State} (al : s0.vm.Alike s.vm) {t : Nat} {cell : Cell} (ht : isA t = true) (h : cok s0 t cell.cls) (hst : cell.vm.isStatics = false) : s.isArrayOf cell (aTy (t % 10)) := by
  unfold cok at h
  rw [ht] at h
  obtain ⟨k, comp, h1, h2, -⟩ := h
  obtain ⟨k', hk', he⟩ := al.2.2 _ _ h1
  refine ⟨(fun z e => by rw [e] at hst; cases hst), k', hk', comp, ?_⟩
  rw [he]; exact h2
theorem nk_a {t : Nat × Nat} (h : isA t.1 = true) : nk t = t.2 := by unfold nk; rw [h]; rfl
theorem sx_a {s0 : State} {t k : Nat} (h : isA t = true) : sx s0 t k = k := by unfold sx; rw [h]; rfl
theorem kd_a {t k : Nat} (h : isA t = true) : kd t k = t % 10 := by unfold kd; rw [h]; rfl
/-- a place of an array -/
def inA (j : Int) (n : Nat) : Prop := 0 ≤ j ∧ j < (n : Int) ∧ j < 2147483648
theorem inA_x {j : Int} {n : Nat} (h : inA j n) : rg j ∧ ¬ (Int32.ofInt j < 0 ∨ n ≤ (Int32.ofInt j).toNatClampNeg) ∧ (Int32.ofInt j).toNatClampNeg = j.toNat ∧ j.toNat < n := by
  obtain ⟨h1, h2, h3⟩ := h
  have hr : rg j := ⟨by omega, by omega⟩
  refine ⟨hr, ?_, rg_nat hr, by omega⟩
  rw [rg_nat hr]
  rintro (h | h)
  · have e : (0 : Int32) = Int32.ofInt 0 := rfl
    rw [e, rg_lt hr rg_0] at h
    omega
  · omega
def i_aI (ts : List Nat) : Tr := fun _ _ _ _ _ ls st h K => match st with
  | .inl j :: .inr (.inl p) :: r => ts.elem (gT h p).1 = true ∧ inA j (gT h p).2 ∧ K ls (vI (gI h p j.toNat) :: r) h
  | _ => False
def i_aL (ts : List Nat) : Tr := fun _ _ _ _ _ ls st h K => match st with
  | .inl j :: .inr (.inl p) :: r => ts.elem (gT h p).1 = true ∧ inA j (gT h p).2 ∧ K ls (vL (gI h p j.toNat) :: r) h
  | _ => False
def i_aR (ts : List Nat) : Tr := fun _ _ _ _ _ ls st h K => match st with
  | .inl j :: .inr (.inl p) :: r => ts.elem (gT h p).1 = true ∧ inA j (gT h p).2 ∧ K ls (vR (gR h p j.toNat) :: r) h
  | _ => False
def okA (ts : List Nat) (v : Nat) : Bool := ts.all fun t => isA t && decide (t ≠ 0) && decide (t % 10 = v)
theorem okA_at {ts : List Nat} {v : Nat} (h : okA ts v = true) {t : Nat} (ht : ts.elem t = true) : isA t = true ∧ t ≠ 0 ∧ t % 10 = v := by
  unfold okA at h
  rw [List.all_eq_true] at h
  have h1 := h t (List.elem_iff.mp ht)
  simp only [Bool.and_eq_true, decide_eq_true_eq] at h1
  exact ⟨h1.1.1, h1.1.2, h1.2⟩
theorem arr_get {s0 s : State} {h : AH} {H : Heap} {ts : List Nat} {v q : Nat} {j : Int} (al : s0.vm.Alike s.vm) (A : Abs s0 h H) (ho : okA ts v = true) (ht : ts.elem (gT h q).1 = true) (hj : inA j (gT h q).2) :
    ∃ (a : Nat) (cell : Cell), q = a + 1 ∧ H[a]? = some cell ∧ s.isArrayOf cell (aTy v) ∧ cell.vm ≠ .unknown ∧ ¬ (Int32.ofInt j < 0 ∨ cell.slots.size ≤ (Int32.ofInt j).toNatClampNeg) ∧ cell.slots[(Int32.ofInt j).toNatClampNeg]? = some (slv v (gI h q j.toNat) (gR h q j.toNat)) := by
  obtain ⟨o1, o2, o3⟩ := okA_at ho ht
  obtain ⟨a, cell, hc, hc1⟩ := A.cell (p := q) o2
  obtain ⟨j1, j2, j3, j4⟩ := inA_x hj
  refine ⟨a, cell, hc1.1, hc, ?_, hc1.2.2.2.1, by rw [hc1.2.2.2.2.1]; exact j2, ?_⟩
  · have := cok_a al o1 hc1.2.1 hc1.2.2.1
    rwa [o3] at this
  · have h9 := hc1.2.2.2.2.2.1 j.toNat (by rw [nk_a o1]; exact j4)
    rw [sx_a o1, kd_a o1, o3] at h9
    rw [j3]; exact h9
theorem sd_iaload {i pc : Nat} {ts : List Nat} (hd : decode (mi i).2.1 pc = .ok (.iaload, 1)) (ho : okA ts 0 = true) : Sd i pc 1 (i_aI ts) := by
  intro l s0 d Q J K ls st h hk hJ hK p e s m args below meth c R H locs cls C A
  unfold i_aI at hk
  split at hk
  · next j q r =>
    obtain ⟨ht, hj, hk⟩ := hk
    obtain ⟨a, cell, rfl, h1, h2, h3, h4, h5⟩ := arr_get (s := s) C.al A.1 ho ht hj
    exact W.iald C.exec C.code h1 h2 h3 h4 h5 rfl rfl hd (hK _ _ _ hk p e s m args below meth c R H locs cls C A)
  · exact hk.elim
theorem sd_caload {i pc : Nat} {ts : List Nat} (hd : decode (mi i).2.1 pc = .ok (.caload, 1)) (ho : okA ts 1 = true) : Sd i pc 1 (i_aI ts) := by
  intro l s0 d Q J K ls st h hk hJ hK p e s m args below meth c R H locs cls C A
  unfold i_aI at hk
  split at hk
  · next j q r =>
    obtain ⟨ht, hj, hk⟩ := hk
    obtain ⟨a, cell, rfl, h1, h2, h3, h4, h5⟩ := arr_get (s := s) C.al A.1 ho ht hj
    exact W.cald C.exec C.code h1 h2 h3 h4 h5 rfl rfl hd (hK _ _ _ hk p e s m args below meth c R H locs cls C A)
  · exact hk.elim
theorem sd_baloadZ {i pc : Nat} {ts : List Nat} (hd : decode (mi i).2.1 pc = .ok (.baload, 1)) (ho : okA ts 2 = true) : Sd i pc 1 (i_aI ts) := by
  intro l s0 d Q J K ls st h hk hJ hK p e s m args below meth c R H locs cls C A
  unfold i_aI at hk
  split at hk
  · next j q r =>
    obtain ⟨ht, hj, hk⟩ := hk
    obtain ⟨a, cell, rfl, h1, h2, h3, h4, h5⟩ := arr_get (s := s) C.al A.1 ho ht hj
    exact W.zald C.exec C.code h1 h2 h3 h4 h5 rfl rfl hd (hK _ _ _ hk p e s m args below meth c R H locs cls C A)
  · exact hk.elim
theorem sd_baload {i pc : Nat} {ts : List Nat} (hd : decode (mi i).2.1 pc = .ok (.baload, 1)) (ho : okA ts 3 = true) : Sd i pc 1 (i_aI ts) := by
  intro l s0 d Q J K ls st h hk hJ hK p e s m args below meth c R H locs cls C A
  unfold i_aI at hk
  split at hk
  · next j q r =>
    obtain ⟨ht, hj, hk⟩ := hk
    obtain ⟨a, cell, rfl, h1, h2, h3, h4, h5⟩ := arr_get (s := s) C.al A.1 ho ht hj
    exact W.bald C.exec C.code h1 h2 h3 h4 h5 rfl rfl hd (hK _ _ _ hk p e s m args below meth c R H locs cls C A)
  · exact hk.elim
theorem sd_laload {i pc : Nat} {ts : List Nat} (hd : decode (mi i).2.1 pc = .ok (.laload, 1)) (ho : okA ts 4 = true) : Sd i pc 1 (i_aL ts) := by
  intro l s0 d Q J K ls st h hk hJ hK p e s m args below meth c R H locs cls C A
  unfold i_aL at hk
  split at hk
  · next j q r =>
    obtain ⟨ht, hj, hk⟩ := hk
    obtain ⟨a, cell, rfl, h1, h2, h3, h4, h5⟩ := arr_get (s := s) C.al A.1 ho ht hj
    exact W.lald C.exec C.code h1 h2 h3 h4 h5 rfl rfl hd (hK _ _ _ hk p e s m args below meth c R H locs cls C A)
  · exact hk.elim
theorem sd_aaload {i pc : Nat} {ts : List Nat} (hd : decode (mi i).2.1 pc = .ok (.aaload, 1)) (ho : okA ts 5 = true) : Sd i pc 1 (i_aR ts) := by
  intro l s0 d Q J K ls st h hk hJ hK p e s m args below meth c R H locs cls C A
  unfold i_aR at hk
  split at hk
  · next j q r =>
    obtain ⟨ht, hj, hk⟩ := hk
    obtain ⟨a, cell, rfl, h1, h2, h3, h4, h5⟩ := arr_get (s := s) C.al A.1 ho ht hj
    exact W.aald C.exec C.code h1 h2 rfl h3 h4 h5 rfl rfl hd (hK _ _ _ hk p e s m args below meth c R H locs cls C A)
  · exact hk.elim
def i_len : Tr := fun _ _ _ _ _ ls st h K => match st with
  | .inr (.inl p) :: r => isA (gT h p).1 = true ∧ K ls (vI ((gT h p).2 : Int) :: r) h
  | _ => False
theorem sd_len {i pc : Nat} (hd : decode (mi i).2.1 pc = .ok (.arraylength, 1)) : Sd i pc 1 i_len := by
  intro l s0 d Q J K ls st h hk hJ hK p e s m args below meth c R H locs cls C A
  unfold i_len at hk
  split at hk
  · next q r =>
    obtain ⟨ht, hk⟩ := hk
    obtain ⟨a, cell, hc, hc1⟩ := A.1.cell (p := q) (by intro z; rw [z] at ht; exact absurd ht (by decide))
    have hqa := hc1.1
    subst hqa
    refine W.alen C.exec C.code hc (cok_a C.al ht hc1.2.1 hc1.2.2.1) (n := Int32.ofInt ((gT h (a + 1)).2 : Int)) ?_ rfl rfl hd (hK _ _ _ hk p e s m args below meth c R H locs cls C A)
    rw [hc1.2.2.2.2.1]
    exact Int32.ofInt_eq_ofNat.symm
  · exact hk.elim
def i_sI (ts : List Nat) (v : Nat) : Tr := fun _ _ _ _ _ ls st h K => match st with
  | .inl z :: .inl j :: .inr (.inl p) :: r => ts.elem (gT h p).1 = true ∧ inA j (gT h p).2 ∧ okV v z ∧ K ls r (sI h p j.toNat z)
  | _ => False
def i_sL (ts : List Nat) : Tr := fun _ _ _ _ _ ls st h K => match st with
  | .inr (.inr z) :: .inl j :: .inr (.inl p) :: r => ts.elem (gT h p).1 = true ∧ inA j (gT h p).2 ∧ K ls r (sI h p j.toNat z)
  | _ => False
def i_sR (ts vs : List Nat) : Tr := fun _ _ _ _ _ ls st h K => match st with
  | .inr (.inl z) :: .inl j :: .inr (.inl p) :: r => ts.elem (gT h p).1 = true ∧ inA j (gT h p).2 ∧ vs.elem (gT h z).1 = true ∧ K ls r (sR h p j.toNat z)
  | _ => False
theorem ax_set {s0 s : State} {h h' : AH} {H H' : Heap} {locs : List Loc} {cls : Array Slot} {ls : XL} {v a : Nat} {j : Int} {cell : Cell} {x : Value} (A : At1 s0 s h H locs cls ls) (o1 : isA (gT h (a + 1)).1 = true) (o2 : (gT h (a + 1)).1 < 30) (o3 : (gT h (a + 1)).1 % 10 = v) (hj : inA j (gT h (a + 1)).2) (hc : H[a]? = some cell) (hc1 : Cell1 s0 h (a + 1) a cell)
    (e1 : H'[a]? = some (cell.setSlot (Int32.ofInt j).toNatClampNeg x)) (e2 : H'.size = H.size) (e3 : ∀ q, q ≠ a → H'[q]? = H[q]?)
    (n1 : hN h' = hN h) (n2 : hU h' = hU h) (n3 : ∀ q, gT h' q = gT h q) (n4 : ∀ q' i, ¬ (q' = a + 1 ∧ i = j.toNat) → gI h' q' i = gI h q' i ∧ gR h' q' i = gR h q' i) (n5 : x = slv v (gI h' (a + 1) j.toNat) (gR h' (a + 1) j.toNat)) :
    At1 s0 s h' H' (locs ++ [⟨a, (Int32.ofInt j).toNatClampNeg⟩]) cls ls ∧ H'.size - s.heap.size = H.size - s.heap.size ∧ us s.heap.size H' = us s.heap.size H := by
  obtain ⟨j1, j2, j3, j4⟩ := inA_x hj
  have hs := sz_set hc e1 e3
  refine ⟨A.set (A.1.set (k := j.toNat) (v := x) hc hc1 o2 (by rw [nk_a o1]; exact j4) ?_ ?_ e2 e3 n1 n2 n3 n4 (by rw [kd_a o1, o3]; exact n5)) (hc1.2.2.2.2.2.2 o2).1 e2 hs, us_eq (s0 := s0) e2 hs⟩
  · intro i _ hi
    rw [sx_a o1, sx_a o1]; exact hi
  · rw [sx_a o1, ← j3]; exact e1
def okB (ts : List Nat) (v : Nat) : Bool := ts.all fun t => isA t && decide (t ≠ 0) && decide (t % 10 = v) && decide (t < 30)
theorem okB_at {ts : List Nat} {v : Nat} (h : okB ts v = true) {t : Nat} (ht : ts.elem t = true) : isA t = true ∧ t ≠ 0 ∧ t % 10 = v ∧ t < 30 := by
  unfold okB at h
  rw [List.all_eq_true] at h
  have h1 := h t (List.elem_iff.mp ht)
  simp only [Bool.and_eq_true, decide_eq_true_eq] at h1
  exact ⟨h1.1.1.1, h1.1.1.2, h1.1.2, h1.2⟩
theorem sd_iastore {i pc : Nat} {ts : List Nat} (hd : decode (mi i).2.1 pc = .ok (.iastore, 1)) (ho : okB ts 0 = true) : Sd i pc 1 (i_sI ts 0) := by
  intro l s0 d Q J K ls st h hk hJ hK p e s m args below meth c R H locs cls C A
  unfold i_sI at hk
  split at hk
  · next z j q r =>
    obtain ⟨ht, hj, hz, hk⟩ := hk
    obtain ⟨o1, o2, o3, o4⟩ := okB_at ho ht
    obtain ⟨a, cell, hc, hc1⟩ := A.1.cell (p := q) o2
    have hqa := hc1.1
    subst hqa
    obtain ⟨j1, j2, j3, j4⟩ := inA_x hj
    have hat := cok_a C.al o1 hc1.2.1 hc1.2.2.1
    rw [o3] at hat
    refine W.iast C.exec C.code hc hat hc1.2.2.2.1 (by rw [hc1.2.2.2.2.1]; exact j2) rfl rfl hd (fun H' e1 e2 e3 => ?_)
    skip
    obtain ⟨A', u1, u2⟩ := ax_set (h' := sI h (a + 1) j.toNat z) A o1 o4 o3 hj hc hc1 e1 e2 e3 rfl rfl (fun _ => rfl) (fun q' i hne => ⟨by rw [gI_sI, if_neg hne], rfl⟩) (by rw [gI_sI, if_pos ⟨rfl, rfl⟩]; rfl)
    rw [← u1, ← u2]
    exact hK _ _ _ hk p e s m args below meth c R H' _ cls C A'
  · exact hk.elim
theorem sd_castore {i pc : Nat} {ts : List Nat} (hd : decode (mi i).2.1 pc = .ok (.castore, 1)) (ho : okB ts 1 = true) : Sd i pc 1 (i_sI ts 1) := by
  intro l s0 d Q J K ls st h hk hJ hK p e s m args below meth c R H locs cls C A
  unfold i_sI at hk
  split at hk
  · next z j q r =>
    obtain ⟨ht, hj, hz, hk⟩ := hk
    obtain ⟨o1, o2, o3, o4⟩ := okB_at ho ht
    obtain ⟨a, cell, hc, hc1⟩ := A.1.cell (p := q) o2
    have hqa := hc1.1
    subst hqa
    obtain ⟨j1, j2, j3, j4⟩ := inA_x hj
    have hat := cok_a C.al o1 hc1.2.1 hc1.2.2.1
    rw [o3] at hat
    refine W.cast C.exec C.code hc hat hc1.2.2.2.1 (by rw [hc1.2.2.2.2.1]; exact j2) rfl rfl hd (fun H' e1 e2 e3 => ?_)
    have e1 : H'[a]? = some (cell.setSlot (Int32.ofInt j).toNatClampNeg (.int (Int32.ofInt z))) := by rw [e1]; exact congrArg some (congrArg _ (okV_nar (k := 1) (by decide) hz).1)
    obtain ⟨A', u1, u2⟩ := ax_set (h' := sI h (a + 1) j.toNat z) A o1 o4 o3 hj hc hc1 e1 e2 e3 rfl rfl (fun _ => rfl) (fun q' i hne => ⟨by rw [gI_sI, if_neg hne], rfl⟩) (by rw [gI_sI, if_pos ⟨rfl, rfl⟩]; rfl)
    rw [← u1, ← u2]
    exact hK _ _ _ hk p e s m args below meth c R H' _ cls C A'
  · exact hk.elim
theorem sd_bastoreZ {i pc : Nat} {ts : List Nat} (hd : decode (mi i).2.1 pc = .ok (.bastore, 1)) (ho : okB ts 2 = true) : Sd i pc 1 (i_sI ts 2) := by
  intro l s0 d Q J K ls st h hk hJ hK p e s m args below meth c R H locs cls C A
  unfold i_sI at hk
  split at hk
  · next z j q r =>
    obtain ⟨ht, hj, hz, hk⟩ := hk
    obtain ⟨o1, o2, o3, o4⟩ := okB_at ho ht
    obtain ⟨a, cell, hc, hc1⟩ := A.1.cell (p := q) o2
    have hqa := hc1.1
    subst hqa
    obtain ⟨j1, j2, j3, j4⟩ := inA_x hj
    have hat := cok_a C.al o1 hc1.2.1 hc1.2.2.1
    rw [o3] at hat
    refine W.zast C.exec C.code hc hat hc1.2.2.2.1 (by rw [hc1.2.2.2.2.1]; exact j2) rfl rfl hd (fun H' e1 e2 e3 => ?_)
    have e1 : H'[a]? = some (cell.setSlot (Int32.ofInt j).toNatClampNeg (.int (Int32.ofInt z))) := by rw [e1]; exact congrArg some (congrArg _ (okV_nar (k := 2) (by decide) hz).1)
    obtain ⟨A', u1, u2⟩ := ax_set (h' := sI h (a + 1) j.toNat z) A o1 o4 o3 hj hc hc1 e1 e2 e3 rfl rfl (fun _ => rfl) (fun q' i hne => ⟨by rw [gI_sI, if_neg hne], rfl⟩) (by rw [gI_sI, if_pos ⟨rfl, rfl⟩]; rfl)
    rw [← u1, ← u2]
    exact hK _ _ _ hk p e s m args below meth c R H' _ cls C A'
  · exact hk.elim
theorem sd_bastore {i pc : Nat} {ts : List Nat} (hd : decode (mi i).2.1 pc = .ok (.bastore, 1)) (ho : okB ts 3 = true) : Sd i pc 1 (i_sI ts 3) := by
  intro l s0 d Q J K ls st h hk hJ hK p e s m args below meth c R H locs cls C A
  unfold i_sI at hk
  split at hk
  · next z j q r =>
    obtain ⟨ht, hj, hz, hk⟩ := hk
    obtain ⟨o1, o2, o3, o4⟩ := okB_at ho ht
    obtain ⟨a, cell, hc, hc1⟩ := A.1.cell (p := q) o2
    have hqa := hc1.1
    subst hqa
    obtain ⟨j1, j2, j3, j4⟩ := inA_x hj
    have hat := cok_a C.al o1 hc1.2.1 hc1.2.2.1
    rw [o3] at hat
    refine W.bast C.exec C.code hc hat hc1.2.2.2.1 (by rw [hc1.2.2.2.2.1]; exact j2) rfl rfl hd (fun H' e1 e2 e3 => ?_)
    have e1 : H'[a]? = some (cell.setSlot (Int32.ofInt j).toNatClampNeg (.int (Int32.ofInt z))) := by rw [e1]; exact congrArg some (congrArg _ (okV_nar (k := 3) (by decide) hz).1)
    obtain ⟨A', u1, u2⟩ := ax_set (h' := sI h (a + 1) j.toNat z) A o1 o4 o3 hj hc hc1 e1 e2 e3 rfl rfl (fun _ => rfl) (fun q' i hne => ⟨by rw [gI_sI, if_neg hne], rfl⟩) (by rw [gI_sI, if_pos ⟨rfl, rfl⟩]; rfl)
    rw [← u1, ← u2]
    exact hK _ _ _ hk p e s m args below meth c R H' _ cls C A'
  · exact hk.elim
theorem sd_lastore {i pc : Nat} {ts : List Nat} (hd : decode (mi i).2.1 pc = .ok (.lastore, 1)) (ho : okB ts 4 = true) : Sd i pc 1 (i_sL ts) := by
  intro l s0 d Q J K ls st h hk hJ hK p e s m args below meth c R H locs cls C A
  unfold i_sL at hk
  split at hk
  · next z j q r =>
    obtain ⟨ht, hj, hk⟩ := hk
    obtain ⟨o1, o2, o3, o4⟩ := okB_at ho ht
    obtain ⟨a, cell, hc, hc1⟩ := A.1.cell (p := q) o2
    have hqa := hc1.1
    subst hqa
    obtain ⟨j1, j2, j3, j4⟩ := inA_x hj
    have hat := cok_a C.al o1 hc1.2.1 hc1.2.2.1
    rw [o3] at hat
    refine W.last C.exec C.code hc hat hc1.2.2.2.1 (by rw [hc1.2.2.2.2.1]; exact j2) rfl rfl hd (fun H' e1 e2 e3 => ?_)
    obtain ⟨A', u1, u2⟩ := ax_set (h' := sI h (a + 1) j.toNat z) A o1 o4 o3 hj hc hc1 e1 e2 e3 rfl rfl (fun _ => rfl) (fun q' i hne => ⟨by rw [gI_sI, if_neg hne], rfl⟩) (by rw [gI_sI, if_pos ⟨rfl, rfl⟩]; rfl)
    rw [← u1, ← u2]
    exact hK _ _ _ hk p e s m args below meth c R H' _ cls C A'
  · exact hk.elim
/-- objects that may lie in an Object[] -/
def okO (vs : List Nat) : Bool := vs.all fun t => tgs.elem t && decide (Cond.castable (cN t) "java/lang/Object" ∈ lw_tbl)
theorem tl_pos : ∀ t ∈ tgs, 0 < (cF t).length := by decide +kernel
theorem sd_aastore {i pc : Nat} {ts vs : List Nat} (hd : decode (mi i).2.1 pc = .ok (.aastore, 1)) (ho : okB ts 5 = true) (hv : okO vs = true) : Sd i pc 1 (i_sR ts vs) := by
  intro l s0 d Q J K ls st h hk hJ hK p e s m args below meth c R H locs cls C A
  unfold i_sR at hk
  split at hk
  · next z j q r =>
    obtain ⟨ht, hj, hz, hk⟩ := hk
    obtain ⟨o1, o2, o3, o4⟩ := okB_at ho ht
    obtain ⟨a, cell, hc, hc1⟩ := A.1.cell (p := q) o2
    have hqa := hc1.1
    subst hqa
    unfold okO at hv
    rw [List.all_eq_true] at hv
    have hv1 := hv _ (List.elem_iff.mp hz)
    simp only [Bool.and_eq_true, decide_eq_true_eq] at hv1
    have hzt := List.elem_iff.mp hv1.1
    obtain ⟨b, cb, hcb, hb1⟩ := A.1.cell (p := z) (tg_ne0 hzt)
    have hqb := hb1.1
    subst hqb
    obtain ⟨j1, j2, j3, j4⟩ := inA_x hj
    have hck := hc1.2.1
    unfold cok at hck
    rw [o1] at hck
    obtain ⟨k0, comp, k1, k2, k3⟩ := hck
    rw [o3] at k2
    obtain ⟨k', hk', he'⟩ := C.al.2.2 _ _ k1
    have hkk : k'.kind = .array comp (.object "java/lang/Object") := by rw [he']; exact k2
    have hcomp : s.vm.findClass "java/lang/Object" = some comp := by
      have h9 : s.vm.findClass "java/lang/Object" = s0.vm.findClass "java/lang/Object" := C.al.findClass _ _
      rw [h9]; exact k3 o3
    have hcbc : s.vm.findClass (cN (gT h (b + 1)).1) = some cb.cls := by
      have h9 : s.vm.findClass (cN (gT h (b + 1)).1) = s0.vm.findClass (cN (gT h (b + 1)).1) := C.al.findClass _ _
      rw [h9]; exact cok_f hzt hb1.2.1
    obtain ⟨c1, c2, d1, d2, d3⟩ := Cond.castable_spec (C.wd.use hv1.2 rfl rfl #[])
    cases d1.symm.trans hcbc
    cases d2.symm.trans hcomp
    obtain ⟨kv, hkv, -⟩ := Vm.findClass_spec hcbc
    obtain ⟨kco, hkco, -⟩ := Vm.findClass_spec hcomp
    refine W.aast C.exec C.code hc (fun z9 e9 => by have := hc1.2.2.1; rw [e9] at this; cases this) hc1.2.2.2.1 hk' hkk rfl hkco ⟨fun q9 => j2 (Or.inl q9), by rw [hc1.2.2.2.2.1, j3]; exact j4⟩ hcb (fun z9 e9 => by have := hb1.2.2.1; rw [e9] at this; cases this) hkv d3 rfl rfl hd (fun H' e1 e2 e3 => ?_)
    obtain ⟨A', u1, u2⟩ := ax_set (h' := sR h (a + 1) j.toNat (b + 1)) A o1 o4 o3 hj hc hc1 e1 e2 e3 rfl rfl (fun _ => rfl) (fun q' i hne => ⟨rfl, by rw [gR_sR, if_neg hne]⟩) (by rw [gR_sR, if_pos ⟨rfl, rfl⟩]; rfl)
    rw [← u1, ← u2]
    exact hK _ _ _ hk p e s m args below meth c R H' _ cls C A'
  · exact hk.elim
