/-! new cells -/
def lim (s0 : State) (h : AH) (n : Nat) : Prop := hN h < s0.heap.size + 600128 ∧ hU h + n ≤ 7301098
theorem Abs.push {s0 : State} {h : AH} {H : Heap} (A : Abs s0 h H) {t n : Nat} {cell : Cell} (hli : lim s0 h n) (ht : t ≠ 0) (ht3 : t < 30) (hc : cok s0 t cell.cls) (hvm : cell.vm = .none) (hm : cell.monitor = {}) (hn : cell.slots.size = n) (hv : ∀ k, k < nk (t, n) → cell.slots[sx s0 t k]? = some (slv (kd t k) 0 0)) : Abs s0 (nw h t n) (H.push cell) := by
  obtain ⟨a1, a2, a3, a4, a6, a5⟩ := A
  refine ⟨by rw [Array.size_push, hN_nw, a1], by rw [Array.size_push]; omega, fun b hb => ?_, by rw [us_push a2, hU_nw, a4, hn], ⟨by rw [hN_nw]; have := hli.1; omega, by rw [hU_nw]; exact hli.2⟩, fun q hq => ?_⟩
  · rw [Array.getElem?_push, if_neg (by omega)]; exact a3 b hb
  · rw [gT_nw] at hq
    by_cases h9 : q = hN h + 1
    · rw [if_pos h9] at hq
      subst h9
      refine ⟨H.size, cell, by simp, ?_⟩
      have e1 : gT (nw h t n) (hN h + 1) = (t, n) := by rw [gT_nw, if_pos rfl]
      have e2 : ∀ k, gI (nw h t n) (hN h + 1) k = 0 := fun k => by rw [gI_nw, if_pos rfl]
      have e3 : ∀ k, gR (nw h t n) (hN h + 1) k = 0 := fun k => by rw [gR_nw, if_pos rfl]
      refine ⟨by rw [a1], ?_⟩
      rw [e1]
      refine ⟨hc, by rw [hvm]; rfl, (by rw [hvm]; exact fun z => by cases z), hn, fun k hk => ?_, fun _ => ⟨by omega, hvm, hm⟩⟩
      rw [e2, e3]
      exact hv k hk
    · rw [if_neg h9] at hq
      obtain ⟨b, x, b1, b2⟩ := a5 q hq
      have hb : b < H.size := (Array.getElem?_eq_some_iff.mp b1).1
      refine ⟨b, x, by rw [Array.getElem?_push, if_neg (by omega)]; exact b1, b2.other ?_ ?_ ?_⟩
      · rw [gT_nw, if_neg h9]
      · intro k _; rw [gI_nw, if_neg h9]
      · intro k _; rw [gR_nw, if_neg h9]
theorem At1.push {s0 s : State} {h : AH} {H : Heap} {locs : List Loc} {cls : Array Slot} {ls : XL} (A : At1 s0 s h H locs cls ls) {t n : Nat} {cell : Cell} (hA : Abs s0 (nw h t n) (H.push cell)) : At1 s0 s (nw h t n) (H.push cell) locs cls ls ∧ (H.push cell).size - s.heap.size = H.size - s.heap.size + 1 ∧ us s.heap.size (H.push cell) = us s.heap.size H + cell.slots.size := by
  have h1 := A.2.1
  refine ⟨⟨hA, by rw [Array.size_push]; omega, ?_, A.2.2.2.1, A.2.2.2.2⟩, by rw [Array.size_push]; omega, us_push h1 cell⟩
  rw [us_push A.1.2.1, us_push h1, A.2.2.1, Nat.add_assoc]
theorem lim_at {l : Launch} {s0 : State} {i d : Nat} {p : Program} {s : State} {m : MethodId} {meth : Method} {c : Code} {R : Room} {h : AH} {H : Heap} {locs : List Loc} {cls : Array Slot} {ls : XL} {n : Nat} (C : Cx l s0 i d p s m meth c R) (A : At1 s0 s h H locs cls ls) (hl : lim s0 h n) : H.size - s.heap.size + 1 ≤ R.cells ∧ us s.heap.size H + n ≤ R.slots := by
  obtain ⟨l1, l2⟩ := hl
  have e1 := A.1.1
  have e2 := A.1.2.2.2.1
  have e3 := A.2.2.1
  have e4 := A.2.1
  rw [C.room]
  unfold rm
  dsimp only
  omega
def i_new (t : Nat) : Tr := fun _ s0 _ _ _ ls st h K => lim s0 h (tnS t) ∧ K ls (vR (hN h + 1) :: st) (nw h t (tnS t))
theorem dflt_slv {s0 : State} (hw0 : Wd s0) {t : Nat} (ht : t ∈ tgs) {cC : ClassId} {kC : Class} (hf : s0.vm.findClass (cN t) = some cC) (hk : s0.vm.classes[cC]? = some kC) (k : Nat) (hkk : k < (cF t).length) : (kC.instanceTypes.map defaultValue)[so s0 (cT t k)]? = some (slv (kd t k) 0 0) := by
  obtain ⟨c1, kc, cf, kf, fi, f, f1, f2, f3, f4, f5, f6, f7, -⟩ := fld_at hw0 hw0 (Vm.Alike.refl _) ht hkk
  cases f1.symm.trans hf
  cases f2.symm.trans hk
  rw [← f5, Array.getElem?_map, f6, f7]
  have h1 := tl_k1 t ht k hkk
  unfold slv
  by_cases h5 : kd t k = 5
  · rw [if_pos h5]
    have h6 := h1.2.1 h5
    cases hty : fTy t k <;> rw [hty] at h6 <;> simp [FieldType.isReference] at h6 <;> rfl
  · rw [if_neg h5, if_neg h1.2.2]
    have h9 : kd t k < 4 := by
      have : ∀ t ∈ tgs, ∀ k, k < (cF t).length → kd t k ≤ 5 := by decide +kernel
      have := this t ht k hkk
      have := h1.2.2
      omega
    rw [h1.1 h9]
    revert h9
    generalize kd t k = x
    intro h9
    match x, h9 with
    | 0, _ => rfl
    | 1, _ => rfl
    | 2, _ => rfl
    | 3, _ => rfl
theorem sd_new {i pc ix t : Nat} (hd : decode (mi i).2.1 pc = .ok (.new ix, 3)) (hl : Cond.classLink (mi i).1.cls ix (cN t) ∈ lw_tbl) (hi : Cond.initialized (cN t) ∈ lw_tbl) (hin : Cond.instantiable (cN t) (tnS t) ∈ lw_tbl) (ht : t ∈ tgs ∨ ((cF t).length = 0 ∧ isA t = false ∧ t ≠ 0)) (ht3 : t < 30) : Sd i pc 3 (i_new t) := by
  intro l s0 d Q J K ls st h hk hJ hK p e s m args below meth c R H locs cls C A
  obtain ⟨hlim, hk⟩ := hk
  obtain ⟨m1, m2⟩ := lim_at C A hlim
  refine W.newc C.exec C.code C.own (C.wd.use hl rfl rfl args) (C.wd.use hin rfl rfl args) (C.wd.use hi rfl rfl args) rfl hd m1 m2 (fun cC kC q1 q2 q3 q4 => ?_)
  have f0 : s0.vm.findClass (cN t) = some cC := by
    have h9 : s.vm.findClass (cN t) = s0.vm.findClass (cN t) := C.al.findClass _ _
    rw [← h9]; exact q1
  obtain ⟨k0, g1, -⟩ := Vm.findClass_spec f0
  obtain ⟨k', hk', he'⟩ := C.al.2.2 _ _ g1
  cases hk'.symm.trans q2
  have hA : isA t = false := by
    rcases ht with ht | ht
    · exact tl_A t ht
    · exact ht.2.1
  have hA' : Abs s0 (nw h t (tnS t)) (H.push { cls := cC, slots := kC.instanceTypes.map defaultValue, vm := .none }) := by
    refine A.1.push hlim ?_ ht3 ?_ rfl rfl (by simp [q4]) (fun k hkk => ?_)
    · rcases ht with ht | ht
      · exact tg_ne0 ht
      · exact ht.2.2
    · unfold cok; rw [hA]; exact f0
    · have hkk : k < (cF t).length := by unfold nk at hkk; rw [hA] at hkk; exact hkk
      rcases ht with ht | ht
      · rw [sx_f ht]
        have := dflt_slv C.gg.2.1 ht f0 g1 k hkk
        have e9 : kC.instanceTypes = k0.instanceTypes := by rw [he']
        rw [e9]; exact this
      · exact absurd hkk (by omega)
  obtain ⟨A', u1, u2⟩ := A.push hA'
  have hh := A.1.1
  have k := hK _ _ _ hk p e s m args below meth c R _ locs cls C A'
  rw [u1, u2] at k
  have e5 : (kC.instanceTypes.map defaultValue).size = tnS t := by simp [q4]
  dsimp only at k
  rw [e5] at k
  rw [← hh] at k
  exact k
def tyT (a : ArrayType) : Nat := match a with
  | .int => 20
  | .char => 21
  | .boolean => 22
  | .byte => 23
  | .long => 24
  | _ => 0
def i_na (t : Nat) : Tr := fun _ s0 _ _ _ ls st h K => match st with
  | .inl n :: r => (0 ≤ n ∧ n ≤ 100000) ∧ lim s0 h n.toNat ∧ K ls (vR (hN h + 1) :: r) (nw h t n.toNat)
  | _ => False
theorem sd_newarray {i pc t : Nat} {a : ArrayType} (hd : decode (mi i).2.1 pc = .ok (.newarray a, 2)) (hl : Cond.arrayClass (newarray.typeOf a) ∈ lw_tbl) (ht : tyT a = t) (h0 : t ≠ 0) : Sd i pc 2 (i_na t) := by
  intro l s0 d Q J K ls st h hk hJ hK p e s m args below meth c R H locs cls C A
  unfold i_na at hk
  split at hk
  · next n r =>
    obtain ⟨⟨n0, n1⟩, hlim, hk⟩ := hk
    have hr : rg n := ⟨by omega, by omega⟩
    have hNn : (Int32.ofInt n).toNatClampNeg = n.toNat := rg_nat hr
    obtain ⟨m1, m2⟩ := lim_at C A hlim
    refine W.newa C.exec C.code (C.wd.arr hl args) rfl hd rfl ?_ ?_ m1 (by rw [hNn]; exact m2) (fun cA kA comp q1 q2 q3 => ?_)
    · have e : (0 : Int32) = Int32.ofInt 0 := rfl
      rw [e, rg_lt hr rg_0]; omega
    · rw [hNn]
      have : componentBytes (newarray.typeOf a) ≤ 8 := by cases a <;> decide
      have h2 : n.toNat * componentBytes (newarray.typeOf a) ≤ n.toNat * 8 := Nat.mul_le_mul_left _ this
      omega
    · rw [hNn]
      have hA : isA t = true ∧ t < 30 ∧ aTy (t % 10) = newarray.typeOf a ∧ t % 10 ≠ 5 ∧ defaultValue (newarray.typeOf a) = slv (t % 10) 0 0 := by
        subst ht
        cases a <;> first | exact ⟨rfl, by decide, rfl, by decide, rfl⟩ | exact absurd rfl h0
      have hA' : Abs s0 (nw h t n.toNat) (H.push { cls := cA, slots := Array.replicate n.toNat (defaultValue (newarray.typeOf a)), vm := .none }) := by
        refine A.1.push hlim h0 hA.2.1 ?_ rfl rfl (by simp) (fun k hkk => ?_)
        · unfold cok
          rw [hA.1]
          have f0 : s0.vm.findClass ("[" ++ (newarray.typeOf a).toString) = some cA := by
            have h9 : s.vm.findClass ("[" ++ (newarray.typeOf a).toString) = s0.vm.findClass ("[" ++ (newarray.typeOf a).toString) := C.al.findClass _ _
            rw [← h9]; exact q1
          obtain ⟨k0, g1, -⟩ := Vm.findClass_spec f0
          obtain ⟨k', hk', he'⟩ := C.al.2.2 _ _ g1
          cases hk'.symm.trans q2
          refine ⟨k0, comp, g1, ?_, fun z => absurd z hA.2.2.2.1⟩
          rw [hA.2.2.1, ← q3, he']
        · rw [nk_a (t := (t, n.toNat)) hA.1] at hkk
          rw [sx_a hA.1, kd_a hA.1, ← hA.2.2.2.2]
          simp [hkk]
      obtain ⟨A', u1, u2⟩ := A.push hA'
      have hh := A.1.1
      have k := hK _ _ _ hk p e s m args below meth c R _ locs cls C A'
      rw [u1, u2] at k
      dsimp only at k
      rw [Array.size_replicate] at k
      rw [← hh] at k
      exact k
  · exact hk.elim
theorem arrOver_move {s0 s : State} (al : s0.vm.Alike s.vm) {n : String} {args args' : Array Value} (h : (Cond.arrayOver (.object n)).before args s0 = true) : (Cond.arrayOver (.object n)).before args' s = true := by
  obtain ⟨comp, c, k, h1, h2, h3, h4, h5⟩ := Cond.arrayOver_spec h
  obtain ⟨k', hk', he⟩ := al.2.2 _ _ h3
  have g1 : s.vm.findClass n = some comp := by rw [al.findClass]; exact h1
  have g5 : s.vm.findClass ("[" ++ (FieldType.object n).toString) = some c := by rw [al.findClass]; exact h5
  have g4 : k'.kind = .array comp (.object n) := by rw [he]; exact h4
  have g2 : (s.vm.classes.findIdx? fun x => match x.kind with | .array component _ => component == comp | _ => false) = some c := by
    obtain ⟨hlt, hp, hmin⟩ := Array.findIdx?_eq_some_iff_getElem.mp h2
    have hlt' : c < s.vm.classes.size := (Array.getElem?_eq_some_iff.mp hk').1
    refine Array.findIdx?_eq_some_iff_getElem.mpr ⟨hlt', ?_, fun j hj => ?_⟩
    · have e9 : s.vm.classes[c] = k' := (Array.getElem?_eq_some_iff.mp hk').2
      rw [e9, g4]; simp
    · have hj0 : j < s0.vm.classes.size := by omega
      obtain ⟨kj, hkj, hej⟩ := al.2.2 j s0.vm.classes[j] (Array.getElem?_eq_getElem hj0)
      have e9 : s.vm.classes[j] = kj := (Array.getElem?_eq_some_iff.mp hkj).2
      have hm := hmin j hj
      rw [e9, hej]
      exact hm
  unfold Cond.before Cond.holds Cond.value
  simp only [g1, g5, Option.bind_some]
  have e : ∀ X : Option Nat, X = some c → ((X.bind fun c_1 => Option.map (fun k : Class => match k.kind with | .array _ ty => decide (ty = FieldType.object n) && decide (some c = some c_1) | _ => false) s.vm.classes[c_1]?) == some true) = true := by
    intro X hX
    rw [hX]
    simp only [Option.bind_some, hk', Option.map_some, g4, decide_true, Bool.and_self, beq_self_eq_true]
  exact e _ g2
def i_an : Tr := fun _ s0 _ _ _ ls st h K => match st with
  | .inl n :: r => (0 ≤ n ∧ n ≤ 100000) ∧ lim s0 h n.toNat ∧ K ls (vR (hN h + 1) :: r) (nw h 25 n.toNat)
  | _ => False
theorem sd_anewarray {i pc ix : Nat} (hd : decode (mi i).2.1 pc = .ok (.anewarray ix, 3)) (hl : Cond.classLink (mi i).1.cls ix "java/lang/Object" ∈ lw_tbl) (ho : Cond.arrayOver (.object "java/lang/Object") ∈ lw_tbl) : Sd i pc 3 i_an := by
  intro l s0 d Q J K ls st h hk hJ hK p e s m args below meth c R H locs cls C A
  unfold i_an at hk
  split at hk
  · next n r =>
    obtain ⟨⟨n0, n1⟩, hlim, hk⟩ := hk
    have hr : rg n := ⟨by omega, by omega⟩
    have hNn : (Int32.ofInt n).toNatClampNeg = n.toNat := rg_nat hr
    obtain ⟨m1, m2⟩ := lim_at C A hlim
    obtain ⟨-, -, b0, hb1, -⟩ := C.gg
    refine W.anew C.exec C.code C.own (C.wd.use hl rfl rfl args) (arrOver_move C.al (hb1 _ ho)) rfl hd rfl ?_ ?_ m1 (by rw [hNn]; exact m2) (fun cA kA comp q1 q2 q3 q4 => ?_)
    · have e : (0 : Int32) = Int32.ofInt 0 := rfl
      rw [e, rg_lt hr rg_0]; omega
    · rw [hNn]; omega
    · rw [hNn]
      have hA' : Abs s0 (nw h 25 n.toNat) (H.push { cls := cA, slots := Array.replicate n.toNat .null, vm := .none }) := by
        refine A.1.push hlim (by decide) (by decide) ?_ rfl rfl (by simp) (fun k hkk => ?_)
        · unfold cok
          rw [if_pos (by decide)]
          have f0 : s0.vm.findClass ("[" ++ (FieldType.object "java/lang/Object").toString) = some cA := by
            have h9 : s.vm.findClass ("[" ++ (FieldType.object "java/lang/Object").toString) = s0.vm.findClass ("[" ++ (FieldType.object "java/lang/Object").toString) := C.al.findClass _ _
            rw [← h9]; exact q1
          obtain ⟨k0, g1, -⟩ := Vm.findClass_spec f0
          obtain ⟨k', hk', he'⟩ := C.al.2.2 _ _ g1
          cases hk'.symm.trans q2
          refine ⟨k0, comp, g1, ?_, fun _ => ?_⟩
          · rw [he'] at q3; exact q3
          · have h9 : s.vm.findClass "java/lang/Object" = s0.vm.findClass "java/lang/Object" := C.al.findClass _ _
            rw [← h9]; exact q4
        · rw [nk_a (t := (25, n.toNat)) (show isA 25 = true by decide)] at hkk
          rw [sx_a (by decide), kd_a (by decide)]
          simp [hkk]
          rfl
      obtain ⟨A', u1, u2⟩ := A.push hA'
      have hh := A.1.1
      have k := hK _ _ _ hk p e s m args below meth c R _ locs cls C A'
      rw [u1, u2] at k
      dsimp only at k
      rw [Array.size_replicate] at k
      rw [← hh] at k
      exact k
  · exact hk.elim
