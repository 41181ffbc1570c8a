/-! the component: values are trees -/
def dgV (ds : List Int) : Int := ds.foldl (fun a c => 10 * a + (c - 48)) 0
def num (t : List Int) : Int := if t.headD 0 = 116 then 1 else if kdC (t.headD 0) = 2 then (if t.headD 0 = 45 then - dgV t.tail else dgV t) else 0
theorem dgV_app (ds : List Int) (c : Int) : dgV (ds ++ [c]) = 10 * dgV ds + (c - 48) := by unfold dgV; rw [List.foldl_append]; rfl
theorem dgV_pos : ∀ (n : Nat) (ds : List Int), ds.length = n → (∀ c ∈ ds, isDig c) → 0 ≤ dgV ds ∧ ((∃ c r, ds = c :: r ∧ 49 ≤ c) → 1 ≤ dgV ds)
  | 0, ds, hl, hd => by
    have : ds = [] := List.length_eq_zero_iff.mp hl
    subst this
    exact ⟨by simp [dgV], fun ⟨c, r, h, _⟩ => by simp at h⟩
  | n + 1, ds, hl, hd => by
    rcases List.eq_nil_or_concat ds with h | ⟨a, c, h⟩
    · subst h; simp at hl
    · rw [List.concat_eq_append] at h
      subst h
      have hc := hd c (by simp)
      unfold isDig at hc
      have ih := dgV_pos n a (by simpa using hl) (fun x hx => hd x (by simp [hx]))
      rw [dgV_app]
      refine ⟨by omega, fun ⟨c', r, h1, h2⟩ => ?_⟩
      cases a with
      | nil =>
        simp at h1
        obtain ⟨rfl, rfl⟩ := h1
        simp [dgV]; omega
      | cons x a' =>
        have := ih.2 ⟨x, a', rfl, by simp at h1; omega⟩
        omega
theorem dgV_inj : ∀ (n : Nat) (a b : List Int), a.length = n → (∀ c ∈ a, isDig c) → (∀ c ∈ b, isDig c) → (∀ c r, a = c :: r → 49 ≤ c) → (∀ c r, b = c :: r → 49 ≤ c) → dgV a = dgV b → a = b
  | 0, a, b, hl, ha, hb, ha1, hb1, h => by
    have : a = [] := List.length_eq_zero_iff.mp hl
    subst this
    cases b with
    | nil => rfl
    | cons x r =>
      have := (dgV_pos _ (x :: r) rfl hb).2 ⟨x, r, rfl, hb1 x r rfl⟩
      have h0 : dgV [] = 0 := rfl
      omega
  | n + 1, a, b, hl, ha, hb, ha1, hb1, h => by
    rcases List.eq_nil_or_concat a with h1 | ⟨a', c, h1⟩
    · subst h1; simp at hl
    · rw [List.concat_eq_append] at h1
      subst h1
      rcases List.eq_nil_or_concat b with h2 | ⟨b', e, h2⟩
      · subst h2
        have : 1 ≤ dgV (a' ++ [c]) := by
          refine (dgV_pos _ _ rfl ha).2 ?_
          cases a' with
          | nil => exact ⟨c, [], rfl, ha1 c [] rfl⟩
          | cons x r => exact ⟨x, r ++ [c], rfl, ha1 x _ rfl⟩
        have h0 : dgV [] = 0 := rfl
        omega
      · rw [List.concat_eq_append] at h2
        subst h2
        rw [dgV_app, dgV_app] at h
        have hc := ha c (by simp)
        have he := hb e (by simp)
        unfold isDig at hc he
        have hce : c = e := by omega
        have hab : dgV a' = dgV b' := by omega
        have := dgV_inj n a' b' (by simpa using hl) (fun x hx => ha x (by simp [hx])) (fun x hx => hb x (by simp [hx])) (fun x r hx => ha1 x (r ++ [c]) (by rw [hx]; rfl)) (fun x r hx => hb1 x (r ++ [e]) (by rw [hx]; rfl)) hab
        rw [this, hce]
/-- tokens that are no strings are told by kind and number -/
theorem num_inj {t u : List Int} (ht : PT t) (hu : PT u) (h3 : kdC (t.headD 0) ≠ 3) (hk : kdC (t.headD 0) = kdC (u.headD 0)) (hn : num t = num u) : t = u := by
  have cls : ∀ s, PT s → kdC (s.headD 0) ≠ 3 → (s = [110, 117, 108, 108] ∧ kdC (s.headD 0) = 0) ∨ (s = [116, 114, 117, 101] ∧ kdC (s.headD 0) = 1 ∧ num s = 1) ∨ (s = [102, 97, 108, 115, 101] ∧ kdC (s.headD 0) = 1 ∧ num s = 0) ∨ (kdC (s.headD 0) = 2 ∧ (s = [48] ∧ num s = 0 ∨ NumD s ∧ num s = dgV s ∧ 1 ≤ dgV s ∨ ∃ ds, s = 45 :: ds ∧ NumD ds ∧ num s = - dgV ds ∧ 1 ≤ dgV ds)) := by
    intro s hs h
    rcases hs with rfl | rfl | rfl | ⟨ls, rfl, _⟩ | rfl | hs | ⟨ds, rfl, hs⟩
    · left; simp [kdC]
    · right; left; simp [kdC, num]
    · right; right; left; simp [kdC, num]
    · simp [kdC] at h
    · right; right; right; simp [kdC, num, dgV]
    · obtain ⟨s1, ⟨c, r, rfl, s2, s3⟩, s4⟩ := hs
      right; right; right
      have hk : kdC c = 2 := by unfold kdC; rw [if_neg (by omega), if_neg (by omega), if_neg (by omega), if_neg (by omega), if_neg (by omega)]
      refine ⟨by simpa using hk, Or.inr (Or.inl ⟨⟨s1, ⟨c, r, rfl, s2, s3⟩, s4⟩, ?_, (dgV_pos _ _ rfl s4).2 ⟨c, r, rfl, s2⟩⟩)⟩
      unfold num
      simp [hk, show c ≠ 116 by omega, show c ≠ 45 by omega]
    · right; right; right
      obtain ⟨s1, ⟨c, r, rfl, s2, s3⟩, s4⟩ := hs
      refine ⟨by simp [kdC], Or.inr (Or.inr ⟨c :: r, rfl, ⟨s1, ⟨c, r, rfl, s2, s3⟩, s4⟩, ?_, (dgV_pos _ _ rfl s4).2 ⟨c, r, rfl, s2⟩⟩)⟩
      unfold num
      simp [kdC]
  have inj : ∀ a b, NumD a → NumD b → dgV a = dgV b → a = b := by
    intro a b ⟨a1, ⟨c, r, a2, a3, _⟩, a4⟩ ⟨b1, ⟨e, r', b2, b3, _⟩, b4⟩ h
    exact dgV_inj _ a b rfl a4 b4 (fun x y hx => by rw [a2] at hx; simp at hx; omega) (fun x y hx => by rw [b2] at hx; simp at hx; omega) h
  rcases cls t ht h3 with ⟨a1, a2⟩ | ⟨a1, a2, a3⟩ | ⟨a1, a2, a3⟩ | ⟨a2, a3⟩ <;> rcases cls u hu (by rw [← hk]; exact h3) with ⟨b1, b2⟩ | ⟨b1, b2, b3⟩ | ⟨b1, b2, b3⟩ | ⟨b2, b3⟩
  all_goals first
    | (exfalso; omega)
    | (rw [a1, b1]; done)
    | skip
  rcases a3 with ⟨a3, a4⟩ | ⟨a3, a4, a5⟩ | ⟨ds, a3, a4, a5, a6⟩ <;> rcases b3 with ⟨b3, b4⟩ | ⟨b3, b4, b5⟩ | ⟨es, b3, b4, b5, b6⟩
  all_goals first
    | (exfalso; omega)
    | (rw [a3, b3]; done)
    | exact inj t u a3 b3 (by omega)
    | (rw [a3, b3, inj ds es a4 b4 (by omega)]; done)
