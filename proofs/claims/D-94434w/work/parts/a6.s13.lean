set_option maxRecDepth 100000
/-! what is asked: it ends, and is well formed -/
def rkM (m : Nat) : Nat := if m ≤ 5 then 7 - m else 1
theorem tl_lt {l : List Tk} (h : 2 ≤ kS (cur l)) : l.tail.length + 1 = l.length := by
  cases l with
  | nil => simp [cur, kS] at h
  | cons a l => simp
/-- tokens are used up -/
theorem dx_len {P : Nat} : ∀ (f m d : Nat) (ac : Cd) (u : Nat) (l : List Tk) (x : Xr), m ≤ 9 → dx P f m d ac u l = some (.inr x) → x.2.2.length ≤ l.length ∧ (m ≤ 5 → x.2.2.length < l.length) := by
  intro f
  induction f with
  | zero => intro m d ac u l x _ h; cases h
  | succ f ih =>
    intro m d ac u l x hm h
    rw [dx] at h
    by_cases m0 : m = 0
    · rw [ifp m0] at h
      rcases obd_some h with ⟨e, -, z⟩ | ⟨y, h1, h2⟩
      · cases z
      · have i1 := ih _ _ _ _ _ _ (by omega) h1
        have i2 := ih _ _ _ _ _ _ (by omega) h2
        have := i1.2 (by omega); omega
    rw [ifn m0] at h
    by_cases m1 : m = 1
    · rw [ifp m1] at h
      rcases obd_some h with ⟨e, -, z⟩ | ⟨y, h1, h2⟩
      · cases z
      · have i1 := ih _ _ _ _ _ _ (by omega) h1
        have i2 := ih _ _ _ _ _ _ (by omega) h2
        have := i1.2 (by omega); omega
    rw [ifn m1] at h
    by_cases m2 : m = 2
    · rw [ifp m2] at h
      cases hn : isW l 7237492 with
      | true =>
        rw [ifp hn] at h
        have := tl_lt (isW_2 hn)
        by_cases hd : 7 ≤ d
        · rw [ifp hd] at h; cases h
        · rw [ifn hd] at h
          rcases obd_some h with ⟨e, -, z⟩ | ⟨y, h1, h2⟩
          · cases z
          · have i1 := ih _ _ _ _ _ _ (by omega) h1
            cases h2
            exact ⟨by show y.2.2.length ≤ _; omega, fun _ => by show y.2.2.length < _; omega⟩
      | false =>
        rw [ifn (by rw [hn]; decide)] at h
        rcases obd_some h with ⟨e, -, z⟩ | ⟨y, h1, h2⟩
        · cases z
        · have i1 := ih _ _ _ _ _ _ (by omega) h1
          have i1' := i1.2 (by omega)
          cases hc : cmpC y.2.2 with
          | true =>
            rw [ifp hc] at h2
            rcases obd_some h2 with ⟨e, -, z⟩ | ⟨w, h3, h4⟩
            · cases z
            · have i3 := ih _ _ _ _ _ _ (by omega) h3
              cases h4
              have t : y.2.2.tail.length ≤ y.2.2.length := by simp
              exact ⟨by show w.2.2.length ≤ _; omega, fun _ => by show w.2.2.length < _; omega⟩
          | false =>
            rw [ifn (by rw [hc]; decide)] at h2
            cases h2
            exact ⟨by omega, fun _ => i1'⟩
    rw [ifn m2] at h
    by_cases m3 : m = 3
    · rw [ifp m3] at h
      rcases obd_some h with ⟨e, -, z⟩ | ⟨y, h1, h2⟩
      · cases z
      · have i1 := ih _ _ _ _ _ _ (by omega) h1
        have i2 := ih _ _ _ _ _ _ (by omega) h2
        have := i1.2 (by omega); omega
    rw [ifn m3] at h
    by_cases m4 : m = 4
    · rw [ifp m4] at h
      rcases obd_some h with ⟨e, -, z⟩ | ⟨y, h1, h2⟩
      · cases z
      · have i1 := ih _ _ _ _ _ _ (by omega) h1
        have i2 := ih _ _ _ _ _ _ (by omega) h2
        have := i1.2 (by omega); omega
    rw [ifn m4] at h
    by_cases m5 : m = 5
    · rw [ifp m5] at h
      by_cases q : (kS (cur l) ≠ 4 ∧ isC l 40 = false ∧ whoK l = none ∧ isW l 6384748 = false) ∨ 40 ≤ u ∨ (isC l 40 = true ∧ 7 ≤ d)
      · rw [ifp q] at h; cases h
      · rw [ifn q] at h
        have h2 : 2 ≤ kS (cur l) := by
          apply Classical.byContradiction
          intro z
          apply q
          refine Or.inl ⟨by omega, ?_, ?_, ?_⟩
          · exact decide_eq_false fun y => by omega
          · cases hw : whoK l with
            | none => rfl
            | some p => exact absurd (whoK_lt hw).2 z
          · exact decide_eq_false fun y => by omega
        have tl := tl_lt h2
        cases hb : isC l 40 with
        | true =>
          rw [ifp hb] at h
          rcases obd_some h with ⟨e, -, z⟩ | ⟨y, h1, h3⟩
          · cases z
          · have i1 := ih _ _ _ _ _ _ (by omega) h1
            have i1' := i1.2 (by omega)
            cases hc : isC y.2.2 41 with
            | true =>
              rw [ifp hc] at h3
              cases h3
              have t : y.2.2.tail.length ≤ y.2.2.length := by simp
              exact ⟨by show y.2.2.tail.length ≤ _; omega, fun _ => by show y.2.2.tail.length < _; omega⟩
            | false => rw [ifn (by rw [hc]; decide)] at h3; cases h3
        | false =>
          rw [ifn (by rw [hb]; decide)] at h
          cases hw : whoK l with
          | some p =>
            rw [hw] at h
            have h' : (if p < P then some (.inr ([(112, p)], u + 1, l.tail)) else some (.inl (4, kP (cur l)))) = some (.inr x : Rs Xr) := h
            by_cases hp : p < P
            · rw [ifp hp] at h'; cases h'; exact ⟨by show l.tail.length ≤ _; omega, fun _ => by show l.tail.length < _; omega⟩
            · rw [ifn hp] at h'; cases h'
          | none =>
            rw [hw] at h
            have h' : (if isW l 6384748 = true then some (.inr ([(97, 0)], u + 1, l.tail)) else some (.inr ([(110, kV (cur l))], u + 1, l.tail))) = some (.inr x : Rs Xr) := h
            cases ha : isW l 6384748 with
            | true => rw [ifp ha] at h'; cases h'; exact ⟨by show l.tail.length ≤ _; omega, fun _ => by show l.tail.length < _; omega⟩
            | false => rw [ifn (by rw [ha]; decide)] at h'; cases h'; exact ⟨by show l.tail.length ≤ _; omega, fun _ => by show l.tail.length < _; omega⟩
    rw [ifn m5] at h
    have t : l.tail.length ≤ l.length := by simp
    have loop : ∀ {a : Option (Rs Xr)} {k : Xr → Option (Rs Xr)} {m' m'' : Nat}, m' ≤ 5 → m'' ≤ 9 → obd (dx P f m' d [] u l.tail) k = some (.inr x) → (∀ y, ∃ ac', k y = dx P f m'' d ac' y.2.1 y.2.2) → x.2.2.length ≤ l.length := by
      intro a k m' m'' hm' hm'' h hk
      rcases obd_some h with ⟨e, -, z⟩ | ⟨y, h1, h3⟩
      · cases z
      · obtain ⟨ac', e⟩ := hk y
        rw [e] at h3
        have i1 := ih _ _ _ _ _ _ (by omega) h1
        have i3 := ih _ _ _ _ _ _ (by omega) h3
        omega
    by_cases m6 : m = 6
    · rw [ifp m6] at h
      refine ⟨?_, by omega⟩
      cases hb : isW l 28530 with
      | true => rw [ifp hb] at h; exact loop (a := none) (m' := 1) (m'' := 6) (by omega) (by omega) h (fun y => ⟨_, rfl⟩)
      | false => rw [ifn (by rw [hb]; decide)] at h; cases h; exact Nat.le_refl _
    rw [ifn m6] at h
    by_cases m7 : m = 7
    · rw [ifp m7] at h
      refine ⟨?_, by omega⟩
      cases hb : isW l 6385252 with
      | true => rw [ifp hb] at h; exact loop (a := none) (m' := 2) (m'' := 7) (by omega) (by omega) h (fun y => ⟨_, rfl⟩)
      | false => rw [ifn (by rw [hb]; decide)] at h; cases h; exact Nat.le_refl _
    rw [ifn m7] at h
    by_cases m8 : m = 8
    · rw [ifp m8] at h
      refine ⟨?_, by omega⟩
      cases hb : addC l with
      | true => rw [ifp hb] at h; exact loop (a := none) (m' := 4) (m'' := 8) (by omega) (by omega) h (fun y => ⟨_, rfl⟩)
      | false => rw [ifn (by rw [hb]; decide)] at h; cases h; exact Nat.le_refl _
    rw [ifn m8] at h
    refine ⟨?_, by omega⟩
    cases hb : isC l 42 with
    | true => rw [ifp hb] at h; exact loop (a := none) (m' := 5) (m'' := 9) (by omega) (by omega) h (fun y => ⟨_, rfl⟩)
    | false => rw [ifn (by rw [hb]; decide)] at h; cases h; exact Nat.le_refl _
theorem obd_tot {a : Option (Rs Xr)} {k : Xr → Option (Rs Xr)} (h : a ≠ none) (hk : ∀ x, a = some (.inr x) → k x ≠ none) : obd a k ≠ none := by
  cases a with
  | none => exact absurd rfl h
  | some a =>
    cases a with
    | inl e => exact fun z => by cases z
    | inr x => exact hk x rfl
theorem dx_tot {P : Nat} : ∀ (f m d : Nat) (ac : Cd) (u : Nat) (l : List Tk), m ≤ 9 → 20 * l.length + rkM m < f → dx P f m d ac u l ≠ none := by
  intro f
  induction f with
  | zero => intro m d ac u l _ h; omega
  | succ f ih =>
    intro m d ac u l hm hf
    have r0 : rkM 0 = 7 := rfl
    have r1 : rkM 1 = 6 := rfl
    have r2 : rkM 2 = 5 := rfl
    have r3 : rkM 3 = 4 := rfl
    have r4 : rkM 4 = 3 := rfl
    have r5 : rkM 5 = 2 := rfl
    have r6 : rkM 6 = 1 := rfl
    have r7 : rkM 7 = 1 := rfl
    have r8 : rkM 8 = 1 := rfl
    have r9 : rkM 9 = 1 := rfl
    rw [dx]
    by_cases m0 : m = 0
    · rw [ifp m0]; subst m0
      refine obd_tot (ih 1 _ _ _ _ (by omega) (by omega)) fun x hx => ih 6 _ _ _ _ (by omega) ?_
      have := (dx_len _ _ _ _ _ _ _ (by omega) hx).2 (by omega); omega
    rw [ifn m0]
    by_cases m1 : m = 1
    · rw [ifp m1]; subst m1
      refine obd_tot (ih 2 _ _ _ _ (by omega) (by omega)) fun x hx => ih 7 _ _ _ _ (by omega) ?_
      have := (dx_len _ _ _ _ _ _ _ (by omega) hx).2 (by omega); omega
    rw [ifn m1]
    by_cases m2 : m = 2
    · rw [ifp m2]; subst m2
      cases hn : isW l 7237492 with
      | true =>
        rw [ifp rfl]
        have := tl_lt (isW_2 hn)
        by_cases hd : 7 ≤ d
        · rw [ifp hd]; exact fun z => by cases z
        · rw [ifn hd]
          exact obd_tot (ih 2 _ _ _ _ (by omega) (by omega)) fun x hx z => by cases z
      | false =>
        rw [ifn (by decide)]
        refine obd_tot (ih 3 _ _ _ _ (by omega) (by omega)) fun x hx => ?_
        have i1 := (dx_len _ _ _ _ _ _ _ (by omega) hx).2 (by omega)
        cases hc : cmpC x.2.2 with
        | true =>
          rw [ifp rfl]
          have t : x.2.2.tail.length ≤ x.2.2.length := by simp
          exact obd_tot (ih 3 _ _ _ _ (by omega) (by omega)) fun x hx z => by cases z
        | false => rw [ifn (by decide)]; exact fun z => by cases z
    rw [ifn m2]
    by_cases m3 : m = 3
    · rw [ifp m3]; subst m3
      refine obd_tot (ih 4 _ _ _ _ (by omega) (by omega)) fun x hx => ih 8 _ _ _ _ (by omega) ?_
      have := (dx_len _ _ _ _ _ _ _ (by omega) hx).2 (by omega); omega
    rw [ifn m3]
    by_cases m4 : m = 4
    · rw [ifp m4]; subst m4
      refine obd_tot (ih 5 _ _ _ _ (by omega) (by omega)) fun x hx => ih 9 _ _ _ _ (by omega) ?_
      have := (dx_len _ _ _ _ _ _ _ (by omega) hx).2 (by omega); omega
    rw [ifn m4]
    by_cases m5 : m = 5
    · rw [ifp m5]; subst m5
      by_cases q : (kS (cur l) ≠ 4 ∧ isC l 40 = false ∧ whoK l = none ∧ isW l 6384748 = false) ∨ 40 ≤ u ∨ (isC l 40 = true ∧ 7 ≤ d)
      · rw [ifp q]; exact fun z => by cases z
      · rw [ifn q]
        cases hb : isC l 40 with
        | true =>
          have := tl_lt (isC_2 hb)
          rw [ifp rfl]
          refine obd_tot (ih 0 _ _ _ _ (by omega) (by omega)) fun x hx => ?_
          cases isC x.2.2 41 <;> exact fun z => by cases z
        | false =>
          rw [ifn (by decide)]
          cases whoK l with
          | some p =>
            show (if p < P then _ else _) ≠ none
            by_cases hp : p < P
            · rw [ifp hp]; exact fun z => by cases z
            · rw [ifn hp]; exact fun z => by cases z
          | none =>
            show (if isW l 6384748 = true then _ else _) ≠ none
            cases isW l 6384748 <;> exact fun z => by cases z
    rw [ifn m5]
    have hr1 : rkM m = 1 := by unfold rkM; rw [ifn (by omega)]
    by_cases m6 : m = 6
    · rw [ifp m6]
      cases hb : isW l 28530 with
      | true =>
        rw [ifp rfl]
        have := tl_lt (isW_2 hb)
        refine obd_tot (ih 1 _ _ _ _ (by omega) (by omega)) fun x hx => ih 6 _ _ _ _ (by omega) ?_
        have := (dx_len _ _ _ _ _ _ _ (by omega) hx).1; omega
      | false => rw [ifn (by decide)]; exact fun z => by cases z
    rw [ifn m6]
    by_cases m7 : m = 7
    · rw [ifp m7]
      cases hb : isW l 6385252 with
      | true =>
        rw [ifp rfl]
        have := tl_lt (isW_2 hb)
        refine obd_tot (ih 2 _ _ _ _ (by omega) (by omega)) fun x hx => ih 7 _ _ _ _ (by omega) ?_
        have := (dx_len _ _ _ _ _ _ _ (by omega) hx).1; omega
      | false => rw [ifn (by decide)]; exact fun z => by cases z
    rw [ifn m7]
    by_cases m8 : m = 8
    · rw [ifp m8]
      cases hb : addC l with
      | true =>
        rw [ifp rfl]
        have h2 : 2 ≤ kS (cur l) := by
          rcases addC_or hb with z | z
          · exact isC_2 z
          · exact isC_2 z
        have := tl_lt h2
        refine obd_tot (ih 4 _ _ _ _ (by omega) (by omega)) fun x hx => ih 8 _ _ _ _ (by omega) ?_
        have := (dx_len _ _ _ _ _ _ _ (by omega) hx).1; omega
      | false => rw [ifn (by decide)]; exact fun z => by cases z
    rw [ifn m8]
    cases hb : isC l 42 with
    | true =>
      rw [ifp rfl]
      have := tl_lt (isC_2 hb)
      refine obd_tot (ih 5 _ _ _ _ (by omega) (by omega)) fun x hx => ih 9 _ _ _ _ (by omega) ?_
      have := (dx_len _ _ _ _ _ _ _ (by omega) hx).1; omega
    | false => rw [ifn (by decide)]; exact fun z => by cases z
