set_option maxRecDepth 100000
/-! what is asked is well formed -/
def tkO (l : List Tk) : Prop := ∀ k ∈ l, kS k = 4 → kV k ≤ 9999
def lfO (q : Nat × Nat) : Prop := q.1 < 127 ∧ (q.1 = 110 → q.2 ≤ 9999) ∧ (97 ≤ q.1 → q.1 ≤ 122 → q.1 ≠ 110 → q.1 ≠ 97 → q.2 < 3)
theorem tkO.tl {l : List Tk} (h : tkO l) : tkO l.tail := fun k hk => h k (List.mem_of_mem_tail hk)
theorem hgc_app (a b : Cd) (h : Nat) : hgc (a ++ b) h = (hgc a h).bind (hgc b) := by
  induction a generalizing h with
  | nil => rfl
  | cons q a ih =>
    rw [List.cons_append, hgc, hgc]
    cases hg1 q h with
    | none => rfl
    | some k => exact ih k
/-- one value more -/
def oneV (d u u' : Nat) (x : Cd) : Prop := u < u' ∧ u' ≤ 40 ∧ x.length + 1 ≤ (9 - d) * (u' - u) ∧ (∀ h, h + (u' - u) ≤ 69 → hgc x h = some (h + 1)) ∧ ∀ q ∈ x, lfO q
/-- a value stays one -/
def sameV (d u u' : Nat) (z : Cd) : Prop := u ≤ u' ∧ u' ≤ 40 ∧ z.length ≤ (9 - d) * (u' - u) ∧ (∀ h, h + 1 + (u' - u) ≤ 69 → hgc z (h + 1) = some (h + 1)) ∧ ∀ q ∈ z, lfO q
theorem oneV.same {d u u' u'' : Nat} {x z : Cd} (h : oneV d u u' x) (h2 : sameV d u' u'' z) : oneV d u u'' (x ++ z) := by
  obtain ⟨a1, a2, a3, a4, a5⟩ := h
  obtain ⟨b1, b2, b3, b4, b5⟩ := h2
  refine ⟨by omega, b2, ?_, fun k hk => ?_, fun q hq => ?_⟩
  · have : (9 - d) * (u'' - u) = (9 - d) * (u' - u) + (9 - d) * (u'' - u') := by rw [← Nat.mul_add]; congr 1; omega
    rw [List.length_append, this]; omega
  · rw [hgc_app, a4 k (by omega)]
    exact b4 k (by omega)
  · rcases List.mem_append.mp hq with z | z
    · exact a5 q z
    · exact b5 q z
theorem sameV.op {d u u' u'' : Nat} {y z : Cd} {s : Nat} (h : oneV d u u' y) (hs : s < 97 ∨ (122 < s ∧ s < 126)) (h2 : sameV d u' u'' z) : sameV d u u'' (y ++ [(s, 0)] ++ z) := by
  obtain ⟨a1, a2, a3, a4, a5⟩ := h
  obtain ⟨b1, b2, b3, b4, b5⟩ := h2
  refine ⟨by omega, b2, ?_, fun k hk => ?_, fun q hq => ?_⟩
  · have : (9 - d) * (u'' - u) = (9 - d) * (u' - u) + (9 - d) * (u'' - u') := by rw [← Nat.mul_add]; congr 1; omega
    rw [List.length_append, List.length_append, this]
    have : ([(s, 0)] : Cd).length = 1 := rfl
    omega
  · rw [hgc_app, hgc_app, a4 (k + 1) (by omega)]
    have e : hgc [(s, 0)] (k + 1 + 1) = some (k + 1) := by
      show (hg1 (s, 0) (k + 1 + 1)).bind (hgc []) = _
      unfold hg1
      rw [ifn (by show ¬ s = 126; omega), ifn (by show ¬ (97 ≤ s ∧ s ≤ 122); omega), ifp (by omega)]
      rfl
    show (hgc [(s, 0)] (k + 1 + 1)).bind (hgc z) = _
    rw [e]
    exact b4 k (by omega)
  · rcases List.mem_append.mp hq with w | w
    · rcases List.mem_append.mp w with w | w
      · exact a5 q w
      · rw [List.mem_singleton.mp w]
        exact ⟨by show s < 127; omega, fun z => by have : s = 110 := z; omega, fun z1 z2 => by have : 97 ≤ s := z1; have : s ≤ 122 := z2; omega⟩
    · exact b5 q w
theorem sameV.nil {d u : Nat} (h : u ≤ 40) : sameV d u u [] := ⟨Nat.le_refl _, h, by simp, fun h _ => rfl, fun q hq => by cases hq⟩
theorem sg_lt {l : List Tk} : (cmpC l = true → kV (cur l) < 97) ∧ (addC l = true → kV (cur l) < 97) := by
  constructor
  · intro h
    rcases cmpC_or h with h | h | h
    all_goals (have := (of_decide_eq_true h).2; omega)
  · intro h
    rcases addC_or h with h | h
    all_goals (have := (of_decide_eq_true h).2; omega)
theorem dx_ok {P : Nat} (hP : P ≤ 3) : ∀ (f m d : Nat) (ac : Cd) (u : Nat) (l : List Tk) (x : Xr), m ≤ 9 → d ≤ 7 → u ≤ 40 → tkO l → dx P f m d ac u l = some (.inr x) → tkO x.2.2 ∧ (m ≤ 5 → oneV d u x.2.1 x.1) ∧ (5 < m → ∃ z, x.1 = ac ++ z ∧ sameV d u x.2.1 z) := by
  intro f
  induction f with
  | zero => intro m d ac u l x _ _ _ _ h; cases h
  | succ f ih =>
    intro m d ac u l x hm hd hu hl h
    rw [dx] at h
    have two : ∀ {m' m'' : Nat}, m' ≤ 5 → 5 < m'' → m'' ≤ 9 → (obd (dx P f m' d [] u l) fun x => dx P f m'' d x.1 x.2.1 x.2.2) = some (.inr x) → tkO x.2.2 ∧ oneV d u x.2.1 x.1 := by
      intro m' m'' h1 h2 h3 h
      rcases obd_some h with ⟨e, -, z⟩ | ⟨y, e1, e2⟩
      · cases z
      · obtain ⟨i1, i2, -⟩ := ih _ _ _ _ _ _ (by omega) hd hu hl e1
        have o1 := i2 h1
        obtain ⟨j1, -, j2⟩ := ih _ _ _ _ _ _ h3 hd o1.2.1 i1 e2
        obtain ⟨z, ez, o2⟩ := j2 h2
        rw [ez]
        exact ⟨j1, o1.same o2⟩
    by_cases m0 : m = 0
    · rw [ifp m0] at h
      have := two (m' := 1) (m'' := 6) (by omega) (by omega) (by omega) h
      exact ⟨this.1, fun _ => this.2, by omega⟩
    rw [ifn m0] at h
    by_cases m1 : m = 1
    · rw [ifp m1] at h
      have := two (m' := 2) (m'' := 7) (by omega) (by omega) (by omega) h
      exact ⟨this.1, fun _ => this.2, by omega⟩
    rw [ifn m1] at h
    by_cases m2 : m = 2
    · rw [ifp m2] at h
      cases hn : isW l 7237492 with
      | true =>
        rw [ifp hn] at h
        by_cases hd7 : 7 ≤ d
        · rw [ifp hd7] at h; cases h
        · rw [ifn hd7] at h
          rcases obd_some h with ⟨e, -, z⟩ | ⟨y, h1, h2⟩
          · cases z
          · obtain ⟨i1, i2, -⟩ := ih _ _ _ _ _ _ (by omega) (by omega) hu hl.tl h1
            obtain ⟨a1, a2, a3, a4, a5⟩ := i2 (by omega)
            cases h2
            refine ⟨i1, fun _ => ⟨a1, a2, ?_, fun k hk => ?_, fun q hq => ?_⟩, by omega⟩
            · show (y.1 ++ [(126, 0)]).length + 1 ≤ (9 - d) * (y.2.1 - u)
              have e9 : 9 - d = 9 - (d + 1) + 1 := by omega
              rw [List.length_append, e9, Nat.add_mul, Nat.one_mul]
              have : ([(126, 0)] : Cd).length = 1 := rfl
              omega
            · show hgc (y.1 ++ [(126, 0)]) k = some (k + 1)
              rw [hgc_app, a4 k hk]
              show (hg1 (126, 0) (k + 1)).bind (hgc []) = _
              unfold hg1
              rw [ifp rfl, ifp (by omega)]; rfl
            · rcases List.mem_append.mp hq with w | w
              · exact a5 q w
              · rw [List.mem_singleton.mp w]
                exact ⟨by decide, by decide, by decide⟩
      | false =>
        rw [ifn (by rw [hn]; decide)] at h
        rcases obd_some h with ⟨e, -, z⟩ | ⟨y, h1, h2⟩
        · cases z
        · obtain ⟨i1, i2, -⟩ := ih _ _ _ _ _ _ (by omega) hd hu hl h1
          have o1 := i2 (by omega)
          cases hc : cmpC y.2.2 with
          | true =>
            rw [ifp hc] at h2
            rcases obd_some h2 with ⟨e, -, z⟩ | ⟨w, h3, h4⟩
            · cases z
            · obtain ⟨j1, j2, -⟩ := ih _ _ _ _ _ _ (by omega) hd o1.2.1 i1.tl h3
              have o2 := j2 (by omega)
              cases h4
              refine ⟨j1, fun _ => ?_, by omega⟩
              have o3 := o1.same (sameV.op o2 (s := kV (cur y.2.2)) (Or.inl (sg_lt.1 hc)) (sameV.nil (d := d) o2.2.1))
              show oneV d u w.2.1 (y.1 ++ w.1 ++ [(kV (cur y.2.2), 0)])
              rw [List.append_nil, ← List.append_assoc] at o3; exact o3
          | false =>
            rw [ifn (by rw [hc]; decide)] at h2
            cases h2
            exact ⟨i1, fun _ => o1, by omega⟩
    rw [ifn m2] at h
    by_cases m3 : m = 3
    · rw [ifp m3] at h
      have := two (m' := 4) (m'' := 8) (by omega) (by omega) (by omega) h
      exact ⟨this.1, fun _ => this.2, by omega⟩
    rw [ifn m3] at h
    by_cases m4 : m = 4
    · rw [ifp m4] at h
      have := two (m' := 5) (m'' := 9) (by omega) (by omega) (by omega) h
      exact ⟨this.1, fun _ => this.2, by omega⟩
    rw [ifn m4] at h
    by_cases m5 : m = 5
    · rw [ifp m5] at h
      by_cases q : (kS (cur l) ≠ 4 ∧ isC l 40 = false ∧ whoK l = none ∧ isW l 6384748 = false) ∨ 40 ≤ u ∨ (isC l 40 = true ∧ 7 ≤ d)
      · rw [ifp q] at h; cases h
      · rw [ifn q] at h
        have hu2 : u + 1 ≤ 40 := by
          apply Classical.byContradiction
          intro z
          exact q (Or.inr (Or.inl (by omega)))
        have leaf : ∀ c n, 97 ≤ c → c ≤ 122 → lfO (c, n) → oneV d u (u + 1) [(c, n)] := by
          intro c n hc1 hc2 hl
          refine ⟨by omega, hu2, ?_, fun k hk => ?_, fun q hq => by rw [List.mem_singleton.mp hq]; exact hl⟩
          · rw [show u + 1 - u = 1 from by omega, Nat.mul_one]
            have : ([(c, n)] : Cd).length = 1 := rfl
            omega
          · show (hg1 (c, n) k).bind (hgc []) = _
            unfold hg1
            rw [ifn (by show ¬ c = 126; omega), ifp ⟨hc1, hc2⟩, ifp (by omega)]
            rfl
        cases hb : isC l 40 with
        | true =>
          rw [ifp hb] at h
          have hd6 : d < 7 := by
            apply Classical.byContradiction
            intro z
            exact q (Or.inr (Or.inr ⟨hb, by omega⟩))
          rcases obd_some h with ⟨e, -, z⟩ | ⟨y, h1, h3⟩
          · cases z
          · obtain ⟨i1, i2, -⟩ := ih _ _ _ _ _ _ (by omega) (by omega) hu2 hl.tl h1
            obtain ⟨a1, a2, a3, a4, a5⟩ := i2 (by omega)
            cases hc : isC y.2.2 41 with
            | true =>
              rw [ifp hc] at h3
              cases h3
              refine ⟨i1.tl, fun _ => ⟨by show u < y.2.1; omega, a2, ?_, fun k hk => a4 k (by have : k + (y.2.1 - u) ≤ 69 := hk; omega), a5⟩, by omega⟩
              show y.1.length + 1 ≤ (9 - d) * (y.2.1 - u)
              refine Nat.le_trans a3 (Nat.mul_le_mul (by omega) (by omega))
            | false => rw [ifn (by rw [hc]; decide)] at h3; cases h3
        | false =>
          rw [ifn (by rw [hb]; decide)] at h
          cases hw : whoK l with
          | some p =>
            rw [hw] at h
            have h' : (if p < P then some (.inr ([(112, p)], u + 1, l.tail)) else some (.inl (4, kP (cur l)))) = some (.inr x : Rs Xr) := h
            by_cases hp : p < P
            · rw [ifp hp] at h'; cases h'
              exact ⟨hl.tl, fun _ => leaf 112 p (by omega) (by omega) ⟨by show 112 < 127; omega, (fun z => by cases z), fun _ _ _ _ => by show p < 3; omega⟩, by omega⟩
            · rw [ifn hp] at h'; cases h'
          | none =>
            rw [hw] at h
            have h' : (if isW l 6384748 = true then some (.inr ([(97, 0)], u + 1, l.tail)) else some (.inr ([(110, kV (cur l))], u + 1, l.tail))) = some (.inr x : Rs Xr) := h
            cases ha : isW l 6384748 with
            | true =>
              rw [ifp ha] at h'; cases h'
              exact ⟨hl.tl, fun _ => leaf 97 0 (by omega) (by omega) ⟨by show 97 < 127; omega, (fun z => by cases z), fun _ _ _ z => absurd rfl z⟩, by omega⟩
            | false =>
              rw [ifn (by rw [ha]; decide)] at h'; cases h'
              have hs4 : kS (cur l) = 4 := by
                apply Classical.byContradiction
                intro z
                exact q (Or.inl ⟨z, hb, hw, ha⟩)
              have hmem : cur l ∈ l := by
                cases l with
                | nil => simp [cur, kS] at hs4
                | cons a l => exact List.mem_cons_self
              exact ⟨hl.tl, fun _ => leaf 110 _ (by omega) (by omega) ⟨by show 110 < 127; omega, fun _ => hl _ hmem hs4, fun _ _ z => absurd rfl z⟩, by omega⟩
    rw [ifn m5] at h
    have loop : ∀ {m' m'' s : Nat}, m' ≤ 5 → 5 < m'' → m'' ≤ 9 → (s < 97 ∨ (122 < s ∧ s < 126)) → (obd (dx P f m' d [] u l.tail) fun y => dx P f m'' d (ac ++ y.1 ++ [(s, 0)]) y.2.1 y.2.2) = some (.inr x) → tkO x.2.2 ∧ ∃ z, x.1 = ac ++ z ∧ sameV d u x.2.1 z := by
      intro m' m'' s h1 h2 h3 hs h
      rcases obd_some h with ⟨e, -, z⟩ | ⟨y, e1, e2⟩
      · cases z
      · obtain ⟨i1, i2, -⟩ := ih _ _ _ _ _ _ (by omega) hd hu hl.tl e1
        have o1 := i2 h1
        obtain ⟨j1, -, j2⟩ := ih _ _ _ _ _ _ h3 hd o1.2.1 i1 e2
        obtain ⟨z, ez, o2⟩ := j2 h2
        refine ⟨j1, y.1 ++ [(s, 0)] ++ z, ?_, sameV.op o1 hs o2⟩
        rw [ez]; simp
    have stop : x = (ac, u, l) → tkO x.2.2 ∧ ∃ z, x.1 = ac ++ z ∧ sameV d u x.2.1 z := by
      rintro rfl
      exact ⟨hl, [], by simp, sameV.nil hu⟩
    have wrap : (tkO x.2.2 ∧ ∃ z, x.1 = ac ++ z ∧ sameV d u x.2.1 z) → tkO x.2.2 ∧ (m ≤ 5 → oneV d u x.2.1 x.1) ∧ (5 < m → ∃ z, x.1 = ac ++ z ∧ sameV d u x.2.1 z) := fun z => ⟨z.1, by omega, fun _ => z.2⟩
    apply wrap
    by_cases m6 : m = 6
    · rw [ifp m6] at h
      cases hb : isW l 28530 with
      | true => rw [ifp hb] at h; exact loop (m' := 1) (m'' := 6) (by omega) (by omega) (by omega) (by omega) h
      | false => rw [ifn (by rw [hb]; decide)] at h; exact stop (by cases h; rfl)
    rw [ifn m6] at h
    by_cases m7 : m = 7
    · rw [ifp m7] at h
      cases hb : isW l 6385252 with
      | true => rw [ifp hb] at h; exact loop (m' := 2) (m'' := 7) (by omega) (by omega) (by omega) (by omega) h
      | false => rw [ifn (by rw [hb]; decide)] at h; exact stop (by cases h; rfl)
    rw [ifn m7] at h
    by_cases m8 : m = 8
    · rw [ifp m8] at h
      cases hb : addC l with
      | true => rw [ifp hb] at h; exact loop (m' := 4) (m'' := 8) (by omega) (by omega) (by omega) (Or.inl (sg_lt.2 hb)) h
      | false => rw [ifn (by rw [hb]; decide)] at h; exact stop (by cases h; rfl)
    rw [ifn m8] at h
    cases hb : isC l 42 with
    | true => rw [ifp hb] at h; exact loop (m' := 5) (m'' := 9) (by omega) (by omega) (by omega) (by omega) h
    | false => rw [ifn (by rw [hb]; decide)] at h; exact stop (by cases h; rfl)
theorem dx_okC {P f u : Nat} {l : List Tk} {x : Xr} (hP : P ≤ 3) (hu : u ≤ 40) (hl : tkO l) (h : dx P f 0 0 [] u l = some (.inr x)) : okC x.1 ∧ x.2.1 ≤ 40 ∧ tkO x.2.2 := by
  obtain ⟨a, b, -⟩ := dx_ok hP f 0 0 [] u l x (by omega) (by omega) hu hl h
  obtain ⟨b1, b2, b3, b4, b5⟩ := b (by omega)
  refine ⟨⟨b4 0 (by omega), ?_, b5⟩, b2, a⟩
  have : (9 - 0) * (x.2.1 - u) ≤ 9 * 40 := Nat.mul_le_mul (by omega) (by omega)
  omega
