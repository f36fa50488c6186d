set_option maxRecDepth 100000
/-! THE MACHINE: what is asked, read with a pile -/
/-- pile, code, units, within, tokens -/
abbrev Cf : Type := List (Nat × Nat) × Cd × Nat × Nat × List Tk
def rnk (l : List Tk) : Nat := if isW l 6385252 then 2 else if isW l 28530 then 1 else if cmpC l then 4 else if addC l then 5 else if isC l 42 then 6 else 0
def isCm : List (Nat × Nat) → Bool
  | [] => false
  | a :: s => if a.1 = 5 ∨ a.1 = 6 then isCm s else decide (a.1 = 4)
def rdc (r : Nat) : List (Nat × Nat) → Cd → Nat → List (Nat × Nat) × Cd × Nat
  | [], c, w => ([], c, w)
  | a :: s, c, w => if a.1 ≤ 6 ∧ r ≤ a.1 then rdc r s (c ++ [(a.2, 0)]) (if a.1 = 3 then w - 1 else w) else (a :: s, c, w)
def sgn (l : List Tk) : Nat := if rnk l = 2 then 38 else if rnk l = 1 then 124 else kV (cur l)
def bh2 (st : List (Nat × Nat)) (c : Cd) (u w : Nat) (l : List Tk) : Rs (Bool × Cf) :=
  if 0 < rnk l then .inr (true, ((rnk l, sgn l) :: st, c, u, w, l.tail))
  else match st with
    | [] => .inr (false, ([], c, u, w, l))
    | a :: s => if a.1 = 7 then rbd (pMust (isC l 41) l) fun l' => .inr (false, (s, c, u, w - 1, l')) else .inr (false, (s, c, u, w, l))
def bhu (st : List (Nat × Nat)) (c : Cd) (u w : Nat) (l : List Tk) : Rs (Bool × Cf) :=
  if rnk l = 4 ∧ isCm st = true then .inl (errT l) else bh2 (rdc (rnk l) st c w).1 (rdc (rnk l) st c w).2.1 u (rdc (rnk l) st c w).2.2 l
def topS (st : List (Nat × Nat)) : Nat := (st.headD (0, 0)).1
def notS (st : List (Nat × Nat)) (l : List Tk) : Bool := decide (topS st ≤ 3 ∨ 7 ≤ topS st) && isW l 7237492
def leafS (l : List Tk) : Nat × Nat := match whoK l with
  | some p => (112, p)
  | none => if isW l 6384748 then (97, 0) else (110, kV (cur l))
def unt (P : Nat) (st : List (Nat × Nat)) (c : Cd) (u w : Nat) (l : List Tk) : Rs (Bool × Cf) :=
  if (notS st l = false ∧ ((kS (cur l) ≠ 4 ∧ isC l 40 = false ∧ whoK l = none ∧ isW l 6384748 = false) ∨ 40 ≤ u)) ∨ ((notS st l = true ∨ isC l 40 = true) ∧ 7 ≤ w) then .inl (errT l)
  else if ∃ p, whoK l = some p ∧ P ≤ p then .inl (4, kP (cur l))
  else if notS st l = true then .inr (true, ((3, 126) :: st, c, u, w + 1, l.tail))
  else if isC l 40 = true then .inr (true, ((7, 126) :: st, c, u + 1, w + 1, l.tail))
  else .inr (false, (st, c ++ [leafS l], u + 1, w, l.tail))
def stpE (P : Nat) (b : Bool) (cf : Cf) : Rs (Bool × Cf) := if b = true then unt P cf.1 cf.2.1 cf.2.2.1 cf.2.2.2.1 cf.2.2.2.2 else bhu cf.1 cf.2.1 cf.2.2.1 cf.2.2.2.1 cf.2.2.2.2
def shr (P : Nat) : Nat → Bool → Cf → Option (Rs Cf)
  | 0, _, _ => none
  | f + 1, b, cf => if cf.1 = [] then some (.inr cf) else match stpE P b cf with
    | .inl e => some (.inl e)
    | .inr q => shr P f q.1 q.2
def SH (P : Nat) (b : Bool) (cf : Cf) (r : Rs Cf) : Prop := ∃ g, shr P g b cf = some r
theorem SH.stp {P : Nat} {b b' : Bool} {cf cf' : Cf} {r : Rs Cf} (h : stpE P b cf = .inr (b', cf')) (hn : cf.1 ≠ []) (h2 : SH P b' cf' r) : SH P b cf r := by
  obtain ⟨g, e⟩ := h2
  refine ⟨g + 1, ?_⟩
  rw [shr, ifn hn, h]; exact e
theorem SH.err {P : Nat} {b : Bool} {cf : Cf} {e : Er} (h : stpE P b cf = .inl e) (hn : cf.1 ≠ []) : SH P b cf (.inl e) := by
  refine ⟨1, ?_⟩
  rw [shr, ifn hn, h]
theorem SH.eq {P : Nat} {b : Bool} {cf cf' : Cf} {r : Rs Cf} (h : stpE P b cf = stpE P b cf') (hn : cf.1 ≠ []) (hn' : cf'.1 ≠ []) (h2 : SH P b cf' r) : SH P b cf r := by
  obtain ⟨g, e⟩ := h2
  refine ⟨g, ?_⟩
  cases g with
  | zero => cases e
  | succ g => rw [shr, ifn hn', ← h] at e; rw [shr, ifn hn]; exact e
/-- ranks -/
theorem isC_un {l : List Tk} {c d : Nat} (h : isC l c = true) (hd : c ≠ d) : isC l d = false := by
  have h1 := of_decide_eq_true h
  exact decide_eq_false fun z => hd (h1.2.symm.trans z.2)
theorem isWC {l : List Tk} {w c : Nat} (h : isW l w = true) : isC l c = false := by
  have h1 := of_decide_eq_true h
  exact decide_eq_false fun z => by have := z.1; have := h1.1; omega
theorem isW_un {l : List Tk} {c d : Nat} (h : isW l c = true) (hd : c ≠ d) : isW l d = false := by
  have h1 := of_decide_eq_true h
  exact decide_eq_false fun z => hd (h1.2.symm.trans z.2)
theorem isCW {l : List Tk} {w c : Nat} (h : isC l c = true) : isW l w = false := by
  have h1 := of_decide_eq_true h
  exact decide_eq_false fun z => by have := z.1; have := h1.1; omega
theorem isW_cmp {l : List Tk} {w : Nat} (h : isW l w = true) : cmpC l = false ∧ addC l = false := by
  unfold cmpC addC
  rw [isWC h, isWC h, isWC h, isWC h, isWC h]; exact ⟨rfl, rfl⟩
theorem cmpC_or {l : List Tk} (h : cmpC l = true) : isC l 60 = true ∨ isC l 62 = true ∨ isC l 61 = true := by
  unfold cmpC at h
  rw [Bool.or_eq_true, Bool.or_eq_true] at h
  rcases h with (h | h) | h
  · exact Or.inl h
  · exact Or.inr (Or.inl h)
  · exact Or.inr (Or.inr h)
theorem addC_or {l : List Tk} (h : addC l = true) : isC l 43 = true ∨ isC l 45 = true := by
  unfold addC at h
  rwa [Bool.or_eq_true] at h
theorem cmpC_x {l : List Tk} (h : cmpC l = true) : (∀ w, isW l w = false) ∧ addC l = false ∧ isC l 42 = false ∧ isC l 41 = false ∧ isC l 59 = false := by
  rcases cmpC_or h with h | h | h
  all_goals
    refine ⟨fun w => isCW h, ?_, isC_un h (by decide), isC_un h (by decide), isC_un h (by decide)⟩
    unfold addC
    rw [isC_un h (by decide), isC_un h (by decide)]; rfl
theorem addC_x {l : List Tk} (h : addC l = true) : (∀ w, isW l w = false) ∧ cmpC l = false ∧ isC l 42 = false := by
  rcases addC_or h with h | h
  all_goals
    refine ⟨fun w => isCW h, ?_, isC_un h (by decide)⟩
    unfold cmpC
    rw [isC_un h (by decide), isC_un h (by decide), isC_un h (by decide)]; rfl
theorem starC_x {l : List Tk} (h : isC l 42 = true) : (∀ w, isW l w = false) ∧ cmpC l = false ∧ addC l = false := by
  refine ⟨fun w => isCW h, ?_, ?_⟩
  · unfold cmpC; rw [isC_un h (by decide), isC_un h (by decide), isC_un h (by decide)]; rfl
  · unfold addC; rw [isC_un h (by decide), isC_un h (by decide)]; rfl
theorem rnk_and {l : List Tk} (h : isW l 6385252 = true) : rnk l = 2 := by unfold rnk; rw [ifp h]
theorem rnk_or {l : List Tk} (h : isW l 28530 = true) : rnk l = 1 := by unfold rnk; rw [ifn (by rw [isW_un h (by decide)]; decide), ifp h]
theorem rnk_cmp {l : List Tk} (h : cmpC l = true) : rnk l = 4 := by
  unfold rnk; rw [ifn (by rw [(cmpC_x h).1]; decide), ifn (by rw [(cmpC_x h).1]; decide), ifp h]
theorem rnk_add {l : List Tk} (h : addC l = true) : rnk l = 5 := by
  unfold rnk; rw [ifn (by rw [(addC_x h).1]; decide), ifn (by rw [(addC_x h).1]; decide), ifn (by rw [(addC_x h).2.1]; decide), ifp h]
theorem rnk_star {l : List Tk} (h : isC l 42 = true) : rnk l = 6 := by
  unfold rnk; rw [ifn (by rw [(starC_x h).1]; decide), ifn (by rw [(starC_x h).1]; decide), ifn (by rw [(starC_x h).2.1]; decide), ifn (by rw [(starC_x h).2.2]; decide), ifp h]
theorem rnk_le {l : List Tk} : rnk l ≤ 6 ∧ (isC l 42 = false → rnk l ≤ 5) ∧ (isC l 42 = false → addC l = false → rnk l ≤ 4) ∧ (isC l 42 = false → addC l = false → cmpC l = false → rnk l ≤ 2) ∧ (isC l 42 = false → addC l = false → cmpC l = false → isW l 6385252 = false → rnk l ≤ 1) ∧ (isC l 42 = false → addC l = false → cmpC l = false → isW l 6385252 = false → isW l 28530 = false → rnk l = 0) ∧ (rnk l = 4 → cmpC l = true) := by
  unfold rnk
  repeat' split
  all_goals simp_all
/-- a sign on the pile is taken off ahead of one that binds less -/
theorem bhu_pop {a : Nat × Nat} {st : List (Nat × Nat)} {c : Cd} {u w : Nat} {l : List Tk} (h6 : a.1 ≤ 6) (hr : rnk l ≤ a.1) (hc : rnk l = 4 → a.1 = 5 ∨ a.1 = 6) : bhu (a :: st) c u w l = bhu st (c ++ [(a.2, 0)]) u (if a.1 = 3 then w - 1 else w) l := by
  have hred : rdc (rnk l) (a :: st) c w = rdc (rnk l) st (c ++ [(a.2, 0)]) (if a.1 = 3 then w - 1 else w) := by rw [rdc, ifp ⟨h6, hr⟩]
  unfold bhu
  rw [hred]
  by_cases q : rnk l = 4
  · have : isCm (a :: st) = isCm st := by rw [isCm, ifp (hc q)]
    rw [this]
  · rw [ifn (c := rnk l = 4 ∧ isCm (a :: st) = true) (fun z => q z.1), ifn (c := rnk l = 4 ∧ isCm st = true) (fun z => q z.1)]
theorem SH.pop {P : Nat} {a : Nat × Nat} {st : List (Nat × Nat)} {c : Cd} {u w : Nat} {l : List Tk} {r : Rs Cf} (h6 : a.1 ≤ 6) (hr : rnk l ≤ a.1) (hc : rnk l = 4 → a.1 = 5 ∨ a.1 = 6) (hn : st ≠ []) (h : SH P false (st, c ++ [(a.2, 0)], u, (if a.1 = 3 then w - 1 else w), l) r) : SH P false (a :: st, c, u, w, l) r :=
  SH.eq (cf := (a :: st, c, u, w, l)) (cf' := (st, c ++ [(a.2, 0)], u, (if a.1 = 3 then w - 1 else w), l)) (show bhu (a :: st) c u w l = bhu st (c ++ [(a.2, 0)]) u (if a.1 = 3 then w - 1 else w) l from bhu_pop h6 hr hc) (List.cons_ne_nil _ _) hn h
/-- a sign comes on the pile -/
theorem SH.push {P : Nat} {st : List (Nat × Nat)} {c : Cd} {u w : Nat} {l : List Tk} {r : Rs Cf} (h0 : 0 < rnk l) (hn : st ≠ []) (ht : topS st < rnk l ∨ 6 < topS st) (hc : rnk l = 4 → isCm st = false) (h : SH P true ((rnk l, sgn l) :: st, c, u, w, l.tail) r) : SH P false (st, c, u, w, l) r := by
  refine SH.stp ?_ hn h
  show bhu st c u w l = _
  have hred : rdc (rnk l) st c w = (st, c, w) := by
    cases st with
    | nil => exact absurd rfl hn
    | cons a s =>
      have ht' : a.1 < rnk l ∨ 6 < a.1 := ht
      rw [rdc, ifn (by omega)]
  unfold bhu
  rw [hred, ifn (fun z => by rw [hc z.1] at z; exact absurd z.2 (by decide))]
  unfold bh2
  rw [ifp h0]
theorem obd_some {a : Option (Rs Xr)} {k : Xr → Option (Rs Xr)} {R : Rs Xr} (h : obd a k = some R) : (∃ e, a = some (.inl e) ∧ R = .inl e) ∨ ∃ x, a = some (.inr x) ∧ k x = some R := by
  cases a with
  | none => cases h
  | some a =>
    cases a with
    | inl e => exact Or.inl ⟨e, rfl, by cases h; rfl⟩
    | inr x => exact Or.inr ⟨x, rfl, h⟩
/-- what stands behind what was read -/
def aft (m : Nat) (l : List Tk) : Prop := (m ≠ 5 → isC l 42 = false) ∧ (m ≠ 5 ∧ m ≠ 4 ∧ m ≠ 9 → addC l = false) ∧ (m = 0 ∨ m = 6 ∨ m = 1 ∨ m = 7 → isW l 6385252 = false) ∧ (m = 0 ∨ m = 6 → isW l 28530 = false)
def preL (m : Nat) (l : List Tk) : Prop := (m = 6 → aft 1 l) ∧ (m = 7 → aft 2 l) ∧ (m = 8 → aft 4 l)
theorem pre0 {m : Nat} {l : List Tk} (h : m ≤ 5) : preL m l := ⟨by omega, by omega, by omega⟩
/-- the pile ahead of what is read -/
def cnd (m : Nat) (st : List (Nat × Nat)) (l : List Tk) : Prop := st ≠ [] ∧ (m = 0 ∨ m = 6 → 7 ≤ topS st) ∧ (m = 1 ∨ m = 7 → topS st = 1 ∨ 7 ≤ topS st) ∧ (m = 2 → topS st ≤ 3 ∨ 7 ≤ topS st) ∧ (m = 3 ∨ m = 8 → topS st ≠ 5 ∧ topS st ≠ 6) ∧ (m = 4 ∨ m = 9 → topS st ≠ 6) ∧ (m = 3 ∨ m = 4 ∨ m = 5 → isW l 7237492 = false ∨ (4 ≤ topS st ∧ topS st ≤ 6)) ∧ preL m l
theorem isCm_top {st : List (Nat × Nat)} (h : topS st ≤ 3 ∨ 7 ≤ topS st) : isCm st = false := by
  cases st with
  | nil => rfl
  | cons a s =>
    have h' : a.1 ≤ 3 ∨ 7 ≤ a.1 := h
    rw [isCm, ifn (by omega)]
    exact decide_eq_false (by omega)
def gQ (P m d : Nat) (ac : Cd) (u : Nat) (l : List Tk) (st : List (Nat × Nat)) (c : Cd) (R : Rs Xr) : Prop := match R with
  | .inl e => SH P (decide (m ≤ 5)) (st, c ++ ac, u, d, l) (.inl e)
  | .inr x => aft m x.2.2 ∧ (m ≤ 2 ∨ m = 6 ∨ m = 7 → cmpC x.2.2 = true → (5 < m ∧ x = (ac, u, l)) ∨ SH P (decide (m ≤ 5)) (st, c ++ ac, u, d, l) (.inl (errT x.2.2))) ∧ ((m ≤ 2 ∨ m = 6 ∨ m = 7 → cmpC x.2.2 = false) → ∀ r, SH P false (st, c ++ x.1, x.2.1, d, x.2.2) r → SH P (decide (m ≤ 5)) (st, c ++ ac, u, d, l) r)
theorem dx_shr {P : Nat} (hP : P ≤ 3) : ∀ (f m d : Nat) (ac : Cd) (u : Nat) (l : List Tk) (R : Rs Xr), m ≤ 9 → (m ≤ 5 → ac = []) → dx P f m d ac u l = some R → ∀ st c, cnd m st l → gQ P m d ac u l st c R := by
  intro f
  induction f with
  | zero => intro m d ac u l R _ _ h; cases h
  | succ f ih =>
    intro m d ac u l R hm hac h st c hc
    obtain ⟨c1, c2, c3, c4, c5, c6, c7, c8⟩ := hc
    rw [dx] at h
    by_cases m0 : m = 0
    · subst m0
      rw [ifp rfl] at h
      have := hac (by omega); subst this
      rcases obd_some h with ⟨e, h1, rfl⟩ | ⟨x, h1, h2⟩
      · exact ih 1 d [] u l _ (by omega) (fun _ => rfl) h1 st c ⟨c1, by omega, fun _ => Or.inr (c2 (Or.inl rfl)), by omega, by omega, by omega, by omega, pre0 (by omega)⟩
      · obtain ⟨a1, a2, a3⟩ := ih 1 d [] u l _ (by omega) (fun _ => rfl) h1 st c ⟨c1, by omega, fun _ => Or.inr (c2 (Or.inl rfl)), by omega, by omega, by omega, by omega, pre0 (by omega)⟩
        have g := ih 6 d x.1 x.2.1 x.2.2 R (by omega) (by omega) h2 st c ⟨c1, fun _ => c2 (Or.inl rfl), by omega, by omega, by omega, by omega, by omega, ⟨fun _ => a1, by omega, by omega⟩⟩
        cases hcx : cmpC x.2.2 with
        | true =>
          -- one more comparison: the loop stops at once
          have hR : R = .inr x := by
            cases f with
            | zero => cases h2
            | succ f =>
              rw [dx, ifn (by omega), ifn (by omega), ifn (by omega), ifn (by omega), ifn (by omega), ifn (by omega), ifp rfl, ifn (by rw [(cmpC_x hcx).1]; decide)] at h2
              cases h2; rfl
          subst hR
          refine ⟨⟨fun _ => (cmpC_x hcx).2.2.1, fun _ => (cmpC_x hcx).2.1, fun _ => (cmpC_x hcx).1 _, fun _ => (cmpC_x hcx).1 _⟩, fun _ _ => ?_, fun z => by rw [z (by omega)] at hcx; cases hcx⟩
          rcases a2 (by omega) hcx with y | y
          · omega
          · exact Or.inr y
        | false =>
          have a3' := a3 (fun _ => hcx)
          cases R with
          | inl e => exact a3' _ g
          | inr y =>
            obtain ⟨b1, b2, b3⟩ := g
            refine ⟨⟨fun _ => b1.1 (by omega), fun _ => b1.2.1 (by omega), fun _ => b1.2.2.1 (by omega), fun _ => b1.2.2.2 (by omega)⟩, fun _ hcy => Or.inr ?_, fun hcy r hr => a3' _ (b3 (fun _ => hcy (by omega)) r hr)⟩
            rcases b2 (by omega) hcy with ⟨-, z⟩ | z
            · rw [z] at hcy; exact absurd (hcx.symm.trans hcy) (by decide)
            · exact a3' _ z
    rw [ifn m0] at h
    by_cases m1 : m = 1
    · subst m1
      rw [ifp rfl] at h
      have := hac (by omega); subst this
      have ct : topS st ≤ 3 ∨ 7 ≤ topS st := by have := c3 (Or.inl rfl); omega
      rcases obd_some h with ⟨e, h1, rfl⟩ | ⟨x, h1, h2⟩
      · exact ih 2 d [] u l _ (by omega) (fun _ => rfl) h1 st c ⟨c1, by omega, by omega, fun _ => ct, by omega, by omega, by omega, pre0 (by omega)⟩
      · obtain ⟨a1, a2, a3⟩ := ih 2 d [] u l _ (by omega) (fun _ => rfl) h1 st c ⟨c1, by omega, by omega, fun _ => ct, by omega, by omega, by omega, pre0 (by omega)⟩
        have g := ih 7 d x.1 x.2.1 x.2.2 R (by omega) (by omega) h2 st c ⟨c1, by omega, fun _ => c3 (Or.inl rfl), by omega, by omega, by omega, by omega, ⟨by omega, fun _ => a1, by omega⟩⟩
        cases hcx : cmpC x.2.2 with
        | true =>
          have hR : R = .inr x := by
            cases f with
            | zero => cases h2
            | succ f =>
              rw [dx, ifn (by omega), ifn (by omega), ifn (by omega), ifn (by omega), ifn (by omega), ifn (by omega), ifn (by omega), ifp rfl, ifn (by rw [(cmpC_x hcx).1]; decide)] at h2
              cases h2; rfl
          subst hR
          refine ⟨⟨fun _ => (cmpC_x hcx).2.2.1, fun _ => (cmpC_x hcx).2.1, fun _ => (cmpC_x hcx).1 _, fun _ => (cmpC_x hcx).1 _⟩, fun _ _ => ?_, fun z => by rw [z (by omega)] at hcx; cases hcx⟩
          rcases a2 (by omega) hcx with y | y
          · omega
          · exact Or.inr y
        | false =>
          have a3' := a3 (fun _ => hcx)
          cases R with
          | inl e => exact a3' _ g
          | inr y =>
            obtain ⟨b1, b2, b3⟩ := g
            refine ⟨⟨fun _ => b1.1 (by omega), fun _ => b1.2.1 (by omega), fun _ => b1.2.2.1 (by omega), fun z => by omega⟩, fun _ hcy => Or.inr ?_, fun hcy r hr => a3' _ (b3 (fun _ => hcy (by omega)) r hr)⟩
            rcases b2 (by omega) hcy with ⟨-, z⟩ | z
            · rw [z] at hcy; exact absurd (hcx.symm.trans hcy) (by decide)
            · exact a3' _ z
    rw [ifn m1] at h
    by_cases m2 : m = 2
    · subst m2
      rw [ifp rfl] at h
      have := hac (by omega); subst this
      have ct := c4 rfl
      cases hnot : isW l 7237492 with
      | true =>
        rw [ifp hnot] at h
        have hns : notS st l = true := by unfold notS; rw [hnot, decide_eq_true ct]; rfl
        by_cases hd : 7 ≤ d
        · rw [ifp hd] at h
          cases h
          refine SH.err ?_ c1
          show unt P st (c ++ []) u d l = _
          unfold unt
          rw [ifp (Or.inr ⟨Or.inl hns, hd⟩)]
        · rw [ifn hd] at h
          have hw : whoK l = none := by
            unfold whoK
            rw [isW_un hnot (by decide), isW_un hnot (by decide), isW_un hnot (by decide)]; rfl
          have hunt : ∀ r, SH P true ((3, 126) :: st, c ++ [], u, d + 1, l.tail) r → SH P true (st, c ++ [], u, d, l) r := fun r hr => by
            refine SH.stp ?_ c1 hr
            show unt P st (c ++ []) u d l = _
            unfold unt
            rw [ifn (by
              rintro (⟨z, -⟩ | ⟨-, z⟩)
              · rw [hns] at z; cases z
              · exact hd z), ifn (by rintro ⟨p, z, -⟩; rw [hw] at z; cases z), ifp hns]
          have hcn : cnd 2 ((3, 126) :: st) l.tail := ⟨List.cons_ne_nil _ _, by omega, by omega, fun _ => Or.inl (by show 3 ≤ 3; omega), by omega, by omega, by omega, pre0 (by omega)⟩
          rcases obd_some h with ⟨e, h1, rfl⟩ | ⟨x, h1, h2⟩
          · exact hunt _ (ih 2 (d + 1) [] u l.tail _ (by omega) (fun _ => rfl) h1 _ c hcn)
          · obtain ⟨a1, a2, a3⟩ := ih 2 (d + 1) [] u l.tail _ (by omega) (fun _ => rfl) h1 ((3, 126) :: st) c hcn
            cases h2
            refine ⟨a1, fun _ hcx => ?_, fun hcx r hr => ?_⟩
            · rcases a2 (by omega) hcx with y | y
              · omega
              · exact Or.inr (hunt _ y)
            · have hcx' := hcx (by omega)
              refine hunt _ (a3 (fun _ => hcx') r ?_)
              have hrk : rnk x.2.2 ≤ 2 := rnk_le.2.2.2.1 (a1.1 (by omega)) (a1.2.1 (by omega)) hcx'
              refine SH.pop (by show 3 ≤ 6; omega) (by show rnk x.2.2 ≤ 3; omega) (by omega) c1 ?_
              rw [List.append_assoc]; exact hr
      | false =>
        rw [ifn (by rw [hnot]; decide)] at h
        have hcn : cnd 3 st l := ⟨c1, by omega, by omega, by omega, fun _ => by omega, by omega, fun _ => Or.inl hnot, pre0 (by omega)⟩
        rcases obd_some h with ⟨e, h1, rfl⟩ | ⟨x, h1, h2⟩
        · exact ih 3 d [] u l _ (by omega) (fun _ => rfl) h1 st c hcn
        · obtain ⟨a1, -, a3⟩ := ih 3 d [] u l _ (by omega) (fun _ => rfl) h1 st c hcn
          have a3' := a3 (by omega)
          cases hcx : cmpC x.2.2 with
          | false =>
            rw [ifn (by rw [hcx]; decide)] at h2
            cases h2
            exact ⟨⟨fun _ => a1.1 (by omega), fun _ => a1.2.1 (by omega), by omega, by omega⟩, fun _ z => (by rw [hcx] at z; cases z), fun _ r hr => a3' r hr⟩
          | true =>
            rw [ifp hcx] at h2
            have hrk := rnk_cmp hcx
            have hsg : sgn x.2.2 = kV (cur x.2.2) := by unfold sgn; rw [hrk]; rfl
            have hpush : ∀ r, SH P true ((4, kV (cur x.2.2)) :: st, c ++ x.1, x.2.1, d, x.2.2.tail) r → SH P true (st, c ++ [], u, d, l) r := fun r hr => by
              refine a3' r (SH.push (by omega) c1 (by omega) (fun _ => isCm_top ct) ?_)
              rw [hrk, hsg]; exact hr
            have hcn2 : cnd 3 ((4, kV (cur x.2.2)) :: st) x.2.2.tail := ⟨List.cons_ne_nil _ _, by omega, by omega, by omega, fun _ => ⟨by show (4 : Nat) ≠ 5; omega, by show (4 : Nat) ≠ 6; omega⟩, by omega, fun _ => Or.inr ⟨by show 4 ≤ 4; omega, by show 4 ≤ 6; omega⟩, pre0 (by omega)⟩
            rcases obd_some h2 with ⟨e, h3, rfl⟩ | ⟨y, h3, h4⟩
            · have := ih 3 d [] x.2.1 x.2.2.tail _ (by omega) (fun _ => rfl) h3 ((4, kV (cur x.2.2)) :: st) (c ++ x.1) hcn2
              have t : SH P true ((4, kV (cur x.2.2)) :: st, c ++ x.1 ++ [], x.2.1, d, x.2.2.tail) (.inl e) := this
              rw [List.append_nil] at t
              exact hpush _ t
            · obtain ⟨b1, -, b3⟩ := ih 3 d [] x.2.1 x.2.2.tail _ (by omega) (fun _ => rfl) h3 ((4, kV (cur x.2.2)) :: st) (c ++ x.1) hcn2
              cases h4
              have b3' : ∀ r, SH P false ((4, kV (cur x.2.2)) :: st, c ++ x.1 ++ y.1, y.2.1, d, y.2.2) r → SH P true (st, c ++ [], u, d, l) r := fun r hr => by
                refine hpush r ?_
                have t : SH P true ((4, kV (cur x.2.2)) :: st, c ++ x.1 ++ [], x.2.1, d, x.2.2.tail) r := b3 (by omega) r hr
                rw [List.append_nil] at t; exact t
              refine ⟨⟨fun _ => b1.1 (by omega), fun _ => b1.2.1 (by omega), by omega, by omega⟩, fun _ hcy => Or.inr (b3' _ ?_), fun hcy r hr => b3' r ?_⟩
              · refine SH.err ?_ (List.cons_ne_nil _ _)
                show bhu ((4, kV (cur x.2.2)) :: st) (c ++ x.1 ++ y.1) y.2.1 d y.2.2 = _
                unfold bhu
                have hcc : isCm ((4, kV (cur x.2.2)) :: st) = true := by rw [isCm, ifn (by show ¬ (4 = 5 ∨ 4 = 6); omega)]; exact decide_eq_true rfl
                rw [ifp ⟨rnk_cmp hcy, hcc⟩]
              · have hcy' := hcy (by omega)
                have hrk2 : rnk y.2.2 ≤ 2 := rnk_le.2.2.2.1 (b1.1 (by omega)) (b1.2.1 (by omega)) hcy'
                refine SH.pop (by show 4 ≤ 6; omega) (by show rnk y.2.2 ≤ 4; omega) (by omega) c1 ?_
                have e : c ++ x.1 ++ y.1 ++ [(kV (cur x.2.2), 0)] = c ++ (x.1 ++ y.1 ++ [(kV (cur x.2.2), 0)]) := by simp
                show SH P false (st, c ++ x.1 ++ y.1 ++ [(kV (cur x.2.2), 0)], y.2.1, d, y.2.2) r
                rw [e]; exact hr
    rw [ifn m2] at h
    by_cases m3 : m = 3
    · subst m3
      rw [ifp rfl] at h
      have := hac (by omega); subst this
      have hcn : cnd 4 st l := ⟨c1, by omega, by omega, by omega, by omega, fun _ => (c5 (Or.inl rfl)).2, fun _ => c7 (by omega), pre0 (by omega)⟩
      rcases obd_some h with ⟨e, h1, rfl⟩ | ⟨x, h1, h2⟩
      · exact ih 4 d [] u l _ (by omega) (fun _ => rfl) h1 st c hcn
      · obtain ⟨a1, -, a3⟩ := ih 4 d [] u l _ (by omega) (fun _ => rfl) h1 st c hcn
        have a3' := a3 (by omega)
        have g := ih 8 d x.1 x.2.1 x.2.2 R (by omega) (by omega) h2 st c ⟨c1, by omega, by omega, by omega, fun _ => c5 (Or.inl rfl), by omega, by omega, ⟨by omega, by omega, fun _ => a1⟩⟩
        cases R with
        | inl e => exact a3' _ g
        | inr y =>
          obtain ⟨b1, -, b3⟩ := g
          exact ⟨⟨fun _ => b1.1 (by omega), fun _ => b1.2.1 (by omega), by omega, by omega⟩, by omega, fun _ r hr => a3' _ (b3 (by omega) r hr)⟩
    rw [ifn m3] at h
    by_cases m4 : m = 4
    · subst m4
      rw [ifp rfl] at h
      have := hac (by omega); subst this
      have hcn : cnd 5 st l := ⟨c1, by omega, by omega, by omega, by omega, by omega, fun _ => c7 (by omega), pre0 (by omega)⟩
      rcases obd_some h with ⟨e, h1, rfl⟩ | ⟨x, h1, h2⟩
      · exact ih 5 d [] u l _ (by omega) (fun _ => rfl) h1 st c hcn
      · obtain ⟨a1, -, a3⟩ := ih 5 d [] u l _ (by omega) (fun _ => rfl) h1 st c hcn
        have a3' := a3 (by omega)
        have g := ih 9 d x.1 x.2.1 x.2.2 R (by omega) (by omega) h2 st c ⟨c1, by omega, by omega, by omega, by omega, fun _ => c6 (Or.inl rfl), by omega, ⟨by omega, by omega, by omega⟩⟩
        cases R with
        | inl e => exact a3' _ g
        | inr y =>
          obtain ⟨b1, -, b3⟩ := g
          exact ⟨⟨fun _ => b1.1 (by omega), by omega, by omega, by omega⟩, by omega, fun _ r hr => a3' _ (b3 (by omega) r hr)⟩
    rw [ifn m4] at h
    by_cases m5 : m = 5
    · subst m5
      rw [ifp rfl] at h
      have := hac (by omega); subst this
      have hns : notS st l = false := by
        unfold notS
        rcases c7 (by omega) with z | z
        · rw [z, Bool.and_false]
        · rw [decide_eq_false (by omega), Bool.false_and]
      by_cases q : (kS (cur l) ≠ 4 ∧ isC l 40 = false ∧ whoK l = none ∧ isW l 6384748 = false) ∨ 40 ≤ u ∨ (isC l 40 = true ∧ 7 ≤ d)
      · rw [ifp q] at h
        cases h
        refine SH.err ?_ c1
        show unt P st (c ++ []) u d l = _
        unfold unt
        rw [ifp]
        rcases q with z | z | z
        · exact Or.inl ⟨hns, Or.inl z⟩
        · exact Or.inl ⟨hns, Or.inr z⟩
        · exact Or.inr ⟨Or.inr z.1, z.2⟩
      · rw [ifn q] at h
        have q' : ¬ ((notS st l = false ∧ ((kS (cur l) ≠ 4 ∧ isC l 40 = false ∧ whoK l = none ∧ isW l 6384748 = false) ∨ 40 ≤ u)) ∨ ((notS st l = true ∨ isC l 40 = true) ∧ 7 ≤ d)) := by
          rintro (⟨-, z | z⟩ | ⟨z | z, z2⟩)
          · exact q (Or.inl z)
          · exact q (Or.inr (Or.inl z))
          · rw [hns] at z; cases z
          · exact q (Or.inr (Or.inr ⟨z, z2⟩))
        cases hbr : isC l 40 with
        | true =>
          rw [ifp hbr] at h
          have hw : whoK l = none := by
            unfold whoK
            rw [isCW hbr, isCW hbr, isCW hbr]; rfl
          have hunt : ∀ r, SH P true ((7, 126) :: st, c ++ [], u + 1, d + 1, l.tail) r → SH P true (st, c ++ [], u, d, l) r := fun r hr => by
            refine SH.stp ?_ c1 hr
            show unt P st (c ++ []) u d l = _
            unfold unt
            rw [ifn q', ifn (by rintro ⟨p, z, -⟩; rw [hw] at z; cases z), ifn (by rw [hns]; decide), ifp hbr]
          have hcn : cnd 0 ((7, 126) :: st) l.tail := ⟨List.cons_ne_nil _ _, fun _ => by show 7 ≤ 7; omega, by omega, by omega, by omega, by omega, by omega, pre0 (by omega)⟩
          rcases obd_some h with ⟨e, h1, rfl⟩ | ⟨x, h1, h2⟩
          · exact hunt _ (ih 0 (d + 1) [] (u + 1) l.tail _ (by omega) (fun _ => rfl) h1 _ c hcn)
          · obtain ⟨a1, a2, a3⟩ := ih 0 (d + 1) [] (u + 1) l.tail _ (by omega) (fun _ => rfl) h1 ((7, 126) :: st) c hcn
            cases hcx : cmpC x.2.2 with
            | true =>
              rw [ifn (by rw [(cmpC_x hcx).2.2.2.1]; decide)] at h2
              cases h2
              rcases a2 (by omega) hcx with y | y
              · omega
              · exact hunt _ y
            | false =>
              have a3' := a3 (fun _ => hcx)
              have hrk : rnk x.2.2 = 0 := rnk_le.2.2.2.2.2.1 (a1.1 (by omega)) (a1.2.1 (by omega)) hcx (a1.2.2.1 (by omega)) (a1.2.2.2 (by omega))
              have hb : bhu ((7, 126) :: st) (c ++ x.1) x.2.1 (d + 1) x.2.2 = rbd (pMust (isC x.2.2 41) x.2.2) fun l' => .inr (false, (st, c ++ x.1, x.2.1, d, l')) := by
                unfold bhu
                rw [hrk, ifn (by omega)]
                have hred : rdc 0 ((7, 126) :: st) (c ++ x.1) (d + 1) = ((7, 126) :: st, c ++ x.1, d + 1) := by rw [rdc, ifn (by show ¬ (7 ≤ 6 ∧ 0 ≤ 7); omega)]
                rw [hred]
                unfold bh2
                rw [hrk, ifn (by omega)]
                show (if (7 : Nat) = 7 then _ else _) = _
                rw [ifp rfl]; rfl
              unfold pMust at hb
              cases hcl : isC x.2.2 41 with
              | true =>
                rw [ifp hcl] at h2
                cases h2
                rw [hcl] at hb
                refine ⟨⟨by omega, by omega, by omega, by omega⟩, by omega, fun _ r hr => hunt _ (a3' _ (SH.stp hb (List.cons_ne_nil _ _) hr))⟩
              | false =>
                rw [ifn (by rw [hcl]; decide)] at h2
                cases h2
                rw [hcl] at hb
                exact hunt _ (a3' _ (SH.err hb (List.cons_ne_nil _ _)))
        | false =>
          rw [ifn (by rw [hbr]; decide)] at h
          have hunt : (¬ ∃ p, whoK l = some p ∧ P ≤ p) → ∀ r, SH P false (st, c ++ [] ++ [leafS l], u + 1, d, l.tail) r → SH P true (st, c ++ [], u, d, l) r := fun hw r hr => by
            refine SH.stp ?_ c1 hr
            show unt P st (c ++ []) u d l = _
            unfold unt
            rw [ifn q', ifn hw, ifn (by rw [hns]; decide), ifn (by rw [hbr]; decide)]
          cases hw : whoK l with
          | some p =>
            rw [hw] at h
            have h' : (if p < P then some (.inr ([(112, p)], u + 1, l.tail)) else some (.inl (4, kP (cur l)))) = some R := h
            by_cases hp : p < P
            · rw [ifp hp] at h'
              cases h'
              refine ⟨⟨by omega, by omega, by omega, by omega⟩, by omega, fun _ r hr => hunt ?_ r ?_⟩
              · rintro ⟨p', z, z2⟩; rw [hw] at z; cases z; omega
              · have : leafS l = (112, p) := by unfold leafS; rw [hw]
                rw [this, List.append_nil]; exact hr
            · rw [ifn hp] at h'
              cases h'
              refine SH.err ?_ c1
              show unt P st (c ++ []) u d l = _
              unfold unt
              rw [ifn q', ifp ⟨p, hw, by omega⟩]
          | none =>
            rw [hw] at h
            have h' : (if isW l 6384748 = true then some (.inr ([(97, 0)], u + 1, l.tail)) else some (.inr ([(110, kV (cur l))], u + 1, l.tail))) = some R := h
            have hno : ¬ ∃ p, whoK l = some p ∧ P ≤ p := by rintro ⟨p', z, z2⟩; rw [hw] at z; cases z
            cases ha : isW l 6384748 with
            | true =>
              rw [ifp ha] at h'
              cases h'
              refine ⟨⟨by omega, by omega, by omega, by omega⟩, by omega, fun _ r hr => hunt hno r ?_⟩
              have : leafS l = (97, 0) := by unfold leafS; rw [hw]; simp only; rw [ifp ha]
              rw [this, List.append_nil]; exact hr
            | false =>
              rw [ifn (by rw [ha]; decide)] at h'
              cases h'
              refine ⟨⟨by omega, by omega, by omega, by omega⟩, by omega, fun _ r hr => hunt hno r ?_⟩
              have : leafS l = (110, kV (cur l)) := by unfold leafS; rw [hw]; simp only; rw [ifn (by rw [ha]; decide)]
              rw [this, List.append_nil]; exact hr
    rw [ifn m5] at h
    by_cases m6 : m = 6
    · subst m6
      rw [ifp rfl] at h
      have ct := c2 (Or.inr rfl)
      cases hor : isW l 28530 with
      | false =>
        rw [ifn (by rw [hor]; decide)] at h
        cases h
        have p := c8.1 rfl
        exact ⟨⟨fun _ => p.1 (by omega), fun _ => p.2.1 (by omega), fun _ => p.2.2.1 (by omega), fun _ => hor⟩, fun _ _ => Or.inl ⟨by omega, rfl⟩, fun _ r hr => hr⟩
      | true =>
        rw [ifp hor] at h
        have hrk := rnk_or hor
        have hsg : sgn l = 124 := by unfold sgn; rw [hrk]; rfl
        have hpush : ∀ r, SH P true ((1, 124) :: st, c ++ ac, u, d, l.tail) r → SH P false (st, c ++ ac, u, d, l) r := fun r hr => by
          refine SH.push (by omega) c1 (by omega) (by omega) ?_
          rw [hrk, hsg]; exact hr
        have hcn : cnd 1 ((1, 124) :: st) l.tail := ⟨List.cons_ne_nil _ _, by omega, fun _ => Or.inl rfl, by omega, by omega, by omega, by omega, pre0 (by omega)⟩
        have hap : ∀ (z : Cd), c ++ ac ++ z ++ [(124, 0)] = c ++ (ac ++ z ++ [(124, 0)]) := fun z => by simp
        rcases obd_some h with ⟨e, h1, rfl⟩ | ⟨y, h1, h2⟩
        · have t : SH P true ((1, 124) :: st, c ++ ac ++ [], u, d, l.tail) (.inl e) := ih 1 d [] u l.tail _ (by omega) (fun _ => rfl) h1 ((1, 124) :: st) (c ++ ac) hcn
          rw [List.append_nil] at t
          exact hpush _ t
        · obtain ⟨a1, a2, a3⟩ := ih 1 d [] u l.tail _ (by omega) (fun _ => rfl) h1 ((1, 124) :: st) (c ++ ac) hcn
          rw [List.append_nil] at a2 a3
          cases hcy : cmpC y.2.2 with
          | true =>
            have hR : R = .inr (ac ++ y.1 ++ [(124, 0)], y.2.1, y.2.2) := by
              cases f with
              | zero => cases h2
              | succ f =>
                rw [dx, ifn (by omega), ifn (by omega), ifn (by omega), ifn (by omega), ifn (by omega), ifn (by omega), ifp rfl, ifn (by rw [(cmpC_x hcy).1]; decide)] at h2
                cases h2; rfl
            subst hR
            refine ⟨⟨fun _ => (cmpC_x hcy).2.2.1, fun _ => (cmpC_x hcy).2.1, fun _ => (cmpC_x hcy).1 _, fun _ => (cmpC_x hcy).1 _⟩, fun _ _ => ?_, fun z => by rw [z (by omega)] at hcy; cases hcy⟩
            rcases a2 (by omega) hcy with z | z
            · omega
            · exact Or.inr (hpush _ z)
          | false =>
            have g := ih 6 d (ac ++ y.1 ++ [(124, 0)]) y.2.1 y.2.2 R (by omega) (by omega) h2 st c ⟨c1, fun _ => ct, by omega, by omega, by omega, by omega, by omega, ⟨fun _ => a1, by omega, by omega⟩⟩
            have hrk2 : rnk y.2.2 ≤ 1 := rnk_le.2.2.2.2.1 (a1.1 (by omega)) (a1.2.1 (by omega)) hcy (a1.2.2.1 (by omega))
            have back : ∀ r, SH P false (st, c ++ (ac ++ y.1 ++ [(124, 0)]), y.2.1, d, y.2.2) r → SH P false (st, c ++ ac, u, d, l) r := fun r hr => by
              refine hpush r (a3 (fun _ => hcy) r ?_)
              refine SH.pop (by show 1 ≤ 6; omega) (by show rnk y.2.2 ≤ 1; omega) (by omega) c1 ?_
              show SH P false (st, c ++ ac ++ y.1 ++ [(124, 0)], y.2.1, d, y.2.2) r
              rw [hap]; exact hr
            cases R with
            | inl e => exact back _ g
            | inr x =>
              obtain ⟨b1, b2, b3⟩ := g
              refine ⟨b1, fun _ hcx => Or.inr ?_, fun hcx r hr => back _ (b3 hcx r hr)⟩
              rcases b2 (by omega) hcx with ⟨-, z⟩ | z
              · rw [z] at hcx; exact absurd (hcy.symm.trans hcx) (by decide)
              · exact back _ z
    rw [ifn m6] at h
    by_cases m7 : m = 7
    · subst m7
      rw [ifp rfl] at h
      have ct := c3 (Or.inr rfl)
      cases hor : isW l 6385252 with
      | false =>
        rw [ifn (by rw [hor]; decide)] at h
        cases h
        have p := c8.2.1 rfl
        exact ⟨⟨fun _ => p.1 (by omega), fun _ => p.2.1 (by omega), fun _ => hor, by omega⟩, fun _ _ => Or.inl ⟨by omega, rfl⟩, fun _ r hr => hr⟩
      | true =>
        rw [ifp hor] at h
        have hrk := rnk_and hor
        have hsg : sgn l = 38 := by unfold sgn; rw [hrk]; rfl
        have hpush : ∀ r, SH P true ((2, 38) :: st, c ++ ac, u, d, l.tail) r → SH P false (st, c ++ ac, u, d, l) r := fun r hr => by
          refine SH.push (by omega) c1 (by omega) (by omega) ?_
          rw [hrk, hsg]; exact hr
        have hcn : cnd 2 ((2, 38) :: st) l.tail := ⟨List.cons_ne_nil _ _, by omega, by omega, fun _ => Or.inl (by show 2 ≤ 3; omega), by omega, by omega, by omega, pre0 (by omega)⟩
        have hap : ∀ (z : Cd), c ++ ac ++ z ++ [(38, 0)] = c ++ (ac ++ z ++ [(38, 0)]) := fun z => by simp
        rcases obd_some h with ⟨e, h1, rfl⟩ | ⟨y, h1, h2⟩
        · have t : SH P true ((2, 38) :: st, c ++ ac ++ [], u, d, l.tail) (.inl e) := ih 2 d [] u l.tail _ (by omega) (fun _ => rfl) h1 ((2, 38) :: st) (c ++ ac) hcn
          rw [List.append_nil] at t
          exact hpush _ t
        · obtain ⟨a1, a2, a3⟩ := ih 2 d [] u l.tail _ (by omega) (fun _ => rfl) h1 ((2, 38) :: st) (c ++ ac) hcn
          rw [List.append_nil] at a2 a3
          cases hcy : cmpC y.2.2 with
          | true =>
            have hR : R = .inr (ac ++ y.1 ++ [(38, 0)], y.2.1, y.2.2) := by
              cases f with
              | zero => cases h2
              | succ f =>
                rw [dx, ifn (by omega), ifn (by omega), ifn (by omega), ifn (by omega), ifn (by omega), ifn (by omega), ifn (by omega), ifp rfl, ifn (by rw [(cmpC_x hcy).1]; decide)] at h2
                cases h2; rfl
            subst hR
            refine ⟨⟨fun _ => (cmpC_x hcy).2.2.1, fun _ => (cmpC_x hcy).2.1, fun _ => (cmpC_x hcy).1 _, by omega⟩, fun _ _ => ?_, fun z => by rw [z (by omega)] at hcy; cases hcy⟩
            rcases a2 (by omega) hcy with z | z
            · omega
            · exact Or.inr (hpush _ z)
          | false =>
            have g := ih 7 d (ac ++ y.1 ++ [(38, 0)]) y.2.1 y.2.2 R (by omega) (by omega) h2 st c ⟨c1, by omega, fun _ => ct, by omega, by omega, by omega, by omega, ⟨by omega, fun _ => a1, by omega⟩⟩
            have hrk2 : rnk y.2.2 ≤ 2 := rnk_le.2.2.2.1 (a1.1 (by omega)) (a1.2.1 (by omega)) hcy
            have back : ∀ r, SH P false (st, c ++ (ac ++ y.1 ++ [(38, 0)]), y.2.1, d, y.2.2) r → SH P false (st, c ++ ac, u, d, l) r := fun r hr => by
              refine hpush r (a3 (fun _ => hcy) r ?_)
              refine SH.pop (by show 2 ≤ 6; omega) (by show rnk y.2.2 ≤ 2; omega) (by omega) c1 ?_
              show SH P false (st, c ++ ac ++ y.1 ++ [(38, 0)], y.2.1, d, y.2.2) r
              rw [hap]; exact hr
            cases R with
            | inl e => exact back _ g
            | inr x =>
              obtain ⟨b1, b2, b3⟩ := g
              refine ⟨b1, fun _ hcx => Or.inr ?_, fun hcx r hr => back _ (b3 hcx r hr)⟩
              rcases b2 (by omega) hcx with ⟨-, z⟩ | z
              · rw [z] at hcx; exact absurd (hcy.symm.trans hcx) (by decide)
              · exact back _ z
    rw [ifn m7] at h
    by_cases m8 : m = 8
    · subst m8
      rw [ifp rfl] at h
      have ct := c5 (Or.inr rfl)
      cases hor : addC l with
      | false =>
        rw [ifn (by rw [hor]; decide)] at h
        cases h
        have p := c8.2.2 rfl
        exact ⟨⟨fun _ => p.1 (by omega), fun _ => hor, by omega, by omega⟩, by omega, fun _ r hr => hr⟩
      | true =>
        rw [ifp hor] at h
        have hrk := rnk_add hor
        have hsg : sgn l = kV (cur l) := by unfold sgn; rw [hrk]; rfl
        have ht4 : topS st < 5 ∨ 6 < topS st := by omega
        have hpush : ∀ r, SH P true ((5, kV (cur l)) :: st, c ++ ac, u, d, l.tail) r → SH P false (st, c ++ ac, u, d, l) r := fun r hr => by
          refine SH.push (by omega) c1 (by omega) (by omega) ?_
          rw [hrk, hsg]; exact hr
        have hcn : cnd 4 ((5, kV (cur l)) :: st) l.tail := ⟨List.cons_ne_nil _ _, by omega, by omega, by omega, by omega, fun _ => by show (5 : Nat) ≠ 6; omega, fun _ => Or.inr ⟨by show 4 ≤ 5; omega, by show 5 ≤ 6; omega⟩, pre0 (by omega)⟩
        have hap : ∀ (z : Cd), c ++ ac ++ z ++ [(kV (cur l), 0)] = c ++ (ac ++ z ++ [(kV (cur l), 0)]) := fun z => by simp
        rcases obd_some h with ⟨e, h1, rfl⟩ | ⟨y, h1, h2⟩
        · have t : SH P true ((5, kV (cur l)) :: st, c ++ ac ++ [], u, d, l.tail) (.inl e) := ih 4 d [] u l.tail _ (by omega) (fun _ => rfl) h1 ((5, kV (cur l)) :: st) (c ++ ac) hcn
          rw [List.append_nil] at t
          exact hpush _ t
        · obtain ⟨a1, -, a3⟩ := ih 4 d [] u l.tail _ (by omega) (fun _ => rfl) h1 ((5, kV (cur l)) :: st) (c ++ ac) hcn
          rw [List.append_nil] at a3
          have g := ih 8 d (ac ++ y.1 ++ [(kV (cur l), 0)]) y.2.1 y.2.2 R (by omega) (by omega) h2 st c ⟨c1, by omega, by omega, by omega, fun _ => ct, by omega, by omega, ⟨by omega, by omega, fun _ => a1⟩⟩
          have hrk2 : rnk y.2.2 ≤ 5 := rnk_le.2.1 (a1.1 (by omega))
          have back : ∀ r, SH P false (st, c ++ (ac ++ y.1 ++ [(kV (cur l), 0)]), y.2.1, d, y.2.2) r → SH P false (st, c ++ ac, u, d, l) r := fun r hr => by
            refine hpush r (a3 (by omega) r ?_)
            refine SH.pop (by show 5 ≤ 6; omega) (by show rnk y.2.2 ≤ 5; omega) (fun _ => Or.inl rfl) c1 ?_
            show SH P false (st, c ++ ac ++ y.1 ++ [(kV (cur l), 0)], y.2.1, d, y.2.2) r
            rw [hap]; exact hr
          cases R with
          | inl e => exact back _ g
          | inr x =>
            obtain ⟨b1, b2, b3⟩ := g
            exact ⟨b1, by omega, fun hcx r hr => back _ (b3 hcx r hr)⟩
    rw [ifn m8] at h
    have m9 : m = 9 := by omega
    subst m9
    have ct := c6 (Or.inr rfl)
    cases hor : isC l 42 with
    | false =>
      rw [ifn (by rw [hor]; decide)] at h
      cases h
      exact ⟨⟨fun _ => hor, by omega, by omega, by omega⟩, by omega, fun _ r hr => hr⟩
    | true =>
      rw [ifp hor] at h
      have hrk := rnk_star hor
      have hv : kV (cur l) = 42 := (of_decide_eq_true hor).2
      have hsg : sgn l = 42 := by unfold sgn; rw [hrk, hv]; rfl
      have hpush : ∀ r, SH P true ((6, 42) :: st, c ++ ac, u, d, l.tail) r → SH P false (st, c ++ ac, u, d, l) r := fun r hr => by
        refine SH.push (by omega) c1 (by omega) (by omega) ?_
        rw [hrk, hsg]; exact hr
      have hcn : cnd 5 ((6, 42) :: st) l.tail := ⟨List.cons_ne_nil _ _, by omega, by omega, by omega, by omega, by omega, fun _ => Or.inr ⟨by show 4 ≤ 6; omega, by show 6 ≤ 6; omega⟩, pre0 (by omega)⟩
      have hap : ∀ (z : Cd), c ++ ac ++ z ++ [(42, 0)] = c ++ (ac ++ z ++ [(42, 0)]) := fun z => by simp
      rcases obd_some h with ⟨e, h1, rfl⟩ | ⟨y, h1, h2⟩
      · have t : SH P true ((6, 42) :: st, c ++ ac ++ [], u, d, l.tail) (.inl e) := ih 5 d [] u l.tail _ (by omega) (fun _ => rfl) h1 ((6, 42) :: st) (c ++ ac) hcn
        rw [List.append_nil] at t
        exact hpush _ t
      · obtain ⟨a1, -, a3⟩ := ih 5 d [] u l.tail _ (by omega) (fun _ => rfl) h1 ((6, 42) :: st) (c ++ ac) hcn
        rw [List.append_nil] at a3
        have g := ih 9 d (ac ++ y.1 ++ [(42, 0)]) y.2.1 y.2.2 R (by omega) (by omega) h2 st c ⟨c1, by omega, by omega, by omega, by omega, fun _ => ct, by omega, ⟨by omega, by omega, by omega⟩⟩
        have hrk2 : rnk y.2.2 ≤ 6 := rnk_le.1
        have back : ∀ r, SH P false (st, c ++ (ac ++ y.1 ++ [(42, 0)]), y.2.1, d, y.2.2) r → SH P false (st, c ++ ac, u, d, l) r := fun r hr => by
          refine hpush r (a3 (by omega) r ?_)
          refine SH.pop (by show 6 ≤ 6; omega) (by show rnk y.2.2 ≤ 6; omega) (fun _ => Or.inr rfl) c1 ?_
          show SH P false (st, c ++ ac ++ y.1 ++ [(42, 0)], y.2.1, d, y.2.2) r
          rw [hap]; exact hr
        cases R with
        | inl e => exact back _ g
        | inr x =>
          obtain ⟨b1, b2, b3⟩ := g
          exact ⟨b1, by omega, fun hcx r hr => back _ (b3 hcx r hr)⟩
/-- the whole -/
theorem dx_top {P : Nat} (hP : P ≤ 3) {f u : Nat} {l : List Tk} {R : Rs Xr} (h : dx P f 0 0 [] u l = some R) : (∃ e, R = .inl e ∧ SH P true ([(8, 0)], [], u, 0, l) (.inl e)) ∨ ∃ x, R = .inr x ∧ ((cmpC x.2.2 = true ∧ SH P true ([(8, 0)], [], u, 0, l) (.inl (errT x.2.2))) ∨ SH P true ([(8, 0)], [], u, 0, l) (.inr ([], x.1, x.2.1, 0, x.2.2))) := by
  have g := dx_shr hP f 0 0 [] u l R (by omega) (fun _ => rfl) h [(8, 0)] [] ⟨List.cons_ne_nil _ _, fun _ => by show 7 ≤ 8; omega, by omega, by omega, by omega, by omega, by omega, pre0 (by omega)⟩
  cases R with
  | inl e => exact Or.inl ⟨e, rfl, g⟩
  | inr x =>
    obtain ⟨a1, a2, a3⟩ := g
    refine Or.inr ⟨x, rfl, ?_⟩
    cases hcx : cmpC x.2.2 with
    | true =>
      rcases a2 (by omega) hcx with z | z
      · omega
      · exact Or.inl ⟨rfl, z⟩
    | false =>
      refine Or.inr (a3 (fun _ => hcx) _ ?_)
      have hrk : rnk x.2.2 = 0 := rnk_le.2.2.2.2.2.1 (a1.1 (by omega)) (a1.2.1 (by omega)) hcx (a1.2.2.1 (by omega)) (a1.2.2.2 (by omega))
      refine SH.stp (b' := false) (cf' := ([], x.1, x.2.1, 0, x.2.2)) ?_ (List.cons_ne_nil _ _) ⟨1, rfl⟩
      show bhu [(8, 0)] ([] ++ x.1) x.2.1 0 x.2.2 = _
      unfold bhu
      rw [hrk, ifn (by omega)]
      have hred : rdc 0 [(8, 0)] ([] ++ x.1) 0 = ([(8, 0)], [] ++ x.1, 0) := by rw [rdc, ifn (by show ¬ (8 ≤ 6 ∧ 0 ≤ 8); omega)]
      rw [hred]
      unfold bh2
      rw [hrk, ifn (by omega)]
      rfl
