set_option maxRecDepth 100000
/-! THE MACHINE's LEVELS -/
/-- ways to rows by inputs, the step, cards, where the bent card lies, what was seen (0 nothing, 1 black, 2 red), ways in all -/
abbrev Lv : Type := Dst × Nat × Nat × Option Nat × (Nat → Nat) × Nat
def vD (v : Lv) : Dst := v.1
def vP (v : Lv) : Nat := v.2.1
def vC (v : Lv) : Nat := v.2.2.1
def vK (v : Lv) : Option Nat := v.2.2.2.1
def vS (v : Lv) : Nat → Nat := v.2.2.2.2.1
def vW (v : Lv) : Nat := v.2.2.2.2.2
/-- how many steps ahead of a place shuffle -/
def mixNo (xs : List Stq) : Nat → Nat
  | 0 => 0
  | k + 1 => mixNo xs k + (match xs[k]? with
    | some x => if 4 ≤ sT x ∧ sT x ≤ 7 then 1 else 0
    | none => 0)
abbrev seenS (xs : List Stq) (md : Md) (x : Stq) (v : Lv) : Prop := wys x ≠ 1 ∧ ((md.1 = 2 ∧ mixNo xs (vP v) = md.2.1) ∨ (md.1 = 1 ∧ vK v ≠ none))
def nxt (v : Lv) : Lv := (vD v, vP v + 1, vC v, vK v, vS v, vW v)
def jmp (v : Lv) (p : Nat) : Lv := (vD v, p, vC v, vK v, vS v, vW v)
def lay1 (N : Nat) (md : Md) (x : Stq) (first : Nat) (v : Lv) : Lv :=
  (fun i q => if i < N then adc (vC v) (redOf md x first i) (vD v i) q else vD v i q, vP v, vC v + 1, if md.1 = 1 ∧ vC v = md.2.1 then some (vC v) else vK v, vS v, vW v)
def layS (N : Nat) (md : Md) (x : Stq) (v : Lv) : Lv := if sT x = 0 then lay1 N md x 0 (lay1 N md x 1 v) else lay1 N md x 1 v
def movS (x : Stq) (v : Lv) : Lv := (mvA x (vD v), vP v, vC v, (vK v).map (sto x (wys x - 1)), vS v, vW v * wys x)
def layN (x : Stq) : Nat := if sT x = 0 then 2 else 1
/-- steps till something is seen (3), or the run ends: without an answer (0), by two cards (1), by a number (2) -/
def adv (N : Nat) (xs : List Stq) (md : Md) : Nat → Lv → Nat × Lv
  | 0, v => (0, v)
  | f + 1, v => match xs[vP v]? with
    | none => (0, v)
    | some x =>
      if sT x ≤ 1 then (if vC v + layN x ≤ 8 then adv N xs md f (nxt (layS N md x v)) else (0, v))
      else if sT x ≤ 8 then (if need x ≤ vC v then (if sT x = 8 ∨ seenS xs md x v then (3, v) else adv N xs md f (nxt (movS x v))) else (0, v))
      else if sT x = 11 then (if need x ≤ vC v then 1 else 0, v)
      else if sT x = 12 then (2, v)
      else if sT x = 9 ∧ vS v (s1 x) = s2 x + 1 then adv N xs md f (jmp v (s3 x + 1))
      else adv N xs md f (nxt v)
/-- steps as they may be -/
def okX (xs : List Stq) : Prop := xs.length ≤ 40 ∧ ∀ k x, xs[k]? = some x → okS x ∧ (sT x = 9 → k < s3 x ∧ s3 x < xs.length)
/-- a level as it may be: support, cards, the bent card, what was seen -/
def okV (N : Nat) (v : Lv) : Prop := vC v ≤ 8 ∧ (∀ i r, vD v i r ≠ 0 → i < N ∧ r < 2 ^ vC v) ∧ (∀ p, vK v = some p → p < vC v) ∧ ∀ p, vS v p ≤ 2
theorem sm_ne {n : Nat} {f : Nat → Nat} (h : sm n f ≠ 0) : ∃ k, k < n ∧ f k ≠ 0 := by
  apply Classical.byContradiction
  intro q
  apply h
  apply sm_zero
  intro k hk
  apply Classical.byContradiction
  intro z
  exact q ⟨k, hk, z⟩
theorem okV_lay1 {N : Nat} {md : Md} {x : Stq} {first : Nat} {v : Lv} (ho : okS x) (hm : md.1 = 3 → md.2.2 < 2) (h : okV N v) (hc : vC v ≤ 7) : okV N (lay1 N md x first v) := by
  obtain ⟨h1, h2, h3, h4⟩ := h
  refine ⟨by show vC v + 1 ≤ 8; omega, ?_, ?_, h4⟩
  · intro i q hq
    show i < N ∧ q < 2 ^ (vC v + 1)
    have hq' : (if i < N then adc (vC v) (redOf md x first i) (vD v i) q else vD v i q) ≠ 0 := hq
    by_cases z : i < N
    · rw [ifp z] at hq'
      obtain ⟨r, hr, e⟩ := sm_ne hq'
      refine ⟨z, ?_⟩
      split at e
      · rename_i e2
        have h5 := (h2 i r e).2
        have h6 := redOf_lt (first := first) (i := i) ho hm
        rw [← e2]
        apply Nat.or_lt_two_pow
        · exact Nat.lt_of_lt_of_le h5 (Nat.pow_le_pow_right (by omega) (by omega))
        · rw [Nat.shiftLeft_eq, Nat.pow_succ, Nat.mul_comm]
          exact Nat.mul_lt_mul_of_pos_left h6 (Nat.two_pow_pos _)
      · exact absurd rfl e
    · rw [ifn z] at hq'
      exact absurd (h2 i q hq').1 z
  · intro p hp
    show p < vC v + 1
    have hp' : (if md.1 = 1 ∧ vC v = md.2.1 then some (vC v) else vK v) = some p := hp
    split at hp'
    · cases hp'; omega
    · have := h3 p hp'; omega
theorem okV_layS {N : Nat} {md : Md} {x : Stq} {v : Lv} (ho : okS x) (hm : md.1 = 3 → md.2.2 < 2) (h : okV N v) (hc : vC v + layN x ≤ 8) : okV N (layS N md x v) := by
  unfold layS
  unfold layN at hc
  split
  · rename_i t
    rw [ifp t] at hc
    exact okV_lay1 ho hm (okV_lay1 ho hm h (by omega)) (by show vC v + 1 ≤ 7; omega)
  · rename_i t
    rw [ifn t] at hc
    exact okV_lay1 ho hm h (by omega)
theorem mv_sup {N : Nat} {x : Stq} {v : Lv} (ho : okS x) (h : okV N v) (hn : need x ≤ vC v) {w : Nat} (hw : w < wys x) {i q : Nat} (hq : mvD (sfr x w) (vD v) i q ≠ 0) : i < N ∧ q < 2 ^ vC v := by
  obtain ⟨r, hr, e⟩ := sm_ne hq
  split at e
  · rename_i e2
    obtain ⟨h5, h6⟩ := h.2.1 i r e
    refine ⟨h5, ?_⟩
    rw [← e2]
    apply mvr_keep h6
    intro p hp hp2
    have h7 := sfr_ok ho hw p
    have h8 := ((sfr_ok ho hw (sfr x w p)).2.2 (vC v) hn hp2).2
    rw [h7.2.1] at h8
    exact h8
  · exact absurd rfl e
theorem okV_movS {N : Nat} {x : Stq} {v : Lv} (ho : okS x) (h : okV N v) (hn : need x ≤ vC v) : okV N (movS x v) := by
  refine ⟨h.1, ?_, ?_, h.2.2.2⟩
  · intro i q hq
    obtain ⟨w, hw, e⟩ := sm_ne (show mvA x (vD v) i q ≠ 0 from hq)
    exact mv_sup ho h hn hw e
  · intro p hp
    have hp' : (vK v).map (sto x (wys x - 1)) = some p := hp
    cases hk : vK v with
    | none => rw [hk] at hp'; cases hp'
    | some p0 =>
      rw [hk] at hp'
      cases hp'
      have hwy := wys_b ho
      exact ((sfr_ok ho (w := wys x - 1) (by omega) p0).2.2 (vC v) hn (h.2.2.1 p0 hk)).2
