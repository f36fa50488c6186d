set_option maxRecDepth 100000
/-! THE MACHINE: a recipe, its paths, what is asked of them -/
/-- people, steps, moves told by may, looks told by may, what is asked, its units -/
abbrev Rc : Type := Nat × List Stq × List Stq × List Stq × Option Cd × Nat
def rP (R : Rc) : Nat := R.1
def rX (R : Rc) : List Stq := R.2.1
def rY (R : Rc) : List Stq := R.2.2.1
def rO (R : Rc) : List Stq := R.2.2.2.1
def rA (R : Rc) : Option Cd := R.2.2.2.2.1
def rU (R : Rc) : Nat := R.2.2.2.2.2
def rN (R : Rc) : Nat := 2 ^ rP R
def okQ (R : Rc) : Prop := 1 ≤ rP R ∧ rP R ≤ 3 ∧ okR (rX R) ∧ (rY R).length ≤ 8 ∧ (∀ x ∈ rY R, okS x ∧ 2 ≤ sT x ∧ sT x ≤ 7) ∧ (rO R).length ≤ 4 ∧ (∀ x ∈ rO R, okS x ∧ sT x = 8) ∧ okA (rA R) ∧ rU R ≤ 40 ∧ ∀ x ∈ rX R, sT x = 0 → s1 x < rP R
def tree (R : Rc) (md : Md) : List Leaf := lvs (rN R) (rX R) md 16 [] (lv0 (rN R))
def pths (R : Rc) : List Leaf := tree R (0, 0, 0)
theorem rN_le {R : Rc} (h : okQ R) : rN R ≤ 8 ∧ 2 ≤ rN R := by
  constructor
  · calc 2 ^ rP R ≤ 2 ^ 3 := Nat.pow_le_pow_right (by omega) h.2.1
      _ = 8 := rfl
  · calc 2 = 2 ^ 1 := rfl
      _ ≤ 2 ^ rP R := Nat.pow_le_pow_right (by omega) h.1
/-- a number within -/
def ixo (p : Int32) (n : Nat) : Option Nat := if 0 ≤ p ∧ p.toNatClampNeg < n then some p.toNatClampNeg else none
theorem ixo_some {p : Int32} {n k : Nat} (h : ixo p n = some k) : p = n32 k ∧ k < n := by
  unfold ixo at h
  split at h
  · rename_i q
    cases h
    refine ⟨?_, q.2⟩
    rw [← Int32.toInt_inj]
    have h1 : 0 ≤ p.toInt := by
      have := Int32.le_iff_toInt_le.mp q.1
      simpa using this
    have h2 : p.toInt < 2147483648 := by have := Int32.toInt_lt p; simpa using this
    have h3 : p.toNatClampNeg = p.toInt.toNat := rfl
    rw [n32_toInt (by omega), h3]
    omega
  · cases h
theorem ixo_n32 {k n : Nat} (hk : k < 2147483648) : ixo (n32 k) n = if k < n then some k else none := by
  unfold ixo
  rw [n32_nat hk]
  have h0 : (0 : Int32) ≤ n32 k := (n32_le (a := 0) (b := k) ⟨by omega, hk⟩).mpr (by omega)
  by_cases q : k < n
  · rw [ifp ⟨h0, q⟩, ifp q]
  · rw [ifn (fun z => q z.2), ifn q]
/-- lowest terms -/
def lowS (up under d : Nat) : Int64 := if d = 0 then e64 (up / Nat.gcd up under) else e64 (under / Nat.gcd up under)
def wysS (lf : Leaf) (i : Nat) : Nat := sm 256 (vD (lfV lf) i)
def p_paths (R : Rc) : Int32 := if 200 < (pths R).length then -2 else n32 (pths R).length
def p_look (R : Rc) (p i : Int32) : Int32 := if 200 < (pths R).length then -2 else match ixo p (pths R).length with
  | none => -1
  | some k => match ixo i (lfK ((pths R).getD k default)).length with
    | none => -1
    | some j => n32 ((lfK ((pths R).getD k default)).getD j 0)
def p_odds (R : Rc) (p i d : Int32) : Int64 := if 200 < (pths R).length then -2 else match ixo p (pths R).length, ixo i (rN R), ixo d 2 with
  | some k, some i, some d => lowS (wysS ((pths R).getD k default) i) (vW (lfV ((pths R).getD k default))) d
  | _, _, _ => -1
def p_ends (R : Rc) (p i : Int32) : Int32 := if 200 < (pths R).length then -2 else match ixo p (pths R).length, ixo i (rN R) with
  | some k, some i => n32 (endS (lfD ((pths R).getD k default)) (lfX ((pths R).getD k default)) (vD (lfV ((pths R).getD k default)) i))
  | _, _ => -1
def p_guess (R : Rc) (p i d : Int32) : Int64 := if 200 < (pths R).length then -2 else match ixo p (pths R).length, ixo i (rN R), ixo d 2 with
  | some k, some i, some d => lowS (wysS ((pths R).getD k default) i) (sm (rN R) fun j => wysS ((pths R).getD k default) j) d
  | _, _, _ => -1
def p_asked (R : Rc) (i : Int32) : Int32 := match ixo i (rN R) with
  | some i => askS (rA R) i
  | none => -1000000
/-- the answer by a row -/
def ansS (kd : Nat) (x : Stq) (r : Nat) : Int32 := if kd = 2 then n32 (s1 x) else if kd = 0 then -1 else if (r >>> s1 x) &&& 1 = (r >>> s2 x) &&& 1 then -1 else n32 ((r >>> s1 x) &&& 1)
def rgtS (lf : Leaf) (a : Int32) (i : Nat) : Prop := ∀ r, r < 256 → vD (lfV lf) i r ≠ 0 → 0 ≤ ansS (lfD lf) (lfX lf) r ∧ ansS (lfD lf) (lfX lf) r = a
/-- the first number below n with a property, else none -/
def fstS (n : Nat) (P : Nat → Prop) (r : Int32) : Prop := (∃ k, k < n ∧ P k ∧ (∀ j, j < k → ¬ P j) ∧ r = n32 k) ∨ ((∀ j, j < n → ¬ P j) ∧ r = -1)
theorem fstS_un {n : Nat} {P : Nat → Prop} {r r' : Int32} (h : fstS n P r) (h' : fstS n P r') : r = r' := by
  rcases h with ⟨k, a1, a2, a3, rfl⟩ | ⟨a1, rfl⟩
  · rcases h' with ⟨k', b1, b2, b3, rfl⟩ | ⟨b1, rfl⟩
    · have : k = k' := by
        rcases Nat.lt_trichotomy k k' with q | q | q
        · exact absurd a2 (b3 k q)
        · exact q
        · exact absurd b2 (a3 k' q)
      rw [this]
    · exact absurd a2 (b1 k a1)
  · rcases h' with ⟨k', b1, b2, b3, rfl⟩ | ⟨b1, rfl⟩
    · exact absurd b2 (a1 k' b1)
    · rfl
/-- which input is answered wrongly -/
def q_wrong (R : Rc) (r : Int32) : Prop := if 200 < (pths R).length then r = -2 else fstS (rN R) (fun i => ∃ lf ∈ pths R, ¬ rgtS lf (askS (rA R) i) i) r
/-- whether paths tell inputs apart: 64 * path + 8 * i + j is the order -/
def leakP (R : Rc) (sec : Bool) (k : Nat) : Prop := k / 64 < (pths R).length ∧ k / 8 % 8 < rN R ∧ k % 8 < rN R ∧ k / 8 % 8 < k % 8 ∧ (sec = true ∨ askS (rA R) (k / 8 % 8) = askS (rA R) (k % 8)) ∧ wysS ((pths R).getD (k / 64) default) (k / 8 % 8) ≠ wysS ((pths R).getD (k / 64) default) (k % 8)
def q_leaks (R : Rc) (sec : Bool) (r : Int32) : Prop := if 200 < (pths R).length then r = -2 else (∃ k, leakP R sec k ∧ (∀ j, j < k → ¬ leakP R sec j) ∧ r = n32 (1000 * (k / 64) + 100 * (k / 8 % 8) + 10 * (k % 8))) ∨ ((∀ k, ¬ leakP R sec k) ∧ r = -1)
def q_closed (R : Rc) (md : Md) (sec : Bool) (r : Int32) : Prop := (5000 < (tree R md).length ∧ r = -2) ∨ ((tree R md).length ≤ 5000 ∧ ((∃ lf ∈ tree R md, leafU (rN R) (askS (rA R)) sec lf) ∧ r = 0 ∨ (¬ (∃ lf ∈ tree R md, leafU (rN R) (askS (rA R)) sec lf) ∧ r = 1)))
def p_cheat (R : Rc) (md : Md) : Int32 := if 5000 < (tree R md).length then -2 else (tree R md).foldl (fun a lf => a ||| n32 (leafE (rN R) lf)) 0
