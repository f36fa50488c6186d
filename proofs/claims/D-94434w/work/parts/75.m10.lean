set_option maxRecDepth 100000
/-! WHAT IS ASKED: a code that is worked off with a pile -/
abbrev Cd : Type := List (Nat × Nat)
def cme (c : Nat) (a b : Int32) : Int32 := if c = 38 then (if a = 0 then 0 else if b = 0 then 0 else 1) else if c = 42 then a * b else if c = 43 then a + b else if c = 45 then a - b else if c = 60 then (if b ≤ a then 0 else 1) else if c = 61 then (if a = b then 1 else 0) else if c = 62 then (if a ≤ b then 0 else 1) else (if a = 0 then (if b = 0 then 0 else 1) else 1)
def bcn (i : Nat) : Nat := sm 31 fun k => (i >>> k) &&& 1
def cdv (i c n : Nat) : Int32 := if c = 110 then n32 n else if c = 97 then n32 (bcn i) else n32 ((i >>> n) &&& 1)
def ev1 (i : Nat) (q : Nat × Nat) (st : List Int32) : List Int32 :=
  if q.1 = 126 then (match st with
    | a :: t => (if a = 0 then 1 else 0) :: t
    | [] => [])
  else if 97 ≤ q.1 ∧ q.1 ≤ 122 then cdv i q.1 q.2 :: st
  else match st with
    | b :: a :: t => cme q.1 a b :: t
    | _ => []
def evc (i : Nat) : Cd → List Int32 → List Int32
  | [], st => st
  | q :: r, st => evc i r (ev1 i q st)
def hg1 (q : Nat × Nat) (h : Nat) : Option Nat := if q.1 = 126 then (if 1 ≤ h then some h else none) else if 97 ≤ q.1 ∧ q.1 ≤ 122 then (if h < 69 then some (h + 1) else none) else (if 2 ≤ h then some (h - 1) else none)
def hgc : Cd → Nat → Option Nat
  | [], h => some h
  | q :: r, h => (hg1 q h).bind (hgc r)
def okC (code : Cd) : Prop := hgc code 0 = some 1 ∧ code.length ≤ 400 ∧ ∀ q ∈ code, q.1 < 127 ∧ (q.1 = 110 → q.2 ≤ 9999) ∧ (97 ≤ q.1 → q.1 ≤ 122 → q.1 ≠ 110 → q.1 ≠ 97 → q.2 < 3)
def askS (asks : Option Cd) (i : Nat) : Int32 := match asks with
  | none => 0
  | some c => (evc i c []).headD 0
def okA (asks : Option Cd) : Prop := ∀ c, asks = some c → okC c
def MAsk (σ : MS) (b : Nat) (asks : Option Cd) : Prop := match asks with
  | none => mA σ 21 b = 0 ∧ mA σ 19 b = n32 (400 * b)
  | some code => mA σ 21 b = 1 ∧ mA σ 19 b = n32 (400 * b + code.length) ∧ ∀ j q, code[j]? = some q → mA σ 30 (400 * b + j) = n32 q.1 ∧ (q.1 = 110 ∨ (97 ≤ q.1 ∧ q.1 ≤ 122 ∧ q.1 ≠ 97) → mA σ 31 (400 * b + j) = n32 q.2)
theorem come_L (c : Nat) (hc : c < 200) (a b : Int32) : F_come (n32 c) a b = some (cme c a b) := by
  unfold F_come cme
  by_cases c1 : c = 38
  · subst c1; simp only [show n32 38 = (38 : Int32) from rfl, if_true]; repeat' split
    all_goals rfl
  rw [ifn (by simp (disch := omega) only [↓reduceIte, ↓lt_y, leT, leF, ltT, ltF, eqT, eqF, n32_lit, n32_add, n32_mul, n32_sub, n32_le, n32_lt, n32_eq, n32_nat, gdn, gd_T, inbT, bd_y, bd2_y, ifp, ifn, not_true_eq_false, not_false_eq_true, and_self, true_and, and_true, false_and, and_false, or_self, true_or, or_true, false_or, or_false, wA_s, wL_s, sA_same, sL_same, sA_L, sL_A, sA_I, sL_I, wI_A, wI_L, wI_same, sA_sA, sL_sL, sA_ne, sL_ne, wI_ne]), ifn c1]
  by_cases c2 : c = 42
  · rw [ifp (by simp (disch := omega) only [↓reduceIte, ↓lt_y, leT, leF, ltT, ltF, eqT, eqF, n32_lit, n32_add, n32_mul, n32_sub, n32_le, n32_lt, n32_eq, n32_nat, gdn, gd_T, inbT, bd_y, bd2_y, ifp, ifn, not_true_eq_false, not_false_eq_true, and_self, true_and, and_true, false_and, and_false, or_self, true_or, or_true, false_or, or_false, wA_s, wL_s, sA_same, sL_same, sA_L, sL_A, sA_I, sL_I, wI_A, wI_L, wI_same, sA_sA, sL_sL, sA_ne, sL_ne, wI_ne]), ifp c2]
  rw [ifn (by simp (disch := omega) only [↓reduceIte, ↓lt_y, leT, leF, ltT, ltF, eqT, eqF, n32_lit, n32_add, n32_mul, n32_sub, n32_le, n32_lt, n32_eq, n32_nat, gdn, gd_T, inbT, bd_y, bd2_y, ifp, ifn, not_true_eq_false, not_false_eq_true, and_self, true_and, and_true, false_and, and_false, or_self, true_or, or_true, false_or, or_false, wA_s, wL_s, sA_same, sL_same, sA_L, sL_A, sA_I, sL_I, wI_A, wI_L, wI_same, sA_sA, sL_sL, sA_ne, sL_ne, wI_ne]), ifn c2]
  by_cases c3 : c = 43
  · rw [ifp (by simp (disch := omega) only [↓reduceIte, ↓lt_y, leT, leF, ltT, ltF, eqT, eqF, n32_lit, n32_add, n32_mul, n32_sub, n32_le, n32_lt, n32_eq, n32_nat, gdn, gd_T, inbT, bd_y, bd2_y, ifp, ifn, not_true_eq_false, not_false_eq_true, and_self, true_and, and_true, false_and, and_false, or_self, true_or, or_true, false_or, or_false, wA_s, wL_s, sA_same, sL_same, sA_L, sL_A, sA_I, sL_I, wI_A, wI_L, wI_same, sA_sA, sL_sL, sA_ne, sL_ne, wI_ne]), ifp c3]
  rw [ifn (by simp (disch := omega) only [↓reduceIte, ↓lt_y, leT, leF, ltT, ltF, eqT, eqF, n32_lit, n32_add, n32_mul, n32_sub, n32_le, n32_lt, n32_eq, n32_nat, gdn, gd_T, inbT, bd_y, bd2_y, ifp, ifn, not_true_eq_false, not_false_eq_true, and_self, true_and, and_true, false_and, and_false, or_self, true_or, or_true, false_or, or_false, wA_s, wL_s, sA_same, sL_same, sA_L, sL_A, sA_I, sL_I, wI_A, wI_L, wI_same, sA_sA, sL_sL, sA_ne, sL_ne, wI_ne]), ifn c3]
  by_cases c4 : c = 45
  · rw [ifp (by simp (disch := omega) only [↓reduceIte, ↓lt_y, leT, leF, ltT, ltF, eqT, eqF, n32_lit, n32_add, n32_mul, n32_sub, n32_le, n32_lt, n32_eq, n32_nat, gdn, gd_T, inbT, bd_y, bd2_y, ifp, ifn, not_true_eq_false, not_false_eq_true, and_self, true_and, and_true, false_and, and_false, or_self, true_or, or_true, false_or, or_false, wA_s, wL_s, sA_same, sL_same, sA_L, sL_A, sA_I, sL_I, wI_A, wI_L, wI_same, sA_sA, sL_sL, sA_ne, sL_ne, wI_ne]), ifp c4]
  rw [ifn (by simp (disch := omega) only [↓reduceIte, ↓lt_y, leT, leF, ltT, ltF, eqT, eqF, n32_lit, n32_add, n32_mul, n32_sub, n32_le, n32_lt, n32_eq, n32_nat, gdn, gd_T, inbT, bd_y, bd2_y, ifp, ifn, not_true_eq_false, not_false_eq_true, and_self, true_and, and_true, false_and, and_false, or_self, true_or, or_true, false_or, or_false, wA_s, wL_s, sA_same, sL_same, sA_L, sL_A, sA_I, sL_I, wI_A, wI_L, wI_same, sA_sA, sL_sL, sA_ne, sL_ne, wI_ne]), ifn c4]
  by_cases c5 : c = 60
  · rw [ifp (by simp (disch := omega) only [↓reduceIte, ↓lt_y, leT, leF, ltT, ltF, eqT, eqF, n32_lit, n32_add, n32_mul, n32_sub, n32_le, n32_lt, n32_eq, n32_nat, gdn, gd_T, inbT, bd_y, bd2_y, ifp, ifn, not_true_eq_false, not_false_eq_true, and_self, true_and, and_true, false_and, and_false, or_self, true_or, or_true, false_or, or_false, wA_s, wL_s, sA_same, sL_same, sA_L, sL_A, sA_I, sL_I, wI_A, wI_L, wI_same, sA_sA, sL_sL, sA_ne, sL_ne, wI_ne]), ifp c5]; split <;> rfl
  rw [ifn (by simp (disch := omega) only [↓reduceIte, ↓lt_y, leT, leF, ltT, ltF, eqT, eqF, n32_lit, n32_add, n32_mul, n32_sub, n32_le, n32_lt, n32_eq, n32_nat, gdn, gd_T, inbT, bd_y, bd2_y, ifp, ifn, not_true_eq_false, not_false_eq_true, and_self, true_and, and_true, false_and, and_false, or_self, true_or, or_true, false_or, or_false, wA_s, wL_s, sA_same, sL_same, sA_L, sL_A, sA_I, sL_I, wI_A, wI_L, wI_same, sA_sA, sL_sL, sA_ne, sL_ne, wI_ne]), ifn c5]
  by_cases c6 : c = 61
  · rw [ifp (by simp (disch := omega) only [↓reduceIte, ↓lt_y, leT, leF, ltT, ltF, eqT, eqF, n32_lit, n32_add, n32_mul, n32_sub, n32_le, n32_lt, n32_eq, n32_nat, gdn, gd_T, inbT, bd_y, bd2_y, ifp, ifn, not_true_eq_false, not_false_eq_true, and_self, true_and, and_true, false_and, and_false, or_self, true_or, or_true, false_or, or_false, wA_s, wL_s, sA_same, sL_same, sA_L, sL_A, sA_I, sL_I, wI_A, wI_L, wI_same, sA_sA, sL_sL, sA_ne, sL_ne, wI_ne]), ifp c6]; split <;> rfl
  rw [ifn (by simp (disch := omega) only [↓reduceIte, ↓lt_y, leT, leF, ltT, ltF, eqT, eqF, n32_lit, n32_add, n32_mul, n32_sub, n32_le, n32_lt, n32_eq, n32_nat, gdn, gd_T, inbT, bd_y, bd2_y, ifp, ifn, not_true_eq_false, not_false_eq_true, and_self, true_and, and_true, false_and, and_false, or_self, true_or, or_true, false_or, or_false, wA_s, wL_s, sA_same, sL_same, sA_L, sL_A, sA_I, sL_I, wI_A, wI_L, wI_same, sA_sA, sL_sL, sA_ne, sL_ne, wI_ne]), ifn c6]
  by_cases c7 : c = 62
  · rw [ifp (by simp (disch := omega) only [↓reduceIte, ↓lt_y, leT, leF, ltT, ltF, eqT, eqF, n32_lit, n32_add, n32_mul, n32_sub, n32_le, n32_lt, n32_eq, n32_nat, gdn, gd_T, inbT, bd_y, bd2_y, ifp, ifn, not_true_eq_false, not_false_eq_true, and_self, true_and, and_true, false_and, and_false, or_self, true_or, or_true, false_or, or_false, wA_s, wL_s, sA_same, sL_same, sA_L, sL_A, sA_I, sL_I, wI_A, wI_L, wI_same, sA_sA, sL_sL, sA_ne, sL_ne, wI_ne]), ifp c7]; split <;> rfl
  rw [ifn (by simp (disch := omega) only [↓reduceIte, ↓lt_y, leT, leF, ltT, ltF, eqT, eqF, n32_lit, n32_add, n32_mul, n32_sub, n32_le, n32_lt, n32_eq, n32_nat, gdn, gd_T, inbT, bd_y, bd2_y, ifp, ifn, not_true_eq_false, not_false_eq_true, and_self, true_and, and_true, false_and, and_false, or_self, true_or, or_true, false_or, or_false, wA_s, wL_s, sA_same, sL_same, sA_L, sL_A, sA_I, sL_I, wI_A, wI_L, wI_same, sA_sA, sL_sL, sA_ne, sL_ne, wI_ne]), ifn c7]
  repeat' split
  all_goals rfl
theorem bcn_le (i : Nat) : bcn i ≤ 31 := by
  have : sm 31 (fun k => (i >>> k) &&& 1) ≤ sm 31 (fun _ => 1) := sm_le fun k _ => by have := and1_lt i k; omega
  rw [sm_const] at this
  exact this
theorem bitsOf_L (i : Nat) (hi : i < 2147483648) : F_bitsOf (n32 i) = some (n32 (bcn i)) := by
  have hMN := MN_gt
  unfold F_bitsOf
  rw [show (0 : Int32) = n32 0 from rfl]
  obtain ⟨fu, s, rfl, e⟩ := upe (fun fu k (s : Nat) => F_bitsOf_L4 fu (n32 i) (n32 s) (n32 k)) 0 31 (fun k s => s = sm k fun k => (i >>> k) &&& 1)
    (by
      rintro fu k s - hk rfl
      have h1 := and1_lt i k
      refine ⟨_, ?_, rfl⟩
      simp only [F_bitsOf_L4]
      simp (disch := omega) only [↓reduceIte, ↓lt_y, leT, leF, ltT, ltF, eqT, eqF, n32_lit, n32_add, n32_mul, n32_sub, n32_le, n32_lt, n32_eq, n32_nat, gdn, gd_T, inbT, bd_y, bd2_y, ifp, ifn, not_true_eq_false, not_false_eq_true, and_self, true_and, and_true, false_and, and_false, or_self, true_or, or_true, false_or, or_false, wA_s, wL_s, sA_same, sL_same, sA_L, sL_A, sA_I, sL_I, wI_A, wI_L, wI_same, sA_sA, sL_sL, sA_ne, sL_ne, wI_ne, n32_bit]
      rfl)
    0 MN (by omega) (by omega) rfl
  refine e.trans ?_
  simp only [F_bitsOf_L4]
  simp (disch := omega) only [↓reduceIte, ↓lt_y, leT, leF, ltT, ltF, eqT, eqF, n32_lit, n32_add, n32_mul, n32_sub, n32_le, n32_lt, n32_eq, n32_nat, gdn, gd_T, inbT, bd_y, bd2_y, ifp, ifn, not_true_eq_false, not_false_eq_true, and_self, true_and, and_true, false_and, and_false, or_self, true_or, or_true, false_or, or_false, wA_s, wL_s, sA_same, sL_same, sA_L, sL_A, sA_I, sL_I, wI_A, wI_L, wI_same, sA_sA, sL_sL, sA_ne, sL_ne, wI_ne]
  rfl
theorem isLetter_L (c : Nat) (hc : c < 2147483648) : F_isLetter (n32 c) = some (b32 (97 ≤ c ∧ c ≤ 122)) := by
  unfold F_isLetter b32
  simp (disch := omega) only [↓reduceIte, ↓lt_y, leT, leF, ltT, ltF, eqT, eqF, n32_lit, n32_add, n32_mul, n32_sub, n32_le, n32_lt, n32_eq, n32_nat, gdn, gd_T, inbT, bd_y, bd2_y, ifp, ifn, not_true_eq_false, not_false_eq_true, and_self, true_and, and_true, false_and, and_false, or_self, true_or, or_true, false_or, or_false, wA_s, wL_s, sA_same, sL_same, sA_L, sL_A, sA_I, sL_I, wI_A, wI_L, wI_same, sA_sA, sL_sL, sA_ne, sL_ne, wI_ne]
  by_cases q1 : c < 97
  · rw [ifp q1, ifn (by omega)]
  · rw [ifn q1]
    by_cases q2 : 122 < c
    · rw [ifp q2, ifn (by omega)]
    · rw [ifn q2, ifp (by omega)]
/-- the pile -/
def Pil (g : Nat → Int32) (st : List Int32) : Prop := ∀ k, k < st.length → g (st.length - 1 - k) = st.getD k 0
theorem Pil.push {g : Nat → Int32} {st : List Int32} {y : Int32} (h : Pil g st) : Pil (up0 g st.length y) (y :: st) := by
  intro k hk
  simp only [List.length_cons] at hk ⊢
  simp only [up0]
  cases k with
  | zero => rw [ifp (by omega)]; rfl
  | succ k =>
    rw [ifn (by omega), List.getD_cons_succ, ← h k (by omega)]
    congr 1; omega
theorem Pil.tail {g : Nat → Int32} {a : Int32} {st : List Int32} (h : Pil g (a :: st)) : Pil g st := by
  intro k hk
  have := h (k + 1) (by simp; omega)
  rw [List.getD_cons_succ] at this
  rw [← this]
  congr 1
  simp only [List.length_cons]; omega
theorem Pil.top {g : Nat → Int32} {a : Int32} {st : List Int32} (h : Pil g (a :: st)) : g st.length = a := by
  have := h 0 (by simp)
  simp only [List.length_cons, List.getD_cons_zero] at this
  rw [← this]
  congr 1
theorem askedOf_L {σ : MS} {b N i : Nat} {asks : Option Cd} (hB : MB σ b N) (hA : MAsk σ b asks) (ho : okA asks) (hi : i < 8) : ∃ g, F_askedOf (n32 i) σ = some (askS asks i, sA σ 34 g) := by
  have hMN := MN_gt
  have hb := hB.2.1
  have zb := n32_nat (a := b) (by omega)
  unfold F_askedOf
  simp only [↓lt_y]
  rw [hB.1, show (400 : Int32) * n32 b = n32 (400 * b) from by simp (disch := omega) only [↓reduceIte, ↓lt_y, leT, leF, ltT, ltF, eqT, eqF, n32_lit, n32_add, n32_mul, n32_sub, n32_le, n32_lt, n32_eq, n32_nat, gdn, gd_T, inbT, bd_y, bd2_y, ifp, ifn, not_true_eq_false, not_false_eq_true, and_self, true_and, and_true, false_and, and_false, or_self, true_or, or_true, false_or, or_false, wA_s, wL_s, sA_same, sL_same, sA_L, sL_A, sA_I, sL_I, wI_A, wI_L, wI_same, sA_sA, sL_sL, sA_ne, sL_ne, wI_ne], show (0 : Int32) = n32 0 from rfl]
  cases asks with
  | none =>
    obtain ⟨a1, a2⟩ := hA
    obtain ⟨fu, hfu⟩ : ∃ f, MN = f + 1 := ⟨MN - 1, by omega⟩
    rw [hfu, F_askedOf_L11, hB.1]
    simp only [zb, a2]
    rw [gd_y (n32_inb (by omega)), ifp (by simp (disch := omega) only [↓reduceIte, ↓lt_y, leT, leF, ltT, ltF, eqT, eqF, n32_lit, n32_add, n32_mul, n32_sub, n32_le, n32_lt, n32_eq, n32_nat, gdn, gd_T, inbT, bd_y, bd2_y, ifp, ifn, not_true_eq_false, not_false_eq_true, and_self, true_and, and_true, false_and, and_false, or_self, true_or, or_true, false_or, or_false, wA_s, wL_s, sA_same, sL_same, sA_L, sL_A, sA_I, sL_I, wI_A, wI_L, wI_same, sA_sA, sL_sL, sA_ne, sL_ne, wI_ne])]
    unfold F_askedOf_b162
    rw [hB.1]
    simp only [zb, a1]
    rw [gd_y (n32_inb (by omega)), ifp trivial]
    exact ⟨mA σ 34, by rw [sA_id]; rfl⟩
  | some code =>
    obtain ⟨a1, a2, a3⟩ := hA
    obtain ⟨o1, o2, o3⟩ := ho code rfl
    have main : ∀ (rest : Cd) (j : Nat) (st : List Int32) (g : Nat → Int32) (fu : Nat), code.drop j = rest → j + rest.length = code.length → Pil g st → st.length ≤ 69 → hgc rest st.length = some 1 → rest.length < fu →
        ∃ g', F_askedOf_L11 fu (n32 i) (n32 st.length) (n32 (400 * b + j)) (sA σ 34 g) = some ((evc i rest st).headD 0, sA σ 34 g') := by
      intro rest
      induction rest with
      | nil =>
        intro j st g fu hd hj hp hs hh hfu
        obtain ⟨fu, rfl⟩ : ∃ f, fu = f + 1 := ⟨fu - 1, by omega⟩
        have hst : st.length = 1 := by simpa [hgc] using hh
        have hjl : j = code.length := by simpa using hj
        obtain ⟨a, ha⟩ : ∃ a, st = [a] := by
          cases st with
          | nil => simp at hst
          | cons a t => cases t with
            | nil => exact ⟨a, rfl⟩
            | cons => simp at hst
        subst ha
        have htop := hp.top
        rw [F_askedOf_L11, sA_I, hB.1]
        simp only [zb, sA_ne _ _ _ _ (show (19 : Nat) ≠ 34 by omega), a2]
        rw [gd_y (n32_inb (by omega)), ifp (by simp (disch := omega) only [↓reduceIte, ↓lt_y, leT, leF, ltT, ltF, eqT, eqF, n32_lit, n32_add, n32_mul, n32_sub, n32_le, n32_lt, n32_eq, n32_nat, gdn, gd_T, inbT, bd_y, bd2_y, ifp, ifn, not_true_eq_false, not_false_eq_true, and_self, true_and, and_true, false_and, and_false, or_self, true_or, or_true, false_or, or_false, wA_s, wL_s, sA_same, sL_same, sA_L, sL_A, sA_I, sL_I, wI_A, wI_L, wI_same, sA_sA, sL_sL, sA_ne, sL_ne, wI_ne])]
        unfold F_askedOf_b162
        rw [sA_I, hB.1]
        simp only [zb, sA_ne _ _ _ _ (show (21 : Nat) ≠ 34 by omega), a1]
        rw [gd_y (n32_inb (by omega)), ifn (by decide), gd_y (by decide), sA_same, show Int32.toNatClampNeg (0 : Int32) = 0 from rfl]
        exact ⟨g, by simp only [evc, List.headD_cons]; rw [show g 0 = a from htop]⟩
      | cons q rest ih =>
        intro j st g fu hd hj hp hs hh hfu
        obtain ⟨fu, rfl⟩ : ∃ f, fu = f + 1 := ⟨fu - 1, by omega⟩
        have hq : code[j]? = some q := by
          have : (code.drop j)[0]? = some q := by rw [hd]; rfl
          rwa [List.getElem?_drop, Nat.add_zero] at this
        have hjl : j < code.length := (List.getElem?_eq_some_iff.mp hq).1
        have hd' : code.drop (j + 1) = rest := by rw [← List.tail_drop, hd]; rfl
        have hmem : q ∈ code := List.mem_of_getElem? hq
        obtain ⟨b1, b2, b3⟩ := o3 q hmem
        obtain ⟨d1, d2⟩ := a3 j q hq
        have zj := n32_nat (a := 400 * b + j) (by omega)
        have zs := n32_nat (a := st.length) (by omega)
        simp only [List.length_cons] at hj hfu
        obtain ⟨h', hh1, hh2⟩ : ∃ h', hg1 q st.length = some h' ∧ hgc rest h' = some 1 := by
          simp only [hgc] at hh
          cases e : hg1 q st.length with
          | none => rw [e] at hh; cases hh
          | some h' => rw [e] at hh; exact ⟨h', rfl, hh⟩
        rw [F_askedOf_L11, sA_I, hB.1]
        simp only [zb, sA_ne _ _ _ _ (show (19 : Nat) ≠ 34 by omega), a2]
        rw [gd_y (n32_inb (by omega)), ifn (by simp (disch := omega) only [↓reduceIte, ↓lt_y, leT, leF, ltT, ltF, eqT, eqF, n32_lit, n32_add, n32_mul, n32_sub, n32_le, n32_lt, n32_eq, n32_nat, gdn, gd_T, inbT, bd_y, bd2_y, ifp, ifn, not_true_eq_false, not_false_eq_true, and_self, true_and, and_true, false_and, and_false, or_self, true_or, or_true, false_or, or_false, wA_s, wL_s, sA_same, sL_same, sA_L, sL_A, sA_I, sL_I, wI_A, wI_L, wI_same, sA_sA, sL_sL, sA_ne, sL_ne, wI_ne]), gd_y (n32_inb (by omega))]
        simp only [↓lt_y, zj, sA_ne _ _ _ _ (show (30 : Nat) ≠ 34 by omega), sA_ne _ _ _ _ (show (31 : Nat) ≠ 34 by omega), d1]
        have e1 : n32 (400 * b + j) + (1 : Int32) = n32 (400 * b + (j + 1)) := n32_add (400 * b + j) 1
        by_cases t : q.1 = 126
        · unfold hg1 at hh1
          rw [ifp t] at hh1
          cases st with
          | nil => simp at hh1
          | cons a st =>
            have ev : ev1 i q (a :: st) = (if a = 0 then 1 else 0) :: st := by unfold ev1; rw [ifp t]
            have hh3 : (a :: st).length = h' := by rw [ifp (by simp)] at hh1; exact Option.some.inj hh1
            have htop := hp.top
            have e2 : n32 (a :: st).length - (1 : Int32) = n32 st.length := by rw [show (1 : Int32) = n32 1 from rfl, n32_sub (by simp)]; congr 1
            have zt := n32_nat (a := st.length) (by simp only [List.length_cons] at hs; omega)
            simp only [List.length_cons] at hs
            rw [ifp (by simp (disch := omega) only [↓reduceIte, ↓lt_y, leT, leF, ltT, ltF, eqT, eqF, n32_lit, n32_add, n32_mul, n32_sub, n32_le, n32_lt, n32_eq, n32_nat, gdn, gd_T, inbT, bd_y, bd2_y, ifp, ifn, not_true_eq_false, not_false_eq_true, and_self, true_and, and_true, false_and, and_false, or_self, true_or, or_true, false_or, or_false, wA_s, wL_s, sA_same, sL_same, sA_L, sL_A, sA_I, sL_I, wI_A, wI_L, wI_same, sA_sA, sL_sL, sA_ne, sL_ne, wI_ne]), e2, gd_y (n32_inb (by omega)), zt, sA_same, htop]
            unfold F_askedOf_b62 F_askedOf_b156
            have go : ∀ y : Int32, y = (if a = 0 then 1 else 0) → ∃ g', F_askedOf_L11 fu (n32 i) (n32 (a :: st).length) (n32 (400 * b + (j + 1))) (sA σ 34 (up0 g st.length y)) = some ((evc i (q :: rest) (a :: st)).headD 0, sA σ 34 g') := by
              intro y hy
              have := ih (j + 1) (y :: st) (up0 g st.length y) fu hd' (by omega) (hp.tail.push) (by simp; omega) (by rw [show (y :: st).length = (a :: st).length from rfl, hh3]; exact hh2) (by omega)
              rw [evc, ev, ← hy]
              exact this
            by_cases q0 : a = 0
            · rw [ifp q0, gd_y (n32_inb (by omega)), zt, wA_s, sA_same, sA_sA]
              simp only [↓lt_y]
              rw [e1]
              exact go 1 (by rw [ifp q0])
            · rw [ifn q0, gd_y (n32_inb (by omega)), zt, wA_s, sA_same, sA_sA]
              simp only [↓lt_y]
              rw [e1]
              exact go 0 (by rw [ifn q0])
        rw [ifn (by simp (disch := omega) only [↓reduceIte, ↓lt_y, leT, leF, ltT, ltF, eqT, eqF, n32_lit, n32_add, n32_mul, n32_sub, n32_le, n32_lt, n32_eq, n32_nat, gdn, gd_T, inbT, bd_y, bd2_y, ifp, ifn, not_true_eq_false, not_false_eq_true, and_self, true_and, and_true, false_and, and_false, or_self, true_or, or_true, false_or, or_false, wA_s, wL_s, sA_same, sL_same, sA_L, sL_A, sA_I, sL_I, wI_A, wI_L, wI_same, sA_sA, sL_sL, sA_ne, sL_ne, wI_ne]), isLetter_L q.1 (by omega)]
        simp only [bd_y]
        by_cases tl : 97 ≤ q.1 ∧ q.1 ≤ 122
        · have ev : ev1 i q st = cdv i q.1 q.2 :: st := by unfold ev1; rw [ifn t, ifp tl]
          unfold hg1 at hh1
          rw [ifn t, ifp tl] at hh1
          have h69 : st.length < 69 := by
            apply Classical.byContradiction
            intro z
            rw [ifn z] at hh1; cases hh1
          rw [ifp h69] at hh1
          cases hh1
          rw [b32, ifp tl, ifn (by decide)]
          have go : ∀ y : Int32, y = cdv i q.1 q.2 → ∃ g', F_askedOf_b119 (F_askedOf_b156 (F_askedOf_L11 fu)) (n32 i) (n32 st.length) (n32 (400 * b + j)) y (n32 st.length) (sA σ 34 g) = some ((evc i (q :: rest) st).headD 0, sA σ 34 g') := by
            intro y hy
            unfold F_askedOf_b119 F_askedOf_b156
            rw [gd_y (n32_inb (by omega)), zs, wA_s, sA_same, sA_sA]
            simp only [↓lt_y]
            rw [e1, show n32 st.length + (1 : Int32) = n32 (st.length + 1) from by simp (disch := omega) only [↓reduceIte, ↓lt_y, leT, leF, ltT, ltF, eqT, eqF, n32_lit, n32_add, n32_mul, n32_sub, n32_le, n32_lt, n32_eq, n32_nat, gdn, gd_T, inbT, bd_y, bd2_y, ifp, ifn, not_true_eq_false, not_false_eq_true, and_self, true_and, and_true, false_and, and_false, or_self, true_or, or_true, false_or, or_false, wA_s, wL_s, sA_same, sL_same, sA_L, sL_A, sA_I, sL_I, wI_A, wI_L, wI_same, sA_sA, sL_sL, sA_ne, sL_ne, wI_ne]]
            have := ih (j + 1) (y :: st) (up0 g st.length y) fu hd' (by omega) hp.push (by simp; omega) hh2 (by omega)
            rw [evc, ev, ← hy]
            exact this
          by_cases t110 : q.1 = 110
          · rw [ifp (by simp (disch := omega) only [↓reduceIte, ↓lt_y, leT, leF, ltT, ltF, eqT, eqF, n32_lit, n32_add, n32_mul, n32_sub, n32_le, n32_lt, n32_eq, n32_nat, gdn, gd_T, inbT, bd_y, bd2_y, ifp, ifn, not_true_eq_false, not_false_eq_true, and_self, true_and, and_true, false_and, and_false, or_self, true_or, or_true, false_or, or_false, wA_s, wL_s, sA_same, sL_same, sA_L, sL_A, sA_I, sL_I, wI_A, wI_L, wI_same, sA_sA, sL_sL, sA_ne, sL_ne, wI_ne]), gd_y (n32_inb (by omega)), d2 (Or.inl t110)]
            exact go _ (by unfold cdv; rw [ifp t110])
          · rw [ifn (by simp (disch := omega) only [↓reduceIte, ↓lt_y, leT, leF, ltT, ltF, eqT, eqF, n32_lit, n32_add, n32_mul, n32_sub, n32_le, n32_lt, n32_eq, n32_nat, gdn, gd_T, inbT, bd_y, bd2_y, ifp, ifn, not_true_eq_false, not_false_eq_true, and_self, true_and, and_true, false_and, and_false, or_self, true_or, or_true, false_or, or_false, wA_s, wL_s, sA_same, sL_same, sA_L, sL_A, sA_I, sL_I, wI_A, wI_L, wI_same, sA_sA, sL_sL, sA_ne, sL_ne, wI_ne])]
            by_cases t97 : q.1 = 97
            · rw [ifp (by simp (disch := omega) only [↓reduceIte, ↓lt_y, leT, leF, ltT, ltF, eqT, eqF, n32_lit, n32_add, n32_mul, n32_sub, n32_le, n32_lt, n32_eq, n32_nat, gdn, gd_T, inbT, bd_y, bd2_y, ifp, ifn, not_true_eq_false, not_false_eq_true, and_self, true_and, and_true, false_and, and_false, or_self, true_or, or_true, false_or, or_false, wA_s, wL_s, sA_same, sL_same, sA_L, sL_A, sA_I, sL_I, wI_A, wI_L, wI_same, sA_sA, sL_sL, sA_ne, sL_ne, wI_ne]), bitsOf_L i (by omega)]
              simp only [bd_y]
              exact go _ (by unfold cdv; rw [ifn t110, ifp t97])
            · have b4 := b3 tl.1 tl.2 t110 t97
              rw [ifn (by simp (disch := omega) only [↓reduceIte, ↓lt_y, leT, leF, ltT, ltF, eqT, eqF, n32_lit, n32_add, n32_mul, n32_sub, n32_le, n32_lt, n32_eq, n32_nat, gdn, gd_T, inbT, bd_y, bd2_y, ifp, ifn, not_true_eq_false, not_false_eq_true, and_self, true_and, and_true, false_and, and_false, or_self, true_or, or_true, false_or, or_false, wA_s, wL_s, sA_same, sL_same, sA_L, sL_A, sA_I, sL_I, wI_A, wI_L, wI_same, sA_sA, sL_sL, sA_ne, sL_ne, wI_ne]), gd_y (n32_inb (by omega)), d2 (Or.inr ⟨tl.1, tl.2, t97⟩)]
              exact go _ (by
                unfold cdv
                rw [ifn t110, ifn t97]
                exact n32_bit i q.2 (by omega) (by omega))
        · unfold hg1 at hh1
          rw [ifn t, ifn tl] at hh1
          have h2 : 2 ≤ st.length := by
            apply Classical.byContradiction
            intro z
            rw [ifn z] at hh1; cases hh1
          rw [ifp h2] at hh1
          cases hh1
          rw [b32, ifn tl, ifp (c := n32 0 = (0 : Int32)) rfl]
          cases st with
          | nil => simp at h2
          | cons y st => cases st with
            | nil => simp at h2
            | cons x st =>
              have ev : ev1 i q (y :: x :: st) = cme q.1 x y :: st := by unfold ev1; rw [ifn t, ifn tl]
              have htop := hp.top
              have htop2 := hp.tail.top
              simp only [List.length_cons] at hs htop hh2
              have e2 : n32 (y :: x :: st).length + (-1 : Int32) = n32 (st.length + 1) := n32_neg1 (st.length + 1)
              have e3 : n32 (st.length + 1) - (1 : Int32) = n32 st.length := by rw [show (1 : Int32) = n32 1 from rfl, n32_sub (by omega)]; congr 1
              have z1 := n32_nat (a := st.length + 1) (by omega)
              have z2 := n32_nat (a := st.length) (by omega)
              rw [e2, e3, gd_y (n32_inb (by omega)), gd_y (n32_inb (by omega))]
              simp only [z1, z2, sA_same, htop, htop2]
              rw [come_L _ (by omega)]
              simp only [bd_y]
              rw [gd_y (n32_inb (by omega)), wA_s, sA_same, sA_sA]
              unfold F_askedOf_b156
              simp only [↓lt_y]
              rw [e1]
              have := ih (j + 1) (cme q.1 x y :: st) (up0 g st.length (cme q.1 x y)) fu hd' (by omega) hp.tail.tail.push (by simp; omega) (by simpa using hh2) (by omega)
              rw [evc, ev]
              exact this
    have := main code 0 [] (mA σ 34) MN rfl (by omega) (fun k hk => by simp at hk) (by simp) o1 (by omega)
    rw [sA_id] at this
    exact this
/-! the tree begins -/
theorem begin_L {σ : MS} {b N : Nat} {asks : Option Cd} (hB : MB σ b N) (hA : MAsk σ b asks) (ho : okA asks) :
    ∃ τ, F_begin σ = some τ ∧ Fr [] [34, 45, 46, 47, 48, 56] [43, 44] σ τ ∧ LV τ 0 (lv0 N) ∧ (∀ i, i < N → mA τ 56 i = askS asks i) := by
  have hMN := MN_gt
  have hN := hB.le
  unfold F_begin
  rw [show (0 : Int32) = n32 0 from rfl, clearDist_L σ 0 (by omega)]
  simp only [bd_y]
  obtain ⟨fu, s, ⟨f1, f2, f3⟩, e⟩ := upe (fun fu i s => F_begin_L7 fu (n32 i) s) 0 N
    (fun i0 s => Fr [] [34, 56] [43] σ s ∧ (∀ i r, i < 8 → r < 256 → mL s 43 (256 * i + r) = e64 (if i < i0 ∧ r = 0 then 1 else 0)) ∧ ∀ i, i < i0 → mA s 56 i = askS asks i)
    (by
      rintro fu i0 s - hi ⟨f1, f2, f3⟩
      have hB' := hB.fr f1 (by simp) (by simp)
      have hA' : ∀ g, MAsk (sL s 43 g) b asks := by
        intro g
        have f4 : Fr [] [34, 56] [43] σ (sL s 43 g) := f1.tr (Fr.sL s 43 g) (by simp) (by simp) (by simp)
        unfold MAsk at hA ⊢
        cases asks with
        | none => exact ⟨by rw [f4.2.1 21 (by simp)]; exact hA.1, by rw [f4.2.1 19 (by simp)]; exact hA.2⟩
        | some code => exact ⟨by rw [f4.2.1 21 (by simp)]; exact hA.1, by rw [f4.2.1 19 (by simp)]; exact hA.2.1, by rw [f4.2.1 30 (by simp), f4.2.1 31 (by simp)]; exact hA.2.2⟩
      simp only [F_begin_L7]
      rw [inputs_L hB']
      simp only [bd_y]
      rw [ifn (by simp (disch := omega) only [↓reduceIte, ↓lt_y, leT, leF, ltT, ltF, eqT, eqF, n32_lit, n32_add, n32_mul, n32_sub, n32_le, n32_lt, n32_eq, n32_nat, gdn, gd_T, inbT, bd_y, bd2_y, ifp, ifn, not_true_eq_false, not_false_eq_true, and_self, true_and, and_true, false_and, and_false, or_self, true_or, or_true, false_or, or_false, wA_s, wL_s, sA_same, sL_same, sA_L, sL_A, sA_I, sL_I, wI_A, wI_L, wI_same, sA_sA, sL_sL, sA_ne, sL_ne, wI_ne]), show (256 : Int32) * n32 i0 = n32 (256 * i0) from by simp (disch := omega) only [↓reduceIte, ↓lt_y, leT, leF, ltT, ltF, eqT, eqF, n32_lit, n32_add, n32_mul, n32_sub, n32_le, n32_lt, n32_eq, n32_nat, gdn, gd_T, inbT, bd_y, bd2_y, ifp, ifn, not_true_eq_false, not_false_eq_true, and_self, true_and, and_true, false_and, and_false, or_self, true_or, or_true, false_or, or_false, wA_s, wL_s, sA_same, sL_same, sA_L, sL_A, sA_I, sL_I, wI_A, wI_L, wI_same, sA_sA, sL_sL, sA_ne, sL_ne, wI_ne], gd_y (n32_inb (by omega)), n32_nat (by omega), wL_s]
      simp only [↓lt_y]
      obtain ⟨g, e2⟩ := askedOf_L (σ := sL s 43 (up0 (mL s 43) (256 * i0) 1)) (N := N) (i := i0) (hB'.fr (Fr.sL s 43 _) (by simp) (by simp)) (hA' _) ho (by omega)
      rw [e2]
      simp only [bd2_y]
      rw [gd_y (n32_inb (by omega)), n32_nat (by omega), wA_s, show n32 i0 + (1 : Int32) = n32 (i0 + 1) from by simp (disch := omega) only [↓reduceIte, ↓lt_y, leT, leF, ltT, ltF, eqT, eqF, n32_lit, n32_add, n32_mul, n32_sub, n32_le, n32_lt, n32_eq, n32_nat, gdn, gd_T, inbT, bd_y, bd2_y, ifp, ifn, not_true_eq_false, not_false_eq_true, and_self, true_and, and_true, false_and, and_false, or_self, true_or, or_true, false_or, or_false, wA_s, wL_s, sA_same, sL_same, sA_L, sL_A, sA_I, sL_I, wI_A, wI_L, wI_same, sA_sA, sL_sL, sA_ne, sL_ne, wI_ne]]
      have f5 : Fr [] [34, 56] [43] s (sA (sA (sL s 43 (up0 (mL s 43) (256 * i0) 1)) 34 g) 56 (up0 (mA (sA (sL s 43 (up0 (mL s 43) (256 * i0) 1)) 34 g) 56) i0 (askS asks i0))) :=
        ((Fr.sL s 43 _).tr (Fr.sA _ 34 g) (js := []) (bs := [34]) (ms := [43]) (by simp) (by simp) (by simp)).tr (Fr.sA _ 56 _) (by simp) (by simp <;> omega) (by simp)
      refine ⟨_, rfl, f1.tr f5 (by simp) (by simp <;> omega) (by simp), fun i r hi' hr => ?_, fun i hi' => ?_⟩
      · rw [sA_L, sA_L, sL_same, up0]
        by_cases q : i = i0 ∧ r = 0
        · rw [ifp (by omega), ifp (by omega)]; rfl
        · rw [ifn (by omega), f2 i r hi' hr]
          congr 1
          by_cases q2 : i < i0 ∧ r = 0
          · rw [ifp q2, ifp (by omega)]
          · rw [ifn q2, ifn (by omega)]
      · rw [sA_same, up0]
        by_cases q : i = i0
        · rw [ifp q, q]
        · rw [ifn q, sA_ne _ _ _ _ (by omega), sL_A]; exact f3 i (by omega))
    (sL σ 43 fun j => if 2048 * 0 ≤ j ∧ j < 2048 * 0 + 2048 then 0 else mL σ 43 j) MN (by omega) (by omega)
    ⟨(Fr.sL σ 43 _).mono (by simp) (by simp) (by simp), fun i r hi hr => by rw [sL_same, ifp (by omega), ifn (by omega)]; rfl, fun i hi => by omega⟩
  rw [e]
  simp only [F_begin_L7]
  rw [inputs_L (hB.fr f1 (by simp) (by simp))]
  simp only [bd_y]
  rw [ifp (by simp (disch := omega) only [↓reduceIte, ↓lt_y, leT, leF, ltT, ltF, eqT, eqF, n32_lit, n32_add, n32_mul, n32_sub, n32_le, n32_lt, n32_eq, n32_nat, gdn, gd_T, inbT, bd_y, bd2_y, ifp, ifn, not_true_eq_false, not_false_eq_true, and_self, true_and, and_true, false_and, and_false, or_self, true_or, or_true, false_or, or_false, wA_s, wL_s, sA_same, sL_same, sA_L, sL_A, sA_I, sL_I, wI_A, wI_L, wI_same, sA_sA, sL_sL, sA_ne, sL_ne, wI_ne])]
  unfold F_begin_b43
  have z0 : Int32.toNatClampNeg (0 : Int32) = 0 := rfl
  have i0 : inb (0 : Int32) 16 := by decide
  simp only [gd_y i0, ↓lt_y]
  simp only [z0, wA_s, wL_s]
  refine ⟨_, rfl, ?_, ⟨fun i q hi hq => ?_, ?_, ?_, ?_, ?_, ?_⟩, fun i hi => ?_⟩
  · exact ((((f1.tr (Fr.sA s 45 _) (js := []) (bs := [34, 56, 45]) (ms := [43]) (by simp) (by simp <;> omega) (by simp)).tr (Fr.sA _ 46 _) (js := []) (bs := [34, 56, 45, 46]) (ms := [43]) (by simp) (by simp <;> omega) (by simp)).tr (Fr.sA _ 47 _) (js := []) (bs := [34, 56, 45, 46, 47]) (ms := [43]) (by simp) (by simp <;> omega) (by simp)).tr (Fr.sA _ 48 _) (js := []) (bs := [34, 56, 45, 46, 47, 48]) (ms := [43]) (by simp) (by simp <;> omega) (by simp)).tr (Fr.sL _ 44 _) (by simp) (by simp <;> omega) (by simp <;> omega)
  · rw [sL_ne _ _ _ _ (by omega)]
    have := f2 i q hi hq
    simp only [sA_L]
    rw [show 2048 * 0 + 256 * i + q = 256 * i + q by omega, this]
    rfl
  · simp (disch := omega) only [sL_A, sA_ne, sA_same]; rfl
  · simp (disch := omega) only [sL_A, sA_ne, sA_same]; rfl
  · simp (disch := omega) only [sL_A, sA_ne, sA_same]; rfl
  · simp (disch := omega) only [sL_A, sA_ne, sA_same]
    exact ⟨0, rfl, by omega, fun p hp => by simp [lv0, vS]⟩
  · rw [sL_same]; rfl
  · simp (disch := omega) only [sL_A, sA_ne]
    exact f3 i hi
theorem lv0_ok (N : Nat) : okV N (lv0 N) := by
  refine ⟨by show 0 ≤ 8; omega, fun i r h => ?_, (fun p h => by cases h), fun p => by show 0 ≤ 2; omega⟩
  have h' : (if i < N ∧ r = 0 then 1 else 0) ≠ 0 := h
  split at h'
  · rename_i q
    refine ⟨q.1, ?_⟩
    rw [q.2]
    exact Nat.two_pow_pos _
  · exact absurd rfl h'
theorem lv0_bd (N : Nat) (xs : List Stq) : bdV xs (lv0 N) := by
  have e1 : vW (lv0 N) = 1 := rfl
  have e2 : vP (lv0 N) = 0 := rfl
  unfold bdV
  rw [e1, e2]
  refine ⟨fun i => ?_, by show 1 ≤ 24 ^ 0; decide⟩
  have e3 : vD (lv0 N) i = fun r => if i < N ∧ r = 0 then 1 else 0 := rfl
  rw [e3]
  calc _ ≤ sm 256 (fun r => if r = 0 then 1 else 0) := sm_le fun r _ => by
        by_cases q : i < N ∧ r = 0
        · rw [ifp q, ifp q.2]; exact Nat.le_refl _
        · rw [ifn q]; exact Nat.zero_le _
    _ = 1 := sm_pick 0 fun _ => 1
