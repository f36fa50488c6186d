set_option maxRecDepth 100000
/-! THE MATHEMATICAL MACHINE: steps, moves, distributions -/
/-- a step: its sort (0 lay, 1 put, 2 swap, 3 row, 4 cut, 5 halves, 6 piles, 7 mix, 8 look, 9 if, 10 mark, 11 end, 12 says), three numbers, places, a name, where it was told -/
abbrev Stq : Type := Nat × Nat × Nat × Nat × List Nat × Nat × Nat
def sT (x : Stq) : Nat := x.1
def s1 (x : Stq) : Nat := x.2.1
def s2 (x : Stq) : Nat := x.2.2.1
def s3 (x : Stq) : Nat := x.2.2.2.1
def sl (x : Stq) : List Nat := x.2.2.2.2.1
def sn (x : Stq) : Nat := x.2.2.2.2.2.1
def sg (x : Stq) : Nat := x.2.2.2.2.2.2
def mx (l : List Nat) : Nat := l.foldl max 0
/-- how wide -/
def wd (x : Stq) : Nat := s2 x - s1 x + 1
/-- how many ways -/
def wys (x : Stq) : Nat := if sT x = 4 then wd x else if sT x = 5 then 2 else if sT x = 6 then wd x / s3 x else if sT x = 7 then (if wd x = 2 then 2 else if wd x = 3 then 6 else 24) else 1
/-- how many cards must lie there -/
def need (x : Stq) : Nat := if sT x = 2 ∨ sT x = 11 then max (s1 x) (s2 x) + 1 else if sT x = 3 ∨ sT x = 8 then mx (sl x) + 1 else if 4 ≤ sT x ∧ sT x ≤ 7 then s2 x + 1 else 0
/-- a step as it may be -/
def okS (x : Stq) : Prop :=
  (sT x = 0 → s1 x < 3) ∧ (sT x = 1 → s1 x < 2) ∧ (sT x = 2 ∨ sT x = 11 → s1 x < 8 ∧ s2 x < 8 ∧ s1 x ≠ s2 x) ∧
  (sT x = 3 → 0 < (sl x).length ∧ (sl x).length ≤ 8 ∧ (sl x).Nodup ∧ ∀ y ∈ sl x, y < (sl x).length) ∧ (4 ≤ sT x → sT x ≤ 7 → s1 x < s2 x ∧ s2 x < 8) ∧
  (sT x = 5 → wd x % 2 = 0) ∧ (sT x = 6 → 0 < s3 x ∧ s3 x ≤ 4 ∧ wd x % s3 x = 0 ∧ 2 * s3 x ≤ wd x) ∧ (sT x = 7 → wd x ≤ 4) ∧
  (sT x = 8 → 0 < (sl x).length ∧ (sl x).length ≤ 8 ∧ (sl x).Nodup ∧ ∀ y ∈ sl x, y < 8) ∧ (sT x = 9 → s1 x < 8 ∧ s2 x < 2) ∧ (sT x = 12 → s1 x ≤ 9999) ∧ sT x ≤ 12
def mixg : Nat → Nat → Nat → List Nat → List Nat
  | 0, _, _, _ => []
  | n + 1, u, r, l => l.getD (r / (u / (n + 1))) 0 :: mixg n (u / (n + 1)) (r % (u / (n + 1))) (l.eraseIdx (r / (u / (n + 1))))
def mixp (n w : Nat) : List Nat := mixg n (if n = 2 then 2 else if n = 3 then 6 else 24) w (List.range n)
/-- by how much a cut goes on -/
def sby (x : Stq) (w : Nat) : Nat := if sT x = 5 then w * wd x / 2 else if sT x = 6 then w * s3 x else w
def rot (a b n p : Nat) : Nat := if a ≤ p ∧ p ≤ b then a + (p - a + n) % (b - a + 1) else p
/-- where the card at a place comes from; where it goes to -/
def sfr (x : Stq) (w p : Nat) : Nat :=
  if sT x = 2 then (if p = s1 x then s2 x else if p = s2 x then s1 x else p)
  else if sT x = 3 then (sl x).getD p p
  else if sT x = 7 then (if s1 x ≤ p ∧ p ≤ s2 x then s1 x + (mixp (wd x) w).getD (p - s1 x) 0 else p)
  else if 4 ≤ sT x ∧ sT x ≤ 6 then rot (s1 x) (s2 x) (wd x - sby x w % wd x) p else p
def sto (x : Stq) (w p : Nat) : Nat :=
  if sT x = 2 then (if p = s1 x then s2 x else if p = s2 x then s1 x else p)
  else if sT x = 3 then (if p ∈ sl x then (sl x).idxOf p else p)
  else if sT x = 7 then (if s1 x ≤ p ∧ p ≤ s2 x then s1 x + (mixp (wd x) w).idxOf (p - s1 x) else p)
  else if 4 ≤ sT x ∧ sT x ≤ 6 then rot (s1 x) (s2 x) (sby x w) p else p
/-- or of so many -/
def orr (n : Nat) (g : Nat → Nat) : Nat := match n with
  | 0 => 0
  | n + 1 => orr n g ||| g n
def mvr (f : Nat → Nat) (r : Nat) : Nat := orr 8 fun p => ((r >>> f p) &&& 1) <<< p
theorem orr_bit (n : Nat) (g : Nat → Nat) (j : Nat) : (orr n g).testBit j = true ↔ ∃ k, k < n ∧ (g k).testBit j = true := by
  induction n with
  | zero => simp [orr]
  | succ n ih =>
    rw [orr, Nat.testBit_or, Bool.or_eq_true, ih]
    constructor
    · rintro (⟨k, hk, h⟩ | h)
      · exact ⟨k, by omega, h⟩
      · exact ⟨n, by omega, h⟩
    · rintro ⟨k, hk, h⟩
      by_cases e : k = n
      · subst e; exact Or.inr h
      · exact Or.inl ⟨k, by omega, h⟩
theorem bit1 (r p : Nat) : ((r >>> p) &&& 1).testBit 0 = r.testBit p := by simp
theorem and1_lt (r p : Nat) : (r >>> p) &&& 1 < 2 := by
  rw [Nat.and_one_is_mod]; omega
theorem bit_sh (r p k j : Nat) : (((r >>> p) &&& 1) <<< k).testBit j = (decide (j = k) && r.testBit p) := by
  rw [Nat.testBit_shiftLeft]
  by_cases h : j = k
  · subst h; simp
  · by_cases h2 : k ≤ j
    · have : j - k ≠ 0 := by omega
      have e : ((r >>> p) &&& 1).testBit (j - k) = false := by
        apply Nat.testBit_lt_two_pow
        calc _ < 2 := and1_lt r p
          _ = 2 ^ 1 := rfl
          _ ≤ _ := Nat.pow_le_pow_right (by omega) (by omega)
      rw [e]; simp [h]
    · simp [h, h2]
theorem mvr_bit (f : Nat → Nat) (r p : Nat) : (mvr f r).testBit p = (decide (p < 8) && r.testBit (f p)) := by
  rw [Bool.eq_iff_iff]
  unfold mvr
  rw [orr_bit]
  constructor
  · rintro ⟨k, hk, h⟩
    rw [bit_sh] at h
    simp at h
    obtain ⟨rfl, h⟩ := h
    simp [hk, h]
  · intro h
    simp at h
    exact ⟨p, h.1, by rw [bit_sh]; simp [h.2]⟩
theorem lt_of_bits {r n : Nat} (h : ∀ j, n ≤ j → r.testBit j = false) : r < 2 ^ n := Nat.lt_pow_two_of_testBit r fun i hi => h i hi
theorem mvr_lt (f : Nat → Nat) (r : Nat) : mvr f r < 256 := lt_of_bits (n := 8) fun j hj => by rw [mvr_bit]; simp; omega
theorem orr_lt (n k : Nat) (g : Nat → Nat) (h : ∀ j, j < n → g j < 2 ^ k) : orr n g < 2 ^ k := by
  induction n with
  | zero => exact Nat.two_pow_pos k
  | succ n ih => exact Nat.or_lt_two_pow (ih fun j hj => h j (by omega)) (h n (by omega))
/-! sums -/
theorem sm_eq {n : Nat} {f g : Nat → Nat} (h : ∀ k, k < n → f k = g k) : sm n f = sm n g := by
  induction n with
  | zero => rfl
  | succ n ih => rw [sm, sm, ih fun k hk => h k (by omega), h n (by omega)]
theorem sm_zero {n : Nat} {f : Nat → Nat} (h : ∀ k, k < n → f k = 0) : sm n f = 0 := by
  rw [sm_eq (g := fun _ => 0) h]
  induction n with
  | zero => rfl
  | succ n ih => rw [sm, ih fun k hk => h k (by omega)]
theorem sm_add (n : Nat) (f g : Nat → Nat) : sm n (fun k => f k + g k) = sm n f + sm n g := by
  induction n with
  | zero => rfl
  | succ n ih => simp only [sm, ih]; omega
theorem sm_swap (n m : Nat) (f : Nat → Nat → Nat) : sm n (fun i => sm m (fun j => f i j)) = sm m (fun j => sm n (fun i => f i j)) := by
  induction n with
  | zero => simp only [sm]; exact (sm_zero fun _ _ => rfl).symm
  | succ n ih => simp only [sm, ih, sm_add]
theorem sm_le {n : Nat} {f g : Nat → Nat} (h : ∀ k, k < n → f k ≤ g k) : sm n f ≤ sm n g := by
  induction n with
  | zero => exact Nat.le_refl 0
  | succ n ih => exact Nat.add_le_add (ih fun k hk => h k (by omega)) (h n (by omega))
theorem sm_ge {n : Nat} {f : Nat → Nat} {k : Nat} (hk : k < n) : f k ≤ sm n f := by
  induction n with
  | zero => omega
  | succ n ih =>
    by_cases e : k = n
    · subst e; rw [sm]; omega
    · have := ih (by omega); rw [sm]; omega
theorem sm_const (n c : Nat) : sm n (fun _ => c) = n * c := by
  induction n with
  | zero => simp [sm]
  | succ n ih => rw [sm, ih, Nat.add_mul, Nat.one_mul]
theorem sm_pick {n : Nat} (k : Nat) (v : Nat → Nat) : sm n (fun j => if j = k then v j else 0) = if k < n then v k else 0 := by
  induction n with
  | zero => simp [sm]
  | succ n ih =>
    rw [sm, ih]
    by_cases e : n = k
    · subst e; simp
    · by_cases h : k < n
      · simp [h, e]; omega
      · rw [ifn h, ifn e, ifn (by omega)]
/-- all ways of a move -/
abbrev Dst : Type := Nat → Nat → Nat
def mvD (f : Nat → Nat) (D : Dst) : Dst := fun i q => sm 256 fun r => if mvr f r = q then D i r else 0
def mvA (x : Stq) (D : Dst) : Dst := fun i q => sm (wys x) fun w => mvD (sfr x w) D i q
