set_option maxRecDepth 100000
theorem eqr {α : Type} {a b : α} (h : a = b) : a = b := h
/-! numbers of 32 bits as natural numbers -/
def n32 (a : Nat) : Int32 := Int32.ofNat a
theorem n32_add (a b : Nat) : n32 a + n32 b = n32 (a + b) := (Int32.ofNat_add a b).symm
theorem n32_mul (a b : Nat) : n32 a * n32 b = n32 (a * b) := (Int32.ofNat_mul a b).symm
theorem n32_lit (n : Nat) : (OfNat.ofNat n : Int32) = n32 (OfNat.ofNat n) := eqr rfl
theorem n32_toInt {a : Nat} (h : a < 2147483648) : (n32 a).toInt = a := by
  exact Int32.toInt_ofNat_of_lt (by simpa using h)
theorem n32_le {a b : Nat} (h : a < 2147483648 ∧ b < 2147483648) : n32 a ≤ n32 b ↔ a ≤ b := by
  rw [Int32.le_iff_toInt_le, n32_toInt h.1, n32_toInt h.2]; omega
theorem n32_lt {a b : Nat} (h : a < 2147483648 ∧ b < 2147483648) : n32 a < n32 b ↔ a < b := by
  rw [Int32.lt_iff_toInt_lt, n32_toInt h.1, n32_toInt h.2]; omega
theorem n32_eq {a b : Nat} (h : a < 2147483648 ∧ b < 2147483648) : n32 a = n32 b ↔ a = b := by
  rw [← Int32.toInt_inj, n32_toInt h.1, n32_toInt h.2]; omega
theorem n32_nat {a : Nat} (h : a < 2147483648) : (n32 a).toNatClampNeg = a := by
  show (n32 a).toInt.toNat = _
  rw [n32_toInt h]; rfl
theorem n32_sub {a b : Nat} (h : b ≤ a) : n32 a - n32 b = n32 (a - b) := by
  have : n32 a = n32 (a - b) + n32 b := by rw [n32_add]; congr 1; omega
  rw [this, Int32.add_sub_cancel]
theorem n32_inb {a n : Nat} (h : a < n ∧ a < 2147483648) : inb (n32 a) n := by
  rintro (q | q)
  · rw [show (0 : Int32) = n32 0 from rfl, n32_lt ⟨h.2, by decide⟩] at q
    omega
  · rw [n32_nat h.2] at q; omega
theorem n32_bv (a : Nat) : (n32 a).toBitVec = BitVec.ofNat 32 a := rfl
theorem n32_ext {x y : Int32} (h : x.toBitVec = y.toBitVec) : x = y := Int32.toBitVec_inj.mp h
theorem n32_and (a b : Nat) : n32 a &&& n32 b = n32 (a &&& b) := by
  apply n32_ext
  rw [Int32.toBitVec_and, n32_bv, n32_bv, n32_bv]
  apply BitVec.eq_of_toNat_eq
  simp
theorem n32_or (a b : Nat) : n32 a ||| n32 b = n32 (a ||| b) := by
  apply n32_ext
  rw [Int32.toBitVec_or, n32_bv, n32_bv, n32_bv]
  apply BitVec.eq_of_toNat_eq
  simp
theorem n32_m31 (p : Nat) (hp : p < 32) : n32 p &&& n32 31 = n32 p := by
  rw [n32_and]
  congr 1
  exact Nat.and_two_pow_sub_one_of_lt_two_pow (n := 5) hp
theorem n32_sm (p : Nat) (hp : p < 32) : ((n32 p).toBitVec.smod 32).toNat = p := by
  rw [n32_bv]
  have : ∀ p : Nat, p < 32 → ((BitVec.ofNat 32 p).smod 32).toNat = p := by decide
  exact this p hp
theorem n32_shl (a p : Nat) (hp : p < 32) : n32 a <<< (n32 p &&& n32 31) = n32 (a <<< p) := by
  rw [n32_m31 p hp]
  apply n32_ext
  rw [Int32.toBitVec_shiftLeft, n32_bv]
  apply BitVec.eq_of_toNat_eq
  rw [BitVec.shiftLeft_eq', n32_sm p hp, n32_bv]
  simp
  rw [Nat.shiftLeft_eq, Nat.shiftLeft_eq, Nat.mul_mod, Nat.mod_mod, ← Nat.mul_mod]
theorem n32_shr (a p : Nat) (hp : p < 32) (ha : a < 2147483648) : n32 a >>> (n32 p &&& n32 31) = n32 (a >>> p) := by
  rw [n32_m31 p hp]
  apply n32_ext
  rw [Int32.toBitVec_shiftRight, n32_bv]
  apply BitVec.eq_of_toNat_eq
  rw [BitVec.sshiftRight_eq', n32_sm p hp, n32_bv, BitVec.sshiftRight_eq_of_msb_false]
  · simp only [BitVec.toNat_ushiftRight, BitVec.toNat_ofNat]
    rw [Nat.mod_eq_of_lt (by omega), Nat.mod_eq_of_lt]
    exact Nat.lt_of_le_of_lt (Nat.shiftRight_le a p) (by omega)
  · rw [BitVec.msb_eq_decide]
    simp; omega
/-! what a decompiled text does -/
theorem gd_y {α : Type} {c : Prop} [Decidable c] {k : Option α} (h : c) : gd c k = k := if_pos h
theorem gd_T {α : Type} {k : Option α} : gd True k = k := eqr rfl
theorem lt_y {α β : Type} (v : α) (k : α → β) : lt v k = k v := eqr rfl
theorem bd_y {α β : Type} (a : α) (k : α → Option β) : bd (some a) k = k a := eqr rfl
theorem bd2_y {α γ β : Type} (a : α) (w : γ) (k : α → γ → Option β) : bd2 (some (a, w)) k = k a w := eqr rfl
/-- a loop upwards: what holds at its start holds at its end -/
theorem upl {S R : Type} (L : Nat → Nat → S → Option R) (a b : Nat) (I : Nat → S → Prop) (P : Option R → Prop)
    (hs : ∀ fu k s, a ≤ k → k < b → I k s → ∃ s', L (fu + 1) k s = L fu (k + 1) s' ∧ I (k + 1) s') (hx : ∀ fu s, I b s → P (L (fu + 1) b s))
    (s : S) (fu : Nat) (hab : a ≤ b) (hfu : b - a < fu) (h0 : I a s) : P (L fu a s) := by
  have : ∀ n k s fu, a ≤ k → k + n = b → n < fu → I k s → P (L fu k s) := by
    intro n
    induction n with
    | zero =>
      intro k s fu ha h1 h2 hI
      obtain ⟨fu, rfl⟩ : ∃ f, fu = f + 1 := ⟨fu - 1, by omega⟩
      have : k = b := by omega
      subst this
      exact hx fu s hI
    | succ n ih =>
      intro k s fu ha h1 h2 hI
      obtain ⟨fu, rfl⟩ : ∃ f, fu = f + 1 := ⟨fu - 1, by omega⟩
      obtain ⟨s', e, hI'⟩ := hs fu k s ha (by omega) hI
      rw [e]
      exact ih (k + 1) s' fu (by omega) (by omega) (by omega) hI'
  exact this (b - a) a s fu (Nat.le_refl a) (by omega) hfu h0
/-- a loop upwards comes to its end -/
theorem upe {S R : Type} (L : Nat → Nat → S → Option R) (a b : Nat) (I : Nat → S → Prop)
    (hs : ∀ fu k s, a ≤ k → k < b → I k s → ∃ s', L (fu + 1) k s = L fu (k + 1) s' ∧ I (k + 1) s')
    (s : S) (fu : Nat) (hab : a ≤ b) (hfu : b - a < fu) (h0 : I a s) : ∃ fu' s', I b s' ∧ L fu a s = L (fu' + 1) b s' :=
  upl L a b I (fun o => ∃ fu' s', I b s' ∧ o = L (fu' + 1) b s') hs (fun fu s h => ⟨fu, s, h, rfl⟩) s fu hab hfu h0
/-- a sum -/
def sm (n : Nat) (f : Nat → Nat) : Nat := match n with
  | 0 => 0
  | n + 1 => sm n f + f n
/-! the reference's state, an array at a time -/
def sA (σ : MS) (k : Nat) (f : Nat → Int32) : MS := (σ.1, fun a j => if a = k then f j else σ.2.1 a j, σ.2.2)
def sL (σ : MS) (k : Nat) (f : Nat → Int64) : MS := (σ.1, σ.2.1, fun a j => if a = k then f j else σ.2.2 a j)
def up0 {α : Type} (f : Nat → α) (i : Nat) (v : α) : Nat → α := fun j => if j = i then v else f j
theorem wA_s (σ : MS) (k i : Nat) (v : Int32) : wA σ k i v = sA σ k (up0 (mA σ k) i v) := by
  unfold wA sA mA up0
  congr 2
  funext a j
  by_cases h : a = k
  · subst h; simp
  · simp [h]
theorem wL_s (σ : MS) (k i : Nat) (v : Int64) : wL σ k i v = sL σ k (up0 (mL σ k) i v) := by
  unfold wL sL mL up0
  congr 3
  funext a j
  by_cases h : a = k
  · subst h; simp
  · simp [h]
theorem sA_same (σ : MS) (k : Nat) (f : Nat → Int32) : mA (sA σ k f) k = f := by funext j; simp [mA, sA]
theorem sL_same (σ : MS) (k : Nat) (f : Nat → Int64) : mL (sL σ k f) k = f := by funext j; simp [mL, sL]
theorem sA_ne (σ : MS) (k j : Nat) (f : Nat → Int32) (h : j ≠ k) : mA (sA σ k f) j = mA σ j := by funext i; simp [mA, sA, h]
theorem sL_ne (σ : MS) (k j : Nat) (f : Nat → Int64) (h : j ≠ k) : mL (sL σ k f) j = mL σ j := by funext i; simp [mL, sL, h]
theorem sA_L (σ : MS) (k j : Nat) (f : Nat → Int32) : mL (sA σ k f) j = mL σ j := eqr rfl
theorem sL_A (σ : MS) (k j : Nat) (f : Nat → Int64) : mA (sL σ k f) j = mA σ j := eqr rfl
theorem sA_I (σ : MS) (k j : Nat) (f : Nat → Int32) : mI (sA σ k f) j = mI σ j := eqr rfl
theorem sL_I (σ : MS) (k j : Nat) (f : Nat → Int64) : mI (sL σ k f) j = mI σ j := eqr rfl
theorem wI_A (σ : MS) (k j : Nat) (v : Int32) : mA (wI σ k v) j = mA σ j := eqr rfl
theorem wI_L (σ : MS) (k j : Nat) (v : Int32) : mL (wI σ k v) j = mL σ j := eqr rfl
theorem wI_same (σ : MS) (k : Nat) (v : Int32) : mI (wI σ k v) k = v := by simp [mI, wI]
theorem wI_ne (σ : MS) (k j : Nat) (v : Int32) (h : j ≠ k) : mI (wI σ k v) j = mI σ j := by simp [mI, wI, h]
theorem sA_sA (σ : MS) (k : Nat) (f g : Nat → Int32) : sA (sA σ k f) k g = sA σ k g := by
  unfold sA
  congr 2
  funext a j
  by_cases h : a = k <;> simp [h]
theorem sL_sL (σ : MS) (k : Nat) (f g : Nat → Int64) : sL (sL σ k f) k g = sL σ k g := by
  unfold sL
  congr 3
  funext a j
  by_cases h : a = k <;> simp [h]
theorem sL_id (σ : MS) (k : Nat) : sL σ k (mL σ k) = σ := by
  unfold sL mL
  obtain ⟨a, b, c⟩ := σ
  congr 3
  funext x j
  by_cases h : x = k <;> simp [h]
theorem sA_id (σ : MS) (k : Nat) : sA σ k (mA σ k) = σ := by
  unfold sA mA
  obtain ⟨a, b, c⟩ := σ
  congr 2
  funext x j
  by_cases h : x = k <;> simp [h]
theorem MN_gt : 1000000000000000000000000000000000000000000000000000000000 < MN := by rw [MN_eq]; decide
theorem gdn {α : Type} {a n : Nat} {k : Option α} (h : a < n ∧ a < 2147483648) : gd (inb (n32 a) n) k = k := if_pos (n32_inb h)
theorem ifp {α : Type} {c : Prop} [Decidable c] {a b : α} (h : c) : (if c then a else b) = a := if_pos h
theorem ifn {α : Type} {c : Prop} [Decidable c] {a b : α} (h : ¬ c) : (if c then a else b) = b := if_neg h
theorem inbT {a n : Nat} (h : a < n ∧ a < 2147483648) : (inb (n32 a) n) = True := eq_true (n32_inb h)
/-! step by step -/
def Ok {R : Type} (o : Option R) (P : R → Prop) : Prop := ∃ x, o = some x ∧ P x
theorem Ok.gd {R : Type} {P : R → Prop} {c : Prop} [Decidable c] {k : Option R} (h : c) (hk : Ok k P) : Ok (gd c k) P := by rw [gd_y h]; exact hk
theorem Ok.lt {R α : Type} {P : R → Prop} {v : α} {k : α → Option R} (v' : α) (e : v = v') (hk : Ok (k v') P) : Ok (lt v k) P := by subst e; exact hk
theorem Ok.bd {R α : Type} {P : R → Prop} {o : Option α} {k : α → Option R} {a : α} (e : o = some a) (hk : Ok (k a) P) : Ok (bd o k) P := by subst e; exact hk
theorem Ok.bd2 {R α γ : Type} {P : R → Prop} {o : Option (α × γ)} {k : α → γ → Option R} {a : α} {w : γ} (e : o = some (a, w)) (hk : Ok (k a w) P) : Ok (bd2 o k) P := by subst e; exact hk
theorem Ok.tt {R : Type} {P : R → Prop} {c : Prop} [Decidable c] {a b : Option R} (h : c) (hk : Ok a P) : Ok (if c then a else b) P := by rw [if_pos h]; exact hk
theorem Ok.ff {R : Type} {P : R → Prop} {c : Prop} [Decidable c] {a b : Option R} (h : ¬ c) (hk : Ok b P) : Ok (if c then a else b) P := by rw [if_neg h]; exact hk
theorem Ok.done {R : Type} {P : R → Prop} {x : R} (h : P x) : Ok (some x) P := ⟨x, rfl, h⟩
theorem Ok.mono {R : Type} {P Q : R → Prop} {o : Option R} (h : Ok o P) (hq : ∀ x, P x → Q x) : Ok o Q := by obtain ⟨x, e, p⟩ := h; exact ⟨x, e, hq x p⟩
theorem leT {a b : Nat} (h : a ≤ b) : (a ≤ b) = True := eq_true h
theorem leF {a b : Nat} (h : ¬ a ≤ b) : (a ≤ b) = False := eq_false h
theorem ltT {a b : Nat} (h : a < b) : (a < b) = True := eq_true h
theorem ltF {a b : Nat} (h : ¬ a < b) : (a < b) = False := eq_false h
theorem eqT {a b : Nat} (h : a = b) : (a = b) = True := eq_true h
theorem eqF {a b : Nat} (h : ¬ a = b) : (a = b) = False := eq_false h
