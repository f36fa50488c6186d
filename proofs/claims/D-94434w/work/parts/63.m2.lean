set_option maxRecDepth 100000
/-! THE REFERENCE's STEPS -/
/-- the step at a place of the bank -/
def MStp (σ : MS) (k : Nat) (x : Stq) : Prop :=
  mA σ 22 k = n32 (sT x) ∧ (sT x ≠ 3 ∧ sT x ≠ 8 ∧ sT x ≠ 10 → mA σ 23 k = n32 (s1 x)) ∧ (sT x = 2 ∨ (4 ≤ sT x ∧ sT x ≤ 7) ∨ sT x = 9 ∨ sT x = 11 → mA σ 24 k = n32 (s2 x)) ∧
  (sT x = 6 ∨ sT x = 9 → mA σ 25 k = n32 (s3 x)) ∧ (sT x = 3 ∨ sT x = 8 → mA σ 26 k = n32 (sl x).length ∧ ∀ j, j < (sl x).length → mA σ 27 (8 * k + j) = n32 ((sl x).getD j 0))
theorem okS.o1 {x : Stq} (h : okS x) : sT x = 0 → s1 x < 3 := h.1
theorem okS.o2 {x : Stq} (h : okS x) : sT x = 1 → s1 x < 2 := h.2.1
theorem okS.o3 {x : Stq} (h : okS x) : sT x = 2 ∨ sT x = 11 → s1 x < 8 ∧ s2 x < 8 ∧ s1 x ≠ s2 x := h.2.2.1
theorem okS.o4 {x : Stq} (h : okS x) : sT x = 3 → 0 < (sl x).length ∧ (sl x).length ≤ 8 ∧ (sl x).Nodup ∧ ∀ y ∈ sl x, y < (sl x).length := h.2.2.2.1
theorem okS.o5 {x : Stq} (h : okS x) : 4 ≤ sT x → sT x ≤ 7 → s1 x < s2 x ∧ s2 x < 8 := h.2.2.2.2.1
theorem okS.o6 {x : Stq} (h : okS x) : sT x = 5 → wd x % 2 = 0 := h.2.2.2.2.2.1
theorem okS.o7 {x : Stq} (h : okS x) : sT x = 6 → 0 < s3 x ∧ s3 x ≤ 4 ∧ wd x % s3 x = 0 ∧ 2 * s3 x ≤ wd x := h.2.2.2.2.2.2.1
theorem okS.o8 {x : Stq} (h : okS x) : sT x = 7 → wd x ≤ 4 := h.2.2.2.2.2.2.2.1
theorem okS.o9 {x : Stq} (h : okS x) : sT x = 8 → 0 < (sl x).length ∧ (sl x).length ≤ 8 ∧ (sl x).Nodup ∧ ∀ y ∈ sl x, y < 8 := h.2.2.2.2.2.2.2.2.1
theorem okS.o10 {x : Stq} (h : okS x) : sT x = 9 → s1 x < 8 ∧ s2 x < 2 := h.2.2.2.2.2.2.2.2.2.1
theorem okS.o11 {x : Stq} (h : okS x) : sT x = 12 → s1 x ≤ 9999 := h.2.2.2.2.2.2.2.2.2.2.1
theorem okS.o12 {x : Stq} (h : okS x) : sT x ≤ 12 := h.2.2.2.2.2.2.2.2.2.2.2
theorem MStp.h1 {σ : MS} {k : Nat} {x : Stq} (h : MStp σ k x) : mA σ 22 k = n32 (sT x) := h.1
theorem MStp.h2 {σ : MS} {k : Nat} {x : Stq} (h : MStp σ k x) (q : sT x ≠ 3 ∧ sT x ≠ 8 ∧ sT x ≠ 10) : mA σ 23 k = n32 (s1 x) := h.2.1 q
theorem MStp.h3 {σ : MS} {k : Nat} {x : Stq} (h : MStp σ k x) (q : sT x = 2 ∨ (4 ≤ sT x ∧ sT x ≤ 7) ∨ sT x = 9 ∨ sT x = 11) : mA σ 24 k = n32 (s2 x) := h.2.2.1 q
theorem MStp.h4 {σ : MS} {k : Nat} {x : Stq} (h : MStp σ k x) (q : sT x = 6 ∨ sT x = 9) : mA σ 25 k = n32 (s3 x) := h.2.2.2.1 q
theorem MStp.h5 {σ : MS} {k : Nat} {x : Stq} (h : MStp σ k x) (q : sT x = 3 ∨ sT x = 8) : mA σ 26 k = n32 (sl x).length ∧ ∀ j, j < (sl x).length → mA σ 27 (8 * k + j) = n32 ((sl x).getD j 0) := h.2.2.2.2 q
theorem wd_b {x : Stq} (ho : okS x) (h : 4 ≤ sT x ∧ sT x ≤ 7) : 2 ≤ wd x ∧ wd x ≤ 8 ∧ s1 x < s2 x ∧ s2 x < 8 := by
  have := ho.o5 h.1 h.2
  unfold wd
  omega
theorem wys_b {x : Stq} (ho : okS x) : 0 < wys x ∧ wys x ≤ 24 := by
  unfold wys
  split
  · have := wd_b ho (by omega); omega
  split
  · omega
  split
  · rename_i t
    have := wd_b ho (by omega); have := ho.o7 t
    exact ⟨Nat.div_pos (by omega) (by omega), Nat.le_trans (Nat.div_le_self _ _) (by omega)⟩
  repeat' split
  all_goals omega
theorem ways_L {σ : MS} {k : Nat} {x : Stq} (hk : k < 104) (h : MStp σ k x) (ho : okS x) : F_ways σ (n32 k) = some (n32 (wys x)) := by
  have h1 := h.h1
  have hT := ho.o12
  unfold F_ways wys
  simp (disch := omega) only [↓reduceIte, ↓lt_y, leT, leF, ltT, ltF, eqT, eqF, n32_lit, n32_add, n32_mul, n32_sub, n32_le, n32_lt, n32_eq, n32_nat, gdn, gd_T, inbT, bd_y, bd2_y, ifp, ifn, not_true_eq_false, not_false_eq_true, and_self, true_and, and_true, false_and, and_false, or_self, true_or, or_true, false_or, or_false, wA_s, wL_s, sA_same, sL_same, sA_L, sL_A, sA_I, sL_I, wI_A, wI_L, wI_same, sA_sA, sL_sL, sA_ne, sL_ne, wI_ne, h1]
  by_cases t4 : sT x = 4
  · have e1 := h.h2 (by omega); have e2 := h.h3 (by omega); have := wd_b ho (by omega)
    rw [ifp t4, ifp t4, e1, e2, n32_sub (by omega), n32_add]
    rfl
  rw [ifn t4, ifn t4]
  by_cases t5 : sT x = 5
  · rw [ifp t5, ifp t5]
  rw [ifn t5, ifn t5]
  by_cases t6 : sT x = 6
  · have e1 := h.h2 (by omega); have e2 := h.h3 (by omega); have e3 := h.h4 (by omega); have := wd_b ho (by omega); have o7 := ho.o7 t6
    rw [ifp t6, ifp t6, e1, e2, e3, n32_sub (by omega), n32_add, gd_y, n32_div _ _ (by omega) (by omega) (by omega)]
    · rfl
    · simp (disch := omega) only [↓reduceIte, ↓lt_y, leT, leF, ltT, ltF, eqT, eqF, n32_lit, n32_add, n32_mul, n32_sub, n32_le, n32_lt, n32_eq, n32_nat, gdn, gd_T, inbT, bd_y, bd2_y, ifp, ifn, not_true_eq_false, not_false_eq_true, and_self, true_and, and_true, false_and, and_false, or_self, true_or, or_true, false_or, or_false, wA_s, wL_s, sA_same, sL_same, sA_L, sL_A, sA_I, sL_I, wI_A, wI_L, wI_same, sA_sA, sL_sL, sA_ne, sL_ne, wI_ne]
  rw [ifn t6, ifn t6]
  by_cases t7 : sT x = 7
  · have e1 := h.h2 (by omega); have e2 := h.h3 (by omega); have := wd_b ho (by omega)
    rw [ifp t7, ifp t7, e1, e2, n32_sub (by omega), n32_add]
    have e : s2 x - s1 x + 1 = wd x := rfl
    simp (disch := omega) only [↓reduceIte, ↓lt_y, leT, leF, ltT, ltF, eqT, eqF, n32_lit, n32_add, n32_mul, n32_sub, n32_le, n32_lt, n32_eq, n32_nat, gdn, gd_T, inbT, bd_y, bd2_y, ifp, ifn, not_true_eq_false, not_false_eq_true, and_self, true_and, and_true, false_and, and_false, or_self, true_or, or_true, false_or, or_false, wA_s, wL_s, sA_same, sL_same, sA_L, sL_A, sA_I, sL_I, wI_A, wI_L, wI_same, sA_sA, sL_sL, sA_ne, sL_ne, wI_ne, e]
    repeat' split
    all_goals rfl
  · rw [ifn t7, ifn t7]
theorem mx_le (l : List Nat) (n : Nat) : mx l < n ↔ 0 < n ∧ ∀ y ∈ l, y < n := by
  have : ∀ (l : List Nat) (a : Nat), l.foldl max a < n ↔ a < n ∧ ∀ y ∈ l, y < n := by
    intro l
    induction l with
    | nil => intro a; simp
    | cons b l ih =>
      intro a
      rw [List.foldl_cons, ih]
      simp only [List.mem_cons, forall_eq_or_imp]
      constructor
      · rintro ⟨h1, h2⟩; exact ⟨by omega, by omega, h2⟩
      · rintro ⟨h1, h2, h3⟩; exact ⟨by omega, h3⟩
  exact this l 0
theorem all_get {l : List Nat} {P : Nat → Prop} : (∀ y ∈ l, P y) ↔ ∀ j, j < l.length → P (l.getD j 0) := by
  constructor
  · intro h j hj
    rw [List.getD_eq_getElem?_getD, List.getElem?_eq_getElem hj]
    exact h _ (List.getElem_mem hj)
  · intro h y hy
    obtain ⟨j, hj, e⟩ := List.mem_iff_getElem.mp hy
    have := h j hj
    rw [List.getD_eq_getElem?_getD, List.getElem?_eq_getElem hj] at this
    rw [← e]; exact this
/-- a loop that may leave early with an answer -/
theorem upf {S R : Type} (L : Nat → Nat → S → Option R) (a b : Nat) (I : Nat → S → Prop) (P : Option R → Prop)
    (hs : ∀ fu k s, a ≤ k → k < b → I k s → (∃ s', L (fu + 1) k s = L fu (k + 1) s' ∧ I (k + 1) s') ∨ P (L (fu + 1) k s)) (hx : ∀ fu s, I b s → P (L (fu + 1) b s))
    (s : S) (fu : Nat) (hab : a ≤ b) (hfu : b - a < fu) (h0 : I a s) : P (L fu a s) := by
  have : ∀ n k s fu, a ≤ k → k + n = b → n < fu → I k s → P (L fu k s) := by
    intro n
    induction n with
    | zero =>
      intro k s fu ha h1 h2 hI
      obtain ⟨fu, rfl⟩ : ∃ f, fu = f + 1 := ⟨fu - 1, by omega⟩
      have : k = b := by omega
      subst this
      exact hx fu s hI
    | succ n ih =>
      intro k s fu ha h1 h2 hI
      obtain ⟨fu, rfl⟩ : ∃ f, fu = f + 1 := ⟨fu - 1, by omega⟩
      rcases hs fu k s ha (by omega) hI with ⟨s', e, hI'⟩ | h
      · rw [e]
        exact ih (k + 1) s' fu (by omega) (by omega) (by omega) hI'
      · exact h
  exact this (b - a) a s fu (Nat.le_refl a) (by omega) hfu h0
def b32 (p : Prop) [Decidable p] : Int32 := if p then n32 1 else n32 0
theorem fitsL_L {σ : MS} {k : Nat} {x : Stq} (hk : k < 104) (h : MStp σ k x) (hl : (sl x).length ≤ 8) (h8 : ∀ y ∈ sl x, y < 8) (ht : sT x = 3 ∨ sT x = 8) (c : Nat) (hc : c ≤ 8) : F_fits_L21 σ MN (n32 k) (n32 c) (n32 0) = some (b32 (∀ y ∈ sl x, y < c)) := by
  obtain ⟨e1, e2⟩ := h.h5 ht
  have hMN := MN_gt
  rw [all_get] at h8
  refine upf (fun fu k' (_ : Unit) => F_fits_L21 σ fu (n32 k) (n32 c) (n32 k')) 0 (sl x).length (fun j _ => ∀ i, i < j → (sl x).getD i 0 < c) (fun o => o = some (b32 (∀ y ∈ sl x, y < c))) ?_ ?_ () MN (by omega) (by omega) (fun i hi => by omega)
  · rintro fu j - - hj hI
    have e3 := e2 j hj
    have e4 := h8 j hj
    simp only [F_fits_L21]
    simp (disch := omega) only [↓reduceIte, ↓lt_y, leT, leF, ltT, ltF, eqT, eqF, n32_lit, n32_add, n32_mul, n32_sub, n32_le, n32_lt, n32_eq, n32_nat, gdn, gd_T, inbT, bd_y, bd2_y, ifp, ifn, not_true_eq_false, not_false_eq_true, and_self, true_and, and_true, false_and, and_false, or_self, true_or, or_true, false_or, or_false, wA_s, wL_s, sA_same, sL_same, sA_L, sL_A, sA_I, sL_I, wI_A, wI_L, wI_same, sA_sA, sL_sL, sA_ne, sL_ne, wI_ne, e1, e3]
    by_cases q : (sl x).getD j 0 < c
    · rw [ifp (by omega)]
      exact Or.inl ⟨(), rfl, fun i hi => by
        by_cases e : i = j
        · subst e; exact q
        · exact hI i (by omega)⟩
    · rw [ifn (by omega)]
      refine Or.inr ?_
      rw [b32, ifn (fun z => q (all_get.mp z j hj))]
  · rintro fu - hI
    simp only [F_fits_L21]
    simp (disch := omega) only [↓reduceIte, ↓lt_y, leT, leF, ltT, ltF, eqT, eqF, n32_lit, n32_add, n32_mul, n32_sub, n32_le, n32_lt, n32_eq, n32_nat, gdn, gd_T, inbT, bd_y, bd2_y, ifp, ifn, not_true_eq_false, not_false_eq_true, and_self, true_and, and_true, false_and, and_false, or_self, true_or, or_true, false_or, or_false, wA_s, wL_s, sA_same, sL_same, sA_L, sL_A, sA_I, sL_I, wI_A, wI_L, wI_same, sA_sA, sL_sL, sA_ne, sL_ne, wI_ne, e1]
    rw [b32, ifp (all_get.mpr hI)]
theorem fits_L {σ : MS} {k : Nat} {x : Stq} (hk : k < 104) (h : MStp σ k x) (ho : okS x) (ht : (2 ≤ sT x ∧ sT x ≤ 8) ∨ sT x = 11) (c : Nat) (hc : c ≤ 8) : F_fits σ (n32 k) (n32 c) = some (b32 (need x ≤ c)) := by
  have h1 := h.h1
  unfold F_fits need
  have b69 : ∀ (_ : sT x = 2 ∨ sT x = 11), F_fits_b69 σ (n32 k) (n32 c) = some (b32 (max (s1 x) (s2 x) + 1 ≤ c)) := by
    intro q
    have e1 := h.h2 (by omega); have e2 := h.h3 (by omega); have o3 := ho.o3 (by omega)
    unfold F_fits_b69
    simp (disch := omega) only [↓reduceIte, ↓lt_y, leT, leF, ltT, ltF, eqT, eqF, n32_lit, n32_add, n32_mul, n32_sub, n32_le, n32_lt, n32_eq, n32_nat, gdn, gd_T, inbT, bd_y, bd2_y, ifp, ifn, not_true_eq_false, not_false_eq_true, and_self, true_and, and_true, false_and, and_false, or_self, true_or, or_true, false_or, or_false, wA_s, wL_s, sA_same, sL_same, sA_L, sL_A, sA_I, sL_I, wI_A, wI_L, wI_same, sA_sA, sL_sL, sA_ne, sL_ne, wI_ne, e1, e2]
    by_cases q1 : c ≤ s1 x
    · rw [ifp q1, b32, ifn (by omega)]
    · rw [ifn q1]
      by_cases q2 : c ≤ s2 x
      · rw [ifp q2, b32, ifn (by omega)]
      · rw [ifn q2, b32, ifp (by omega)]
  have b18 : ∀ (_ : sT x = 3 ∨ sT x = 8), F_fits_b18 σ (n32 k) (n32 c) = some (b32 (mx (sl x) + 1 ≤ c)) := by
    intro q
    unfold F_fits_b18
    simp (disch := omega) only [↓reduceIte, ↓lt_y, leT, leF, ltT, ltF, eqT, eqF, n32_lit, n32_add, n32_mul, n32_sub, n32_le, n32_lt, n32_eq, n32_nat, gdn, gd_T, inbT, bd_y, bd2_y, ifp, ifn, not_true_eq_false, not_false_eq_true, and_self, true_and, and_true, false_and, and_false, or_self, true_or, or_true, false_or, or_false, wA_s, wL_s, sA_same, sL_same, sA_L, sL_A, sA_I, sL_I, wI_A, wI_L, wI_same, sA_sA, sL_sL, sA_ne, sL_ne, wI_ne]
    have hq : (sl x).length ≤ 8 ∧ 0 < (sl x).length ∧ ∀ y ∈ sl x, y < 8 := by
      rcases q with q | q
      · have := ho.o4 q; exact ⟨this.2.1, this.1, fun y hy => Nat.lt_of_lt_of_le (this.2.2.2 y hy) this.2.1⟩
      · have := ho.o9 q; exact ⟨this.2.1, this.1, this.2.2.2⟩
    rw [fitsL_L hk h hq.1 hq.2.2 q c hc]
    congr 1
    unfold b32
    have : (∀ y ∈ sl x, y < c) ↔ mx (sl x) + 1 ≤ c := by
      rw [← Nat.lt_iff_add_one_le, mx_le]
      constructor
      · intro z
        refine ⟨?_, z⟩
        have := all_get.mp z 0 hq.2.1
        omega
      · exact fun z => z.2
    by_cases z : mx (sl x) + 1 ≤ c
    · rw [ifp (this.mpr z), ifp z]
    · rw [ifn (fun y => z (this.mp y)), ifn z]
  have hT := ho.o12
  simp (disch := omega) only [↓reduceIte, ↓lt_y, leT, leF, ltT, ltF, eqT, eqF, n32_lit, n32_add, n32_mul, n32_sub, n32_le, n32_lt, n32_eq, n32_nat, gdn, gd_T, inbT, bd_y, bd2_y, ifp, ifn, not_true_eq_false, not_false_eq_true, and_self, true_and, and_true, false_and, and_false, or_self, true_or, or_true, false_or, or_false, wA_s, wL_s, sA_same, sL_same, sA_L, sL_A, sA_I, sL_I, wI_A, wI_L, wI_same, sA_sA, sL_sL, sA_ne, sL_ne, wI_ne, h1]
  by_cases t3 : sT x = 3
  · rw [ifp t3, ifn (by omega), ifp (Or.inl t3), b18 (Or.inl t3)]
  rw [ifn t3]
  by_cases t8 : sT x = 8
  · rw [ifp t8, ifn (by omega), ifp (Or.inr t8), b18 (Or.inr t8)]
  rw [ifn t8]
  by_cases t2 : sT x = 2
  · rw [ifp t2, ifp (Or.inl t2), b69 (Or.inl t2)]
  rw [ifn t2]
  by_cases t11 : sT x = 11
  · rw [ifp t11, ifp (Or.inr t11), b69 (Or.inr t11)]
  have e2 := h.h3 (by omega)
  have o5 := ho.o5 (by omega) (by omega)
  rw [ifn t11]
  simp (disch := omega) only [↓reduceIte, ↓lt_y, leT, leF, ltT, ltF, eqT, eqF, n32_lit, n32_add, n32_mul, n32_sub, n32_le, n32_lt, n32_eq, n32_nat, gdn, gd_T, inbT, bd_y, bd2_y, ifp, ifn, not_true_eq_false, not_false_eq_true, and_self, true_and, and_true, false_and, and_false, or_self, true_or, or_true, false_or, or_false, wA_s, wL_s, sA_same, sL_same, sA_L, sL_A, sA_I, sL_I, wI_A, wI_L, wI_same, sA_sA, sL_sL, sA_ne, sL_ne, wI_ne, e2]
  by_cases q : c ≤ s2 x
  · rw [ifp q, b32, ifn (by omega)]
  · rw [ifn q, b32, ifp (by omega)]
