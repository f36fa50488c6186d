set_option maxRecDepth 100000
/-! moves that are laid -/
theorem n32_mod (a b : Nat) (hb : 0 < b) (ha : a < 2147483648) (hb2 : b < 2147483648) : n32 a - n32 a / n32 b * n32 b = n32 (a % b) := by
  have h : a / b * b ≤ a := Nat.div_mul_le_self a b
  rw [n32_div _ _ hb ha hb2, n32_mul, n32_sub h]
  congr 1
  have := Nat.mod_add_div a b
  rw [Nat.mul_comm] at this
  omega
/-- a turn: k + by goes to k -/
theorem rot_inv {n a b p : Nat} (hab : a ≤ b) (hp : a ≤ p ∧ p ≤ b) (m : Nat) : p - a = ((p - a + ((b - a + 1) - m % (b - a + 1))) % (b - a + 1) + m) % (b - a + 1) := by
  have hw : 0 < b - a + 1 := by omega
  have h1 := Nat.mod_lt m hw
  rw [Nat.add_mod, Nat.mod_mod, ← Nat.add_mod, Nat.add_assoc]
  have h2 : (b - a + 1) - m % (b - a + 1) + m = (b - a + 1) * (m / (b - a + 1) + 1) := by
    have h3 := Nat.mod_add_div m (b - a + 1)
    rw [Nat.mul_add, Nat.mul_one]
    generalize m / (b - a + 1) = z at h3 ⊢
    generalize m % (b - a + 1) = y at h1 h3 ⊢
    generalize (b - a + 1) * z = u at h3 ⊢
    omega
  rw [h2, Nat.add_mul_mod_self_left]
  exact (Nat.mod_eq_of_lt (by omega)).symm
theorem layCut_L {σ : MS} {a b m : Nat} (hab : a < b) (hb : b < 8) (hm : m < 1000) (hf : ∀ p, p < 8 → mA σ 41 p = n32 p) :
    ∃ g, F_layMove_b192 (n32 a) (n32 (b - a + 1)) (n32 m) σ = some (sA σ 41 g) ∧ ∀ p, p < 8 → g p = n32 (rot a b ((b - a + 1) - m % (b - a + 1)) p) := by
  have hMN := MN_gt
  have hw : 0 < b - a + 1 := by omega
  unfold F_layMove_b192
  simp (disch := omega) only [↓reduceIte, ↓lt_y, leT, leF, ltT, ltF, eqT, eqF, n32_lit, n32_add, n32_mul, n32_sub, n32_le, n32_lt, n32_eq, n32_nat, gdn, gd_T, inbT, bd_y, bd2_y, ifp, ifn, not_true_eq_false, not_false_eq_true, and_self, true_and, and_true, false_and, and_false, or_self, true_or, or_true, false_or, or_false, wA_s, wL_s, sA_same, sL_same, sA_L, sL_A, sA_I, sL_I, wI_A, wI_L, wI_same, sA_sA, sL_sL, sA_ne, sL_ne, wI_ne]
  obtain ⟨fu, s, ⟨g, rfl, hg, hg2⟩, e⟩ := upe (fun fu k s => F_layMove_L197 fu (n32 a) (n32 (b - a + 1)) (n32 m) (n32 k) s) 0 (b - a + 1)
    (fun k s => ∃ g, s = sA σ 41 g ∧ (∀ j, j < k → g (a + (j + m) % (b - a + 1)) = n32 (a + j)) ∧ ∀ p, p < 8 → (p < a ∨ b < p) → g p = n32 p)
    (by
      rintro fu k s - hk ⟨g, rfl, hg, hg2⟩
      have h1 := Nat.mod_lt (k + m) hw
      simp only [F_layMove_L197]
      simp (disch := omega) only [n32_add, n32_mod]
      simp (disch := omega) only [↓reduceIte, ↓lt_y, leT, leF, ltT, ltF, eqT, eqF, n32_lit, n32_add, n32_mul, n32_sub, n32_le, n32_lt, n32_eq, n32_nat, gdn, gd_T, inbT, bd_y, bd2_y, ifp, ifn, not_true_eq_false, not_false_eq_true, and_self, true_and, and_true, false_and, and_false, or_self, true_or, or_true, false_or, or_false, wA_s, wL_s, sA_same, sL_same, sA_L, sL_A, sA_I, sL_I, wI_A, wI_L, wI_same, sA_sA, sL_sL, sA_ne, sL_ne, wI_ne]
      refine ⟨_, rfl, _, rfl, fun j hj => ?_, fun p hp hq => ?_⟩
      · simp only [up0]
        by_cases ej : j = k
        · subst ej; rw [ifp rfl]
        · have hne : (j + m) % (b - a + 1) ≠ (k + m) % (b - a + 1) := by
            intro q
            have h3 := Nat.mod_add_div (j + m) (b - a + 1)
            have h4 := Nat.mod_add_div (k + m) (b - a + 1)
            rw [q] at h3
            have h5 : (k + m) - (j + m) = (b - a + 1) * ((k + m) / (b - a + 1) - (j + m) / (b - a + 1)) := by
              rw [Nat.mul_sub]; omega
            have h6 : k - j = (b - a + 1) * ((k + m) / (b - a + 1) - (j + m) / (b - a + 1)) := by omega
            generalize (k + m) / (b - a + 1) - (j + m) / (b - a + 1) = z at h6
            cases z with
            | zero => omega
            | succ z => rw [Nat.mul_add, Nat.mul_one] at h6; generalize (b - a + 1) * z = u at h6; omega
          rw [ifn (by omega)]
          exact hg j (by omega)
      · simp only [up0]
        rw [ifn (by omega)]
        exact hg2 p hp hq)
    σ MN (by omega) (by omega) ⟨mA σ 41, (sA_to fun j => rfl).symm, fun j hj => by omega, fun p hp _ => hf p hp⟩
  refine ⟨g, e.trans ?_, fun p hp => ?_⟩
  · simp only [F_layMove_L197]
    simp (disch := omega) only [↓reduceIte, ↓lt_y, leT, leF, ltT, ltF, eqT, eqF, n32_lit, n32_add, n32_mul, n32_sub, n32_le, n32_lt, n32_eq, n32_nat, gdn, gd_T, inbT, bd_y, bd2_y, ifp, ifn, not_true_eq_false, not_false_eq_true, and_self, true_and, and_true, false_and, and_false, or_self, true_or, or_true, false_or, or_false, wA_s, wL_s, sA_same, sL_same, sA_L, sL_A, sA_I, sL_I, wI_A, wI_L, wI_same, sA_sA, sL_sL, sA_ne, sL_ne, wI_ne]
  · unfold rot
    by_cases q : a ≤ p ∧ p ≤ b
    · rw [ifp q]
      have h1 := rot_inv (n := 0) (by omega) q m
      have h2 := Nat.mod_lt (p - a + ((b - a + 1) - m % (b - a + 1))) hw
      have := hg _ h2
      rw [← h1] at this
      rw [← this]
      congr 1; omega
    · rw [ifn q]
      exact hg2 p hp (by omega)
def fac (n : Nat) : Nat := match n with
  | 0 => 1
  | n + 1 => (n + 1) * fac n
theorem fac_pos (n : Nat) : 0 < fac n := by
  induction n with
  | zero => decide
  | succ n ih => exact Nat.mul_pos (by omega) ih
theorem fac_le {n : Nat} (h : n ≤ 4) : fac n ≤ 24 := by
  have : ∀ n, n < 5 → fac n ≤ 24 := by decide
  exact this n (by omega)
theorem mixg_len (n u r : Nat) (l : List Nat) : (mixg n u r l).length = n := by
  induction n generalizing u r l with
  | zero => rfl
  | succ n ih => simp only [mixg, List.length_cons, ih]
theorem getD_erase (l : List Nat) (i j : Nat) : (l.eraseIdx i).getD j 0 = if j < i then l.getD j 0 else l.getD (j + 1) 0 := by
  simp only [List.getD_eq_getElem?_getD, List.getElem?_eraseIdx]
  split <;> rfl
theorem mixSh_L (k55 : Int32 → Int32 → Int32 → Int32 → Int32 → MS → Option MS) {σ : MS} (x1 x4 x5 : Int32) (n k i : Nat) (hn : n ≤ 8) (hk : k < n) (hi : i < n - k) :
    ∃ h, F_layMix_L104 k55 MN x1 (n32 n) x4 x5 (n32 k) (n32 i) σ = k55 x1 (n32 n) x4 x5 (n32 (k + 1)) (sA σ 42 h) ∧ ∀ j, h j = if i ≤ j ∧ j < n - k - 1 then mA σ 42 (j + 1) else mA σ 42 j := by
  have hMN := MN_gt
  obtain ⟨fu, s, ⟨g, rfl, hg⟩, e⟩ := upe (fun fu j s => F_layMix_L104 k55 fu x1 (n32 n) x4 x5 (n32 k) (n32 j) s) i (n - k - 1)
    (fun m s => ∃ h, s = sA σ 42 h ∧ ∀ j, h j = if i ≤ j ∧ j < m then mA σ 42 (j + 1) else mA σ 42 j)
    (by
      rintro fu m s ha hm ⟨h, rfl, hh⟩
      simp only [F_layMix_L104]
      simp (disch := omega) only [↓reduceIte, ↓lt_y, leT, leF, ltT, ltF, eqT, eqF, n32_lit, n32_add, n32_mul, n32_sub, n32_le, n32_lt, n32_eq, n32_nat, gdn, gd_T, inbT, bd_y, bd2_y, ifp, ifn, not_true_eq_false, not_false_eq_true, and_self, true_and, and_true, false_and, and_false, or_self, true_or, or_true, false_or, or_false, wA_s, wL_s, sA_same, sL_same, sA_L, sL_A, sA_I, sL_I, wI_A, wI_L, wI_same, sA_sA, sL_sL, sA_ne, sL_ne, wI_ne]
      refine ⟨_, rfl, _, rfl, fun j => ?_⟩
      simp only [up0, hh]
      repeat' split
      all_goals first | rfl | omega | (congr 1; omega))
    σ MN (by omega) (by omega) ⟨mA σ 42, (sA_to fun j => rfl).symm, fun j => (ifn (by omega)).symm⟩
  refine ⟨g, e.trans ?_, hg⟩
  simp only [F_layMix_L104, F_layMix_b137]
  simp (disch := omega) only [↓reduceIte, ↓lt_y, leT, leF, ltT, ltF, eqT, eqF, n32_lit, n32_add, n32_mul, n32_sub, n32_le, n32_lt, n32_eq, n32_nat, gdn, gd_T, inbT, bd_y, bd2_y, ifp, ifn, not_true_eq_false, not_false_eq_true, and_self, true_and, and_true, false_and, and_false, or_self, true_or, or_true, false_or, or_false, wA_s, wL_s, sA_same, sL_same, sA_L, sL_A, sA_I, sL_I, wI_A, wI_L, wI_same, sA_sA, sL_sL, sA_ne, sL_ne, wI_ne]
theorem layMix_L {σ : MS} {a n w : Nat} (hn : 2 ≤ n ∧ n ≤ 4) (ha : a + n ≤ 8) (hw : w < fac n) (hf : ∀ p, p < 8 → mA σ 41 p = n32 p) :
    ∃ g h, F_layMix (n32 a) (n32 n) (n32 w) σ = some (sA (sA σ 42 h) 41 g) ∧ ∀ p, p < 8 → g p = n32 (if a ≤ p ∧ p < a + n then a + (mixp n w).getD (p - a) 0 else p) := by
  have hMN := MN_gt
  have hu : F_layMix (n32 a) (n32 n) (n32 w) σ = F_layMix_L29 MN (n32 a) (n32 n) (n32 w) (n32 (fac n)) (n32 0) σ := by
    unfold F_layMix F_layMix_b24
    have : n = 2 ∨ n = 3 ∨ n = 4 := by omega
    rcases this with rfl | rfl | rfl <;> simp (disch := omega) only [↓reduceIte, ↓lt_y, leT, leF, ltT, ltF, eqT, eqF, n32_lit, n32_add, n32_mul, n32_sub, n32_le, n32_lt, n32_eq, n32_nat, gdn, gd_T, inbT, bd_y, bd2_y, ifp, ifn, not_true_eq_false, not_false_eq_true, and_self, true_and, and_true, false_and, and_false, or_self, true_or, or_true, false_or, or_false, wA_s, wL_s, sA_same, sL_same, sA_L, sL_A, sA_I, sL_I, wI_A, wI_L, wI_same, sA_sA, sL_sL, sA_ne, sL_ne, wI_ne] <;> rfl
  have hp : mixp n w = mixg n (fac n) w (List.range n) := by
    unfold mixp
    have : n = 2 ∨ n = 3 ∨ n = 4 := by omega
    rcases this with rfl | rfl | rfl <;> rfl
  rw [hu]
  obtain ⟨fu, s, ⟨h0, rfl, hh0⟩, e⟩ := upe (fun fu j s => F_layMix_L29 fu (n32 a) (n32 n) (n32 w) (n32 (fac n)) (n32 j) s) 0 n
    (fun m s => ∃ h, s = sA σ 42 h ∧ ∀ j, j < m → h j = n32 (a + j))
    (by
      rintro fu m s - hm ⟨h, rfl, hh⟩
      simp only [F_layMix_L29]
      simp (disch := omega) only [↓reduceIte, ↓lt_y, leT, leF, ltT, ltF, eqT, eqF, n32_lit, n32_add, n32_mul, n32_sub, n32_le, n32_lt, n32_eq, n32_nat, gdn, gd_T, inbT, bd_y, bd2_y, ifp, ifn, not_true_eq_false, not_false_eq_true, and_self, true_and, and_true, false_and, and_false, or_self, true_or, or_true, false_or, or_false, wA_s, wL_s, sA_same, sL_same, sA_L, sL_A, sA_I, sL_I, wI_A, wI_L, wI_same, sA_sA, sL_sL, sA_ne, sL_ne, wI_ne]
      refine ⟨_, rfl, _, rfl, fun j hj => ?_⟩
      simp only [up0]
      by_cases q : j = m
      · subst q; rw [ifp rfl]
      · rw [ifn q]; exact hh j (by omega))
    σ MN (by omega) (by omega) ⟨mA σ 42, (sA_to fun j => rfl).symm, fun j hj => by omega⟩
  rw [e]
  simp only [F_layMix_L29, F_layMix_b52]
  simp (disch := omega) only [↓reduceIte, ↓lt_y, leT, leF, ltT, ltF, eqT, eqF, n32_lit, n32_add, n32_mul, n32_sub, n32_le, n32_lt, n32_eq, n32_nat, gdn, gd_T, inbT, bd_y, bd2_y, ifp, ifn, not_true_eq_false, not_false_eq_true, and_self, true_and, and_true, false_and, and_false, or_self, true_or, or_true, false_or, or_false, wA_s, wL_s, sA_same, sL_same, sA_L, sL_A, sA_I, sL_I, wI_A, wI_L, wI_same, sA_sA, sL_sL, sA_ne, sL_ne, wI_ne]
  have main : ∀ m k u r (l done : List Nat) (g h : Nat → Int32) (fu : Nat), k + m = n → u = fac m → r < fac m → l.length = m → (∀ y ∈ l, y < n) → done.length = k → (∀ j, j < m → h j = n32 (a + l.getD j 0)) →
      (∀ p, p < 8 → g p = n32 (if a ≤ p ∧ p < a + k then a + done.getD (p - a) 0 else p)) → m < fu →
      ∃ g' h', F_layMix_L55 fu (n32 a) (n32 n) (n32 r) (n32 u) (n32 k) (sA (sA σ 42 h) 41 g) = some (sA (sA σ 42 h') 41 g') ∧ ∀ p, p < 8 → g' p = n32 (if a ≤ p ∧ p < a + n then a + (done ++ mixg m u r l).getD (p - a) 0 else p) := by
    intro m
    induction m with
    | zero =>
      intro k u r l done g h fu hk hu hr hl hlt hd hh hg hfu
      obtain ⟨fu, rfl⟩ : ∃ f, fu = f + 1 := ⟨fu - 1, by omega⟩
      refine ⟨g, h, ?_, ?_⟩
      · simp only [F_layMix_L55]
        simp (disch := omega) only [↓reduceIte, ↓lt_y, leT, leF, ltT, ltF, eqT, eqF, n32_lit, n32_add, n32_mul, n32_sub, n32_le, n32_lt, n32_eq, n32_nat, gdn, gd_T, inbT, bd_y, bd2_y, ifp, ifn, not_true_eq_false, not_false_eq_true, and_self, true_and, and_true, false_and, and_false, or_self, true_or, or_true, false_or, or_false, wA_s, wL_s, sA_same, sL_same, sA_L, sL_A, sA_I, sL_I, wI_A, wI_L, wI_same, sA_sA, sL_sL, sA_ne, sL_ne, wI_ne]
      · intro p hp
        rw [hg p hp, mixg, List.append_nil]
        have : k = n := by omega
        subst this
        rfl
    | succ m ih =>
      intro k u r l done g h fu hk hu hr hl hlt hd hh hg hfu
      obtain ⟨fu, rfl⟩ : ∃ f, fu = f + 1 := ⟨fu - 1, by omega⟩
      have hfm := fac_pos m
      have hu1 : u / (m + 1) = fac m := by rw [hu]; exact Nat.mul_div_cancel_left _ (by omega)
      have hi : r / fac m < m + 1 := by
        apply Nat.div_lt_of_lt_mul
        rw [Nat.mul_comm]; exact hr
      have hul : u ≤ 24 := by rw [hu]; exact fac_le (by omega)
      have hfl : fac m ≤ 24 := fac_le (by omega)
      have hrl : r < 24 := by have := fac_le (n := m + 1) (by omega); omega
      have e1 : n32 n - n32 k = n32 (m + 1) := by rw [n32_sub (by omega)]; congr 1; omega
      have e2 : n32 u / n32 (m + 1) = n32 (fac m) := by rw [n32_div _ _ (by omega) (by omega) (by omega), hu1]
      have e3 : n32 r / n32 (fac m) = n32 (r / fac m) := n32_div _ _ hfm (by omega) (by omega)
      have e4 := n32_mod r (fac m) hfm (by omega) (by omega)
      rw [e3] at e4
      simp only [F_layMix_L55, e1, e2, e3, e4, lt_y]
      rw [gd_y (by simp (disch := omega) only [↓reduceIte, ↓lt_y, leT, leF, ltT, ltF, eqT, eqF, n32_lit, n32_add, n32_mul, n32_sub, n32_le, n32_lt, n32_eq, n32_nat, gdn, gd_T, inbT, bd_y, bd2_y, ifp, ifn, not_true_eq_false, not_false_eq_true, and_self, true_and, and_true, false_and, and_false, or_self, true_or, or_true, false_or, or_false, wA_s, wL_s, sA_same, sL_same, sA_L, sL_A, sA_I, sL_I, wI_A, wI_L, wI_same, sA_sA, sL_sL, sA_ne, sL_ne, wI_ne]), gd_y (by simp (disch := omega) only [↓reduceIte, ↓lt_y, leT, leF, ltT, ltF, eqT, eqF, n32_lit, n32_add, n32_mul, n32_sub, n32_le, n32_lt, n32_eq, n32_nat, gdn, gd_T, inbT, bd_y, bd2_y, ifp, ifn, not_true_eq_false, not_false_eq_true, and_self, true_and, and_true, false_and, and_false, or_self, true_or, or_true, false_or, or_false, wA_s, wL_s, sA_same, sL_same, sA_L, sL_A, sA_I, sL_I, wI_A, wI_L, wI_same, sA_sA, sL_sL, sA_ne, sL_ne, wI_ne]), gd_y (by simp (disch := omega) only [↓reduceIte, ↓lt_y, leT, leF, ltT, ltF, eqT, eqF, n32_lit, n32_add, n32_mul, n32_sub, n32_le, n32_lt, n32_eq, n32_nat, gdn, gd_T, inbT, bd_y, bd2_y, ifp, ifn, not_true_eq_false, not_false_eq_true, and_self, true_and, and_true, false_and, and_false, or_self, true_or, or_true, false_or, or_false, wA_s, wL_s, sA_same, sL_same, sA_L, sL_A, sA_I, sL_I, wI_A, wI_L, wI_same, sA_sA, sL_sL, sA_ne, sL_ne, wI_ne])]
      simp (disch := omega) only [↓reduceIte, ↓lt_y, leT, leF, ltT, ltF, eqT, eqF, n32_lit, n32_add, n32_mul, n32_sub, n32_le, n32_lt, n32_eq, n32_nat, gdn, gd_T, inbT, bd_y, bd2_y, ifp, ifn, not_true_eq_false, not_false_eq_true, and_self, true_and, and_true, false_and, and_false, or_self, true_or, or_true, false_or, or_false, wA_s, wL_s, sA_same, sL_same, sA_L, sL_A, sA_I, sL_I, wI_A, wI_L, wI_same, sA_sA, sL_sL, sA_ne, sL_ne, wI_ne]
      obtain ⟨h2, eq, hh2⟩ := mixSh_L (F_layMix_L55 fu) (σ := sA (sA σ 42 h) 41 (up0 g (a + k) (h (r / fac m)))) (n32 a) (n32 (r % fac m)) (n32 (fac m)) n k (r / fac m) (by omega) (by omega) (by omega)
      have comm : sA (sA (sA σ 42 h) 41 (up0 g (a + k) (h (r / fac m)))) 42 h2 = sA (sA σ 42 h2) 41 (up0 g (a + k) (h (r / fac m))) := by
        unfold sA
        congr 2
        funext x j
        by_cases q : x = 42
        · subst q; simp
        · simp [q]
      rw [eq, comm]
      have hr2 := Nat.mod_lt r hfm
      obtain ⟨g', h', e5, hg'⟩ := ih (k + 1) (fac m) (r % fac m) (l.eraseIdx (r / fac m)) (done ++ [l.getD (r / fac m) 0]) (up0 g (a + k) (h (r / fac m))) h2 fu (by omega) rfl hr2
        (by rw [List.length_eraseIdx_of_lt (by omega)]; omega) (fun y hy => hlt y (List.mem_of_mem_eraseIdx hy)) (by simp [hd])
        (by
          intro j hj
          rw [hh2, getD_erase, sA_ne _ _ _ _ (by omega), sA_same]
          by_cases q : j < r / fac m
          · rw [ifn (by omega), ifp q, hh j (by omega)]
          · rw [ifp (by omega), ifn q, hh (j + 1) (by omega)])
        (by
          intro p hp
          simp only [up0]
          by_cases q : p = a + k
          · subst q
            rw [ifp rfl, ifp (by omega), hh _ hi]
            congr 2
            rw [Nat.add_sub_cancel_left, List.getD_eq_getElem?_getD (l := done ++ _), List.getElem?_append_right (by omega), hd, Nat.sub_self]
            rfl
          · rw [ifn q, hg p hp]
            by_cases q2 : a ≤ p ∧ p < a + k
            · rw [ifp q2, ifp (by omega)]
              congr 2
              rw [List.getD_eq_getElem?_getD, List.getD_eq_getElem?_getD, List.getElem?_append_left (by omega)]
            · rw [ifn q2, ifn (by omega)]) (by omega)
      refine ⟨g', h', e5, fun p hp => ?_⟩
      rw [hg' p hp, mixg, hu1, List.append_assoc]
      rfl
  have hr0 : ∀ y ∈ List.range n, y < n := fun y hy => List.mem_range.mp hy
  obtain ⟨g', h', e5, hg'⟩ := main n 0 (fac n) w (List.range n) [] (mA (sA σ 42 h0) 41) h0 MN (by omega) rfl hw (by simp) hr0 rfl
    (by
      intro j hj
      rw [hh0 j hj]
      congr 2
      simp [List.getD_eq_getElem?_getD, hj])
    (by
      intro p hp
      rw [ifn (by omega)]
      exact hf p hp) (by omega)
  rw [sA_id] at e5
  exact ⟨g', h', e5, fun p hq => by rw [hg' p hq, hp]; rfl⟩
theorem layRow_L {σ : MS} {k : Nat} {x : Stq} (hk : k < 104) (h : MStp σ k x) (ht : sT x = 3) (hl : (sl x).length ≤ 8) (hf : ∀ p, p < 8 → mA σ 41 p = n32 p) :
    ∃ g, F_layMove_L90 MN (n32 k) (n32 0) σ = some (sA σ 41 g) ∧ ∀ p, p < 8 → g p = n32 ((sl x).getD p p) := by
  have hMN := MN_gt
  obtain ⟨e1, e2⟩ := h.h5 (Or.inl ht)
  obtain ⟨fu, s, ⟨g, rfl, hg⟩, e⟩ := upe (fun fu j s => F_layMove_L90 fu (n32 k) (n32 j) s) 0 (sl x).length
    (fun m s => ∃ g, s = sA σ 41 g ∧ ∀ p, p < 8 → g p = n32 (if p < m then (sl x).getD p p else p))
    (by
      rintro fu m s - hm ⟨g, rfl, hg⟩
      have e3 := e2 m hm
      simp only [F_layMove_L90]
      simp (disch := omega) only [↓reduceIte, ↓lt_y, leT, leF, ltT, ltF, eqT, eqF, n32_lit, n32_add, n32_mul, n32_sub, n32_le, n32_lt, n32_eq, n32_nat, gdn, gd_T, inbT, bd_y, bd2_y, ifp, ifn, not_true_eq_false, not_false_eq_true, and_self, true_and, and_true, false_and, and_false, or_self, true_or, or_true, false_or, or_false, wA_s, wL_s, sA_same, sL_same, sA_L, sL_A, sA_I, sL_I, wI_A, wI_L, wI_same, sA_sA, sL_sL, sA_ne, sL_ne, wI_ne, e1, e3]
      refine ⟨_, rfl, _, rfl, fun p hp => ?_⟩
      simp only [up0]
      by_cases q : p = m
      · subst q
        rw [ifp rfl, ifp (by omega)]
        congr 1
        simp [List.getD_eq_getElem?_getD, hm]
      · rw [ifn q, hg p hp]
        congr 1
        by_cases q2 : p < m
        · rw [ifp q2, ifp (by omega)]
        · rw [ifn q2, ifn (by omega)])
    σ MN (by omega) (by omega) ⟨mA σ 41, (sA_to fun j => rfl).symm, fun p hp => by rw [ifn (by omega)]; exact hf p hp⟩
  refine ⟨g, e.trans ?_, fun p hp => ?_⟩
  · simp only [F_layMove_L90]
    simp (disch := omega) only [↓reduceIte, ↓lt_y, leT, leF, ltT, ltF, eqT, eqF, n32_lit, n32_add, n32_mul, n32_sub, n32_le, n32_lt, n32_eq, n32_nat, gdn, gd_T, inbT, bd_y, bd2_y, ifp, ifn, not_true_eq_false, not_false_eq_true, and_self, true_and, and_true, false_and, and_false, or_self, true_or, or_true, false_or, or_false, wA_s, wL_s, sA_same, sL_same, sA_L, sL_A, sA_I, sL_I, wI_A, wI_L, wI_same, sA_sA, sL_sL, sA_ne, sL_ne, wI_ne, e1]
  · rw [hg p hp]
    congr 1
    by_cases q : p < (sl x).length
    · rw [ifp q]
    · rw [ifn q, List.getD_eq_getElem?_getD, List.getElem?_eq_none (by omega)]; rfl
/-- the same but for the arrays of a laid move -/
def eqM (σ τ : MS) : Prop := ∃ g h, τ = sA (sA σ 42 h) 41 g
theorem sA_comm {σ : MS} {j k : Nat} {f g : Nat → Int32} (h : j ≠ k) : sA (sA σ j f) k g = sA (sA σ k g) j f := by
  unfold sA
  congr 2
  funext x i
  by_cases q : x = j
  · subst q; simp [h]
  · simp [q]
theorem MStp_41 {σ : MS} {k : Nat} {x : Stq} {g h : Nat → Int32} : MStp (sA (sA σ 42 h) 41 g) k x ↔ MStp σ k x := by
  unfold MStp
  simp (disch := omega) only [sA_ne]
theorem layMove_L {σ : MS} {k : Nat} {x : Stq} (hk : k < 104) (h : MStp σ k x) (ho : okS x) (ht : 2 ≤ sT x ∧ sT x ≤ 7) (w : Nat) (hw : w < wys x) :
    ∃ g h, F_layMove (n32 k) (n32 w) σ = some (sA (sA σ 42 h) 41 g) ∧ ∀ p, p < 8 → g p = n32 (sfr x w p) := by
  have hMN := MN_gt
  have hwl := (wys_b ho).2
  unfold F_layMove
  simp (disch := omega) only [↓reduceIte, ↓lt_y, leT, leF, ltT, ltF, eqT, eqF, n32_lit, n32_add, n32_mul, n32_sub, n32_le, n32_lt, n32_eq, n32_nat, gdn, gd_T, inbT, bd_y, bd2_y, ifp, ifn, not_true_eq_false, not_false_eq_true, and_self, true_and, and_true, false_and, and_false, or_self, true_or, or_true, false_or, or_false, wA_s, wL_s, sA_same, sL_same, sA_L, sL_A, sA_I, sL_I, wI_A, wI_L, wI_same, sA_sA, sL_sL, sA_ne, sL_ne, wI_ne]
  obtain ⟨fu, s, ⟨g0, rfl, hg0⟩, e⟩ := upe (fun fu j s => F_layMove_L2 fu (n32 k) (n32 w) (n32 j) s) 0 8
    (fun m s => ∃ g, s = sA σ 41 g ∧ ∀ p, p < m → g p = n32 p)
    (by
      rintro fu m s - hm ⟨g, rfl, hg⟩
      simp only [F_layMove_L2]
      simp (disch := omega) only [↓reduceIte, ↓lt_y, leT, leF, ltT, ltF, eqT, eqF, n32_lit, n32_add, n32_mul, n32_sub, n32_le, n32_lt, n32_eq, n32_nat, gdn, gd_T, inbT, bd_y, bd2_y, ifp, ifn, not_true_eq_false, not_false_eq_true, and_self, true_and, and_true, false_and, and_false, or_self, true_or, or_true, false_or, or_false, wA_s, wL_s, sA_same, sL_same, sA_L, sL_A, sA_I, sL_I, wI_A, wI_L, wI_same, sA_sA, sL_sL, sA_ne, sL_ne, wI_ne]
      refine ⟨_, rfl, _, rfl, fun p hp => ?_⟩
      simp only [up0]
      by_cases q : p = m
      · subst q; rw [ifp rfl]
      · rw [ifn q]; exact hg p (by omega))
    σ MN (by omega) (by omega) ⟨mA σ 41, (sA_to fun j => rfl).symm, fun p hp => by omega⟩
  rw [e]
  simp only [F_layMove_L2, F_layMove_b21]
  have h' : MStp (sA σ 41 g0) k x := by
    unfold MStp at h ⊢
    simp (disch := omega) only [sA_ne]
    exact h
  have h41 : mA (sA σ 41 g0) 41 = g0 := sA_same σ 41 g0
  have id42 : ∀ g, sA (sA σ 41 g0) 41 g = sA (sA σ 42 (mA σ 42)) 41 g := fun g => by rw [sA_sA, sA_id]
  have h1 := h'.h1
  generalize hτ : sA σ 41 g0 = τ at h' h1 h41 id42 ⊢
  by_cases t3 : sT x = 3
  · have o4 := ho.o4 t3
    obtain ⟨g, e1, hg⟩ := layRow_L hk h' t3 o4.2.1 (fun p hp => by rw [h41]; exact hg0 p hp)
    simp (disch := omega) only [↓reduceIte, ↓lt_y, leT, leF, ltT, ltF, eqT, eqF, n32_lit, n32_add, n32_mul, n32_sub, n32_le, n32_lt, n32_eq, n32_nat, gdn, gd_T, inbT, bd_y, bd2_y, ifp, ifn, not_true_eq_false, not_false_eq_true, and_self, true_and, and_true, false_and, and_false, or_self, true_or, or_true, false_or, or_false, wA_s, wL_s, sA_same, sL_same, sA_L, sL_A, sA_I, sL_I, wI_A, wI_L, wI_same, sA_sA, sL_sL, sA_ne, sL_ne, wI_ne, h1, t3, e1]
    refine ⟨g, _, congrArg some (id42 g), fun p hp => ?_⟩
    rw [hg p hp, sfr, ifn (by omega), ifp t3]
  have e1 := h'.h2 (by omega)
  have e2 := h'.h3 (by omega)
  by_cases t2 : sT x = 2
  · have o3 := ho.o3 (Or.inl t2)
    simp (disch := omega) only [↓reduceIte, ↓lt_y, leT, leF, ltT, ltF, eqT, eqF, n32_lit, n32_add, n32_mul, n32_sub, n32_le, n32_lt, n32_eq, n32_nat, gdn, gd_T, inbT, bd_y, bd2_y, ifp, ifn, not_true_eq_false, not_false_eq_true, and_self, true_and, and_true, false_and, and_false, or_self, true_or, or_true, false_or, or_false, wA_s, wL_s, sA_same, sL_same, sA_L, sL_A, sA_I, sL_I, wI_A, wI_L, wI_same, sA_sA, sL_sL, sA_ne, sL_ne, wI_ne, h1, t2, e1, e2]
    rw [h41, ← hτ, sA_sA]
    refine ⟨up0 (up0 g0 (s1 x) (n32 (s2 x))) (s2 x) (n32 (s1 x)), mA σ 42, by rw [sA_id], fun p hp => ?_⟩
    rw [sfr, ifp t2]
    simp only [up0]
    by_cases q : p = s2 x
    · subst q; rw [ifp rfl, ifn (by omega), ifp rfl]
    · rw [ifn q]
      by_cases q2 : p = s1 x
      · rw [ifp q2, ifp q2]
      · rw [ifn q2, ifn q2, ifn q, hg0 p hp]
  have hwd := wd_b ho (by omega)
  have e3 : n32 (s2 x) - n32 (s1 x) + n32 1 = n32 (wd x) := by rw [n32_sub (by omega), n32_add]; rfl
  have e0 : s2 x - s1 x + 1 = wd x := rfl
  by_cases t7 : sT x = 7
  · have o8 := ho.o8 t7
    obtain ⟨g, hh, e4, hg⟩ := layMix_L (σ := τ) (a := s1 x) (n := wd x) (w := w) ⟨by omega, o8⟩ (by unfold wd; omega) (by
        unfold wys at hw
        rw [ifn (by omega), ifn (by omega), ifn (by omega), ifp t7] at hw
        have : wd x = 2 ∨ wd x = 3 ∨ wd x = 4 := by omega
        rcases this with q | q | q <;> rw [q] at hw ⊢ <;> exact hw) (fun p hp => by rw [h41]; exact hg0 p hp)
    simp (disch := omega) only [↓reduceIte, ↓lt_y, leT, leF, ltT, ltF, eqT, eqF, n32_lit, n32_add, n32_mul, n32_sub, n32_le, n32_lt, n32_eq, n32_nat, gdn, gd_T, inbT, bd_y, bd2_y, ifp, ifn, not_true_eq_false, not_false_eq_true, and_self, true_and, and_true, false_and, and_false, or_self, true_or, or_true, false_or, or_false, wA_s, wL_s, sA_same, sL_same, sA_L, sL_A, sA_I, sL_I, wI_A, wI_L, wI_same, sA_sA, sL_sL, sA_ne, sL_ne, wI_ne, h1, t7, e1, e2, e0, e4]
    refine ⟨g, hh, ?_, fun p hp => ?_⟩
    · rw [← hτ, sA_comm (j := 41) (k := 42) (by omega), sA_sA]
    · rw [hg p hp, sfr, ifn t2, ifn t3, ifp t7]
      congr 1
      by_cases q : s1 x ≤ p ∧ p ≤ s2 x
      · rw [ifp q, ifp (by unfold wd; omega)]
      · rw [ifn q, ifn (by unfold wd; omega)]
  have cut : ∀ m, m < 1000 → m = sby x w → ∃ g h, F_layMove_b192 (n32 (s1 x)) (n32 (wd x)) (n32 m) τ = some (sA (sA σ 42 h) 41 g) ∧ ∀ p, p < 8 → g p = n32 (sfr x w p) := by
    intro m hm em
    obtain ⟨g, e4, hg⟩ := layCut_L (σ := τ) (a := s1 x) (b := s2 x) (m := m) (by omega) (by omega) hm (fun p hp => by rw [h41]; exact hg0 p hp)
    refine ⟨g, mA σ 42, by rw [← id42]; exact e4, fun p hp => ?_⟩
    rw [hg p hp, sfr, ifn t2, ifn t3, ifn t7, ifp (by omega), em]
    rfl
  by_cases t4 : sT x = 4
  · simp (disch := omega) only [↓reduceIte, ↓lt_y, leT, leF, ltT, ltF, eqT, eqF, n32_lit, n32_add, n32_mul, n32_sub, n32_le, n32_lt, n32_eq, n32_nat, gdn, gd_T, inbT, bd_y, bd2_y, ifp, ifn, not_true_eq_false, not_false_eq_true, and_self, true_and, and_true, false_and, and_false, or_self, true_or, or_true, false_or, or_false, wA_s, wL_s, sA_same, sL_same, sA_L, sL_A, sA_I, sL_I, wI_A, wI_L, wI_same, sA_sA, sL_sL, sA_ne, sL_ne, wI_ne, h1, t4, e1, e2, e0]
    exact cut w (by omega) (by rw [sby, ifn (by omega), ifn (by omega)])
  by_cases t5 : sT x = 5
  · have e5 : n32 (w * wd x) / n32 2 = n32 (w * wd x / 2) := n32_div _ _ (by omega) (by
      have : w * wd x ≤ 24 * 8 := Nat.mul_le_mul (by omega) (by omega)
      omega) (by omega)
    simp (disch := omega) only [↓reduceIte, ↓lt_y, leT, leF, ltT, ltF, eqT, eqF, n32_lit, n32_add, n32_mul, n32_sub, n32_le, n32_lt, n32_eq, n32_nat, gdn, gd_T, inbT, bd_y, bd2_y, ifp, ifn, not_true_eq_false, not_false_eq_true, and_self, true_and, and_true, false_and, and_false, or_self, true_or, or_true, false_or, or_false, wA_s, wL_s, sA_same, sL_same, sA_L, sL_A, sA_I, sL_I, wI_A, wI_L, wI_same, sA_sA, sL_sL, sA_ne, sL_ne, wI_ne, h1, t5, e1, e2, e0, e5]
    exact cut (w * wd x / 2) (by
      have : w * wd x ≤ 24 * 8 := Nat.mul_le_mul (by omega) (by omega)
      omega) (by rw [sby, ifp t5])
  · have e4 := h'.h4 (by omega)
    have o7 := ho.o7 (by omega)
    simp (disch := omega) only [↓reduceIte, ↓lt_y, leT, leF, ltT, ltF, eqT, eqF, n32_lit, n32_add, n32_mul, n32_sub, n32_le, n32_lt, n32_eq, n32_nat, gdn, gd_T, inbT, bd_y, bd2_y, ifp, ifn, not_true_eq_false, not_false_eq_true, and_self, true_and, and_true, false_and, and_false, or_self, true_or, or_true, false_or, or_false, wA_s, wL_s, sA_same, sL_same, sA_L, sL_A, sA_I, sL_I, wI_A, wI_L, wI_same, sA_sA, sL_sL, sA_ne, sL_ne, wI_ne, h1, e1, e2, e0, e4]
    exact cut (w * s3 x) (by
      have : w * s3 x ≤ 24 * 4 := Nat.mul_le_mul (by omega) (by omega)
      omega) (by rw [sby, ifn t5, ifp (by omega)])
