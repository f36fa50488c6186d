set_option maxRecDepth 100000
/-! THE REFERENCE's LEAVES, gone through -/
def leafE (N : Nat) (lf : Leaf) : Nat := orr N fun i => endS (lfD lf) (lfX lf) (vD (lfV lf) i)
/-- two inputs that should be alike are told apart -/
def unl (ak : Nat → Int32) (sec : Bool) (lf : Leaf) (i j : Nat) : Prop := (sec = true ∨ ak i = ak j) ∧ sm 256 (vD (lfV lf) i) ≠ sm 256 (vD (lfV lf) j)
def leafU (N : Nat) (ak : Nat → Int32) (sec : Bool) (lf : Leaf) : Prop := ∃ i j, i < N ∧ j < i ∧ unl ak sec lf i j
theorem lg_eq (x y : Int64) : lg_cmp x y = 0 ↔ x = y := by
  unfold lg_cmp
  split
  · rename_i h
    constructor
    · intro q; exact absurd q (by decide)
    · rintro rfl; exact absurd h Int64.lt_irrefl
  · split
    · simp_all
    · rename_i h1 h2; simp only [h2, iff_false]; decide
theorem e64_inj {a b : Nat} (ha : a < 9223372036854775808) (hb : b < 9223372036854775808) : e64 a = e64 b ↔ a = b := by
  constructor
  · intro q
    have h1 : (e64 a).toInt = a := Int64.toInt_ofNat_of_lt (by simpa using ha)
    have h2 : (e64 b).toInt = b := Int64.toInt_ofNat_of_lt (by simpa using hb)
    rw [q] at h1
    omega
  · rintro rfl; rfl
theorem leafPair_L {σ : MS} {b N l : Nat} {lf : Leaf} {ak : Nat → Int32} {sec : Bool} (hB : MB σ b N) (h : LeafAt σ N l lf) (hak : ∀ i, i < N → mA σ 56 i = ak i) (hsec : mI σ 67 = if sec then 1 else 0) (hsb : ∀ i, sm 256 (vD (lfV lf) i) < 9223372036854775808) :
    ∃ z, F_leaf_b43 (n32 l) σ = some (wI σ 66 z) ∧ (leafU N ak sec lf → z = 1) ∧ (¬ leafU N ak sec lf → z = mI σ 66) := by
  have hMN := MN_gt
  have hN := hB.le
  have l16 := h.1
  have tie : ∀ P Q : Prop, (P ↔ Q) → ∀ z : Int32, ((P → z = 1) ∧ (¬ P → z = mI σ 66)) → ((Q → z = 1) ∧ (¬ Q → z = mI σ 66)) := fun P Q e z h => ⟨fun q => h.1 (e.mpr q), fun q => h.2 (fun p => q (e.mp p))⟩
  unfold F_leaf_b43
  obtain ⟨fu, s, ⟨z, rfl, hz⟩, e⟩ := upe (fun fu i s => F_leaf_L45 fu (n32 l) (n32 i) s) 0 N
    (fun i0 s => ∃ z, s = wI σ 66 z ∧ ((∃ i j, i < i0 ∧ j < i ∧ unl ak sec lf i j) → z = 1) ∧ (¬ (∃ i j, i < i0 ∧ j < i ∧ unl ak sec lf i j) → z = mI σ 66))
    (by
      rintro fu i0 s - hi ⟨z, rfl, hz⟩
      have c0 : Fr [66] [] [] σ (wI σ 66 z) := Fr.wI _ _ _
      simp only [F_leaf_L45]
      rw [inputs_L (hB.fr c0 (by simp) (by simp))]
      simp only [bd_y]
      rw [ifn (by simp (disch := omega) only [↓reduceIte, ↓lt_y, leT, leF, ltT, ltF, eqT, eqF, n32_lit, n32_add, n32_mul, n32_sub, n32_le, n32_lt, n32_eq, n32_nat, gdn, gd_T, inbT, bd_y, bd2_y, ifp, ifn, not_true_eq_false, not_false_eq_true, and_self, true_and, and_true, false_and, and_false, or_self, true_or, or_true, false_or, or_false, wA_s, wL_s, sA_same, sL_same, sA_L, sL_A, sA_I, sL_I, wI_A, wI_L, wI_same, sA_sA, sL_sL, sA_ne, sL_ne, wI_ne]), show (0 : Int32) = n32 0 from rfl]
      obtain ⟨fu', s, ⟨z, rfl, hz⟩, e⟩ := upe (fun fu' j s => F_leaf_L55 (F_leaf_L45 fu) fu' (n32 l) (n32 i0) (n32 j) s) 0 i0
        (fun j0 s => ∃ z, s = wI σ 66 z ∧ ((∃ i j, (i < i0 ∨ (i = i0 ∧ j < j0)) ∧ j < i ∧ unl ak sec lf i j) → z = 1) ∧ (¬ (∃ i j, (i < i0 ∨ (i = i0 ∧ j < j0)) ∧ j < i ∧ unl ak sec lf i j) → z = mI σ 66))
        (by
          rintro fu' j0 s - hj ⟨z, rfl, hz⟩
          have c1 : Fr [66] [] [] σ (wI σ 66 z) := Fr.wI _ _ _
          have h1 := h.fr c1 (by simp) (by simp) (by simp) (by simp)
          have zi := n32_nat (a := i0) (by omega)
          have zj := n32_nat (a := j0) (by omega)
          simp only [F_leaf_L55]
          rw [ifn (by simp (disch := omega) only [↓reduceIte, ↓lt_y, leT, leF, ltT, ltF, eqT, eqF, n32_lit, n32_add, n32_mul, n32_sub, n32_le, n32_lt, n32_eq, n32_nat, gdn, gd_T, inbT, bd_y, bd2_y, ifp, ifn, not_true_eq_false, not_false_eq_true, and_self, true_and, and_true, false_and, and_false, or_self, true_or, or_true, false_or, or_false, wA_s, wL_s, sA_same, sL_same, sA_L, sL_A, sA_I, sL_I, wI_A, wI_L, wI_same, sA_sA, sL_sL, sA_ne, sL_ne, wI_ne]), wI_ne _ _ _ _ (by omega), hsec]
          -- the pair is not like
          have no : ¬ unl ak sec lf i0 j0 → F_leaf_b103 (F_leaf_L55 (F_leaf_L45 fu) fu') (n32 l) (n32 i0) (n32 j0) (wI σ 66 z) = F_leaf_L55 (F_leaf_L45 fu) fu' (n32 l) (n32 i0) (n32 (j0 + 1)) (wI σ 66 z) ∧ (((∃ i j, (i < i0 ∨ (i = i0 ∧ j < j0 + 1)) ∧ j < i ∧ unl ak sec lf i j) → z = 1) ∧ (¬ (∃ i j, (i < i0 ∨ (i = i0 ∧ j < j0 + 1)) ∧ j < i ∧ unl ak sec lf i j) → z = mI σ 66)) := by
            intro q
            refine ⟨by unfold F_leaf_b103; simp (disch := omega) only [↓reduceIte, ↓lt_y, leT, leF, ltT, ltF, eqT, eqF, n32_lit, n32_add, n32_mul, n32_sub, n32_le, n32_lt, n32_eq, n32_nat, gdn, gd_T, inbT, bd_y, bd2_y, ifp, ifn, not_true_eq_false, not_false_eq_true, and_self, true_and, and_true, false_and, and_false, or_self, true_or, or_true, false_or, or_false, wA_s, wL_s, sA_same, sL_same, sA_L, sL_A, sA_I, sL_I, wI_A, wI_L, wI_same, sA_sA, sL_sL, sA_ne, sL_ne, wI_ne], tie _ _ ⟨?_, ?_⟩ z hz⟩
            · rintro ⟨i, j, a, b, c⟩
              exact ⟨i, j, by omega, b, c⟩
            · rintro ⟨i, j, a, b, c⟩
              refine ⟨i, j, ?_, b, c⟩
              by_cases y : i = i0 ∧ j = j0
              · rw [y.1, y.2] at c; exact absurd c q
              · omega
          have b82 : (sec = true ∨ ak i0 = ak j0) → ∃ s', F_leaf_b82 (F_leaf_b103 (F_leaf_L55 (F_leaf_L45 fu) fu')) (n32 l) (n32 i0) (n32 j0) (wI σ 66 z) = F_leaf_L55 (F_leaf_L45 fu) fu' (n32 l) (n32 i0) (n32 (j0 + 1)) s' ∧ ∃ z, s' = wI σ 66 z ∧ (((∃ i j, (i < i0 ∨ (i = i0 ∧ j < j0 + 1)) ∧ j < i ∧ unl ak sec lf i j) → z = 1) ∧ (¬ (∃ i j, (i < i0 ∨ (i = i0 ∧ j < j0 + 1)) ∧ j < i ∧ unl ak sec lf i j) → z = mI σ 66)) := by
            intro hlk
            unfold F_leaf_b82
            rw [leaf_total h1 (by omega), leaf_total h1 (by omega)]
            simp only [bd_y]
            by_cases q : sm 256 (vD (lfV lf) i0) = sm 256 (vD (lfV lf) j0)
            · rw [ifp ((lg_eq _ _).mpr (by rw [q]))]
              obtain ⟨e1, e2⟩ := no (fun y => y.2 q)
              exact ⟨_, e1, z, rfl, e2⟩
            · rw [ifn (fun y => q ((e64_inj (hsb _) (hsb _)).mp ((lg_eq _ _).mp y)))]
              simp only [↓lt_y]
              rw [wI_wI]
              refine ⟨wI σ 66 1, by unfold F_leaf_b103; simp (disch := omega) only [↓reduceIte, ↓lt_y, leT, leF, ltT, ltF, eqT, eqF, n32_lit, n32_add, n32_mul, n32_sub, n32_le, n32_lt, n32_eq, n32_nat, gdn, gd_T, inbT, bd_y, bd2_y, ifp, ifn, not_true_eq_false, not_false_eq_true, and_self, true_and, and_true, false_and, and_false, or_self, true_or, or_true, false_or, or_false, wA_s, wL_s, sA_same, sL_same, sA_L, sL_A, sA_I, sL_I, wI_A, wI_L, wI_same, sA_sA, sL_sL, sA_ne, sL_ne, wI_ne], 1, rfl, fun _ => rfl, fun y => absurd ⟨i0, j0, by omega, hj, hlk, q⟩ y⟩
          cases sec with
          | true =>
            rw [if_pos rfl, ifn (by decide)]
            exact b82 (Or.inl rfl)
          | false =>
            rw [ifp (by decide), gd_y (n32_inb (by omega)), gd_y (n32_inb (by omega)), zi, zj, wI_A, hak _ (by omega), hak _ (by omega)]
            by_cases q : ak i0 = ak j0
            · rw [ifp q]; exact b82 (Or.inr q)
            · rw [ifn q]
              obtain ⟨e1, e2⟩ := no (fun y => y.1.elim (by decide) q)
              exact ⟨_, e1, z, rfl, e2⟩)
        (wI σ 66 z) MN (by omega) (by omega) ⟨z, rfl, tie _ _ ⟨fun ⟨i, j, a, b, c⟩ => ⟨i, j, by omega, b, c⟩, fun ⟨i, j, a, b, c⟩ => ⟨i, j, by omega, b, c⟩⟩ z hz⟩
      refine ⟨wI σ 66 z, e.trans ?_, z, rfl, tie _ _ ⟨fun ⟨i, j, a, b, c⟩ => ⟨i, j, by omega, b, c⟩, fun ⟨i, j, a, b, c⟩ => ⟨i, j, by omega, b, c⟩⟩ z hz⟩
      simp only [F_leaf_L55, F_leaf_b109]
      simp (disch := omega) only [↓reduceIte, ↓lt_y, leT, leF, ltT, ltF, eqT, eqF, n32_lit, n32_add, n32_mul, n32_sub, n32_le, n32_lt, n32_eq, n32_nat, gdn, gd_T, inbT, bd_y, bd2_y, ifp, ifn, not_true_eq_false, not_false_eq_true, and_self, true_and, and_true, false_and, and_false, or_self, true_or, or_true, false_or, or_false, wA_s, wL_s, sA_same, sL_same, sA_L, sL_A, sA_I, sL_I, wI_A, wI_L, wI_same, sA_sA, sL_sL, sA_ne, sL_ne, wI_ne])
    σ MN (by omega) (by omega) ⟨mI σ 66, (wI_id σ 66).symm, fun ⟨i, j, a, _⟩ => by omega, fun _ => rfl⟩
  refine ⟨z, e.trans ?_, hz.1, hz.2⟩
  simp only [F_leaf_L45]
  rw [inputs_L (hB.fr (Fr.wI σ 66 z) (by simp) (by simp))]
  simp (disch := omega) only [↓reduceIte, ↓lt_y, leT, leF, ltT, ltF, eqT, eqF, n32_lit, n32_add, n32_mul, n32_sub, n32_le, n32_lt, n32_eq, n32_nat, gdn, gd_T, inbT, bd_y, bd2_y, ifp, ifn, not_true_eq_false, not_false_eq_true, and_self, true_and, and_true, false_and, and_false, or_self, true_or, or_true, false_or, or_false, wA_s, wL_s, sA_same, sL_same, sA_L, sL_A, sA_I, sL_I, wI_A, wI_L, wI_same, sA_sA, sL_sL, sA_ne, sL_ne, wI_ne]
theorem leaf_L {σ : MS} {b N l p : Nat} {md : Md} {lf : Leaf} {ak : Nat → Int32} {sec : Bool} (hB : MB σ b N) (hM : MMd σ md) (h : LeafAt σ N l lf) (hak : ∀ i, i < N → mA σ 56 i = ak i) (hsec : mI σ 67 = if sec then 1 else 0) (hsb : ∀ i, sm 256 (vD (lfV lf) i) < 9223372036854775808)
    (h55 : mI σ 55 = n32 p) (hkp : md.1 = 0 → p < 200 ∧ l = (lfK lf).length ∧ l ≤ 6 ∧ (∀ j, j < l → mA σ 50 j = n32 ((lfK lf).getD j 0 + 1)) ∧ ∀ j, j < l → (lfK lf).getD j 0 < 256) :
    ∃ τ, F_leaf (n32 l) σ = some τ ∧ Fr [64, 66] [57, 58, 59, 60] [61, 62] σ τ ∧ mI τ 64 = mI σ 64 ||| n32 (leafE N lf) ∧ (leafU N ak sec lf → mI τ 66 = 1) ∧ (¬ leafU N ak sec lf → mI τ 66 = mI σ 66) ∧ (md.1 = 0 → PathR τ N p lf ∧ OP p σ τ) ∧ (md.1 ≠ 0 → Fr [64, 66] [] [] σ τ) := by
  have hMN := MN_gt
  have hN := hB.le
  have l16 := h.1
  unfold F_leaf
  obtain ⟨fu, s, rfl, e⟩ := upe (fun fu i s => F_leaf_L2 fu (n32 l) (n32 i) s) 0 N
    (fun i0 s => s = wI σ 64 (mI σ 64 ||| n32 (orr i0 fun i => endS (lfD lf) (lfX lf) (vD (lfV lf) i))))
    (by
      rintro fu i0 s - hi rfl
      have c1 : Fr [64] [] [] σ (wI σ 64 (mI σ 64 ||| n32 (orr i0 fun i => endS (lfD lf) (lfX lf) (vD (lfV lf) i)))) := Fr.wI _ _ _
      refine ⟨_, ?_, rfl⟩
      simp only [F_leaf_L2]
      rw [inputs_L (hB.fr c1 (by simp) (by simp))]
      simp only [bd_y]
      rw [ifn (by simp (disch := omega) only [↓reduceIte, ↓lt_y, leT, leF, ltT, ltF, eqT, eqF, n32_lit, n32_add, n32_mul, n32_sub, n32_le, n32_lt, n32_eq, n32_nat, gdn, gd_T, inbT, bd_y, bd2_y, ifp, ifn, not_true_eq_false, not_false_eq_true, and_self, true_and, and_true, false_and, and_false, or_self, true_or, or_true, false_or, or_false, wA_s, wL_s, sA_same, sL_same, sA_L, sL_A, sA_I, sL_I, wI_A, wI_L, wI_same, sA_sA, sL_sL, sA_ne, sL_ne, wI_ne]), leaf_ends (h.fr c1 (by simp) (by simp) (by simp) (by simp)) (by omega)]
      simp only [bd_y, ↓lt_y]
      rw [wI_wI, wI_same, orr, ← n32_or, Int32.or_assoc, show n32 i0 + (1 : Int32) = n32 (i0 + 1) from by simp (disch := omega) only [↓reduceIte, ↓lt_y, leT, leF, ltT, ltF, eqT, eqF, n32_lit, n32_add, n32_mul, n32_sub, n32_le, n32_lt, n32_eq, n32_nat, gdn, gd_T, inbT, bd_y, bd2_y, ifp, ifn, not_true_eq_false, not_false_eq_true, and_self, true_and, and_true, false_and, and_false, or_self, true_or, or_true, false_or, or_false, wA_s, wL_s, sA_same, sL_same, sA_L, sL_A, sA_I, sL_I, wI_A, wI_L, wI_same, sA_sA, sL_sL, sA_ne, sL_ne, wI_ne]])
    σ MN (by omega) (by omega) (by
      rw [orr, show n32 0 = (0 : Int32) from rfl, Int32.or_zero]
      exact (wI_id σ 64).symm)
  rw [show (0 : Int32) = n32 0 from rfl, e]
  generalize hτ1 : wI σ 64 (mI σ 64 ||| n32 (orr N fun i => endS (lfD lf) (lfX lf) (vD (lfV lf) i))) = τ1
  have c1 : Fr [64] [] [] σ τ1 := hτ1 ▸ Fr.wI _ _ _
  have m64 : mI τ1 64 = mI σ 64 ||| n32 (leafE N lf) := by rw [← hτ1, wI_same]; rfl
  have hB1 := hB.fr c1 (by simp) (by simp)
  have h1 := h.fr c1 (by simp) (by simp) (by simp) (by simp)
  simp only [F_leaf_L2]
  rw [inputs_L hB1]
  simp only [bd_y]
  rw [ifp (by simp (disch := omega) only [↓reduceIte, ↓lt_y, leT, leF, ltT, ltF, eqT, eqF, n32_lit, n32_add, n32_mul, n32_sub, n32_le, n32_lt, n32_eq, n32_nat, gdn, gd_T, inbT, bd_y, bd2_y, ifp, ifn, not_true_eq_false, not_false_eq_true, and_self, true_and, and_true, false_and, and_false, or_self, true_or, or_true, false_or, or_false, wA_s, wL_s, sA_same, sL_same, sA_L, sL_A, sA_I, sL_I, wI_A, wI_L, wI_same, sA_sA, sL_sL, sA_ne, sL_ne, wI_ne])]
  unfold F_leaf_b31
  have m51 : mI τ1 51 = n32 md.1 := by rw [c1.1 51 (by simp)]; exact hM.1
  have hm4 := hM.2.1
  rw [m51]
  by_cases q : md.1 = 0
  · rw [ifp (by simp (disch := omega) only [↓reduceIte, ↓lt_y, leT, leF, ltT, ltF, eqT, eqF, n32_lit, n32_add, n32_mul, n32_sub, n32_le, n32_lt, n32_eq, n32_nat, gdn, gd_T, inbT, bd_y, bd2_y, ifp, ifn, not_true_eq_false, not_false_eq_true, and_self, true_and, and_true, false_and, and_false, or_self, true_or, or_true, false_or, or_false, wA_s, wL_s, sA_same, sL_same, sA_L, sL_A, sA_I, sL_I, wI_A, wI_L, wI_same, sA_sA, sL_sL, sA_ne, sL_ne, wI_ne])]
    obtain ⟨k1, k2, k3, k4, k5⟩ := hkp q
    obtain ⟨τ2, d1, d2, d3, d4⟩ := keepPath_L hB1 h1 k1 (by rw [c1.1 55 (by simp)]; exact h55) k2 k3 (fun j hj => by rw [c1.2.1 50 (by simp)]; exact k4 j hj) k5
    rw [d1]
    simp only [bd_y]
    have c2 : Fr [64] [57, 58, 59, 60] [61, 62] σ τ2 := c1.tr d2 (by simp) (by simp) (by simp)
    obtain ⟨z, f1, f2, f3⟩ := leafPair_L (ak := ak) (sec := sec) (hB1.fr d2 (by simp) (by simp)) (h1.fr d2 (by simp) (by intro j hj; simp; omega) (by simp) (by simp)) (fun i hi => by rw [c2.2.1 56 (by simp)]; exact hak i hi) (by rw [c2.1 67 (by simp)]; exact hsec) hsb
    refine ⟨_, f1, c2.tr (Fr.wI _ 66 z) (by simp) (by simp) (by simp), ?_, ?_, ?_, fun _ => ⟨d3, ?_⟩, fun y => absurd q y⟩
    · rw [wI_ne _ _ _ _ (by omega), d2.1 64 (by simp)]; exact m64
    · intro y; rw [wI_same]; exact f2 y
    · intro y; rw [wI_same, f3 y, c2.1 66 (by simp)]
    · exact ⟨fun j hj => by
        obtain ⟨x1, x2, x3⟩ := d4.1 j hj
        rw [c1.2.1 57 (by simp)] at x1
        rw [c1.2.1 60 (by simp)] at x2
        rw [c1.2.2 62 (by simp)] at x3
        exact ⟨x1, x2, x3⟩, fun j hj => by
        have := d4.2.1 j hj
        rw [c1.2.1 58 (by simp)] at this
        exact this, fun j hj => by
        obtain ⟨x1, x2⟩ := d4.2.2 j hj
        rw [c1.2.1 59 (by simp)] at x1
        rw [c1.2.2 61 (by simp)] at x2
        exact ⟨x1, x2⟩⟩
  · rw [ifn (by simp (disch := omega) only [↓reduceIte, ↓lt_y, leT, leF, ltT, ltF, eqT, eqF, n32_lit, n32_add, n32_mul, n32_sub, n32_le, n32_lt, n32_eq, n32_nat, gdn, gd_T, inbT, bd_y, bd2_y, ifp, ifn, not_true_eq_false, not_false_eq_true, and_self, true_and, and_true, false_and, and_false, or_self, true_or, or_true, false_or, or_false, wA_s, wL_s, sA_same, sL_same, sA_L, sL_A, sA_I, sL_I, wI_A, wI_L, wI_same, sA_sA, sL_sL, sA_ne, sL_ne, wI_ne])]
    obtain ⟨z, f1, f2, f3⟩ := leafPair_L (ak := ak) (sec := sec) hB1 h1 (fun i hi => by rw [c1.2.1 56 (by simp)]; exact hak i hi) (by rw [c1.1 67 (by simp)]; exact hsec) hsb
    have c3 : Fr [64, 66] [] [] σ (wI τ1 66 z) := c1.tr (Fr.wI _ 66 z) (by simp) (by simp) (by simp)
    refine ⟨_, f1, c3.mono (by simp) (by simp) (by simp), ?_, ?_, ?_, fun y => absurd y q, fun _ => c3⟩
    · rw [wI_ne _ _ _ _ (by omega)]; exact m64
    · intro y; rw [wI_same]; exact f2 y
    · intro y; rw [wI_same, f3 y, c1.1 66 (by simp)]
