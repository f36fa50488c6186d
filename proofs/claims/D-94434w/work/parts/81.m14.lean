set_option maxRecDepth 100000
/-! THE REFERENCE: what leaks, what a cheat can do -/
theorem askFr {σ : MS} {b : Nat} {R : Rc} (hR : MRc σ b R) (hP : MPt σ R) (g : Nat → Int32) : MRc (sA σ 34 g) b R ∧ MPt (sA σ 34 g) R := ⟨hR.fr (Fr.sA σ 34 g) (by simp) (by intro j x y; simp; omega), hP.fr (Fr.sA σ 34 g) (by simp) (by simp) (by intro j x y; simp; omega) (by simp) (by simp)⟩
def leakQ (R : Rc) (sec : Bool) (r : Int32) : Prop := (∃ k, leakP R sec k ∧ (∀ j, j < k → ¬ leakP R sec j) ∧ r = n32 (1000 * (k / 64) + 100 * (k / 8 % 8) + 10 * (k % 8))) ∨ ((∀ k, ¬ leakP R sec k) ∧ r = -1)
theorem leaks_L {σ : MS} {b : Nat} {R : Rc} (hR : MRc σ b R) (hq : okQ R) (hP : MPt σ R) (sec : Bool) : ∃ r g, F_leaks (if sec then 1 else 0) σ = some (r, sA σ 34 g) ∧ q_leaks R sec r := by
  have hMN := MN_gt
  have hN := rN_le hq
  unfold F_leaks q_leaks
  by_cases q : 200 < (pths R).length
  · rw [(hP.1 q).1, ifn (by decide)]
    exact ⟨_, mA σ 34, by rw [sA_id], by rw [ifp q]⟩
  obtain ⟨a1, a2, a3⟩ := hP.2 (by omega)
  rw [a1, ifp (c := n32 0 = (0 : Int32)) (by decide), show (0 : Int32) = n32 0 from rfl]
  simp only [ifn q]
  generalize hz : (if sec = true then (1 : Int32) else n32 0) = z
  have hz0 : z = 0 ↔ sec = false := by rw [← hz]; cases sec <;> decide
  have goal : ∃ r g, F_leaks_L12 MN z (n32 0) σ = some (r, sA σ 34 g) ∧ leakQ R sec r := by
    refine upf (fun fu p (s : MS) => F_leaks_L12 fu z (n32 p) s) 0 (pths R).length (fun p0 s => (∃ g, s = sA σ 34 g) ∧ ∀ k, k < 64 * p0 → ¬ leakP R sec k) (fun o => ∃ r g, o = some (r, sA σ 34 g) ∧ leakQ R sec r) ?_ ?_ σ MN (Nat.zero_le _) (by omega) ⟨⟨mA σ 34, (sA_id σ 34).symm⟩, fun k hk => by omega⟩
    · rintro fu p0 s - hp ⟨⟨g, rfl⟩, hno⟩
      try dsimp only
      rw [F_leaks_L12, ((askFr hR hP g).2.2 (by omega)).2.1, ifn (by simp (disch := omega) only [↓reduceIte, ↓lt_y, leT, leF, ltT, ltF, eqT, eqF, n32_lit, n32_add, n32_mul, n32_sub, n32_le, n32_lt, n32_eq, n32_nat, gdn, gd_T, inbT, bd_y, bd2_y, ifp, ifn, not_true_eq_false, not_false_eq_true, and_self, true_and, and_true, false_and, and_false, or_self, true_or, or_true, false_or, or_false, wA_s, wL_s, sA_same, sL_same, sA_L, sL_A, sA_I, sL_I, wI_A, wI_L, wI_same, sA_sA, sL_sL, sA_ne, sL_ne, wI_ne]), show (0 : Int32) = n32 0 from rfl]
      refine upf (fun fu' i (s : MS) => F_leaks_L22 (F_leaks_L12 fu) fu' z (n32 p0) (n32 i) s) 0 (rN R) (fun i0 s => (∃ g, s = sA σ 34 g) ∧ ∀ k, k < 64 * p0 + 8 * i0 → ¬ leakP R sec k)
        (fun o => (∃ s', o = F_leaks_L12 fu z (n32 (p0 + 1)) s' ∧ (∃ g, s' = sA σ 34 g) ∧ ∀ k, k < 64 * (p0 + 1) → ¬ leakP R sec k) ∨ ∃ r g, o = some (r, sA σ 34 g) ∧ leakQ R sec r) ?_ ?_ (sA σ 34 g) MN (Nat.zero_le _) (by omega) ⟨⟨g, rfl⟩, fun k hk => hno k (by omega)⟩
      · rintro fu' i0 s - hi ⟨⟨g, rfl⟩, hno⟩
        try dsimp only
        rw [F_leaks_L22, inputs_L ((askFr hR hP g).1.mb hq)]
        simp only [bd_y]
        rw [ifn (by simp (disch := omega) only [↓reduceIte, ↓lt_y, leT, leF, ltT, ltF, eqT, eqF, n32_lit, n32_add, n32_mul, n32_sub, n32_le, n32_lt, n32_eq, n32_nat, gdn, gd_T, inbT, bd_y, bd2_y, ifp, ifn, not_true_eq_false, not_false_eq_true, and_self, true_and, and_true, false_and, and_false, or_self, true_or, or_true, false_or, or_false, wA_s, wL_s, sA_same, sL_same, sA_L, sL_A, sA_I, sL_I, wI_A, wI_L, wI_same, sA_sA, sL_sL, sA_ne, sL_ne, wI_ne])]
        simp only [↓lt_y]
        rw [show n32 i0 + (1 : Int32) = n32 (i0 + 1) from by simp (disch := omega) only [↓reduceIte, ↓lt_y, leT, leF, ltT, ltF, eqT, eqF, n32_lit, n32_add, n32_mul, n32_sub, n32_le, n32_lt, n32_eq, n32_nat, gdn, gd_T, inbT, bd_y, bd2_y, ifp, ifn, not_true_eq_false, not_false_eq_true, and_self, true_and, and_true, false_and, and_false, or_self, true_or, or_true, false_or, or_false, wA_s, wL_s, sA_same, sL_same, sA_L, sL_A, sA_I, sL_I, wI_A, wI_L, wI_same, sA_sA, sL_sL, sA_ne, sL_ne, wI_ne]]
        refine upf (fun fu2 j (s : MS) => F_leaks_L35 (F_leaks_L22 (F_leaks_L12 fu) fu') fu2 z (n32 p0) (n32 i0) (n32 j) s) (i0 + 1) (max (rN R) (i0 + 1)) (fun j0 s => (∃ g, s = sA σ 34 g) ∧ ∀ k, k < 64 * p0 + 8 * i0 + j0 → ¬ leakP R sec k)
          (fun o => (∃ s', o = F_leaks_L22 (F_leaks_L12 fu) fu' z (n32 p0) (n32 (i0 + 1)) s' ∧ (∃ g, s' = sA σ 34 g) ∧ ∀ k, k < 64 * p0 + 8 * (i0 + 1) → ¬ leakP R sec k) ∨ ((∃ s', o = F_leaks_L12 fu z (n32 (p0 + 1)) s' ∧ (∃ g, s' = sA σ 34 g) ∧ ∀ k, k < 64 * (p0 + 1) → ¬ leakP R sec k) ∨ ∃ r g, o = some (r, sA σ 34 g) ∧ leakQ R sec r)) ?_ ?_ (sA σ 34 g) MN (by omega) (by omega) ⟨⟨g, rfl⟩, fun k hk y => by
            by_cases w : k < 64 * p0 + 8 * i0
            · exact hno k w y
            · obtain ⟨-, -, -, y4, -⟩ := y; omega⟩
        · rintro fu2 j0 s hja hj ⟨⟨g, rfl⟩, hno⟩
          have hj' : j0 < rN R := by omega
          obtain ⟨-, -, c3, -⟩ := path_at (askFr hR hP g).2 (by omega) hp
          have e1 := c3 i0 (by omega)
          have e2 := c3 j0 (by omega)
          rw [ifp hi] at e1
          rw [ifp hj'] at e2
          have hw := (wys_lt hq hp).1
          have w1 := hw i0
          have w2 := hw j0
          have hk1 : (64 * p0 + 8 * i0 + j0) / 64 = p0 := by omega
          have hk2 : (64 * p0 + 8 * i0 + j0) / 8 % 8 = i0 := by omega
          have hk3 : (64 * p0 + 8 * i0 + j0) % 8 = j0 := by omega
          have hlk : leakP R sec (64 * p0 + 8 * i0 + j0) ↔ (sec = true ∨ askS (rA R) i0 = askS (rA R) j0) ∧ wysS ((pths R).getD p0 default) i0 ≠ wysS ((pths R).getD p0 default) j0 := by
            unfold leakP
            rw [hk1, hk2, hk3]
            exact ⟨fun y => y.2.2.2.2, fun y => ⟨hp, hi, hj', by omega, y⟩⟩
          have on : ∀ g, ¬ leakP R sec (64 * p0 + 8 * i0 + j0) → ∃ s', F_leaks_b106 (F_leaks_L35 (F_leaks_L22 (F_leaks_L12 fu) fu') fu2) z (n32 p0) (n32 i0) (n32 j0) (sA σ 34 g) = F_leaks_L35 (F_leaks_L22 (F_leaks_L12 fu) fu') fu2 z (n32 p0) (n32 i0) (n32 (j0 + 1)) s' ∧ (∃ g, s' = sA σ 34 g) ∧ ∀ k, k < 64 * p0 + 8 * i0 + (j0 + 1) → ¬ leakP R sec k := by
            intro g y
            unfold F_leaks_b106
            simp only [↓lt_y]
            rw [show n32 j0 + (1 : Int32) = n32 (j0 + 1) from by simp (disch := omega) only [↓reduceIte, ↓lt_y, leT, leF, ltT, ltF, eqT, eqF, n32_lit, n32_add, n32_mul, n32_sub, n32_le, n32_lt, n32_eq, n32_nat, gdn, gd_T, inbT, bd_y, bd2_y, ifp, ifn, not_true_eq_false, not_false_eq_true, and_self, true_and, and_true, false_and, and_false, or_self, true_or, or_true, false_or, or_false, wA_s, wL_s, sA_same, sL_same, sA_L, sL_A, sA_I, sL_I, wI_A, wI_L, wI_same, sA_sA, sL_sL, sA_ne, sL_ne, wI_ne]]
            refine ⟨_, rfl, ⟨g, rfl⟩, fun k hk => ?_⟩
            by_cases w : k = 64 * p0 + 8 * i0 + j0
            · rw [w]; exact y
            · exact hno k (by omega)
          have found : ∀ g, leakP R sec (64 * p0 + 8 * i0 + j0) → ∃ r g', F_leaks_b89 (n32 p0) (n32 i0) (n32 j0) (sA σ 34 g) = some (r, sA σ 34 g') ∧ leakQ R sec r := by
            intro g y
            unfold F_leaks_b89
            refine ⟨_, g, rfl, Or.inl ⟨_, y, hno, ?_⟩⟩
            rw [hk1, hk2, hk3]
            simp (disch := omega) only [↓reduceIte, ↓lt_y, leT, leF, ltT, ltF, eqT, eqF, n32_lit, n32_add, n32_mul, n32_sub, n32_le, n32_lt, n32_eq, n32_nat, gdn, gd_T, inbT, bd_y, bd2_y, ifp, ifn, not_true_eq_false, not_false_eq_true, and_self, true_and, and_true, false_and, and_false, or_self, true_or, or_true, false_or, or_false, wA_s, wL_s, sA_same, sL_same, sA_L, sL_A, sA_I, sL_I, wI_A, wI_L, wI_same, sA_sA, sL_sL, sA_ne, sL_ne, wI_ne]
          try dsimp only
          rw [F_leaks_L35, inputs_L ((askFr hR hP g).1.mb hq)]
          simp only [bd_y]
          have z1 := n32_nat (a := 8 * p0 + i0) (by omega)
          have z2 := n32_nat (a := 8 * p0 + j0) (by omega)
          rw [ifn (by simp (disch := omega) only [↓reduceIte, ↓lt_y, leT, leF, ltT, ltF, eqT, eqF, n32_lit, n32_add, n32_mul, n32_sub, n32_le, n32_lt, n32_eq, n32_nat, gdn, gd_T, inbT, bd_y, bd2_y, ifp, ifn, not_true_eq_false, not_false_eq_true, and_self, true_and, and_true, false_and, and_false, or_self, true_or, or_true, false_or, or_false, wA_s, wL_s, sA_same, sL_same, sA_L, sL_A, sA_I, sL_I, wI_A, wI_L, wI_same, sA_sA, sL_sL, sA_ne, sL_ne, wI_ne]), show (8 : Int32) * n32 p0 + n32 i0 = n32 (8 * p0 + i0) from by simp (disch := omega) only [↓reduceIte, ↓lt_y, leT, leF, ltT, ltF, eqT, eqF, n32_lit, n32_add, n32_mul, n32_sub, n32_le, n32_lt, n32_eq, n32_nat, gdn, gd_T, inbT, bd_y, bd2_y, ifp, ifn, not_true_eq_false, not_false_eq_true, and_self, true_and, and_true, false_and, and_false, or_self, true_or, or_true, false_or, or_false, wA_s, wL_s, sA_same, sL_same, sA_L, sL_A, sA_I, sL_I, wI_A, wI_L, wI_same, sA_sA, sL_sL, sA_ne, sL_ne, wI_ne], show (8 : Int32) * n32 p0 + n32 j0 = n32 (8 * p0 + j0) from by simp (disch := omega) only [↓reduceIte, ↓lt_y, leT, leF, ltT, ltF, eqT, eqF, n32_lit, n32_add, n32_mul, n32_sub, n32_le, n32_lt, n32_eq, n32_nat, gdn, gd_T, inbT, bd_y, bd2_y, ifp, ifn, not_true_eq_false, not_false_eq_true, and_self, true_and, and_true, false_and, and_false, or_self, true_or, or_true, false_or, or_false, wA_s, wL_s, sA_same, sL_same, sA_L, sL_A, sA_I, sL_I, wI_A, wI_L, wI_same, sA_sA, sL_sL, sA_ne, sL_ne, wI_ne], gd_y (n32_inb (by omega)), gd_y (n32_inb (by omega)), z1, z2, e1, e2]
          have hzz : ∀ i, wysS ((pths R).getD p0 default) i = sm 256 (vD (lfV ((pths R).getD p0 default)) i) := fun i => rfl
          have hz1 := hzz i0
          have hz2 := hzz j0
          by_cases y : wysS ((pths R).getD p0 default) i0 = wysS ((pths R).getD p0 default) j0
          · rw [ifp ((lg_eq _ _).mpr (by rw [← hz1, ← hz2, y]))]
            exact Or.inl (on g fun w => (hlk.mp w).2 y)
          · rw [ifn (fun w => y (by have := (e64_inj (by omega) (by omega)).mp ((lg_eq _ _).mp w); omega))]
            by_cases sz : z = 0
            · have hs := hz0.mp sz
              rw [ifp sz]
              obtain ⟨g1, x1⟩ := askedOf_L ((askFr hR hP g).1.mb hq) (askFr hR hP g).1.2.2.2.2.1 hq.2.2.2.2.2.2.2.1 (by omega : i0 < 8)
              rw [x1, sA_sA]
              simp only [bd2_y]
              obtain ⟨g2, x2⟩ := askedOf_L ((askFr hR hP g1).1.mb hq) (askFr hR hP g1).1.2.2.2.2.1 hq.2.2.2.2.2.2.2.1 (by omega : j0 < 8)
              rw [x2, sA_sA]
              simp only [bd2_y]
              by_cases w : askS (rA R) i0 = askS (rA R) j0
              · rw [ifp w]
                exact Or.inr (Or.inr (Or.inr (found g2 (hlk.mpr ⟨Or.inr w, y⟩))))
              · rw [ifn w]
                exact Or.inl (on g2 fun u => (hlk.mp u).1.elim (fun t => by rw [hs] at t; cases t) w)
            · have hs : sec = true := by
                cases hsb : sec with
                | true => rfl
                | false => exact absurd (hz0.mpr hsb) sz
              rw [ifn sz]
              exact Or.inr (Or.inr (Or.inr (found g (hlk.mpr ⟨Or.inl hs, y⟩))))
        · rintro fu2 s ⟨⟨g, rfl⟩, hno⟩
          try dsimp only
          rw [F_leaks_L35, inputs_L ((askFr hR hP g).1.mb hq)]
          simp only [bd_y]
          rw [ifp (by simp (disch := omega) only [↓reduceIte, ↓lt_y, leT, leF, ltT, ltF, eqT, eqF, n32_lit, n32_add, n32_mul, n32_sub, n32_le, n32_lt, n32_eq, n32_nat, gdn, gd_T, inbT, bd_y, bd2_y, ifp, ifn, not_true_eq_false, not_false_eq_true, and_self, true_and, and_true, false_and, and_false, or_self, true_or, or_true, false_or, or_false, wA_s, wL_s, sA_same, sL_same, sA_L, sL_A, sA_I, sL_I, wI_A, wI_L, wI_same, sA_sA, sL_sL, sA_ne, sL_ne, wI_ne])]
          unfold F_leaks_b112
          simp only [↓lt_y]
          rw [show n32 i0 + (1 : Int32) = n32 (i0 + 1) from by simp (disch := omega) only [↓reduceIte, ↓lt_y, leT, leF, ltT, ltF, eqT, eqF, n32_lit, n32_add, n32_mul, n32_sub, n32_le, n32_lt, n32_eq, n32_nat, gdn, gd_T, inbT, bd_y, bd2_y, ifp, ifn, not_true_eq_false, not_false_eq_true, and_self, true_and, and_true, false_and, and_false, or_self, true_or, or_true, false_or, or_false, wA_s, wL_s, sA_same, sL_same, sA_L, sL_A, sA_I, sL_I, wI_A, wI_L, wI_same, sA_sA, sL_sL, sA_ne, sL_ne, wI_ne]]
          refine Or.inl ⟨_, rfl, ⟨g, rfl⟩, fun k hk y => ?_⟩
          by_cases w : k < 64 * p0 + 8 * i0 + max (rN R) (i0 + 1)
          · exact hno k w y
          · obtain ⟨-, -, y3, -⟩ := y; omega
      · rintro fu' s ⟨⟨g, rfl⟩, hno⟩
        try dsimp only
        rw [F_leaks_L22, inputs_L ((askFr hR hP g).1.mb hq)]
        simp only [bd_y]
        rw [ifp (by simp (disch := omega) only [↓reduceIte, ↓lt_y, leT, leF, ltT, ltF, eqT, eqF, n32_lit, n32_add, n32_mul, n32_sub, n32_le, n32_lt, n32_eq, n32_nat, gdn, gd_T, inbT, bd_y, bd2_y, ifp, ifn, not_true_eq_false, not_false_eq_true, and_self, true_and, and_true, false_and, and_false, or_self, true_or, or_true, false_or, or_false, wA_s, wL_s, sA_same, sL_same, sA_L, sL_A, sA_I, sL_I, wI_A, wI_L, wI_same, sA_sA, sL_sL, sA_ne, sL_ne, wI_ne])]
        unfold F_leaks_b118
        simp only [↓lt_y]
        rw [show n32 p0 + (1 : Int32) = n32 (p0 + 1) from by simp (disch := omega) only [↓reduceIte, ↓lt_y, leT, leF, ltT, ltF, eqT, eqF, n32_lit, n32_add, n32_mul, n32_sub, n32_le, n32_lt, n32_eq, n32_nat, gdn, gd_T, inbT, bd_y, bd2_y, ifp, ifn, not_true_eq_false, not_false_eq_true, and_self, true_and, and_true, false_and, and_false, or_self, true_or, or_true, false_or, or_false, wA_s, wL_s, sA_same, sL_same, sA_L, sL_A, sA_I, sL_I, wI_A, wI_L, wI_same, sA_sA, sL_sL, sA_ne, sL_ne, wI_ne]]
        refine Or.inl ⟨_, rfl, ⟨g, rfl⟩, fun k hk y => ?_⟩
        by_cases w : k < 64 * p0 + 8 * rN R
        · exact hno k w y
        · obtain ⟨-, y2, -⟩ := y; omega
    · rintro fu s ⟨⟨g, rfl⟩, hno⟩
      try dsimp only
      rw [F_leaks_L12, ((askFr hR hP g).2.2 (by omega)).2.1, ifp (by simp (disch := omega) only [↓reduceIte, ↓lt_y, leT, leF, ltT, ltF, eqT, eqF, n32_lit, n32_add, n32_mul, n32_sub, n32_le, n32_lt, n32_eq, n32_nat, gdn, gd_T, inbT, bd_y, bd2_y, ifp, ifn, not_true_eq_false, not_false_eq_true, and_self, true_and, and_true, false_and, and_false, or_self, true_or, or_true, false_or, or_false, wA_s, wL_s, sA_same, sL_same, sA_L, sL_A, sA_I, sL_I, wI_A, wI_L, wI_same, sA_sA, sL_sL, sA_ne, sL_ne, wI_ne])]
      exact ⟨_, g, rfl, Or.inr ⟨fun k y => hno k (by obtain ⟨y1, -⟩ := id y; omega) y, rfl⟩⟩
  exact goal
theorem closed_L {σ : MS} {b : Nat} {R : Rc} (hR : MRc σ b R) (hq : okQ R) (hP : MPt σ R) (h54 : E54 σ) (md : Md) (hmd : md.1 = 1 ∨ md.1 = 2) (hw : md.2.1 < 100) (sec : Bool) :
    ∃ r τ, F_isClosed (n32 md.1) (n32 md.2.1) (if sec then 1 else 0) σ = some (r, τ) ∧ q_closed R md sec r ∧ Fr (67 :: fI) fA [43, 44] σ τ ∧ E54 τ ∧ (mI τ 67 = (if sec then 1 else 0) ∧ mI τ 52 = n32 md.2.1) := by
  unfold F_isClosed
  rw [gd_y (by cases sec <;> decide)]
  simp only [↓lt_y]
  generalize hσ1 : wI (wI σ 67 (if sec then 1 else 0)) 66 (0 : Int32) = σ1
  have c1 : Fr [67, 66] [] [] σ σ1 := hσ1 ▸ (Fr.wI σ 67 _).tr (Fr.wI _ 66 _) (by simp) (by simp) (by simp)
  have m67 : mI σ1 67 = if sec then 1 else 0 := by rw [← hσ1, wI_ne _ _ _ _ (by omega), wI_same]
  have m66 : mI σ1 66 = 0 := by rw [← hσ1, wI_same]
  obtain ⟨τ, r, e, -, f1, ⟨f2, f52⟩, f3, f4⟩ := explore_L (md := md) (sec := sec) (most := 5000) (hR.fr c1 (by simp) (by simp)) hq ⟨by omega, hw⟩ (fun z => by omega) m67 (by obtain ⟨ee, x, y⟩ := h54; exact ⟨ee, x, by rw [c1.1 54 (by simp)]; exact y⟩) (fun z => by omega) (by omega)
  have f1' := f1 (by omega)
  rw [show (5000 : Int32) = n32 5000 from rfl, e]
  simp only [bd2_y]
  have fr : Fr (67 :: fI) fA [43, 44] σ τ := c1.tr f1' (by simp <;> omega) (by simp) (by simp)
  have t67 : mI τ 67 = if sec then 1 else 0 := by rw [f1'.1 67 (by simp)]; exact m67
  by_cases q : (tree R md).length ≤ 5000
  · obtain ⟨r1, -, -, b3, b4, -⟩ := f3 q
    subst r1
    rw [ifn (by decide)]
    by_cases u : ∃ lf ∈ tree R md, leafU (rN R) (askS (rA R)) sec lf
    · rw [b3 u, ifn (by decide)]
      exact ⟨_, τ, rfl, Or.inr ⟨q, Or.inl ⟨u, rfl⟩⟩, fr, f2, t67, f52⟩
    · rw [b4 u, m66, ifp rfl]
      exact ⟨_, τ, rfl, Or.inr ⟨q, Or.inr ⟨u, rfl⟩⟩, fr, f2, t67, f52⟩
  · have r1 := f4 (by omega)
    subst r1
    rw [ifp (by decide)]
    exact ⟨_, τ, rfl, Or.inl ⟨by omega, rfl⟩, fr, f2, t67, f52⟩
