set_option maxRecDepth 100000
/-! THE REFERENCE: a game is played -/
def okF (g : Pl) : Prop := yS g ≤ 40 ∧ yR g < 256 ∧ yC g ≤ 8
def seenU (u : Nat) (s : Nat → Nat) : Prop := u < 65536 ∧ ∀ p, p < 8 → (u >>> (2 * p)) &&& 3 = s p
def plQ (R : Rc) (σ : MS) (g : Pl) (o : Option (Int32 × MS)) : Prop := ∃ τ r, o = some (r, τ) ∧ Fr [72, 73, 74, 75, 76] [41, 42, 78] [] σ τ ∧ MG9 τ g ∧ okF g ∧ fstS (pths R).length (fun p => lfK ((pths R).getD p default) = yLk g) r
theorem plQ.from {R : Rc} {σ τ : MS} {g : Pl} {o : Option (Int32 × MS)} (h : plQ R τ g o) (f : Fr [72, 73, 74, 75, 76] [41, 42, 78] [] σ τ) : plQ R σ g o := by
  obtain ⟨υ, r, a, b, c⟩ := h
  exact ⟨υ, r, a, f.tr b (by simp) (by simp) (by simp), c⟩
theorem row_lt {g : Pl} (h1 : yR g < 2 ^ yC g) (h2 : yC g ≤ 8) : yR g < 256 := by
  calc yR g < 2 ^ yC g := h1
    _ ≤ 2 ^ 8 := Nat.pow_le_pow_right (by omega) h2
theorem playEnd_L {σ : MS} {R : Rc} {g : Pl} (hq : okQ R) (hP : MPt σ R) (h2 : (pths R).length ≤ 200) (hG : MG9 σ g) (hF : okF g) (h6 : (yLk g).length ≤ 6) (hc : ∀ c ∈ yLk g, c < 256) : plQ R σ g (F_play_b484 (n32 (yLk g).length) σ) := by
  obtain ⟨r, e, hr⟩ := pathOf_L hP h2 h6 hG.2.2.2.2.2 hc (fun k hk => lvs_lk hq.2.2.1.1 16 [] (lv0 (rN R)) (by simp) _ (List.mem_of_getElem? (pths_get hk)))
  unfold F_play_b484
  rw [e]
  exact ⟨σ, r, rfl, Fr.rf.mono (by simp) (by simp) (by simp), hG, hF, hr⟩
theorem card_ok {red : Nat} {g : Pl} (h1 : yR g < 2 ^ yC g) (hred : red < 2) : yR (card1 red g) < 2 ^ yC (card1 red g) := by
  show yR g ||| (red <<< yC g) < 2 ^ (yC g + 1)
  apply Nat.or_lt_two_pow
  · exact Nat.lt_of_lt_of_le h1 (Nat.pow_le_pow_right (by omega) (by omega))
  · rw [Nat.shiftLeft_eq, Nat.pow_succ, Nat.mul_comm]
    exact Nat.mul_lt_mul_of_pos_left hred (Nat.two_pow_pos _)
theorem b481f (k : Int32 → Int32 → Int32 → Int32 → Int32 → MS → Option (Int32 × MS)) : F_play_b481 k = k := eqr rfl
theorem playOn_L {b i : Nat} {R : Rc} (hq : okQ R) (hi : i < rN R) (h2 : (pths R).length ≤ 200) :
    ∀ (f pc : Nat) (g : Pl) (σ : MS) (u fu : Nat), (rX R).length < f + pc → pc ≤ (rX R).length → f + 1 ≤ fu → MRc σ b R → MPt σ R → MG9 σ g → okG (rX R) pc g → seenU u (ySn g) →
      plQ R σ (plG (rX R) i f pc g) (F_play_L55 fu (n32 i) (n32 u) (n32 (yLk g).length) (n32 pc) (n32 1) σ) := by
  intro f
  have hN := rN_le hq
  have hX := hq.2.2.1.1
  have h40 := hX.1
  have h6 := hq.2.2.1.2.1
  induction f with
  | zero => intro pc g σ u fu h1 h2'; omega
  | succ f ih =>
    intro pc g σ u fu h1 h2' h3 hR hP hG hok hu
    obtain ⟨fu, rfl⟩ : ∃ z, fu = z + 1 := ⟨fu - 1, by omega⟩
    obtain ⟨o1, o2, o3, o4, o5, o6⟩ := id hok
    have hb := hR.2.1
    have zb := n32_nat (a := b) (by omega)
    have hlk6 : (yLk g).length ≤ 6 := Nat.le_trans o5 (Nat.le_trans (cntO_mono h2') h6)
    have hrow := row_lt o2 o3
    rw [F_play_L55, b481f, ifn (by decide), hR.1]
    simp only [zb]
    rw [hR.2.2.2.1.1, gd_y (n32_inb (by omega))]
    by_cases hend : (rX R).length ≤ pc
    · rw [ifp (by simp (disch := omega) only [↓reduceIte, ↓lt_y, leT, leF, ltT, ltF, eqT, eqF, n32_lit, n32_add, n32_mul, n32_sub, n32_le, n32_lt, n32_eq, n32_nat, gdn, gd_T, inbT, bd_y, bd2_y, ifp, ifn, not_true_eq_false, not_false_eq_true, and_self, true_and, and_true, false_and, and_false, or_self, true_or, or_true, false_or, or_false, wA_s, wL_s, sA_same, sL_same, sA_L, sL_A, sA_I, sL_I, wI_A, wI_L, wI_same, sA_sA, sL_sL, sA_ne, sL_ne, wI_ne])]
      have hx : (rX R)[pc]? = none := List.getElem?_eq_none hend
      simp only [plG, hx]
      exact playEnd_L hq hP h2 hG ⟨by omega, hrow, o3⟩ hlk6 o6
    rw [ifn (by simp (disch := omega) only [↓reduceIte, ↓lt_y, leT, leF, ltT, ltF, eqT, eqF, n32_lit, n32_add, n32_mul, n32_sub, n32_le, n32_lt, n32_eq, n32_nat, gdn, gd_T, inbT, bd_y, bd2_y, ifp, ifn, not_true_eq_false, not_false_eq_true, and_self, true_and, and_true, false_and, and_false, or_self, true_or, or_true, false_or, or_false, wA_s, wL_s, sA_same, sL_same, sA_L, sL_A, sA_I, sL_I, wI_A, wI_L, wI_same, sA_sA, sL_sL, sA_ne, sL_ne, wI_ne])]
    obtain ⟨x, hx⟩ : ∃ x, (rX R)[pc]? = some x := ⟨_, List.getElem?_eq_getElem (by omega)⟩
    have hs := hR.2.2.2.1.2 _ x hx
    have hox := (hX.2 _ x hx).1
    have t22 := hs.h1
    have hT := hox.o12
    have hwb := wys_b hox
    have zk := n32_nat (a := 52 * b + pc) (by omega)
    simp only [↓lt_y]
    rw [show (52 : Int32) * n32 b + n32 pc = n32 (52 * b + pc) from by simp (disch := omega) only [↓reduceIte, ↓lt_y, leT, leF, ltT, ltF, eqT, eqF, n32_lit, n32_add, n32_mul, n32_sub, n32_le, n32_lt, n32_eq, n32_nat, gdn, gd_T, inbT, bd_y, bd2_y, ifp, ifn, not_true_eq_false, not_false_eq_true, and_self, true_and, and_true, false_and, and_false, or_self, true_or, or_true, false_or, or_false, wA_s, wL_s, sA_same, sL_same, sA_L, sL_A, sA_I, sL_I, wI_A, wI_L, wI_same, sA_sA, sL_sL, sA_ne, sL_ne, wI_ne], gd_y (n32_inb (by omega))]
    simp only [zk, t22]
    rw [hG.2.1, show n32 (yS g) + (1 : Int32) = n32 (yS g + 1) from by simp (disch := omega) only [↓reduceIte, ↓lt_y, leT, leF, ltT, ltF, eqT, eqF, n32_lit, n32_add, n32_mul, n32_sub, n32_le, n32_lt, n32_eq, n32_nat, gdn, gd_T, inbT, bd_y, bd2_y, ifp, ifn, not_true_eq_false, not_false_eq_true, and_self, true_and, and_true, false_and, and_false, or_self, true_or, or_true, false_or, or_false, wA_s, wL_s, sA_same, sL_same, sA_L, sL_A, sA_I, sL_I, wI_A, wI_L, wI_same, sA_sA, sL_sL, sA_ne, sL_ne, wI_ne], show n32 pc + (1 : Int32) = n32 (pc + 1) from by simp (disch := omega) only [↓reduceIte, ↓lt_y, leT, leF, ltT, ltF, eqT, eqF, n32_lit, n32_add, n32_mul, n32_sub, n32_le, n32_lt, n32_eq, n32_nat, gdn, gd_T, inbT, bd_y, bd2_y, ifp, ifn, not_true_eq_false, not_false_eq_true, and_self, true_and, and_true, false_and, and_false, or_self, true_or, or_true, false_or, or_false, wA_s, wL_s, sA_same, sL_same, sA_L, sL_A, sA_I, sL_I, wI_A, wI_L, wI_same, sA_sA, sL_sL, sA_ne, sL_ne, wI_ne]]
    generalize hσ1 : wI σ 74 (n32 (yS g + 1)) = σ1
    have c1 : Fr [74] [] [] σ σ1 := hσ1 ▸ Fr.wI _ _ _
    have hR1 := hR.fr c1 (by simp) (by simp)
    have hP1 := hP.fr c1 (by simp) (by simp) (by simp) (by simp) (by simp)
    have hG1 : MG9 σ1 (tick g) := by
      obtain ⟨a1, a2, a3, a4, a5, a6⟩ := hG
      exact ⟨by rw [c1.1 73 (by simp)]; exact a1, by rw [← hσ1, wI_same]; rfl, by rw [c1.1 75 (by simp)]; exact a3, by rw [c1.1 76 (by simp)]; exact a4, by rw [c1.1 72 (by simp)]; exact a5, by rw [c1.2.1 78 (by simp)]; exact a6⟩
    have hs1 := hR1.2.2.2.1.2 _ x hx
    have cF : Fr [72, 73, 74, 75, 76] [41, 42, 78] [] σ σ1 := c1.mono (by simp) (by simp) (by simp)
    -- it goes on behind the step, or it stops
    have on : ∀ (τ : MS) (g' : Pl) (u' : Nat), Fr [72, 73, 74, 75, 76] [41, 42, 78] [] σ1 τ → MG9 τ g' → okG (rX R) (pc + 1) g' → seenU u' (ySn g') → plQ R σ (plG (rX R) i f (pc + 1) g') (F_play_L55 fu (n32 i) (n32 u') (n32 (yLk g').length) (n32 (pc + 1)) (n32 1) τ) := by
      intro τ g' u' f1 f2 f3 f4
      exact (ih (pc + 1) g' τ u' fu (by omega) (by omega) (by omega) (hR1.fr f1 (by simp) (by intro j x y; simp; omega)) (hP1.fr f1 (by simp) (by simp) (by intro j x y; simp; omega) (by simp) (by simp)) f2 f3 f4).from (cF.tr f1 (by simp) (by simp) (by simp))
    have stop : ∀ (τ : MS) (g' : Pl) (x2 x4 : Int32), Fr [72, 73, 74, 75, 76] [41, 42, 78] [] σ1 τ → MG9 τ g' → okF g' → yLk g' = yLk g → plQ R σ g' (F_play_L55 fu (n32 i) x2 (n32 (yLk g').length) x4 (n32 0) τ) := by
      intro τ g' x2 x4 f1 f2 f3 f4
      obtain ⟨fu, rfl⟩ : ∃ z, fu = z + 1 := ⟨fu - 1, by omega⟩
      rw [F_play_L55, ifp (by decide)]
      exact (playEnd_L hq (hP1.fr f1 (by simp) (by simp) (by intro j x y; simp; omega) (by simp) (by simp)) h2 f2 f3 (by rw [f4]; exact hlk6) (by rw [f4]; exact o6)).from (cF.tr f1 (by simp) (by simp) (by simp))
    have rf : Fr [72, 73, 74, 75, 76] [41, 42, 78] [] σ1 σ1 := Fr.rf.mono (by simp) (by simp) (by simp)
    have tickF : okF (tick g) := ⟨by show yS g + 1 ≤ 40; omega, hrow, o3⟩
    have cmono := cntO_mono (xs := rX R) (show pc ≤ pc + 1 by omega)
    have tickG : okG (rX R) (pc + 1) (tick g) := ⟨by show yS g + 1 ≤ pc + 1; omega, o2, o3, o4, by show (yLk g).length ≤ _; omega, o6⟩
    simp only [plG, hx]
    by_cases t01 : sT x ≤ 1
    · rw [ifp t01]
      have hln : layN x ≤ 2 ∧ 1 ≤ layN x := by unfold layN; split <;> omega
      have hb1 : s1 x < 3 := by
        by_cases t : sT x = 0
        · exact hox.o1 t
        · have := hox.o2 (by omega); omega
      have lay : plQ R σ (if yC g + layN x ≤ 8 then plG (rX R) i f (pc + 1) (layG x i (tick g)) else tick g) (F_play_b119 (F_play_L55 fu) (n32 i) (n32 u) (n32 (yLk g).length) (n32 (pc + 1)) (n32 (52 * b + pc)) (n32 (sT x)) σ1) := by
        have e119 : F_play_b119 (F_play_L55 fu) (n32 i) (n32 u) (n32 (yLk g).length) (n32 (pc + 1)) (n32 (52 * b + pc)) (n32 (sT x)) σ1 = F_play_b133 (F_play_L55 fu) (n32 i) (n32 u) (n32 (yLk g).length) (n32 (pc + 1)) (n32 (52 * b + pc)) (n32 (sT x)) (n32 (layN x)) (n32 (yC g)) σ1 := by
          unfold F_play_b119
          rw [hG1.2.2.2.1]
          unfold layN
          by_cases t0 : sT x = 0
          · rw [ifp (by simp (disch := omega) only [↓reduceIte, ↓lt_y, leT, leF, ltT, ltF, eqT, eqF, n32_lit, n32_add, n32_mul, n32_sub, n32_le, n32_lt, n32_eq, n32_nat, gdn, gd_T, inbT, bd_y, bd2_y, ifp, ifn, not_true_eq_false, not_false_eq_true, and_self, true_and, and_true, false_and, and_false, or_self, true_or, or_true, false_or, or_false, wA_s, wL_s, sA_same, sL_same, sA_L, sL_A, sA_I, sL_I, wI_A, wI_L, wI_same, sA_sA, sL_sL, sA_ne, sL_ne, wI_ne]), ifp t0]; rfl
          · rw [ifn (by simp (disch := omega) only [↓reduceIte, ↓lt_y, leT, leF, ltT, ltF, eqT, eqF, n32_lit, n32_add, n32_mul, n32_sub, n32_le, n32_lt, n32_eq, n32_nat, gdn, gd_T, inbT, bd_y, bd2_y, ifp, ifn, not_true_eq_false, not_false_eq_true, and_self, true_and, and_true, false_and, and_false, or_self, true_or, or_true, false_or, or_false, wA_s, wL_s, sA_same, sL_same, sA_L, sL_A, sA_I, sL_I, wI_A, wI_L, wI_same, sA_sA, sL_sL, sA_ne, sL_ne, wI_ne]), ifn t0]; rfl
        rw [e119]
        unfold F_play_b133
        rw [show n32 (yC g) + n32 (layN x) = n32 (yC g + layN x) from by simp (disch := omega) only [↓reduceIte, ↓lt_y, leT, leF, ltT, ltF, eqT, eqF, n32_lit, n32_add, n32_mul, n32_sub, n32_le, n32_lt, n32_eq, n32_nat, gdn, gd_T, inbT, bd_y, bd2_y, ifp, ifn, not_true_eq_false, not_false_eq_true, and_self, true_and, and_true, false_and, and_false, or_self, true_or, or_true, false_or, or_false, wA_s, wL_s, sA_same, sL_same, sA_L, sL_A, sA_I, sL_I, wI_A, wI_L, wI_same, sA_sA, sL_sL, sA_ne, sL_ne, wI_ne]]
        by_cases q : yC g + layN x ≤ 8
        · simp only [ifp q]
          rw [ifn (by simp (disch := omega) only [↓reduceIte, ↓lt_y, leT, leF, ltT, ltF, eqT, eqF, n32_lit, n32_add, n32_mul, n32_sub, n32_le, n32_lt, n32_eq, n32_nat, gdn, gd_T, inbT, bd_y, bd2_y, ifp, ifn, not_true_eq_false, not_false_eq_true, and_self, true_and, and_true, false_and, and_false, or_self, true_or, or_true, false_or, or_false, wA_s, wL_s, sA_same, sL_same, sA_L, sL_A, sA_I, sL_I, wI_A, wI_L, wI_same, sA_sA, sL_sL, sA_ne, sL_ne, wI_ne])]
          unfold F_play_b144 F_play_b179
          rw [ifn (by decide)]
          have hm0 : ((0, 0, 0) : Md).1 = 3 → ((0, 0, 0) : Md).2.2 < 2 := fun z => by cases z
          have hr1 := redOf_lt (md := (0, 0, 0)) (first := 1) (i := i) hox hm0
          have hr0 := redOf_lt (md := (0, 0, 0)) (first := 0) (i := i) hox hm0
          obtain ⟨τ1, d1, d2, d3⟩ := cardComes_L (red := redOf (0, 0, 0) x 1 i) hG1 hrow (by show yC g ≤ 7; omega) hr1
          have h23 := hs1.h2 (by omega)
          have hbit := n32_bit i (s1 x) (by omega) (by omega)
          have e23 : (if n32 (sT x) = 1 then gd (inb (n32 (52 * b + pc)) 104) (bd (F_cardComes (mA σ1 23 (n32 (52 * b + pc)).toNatClampNeg) σ1) fun σ_2 => F_play_b182 (F_play_L55 fu) (n32 i) (n32 u) (n32 (yLk g).length) (n32 (pc + 1)) 1 (n32 (52 * b + pc)) (n32 (sT x)) σ_2) else gd (inb (n32 (52 * b + pc)) 104) (bd (F_cardComes ((n32 i >>> (mA σ1 23 (n32 (52 * b + pc)).toNatClampNeg &&& 31)) &&& 1) σ1) fun σ_2 => F_play_b182 (F_play_L55 fu) (n32 i) (n32 u) (n32 (yLk g).length) (n32 (pc + 1)) 1 (n32 (52 * b + pc)) (n32 (sT x)) σ_2)) = F_play_b182 (F_play_L55 fu) (n32 i) (n32 u) (n32 (yLk g).length) (n32 (pc + 1)) 1 (n32 (52 * b + pc)) (n32 (sT x)) τ1 := by
            simp only [zk, h23]
            have ig : inb (n32 (52 * b + pc)) 104 := n32_inb (by omega)
            by_cases t1 : sT x = 1
            · have : redOf (0, 0, 0) x 1 i = s1 x := by unfold redOf; rw [ifp t1]
              rw [this] at d1
              rw [ifp (by simp (disch := omega) only [↓reduceIte, ↓lt_y, leT, leF, ltT, ltF, eqT, eqF, n32_lit, n32_add, n32_mul, n32_sub, n32_le, n32_lt, n32_eq, n32_nat, gdn, gd_T, inbT, bd_y, bd2_y, ifp, ifn, not_true_eq_false, not_false_eq_true, and_self, true_and, and_true, false_and, and_false, or_self, true_or, or_true, false_or, or_false, wA_s, wL_s, sA_same, sL_same, sA_L, sL_A, sA_I, sL_I, wI_A, wI_L, wI_same, sA_sA, sL_sL, sA_ne, sL_ne, wI_ne]), gd_y ig, d1]
              rfl
            · have : redOf (0, 0, 0) x 1 i = (i >>> s1 x) &&& 1 := by unfold redOf; rw [ifn t1, ifn (fun z => by cases z.1), ifp rfl]
              rw [this] at d1
              rw [ifn (by simp (disch := omega) only [↓reduceIte, ↓lt_y, leT, leF, ltT, ltF, eqT, eqF, n32_lit, n32_add, n32_mul, n32_sub, n32_le, n32_lt, n32_eq, n32_nat, gdn, gd_T, inbT, bd_y, bd2_y, ifp, ifn, not_true_eq_false, not_false_eq_true, and_self, true_and, and_true, false_and, and_false, or_self, true_or, or_true, false_or, or_false, wA_s, wL_s, sA_same, sL_same, sA_L, sL_A, sA_I, sL_I, wI_A, wI_L, wI_same, sA_sA, sL_sL, sA_ne, sL_ne, wI_ne]), gd_y ig, show (31 : Int32) = n32 31 from rfl, show (1 : Int32) = n32 1 from rfl, hbit, d1]
              rfl
          rw [e23]
          unfold F_play_b182
          rw [ifn (by decide)]
          by_cases t0 : sT x = 0
          · have hl2 : layN x = 2 := by unfold layN; rw [ifp t0]
            rw [ifp (by simp (disch := omega) only [↓reduceIte, ↓lt_y, leT, leF, ltT, ltF, eqT, eqF, n32_lit, n32_add, n32_mul, n32_sub, n32_le, n32_lt, n32_eq, n32_nat, gdn, gd_T, inbT, bd_y, bd2_y, ifp, ifn, not_true_eq_false, not_false_eq_true, and_self, true_and, and_true, false_and, and_false, or_self, true_or, or_true, false_or, or_false, wA_s, wL_s, sA_same, sL_same, sA_L, sL_A, sA_I, sL_I, wI_A, wI_L, wI_same, sA_sA, sL_sL, sA_ne, sL_ne, wI_ne]), gd_y (n32_inb (by omega))]
            have h23' : mA τ1 23 (52 * b + pc) = n32 (s1 x) := by rw [d2.2.1 23 (by simp)]; exact h23
            have hred0 : redOf (0, 0, 0) x 0 i = 1 - ((i >>> s1 x) &&& 1) := by unfold redOf; rw [ifn (by omega), ifn (fun z => by cases z.1), ifn (by omega)]
            have h1lt := and1_lt i (s1 x)
            have hg1 : yR (card1 (redOf (0, 0, 0) x 1 i) (tick g)) < 2 ^ yC (card1 (redOf (0, 0, 0) x 1 i) (tick g)) := card_ok o2 hr1
            obtain ⟨τ2, y1, y2, y3⟩ := cardComes_L (red := redOf (0, 0, 0) x 0 i) d3 (row_lt hg1 (by show yC g + 1 ≤ 8; omega)) (by show yC g + 1 ≤ 7; omega) hr0
            simp only [zk, h23']
            rw [show (31 : Int32) = n32 31 from rfl, show (1 : Int32) = n32 1 from rfl, hbit, n32_sub (by omega), ← hred0, y1]
            simp only [bd_y]
            have el : layG x i (tick g) = card1 (redOf (0, 0, 0) x 0 i) (card1 (redOf (0, 0, 0) x 1 i) (tick g)) := by unfold layG; rw [ifp t0]
            rw [el]
            have hg2 := card_ok (g := card1 (redOf (0, 0, 0) x 1 i) (tick g)) hg1 hr0
            refine on τ2 _ u ((d2.tr y2 (js := [75, 76]) (bs := []) (ms := []) (by simp) (by simp) (by simp)).mono (by simp) (by simp) (by simp)) y3 ⟨tickG.1, hg2, by show yC g + 1 + 1 ≤ 8; omega, o4, tickG.2.2.2.2.1, o6⟩ hu
          · have hl1 : layN x = 1 := by unfold layN; rw [ifn t0]
            rw [ifn (by simp (disch := omega) only [↓reduceIte, ↓lt_y, leT, leF, ltT, ltF, eqT, eqF, n32_lit, n32_add, n32_mul, n32_sub, n32_le, n32_lt, n32_eq, n32_nat, gdn, gd_T, inbT, bd_y, bd2_y, ifp, ifn, not_true_eq_false, not_false_eq_true, and_self, true_and, and_true, false_and, and_false, or_self, true_or, or_true, false_or, or_false, wA_s, wL_s, sA_same, sL_same, sA_L, sL_A, sA_I, sL_I, wI_A, wI_L, wI_same, sA_sA, sL_sL, sA_ne, sL_ne, wI_ne])]
            have el : layG x i (tick g) = card1 (redOf (0, 0, 0) x 1 i) (tick g) := by unfold layG; rw [ifn t0]
            rw [el]
            refine on τ1 _ u (d2.mono (by simp) (by simp) (by simp)) d3 ⟨tickG.1, card_ok o2 hr1, by show yC g + 1 ≤ 8; omega, o4, tickG.2.2.2.2.1, o6⟩ hu
        · simp only [ifn q]
          rw [ifp (by simp (disch := omega) only [↓reduceIte, ↓lt_y, leT, leF, ltT, ltF, eqT, eqF, n32_lit, n32_add, n32_mul, n32_sub, n32_le, n32_lt, n32_eq, n32_nat, gdn, gd_T, inbT, bd_y, bd2_y, ifp, ifn, not_true_eq_false, not_false_eq_true, and_self, true_and, and_true, false_and, and_false, or_self, true_or, or_true, false_or, or_false, wA_s, wL_s, sA_same, sL_same, sA_L, sL_A, sA_I, sL_I, wI_A, wI_L, wI_same, sA_sA, sL_sL, sA_ne, sL_ne, wI_ne])]
          unfold F_play_b144 F_play_b182
          rw [ifp rfl, ifp rfl]
          exact stop σ1 (tick g) _ _ rf hG1 tickF rfl
      by_cases t0 : sT x = 0
      · rw [ifp (c := n32 (sT x) = (0 : Int32)) (by simp (disch := omega) only [↓reduceIte, ↓lt_y, leT, leF, ltT, ltF, eqT, eqF, n32_lit, n32_add, n32_mul, n32_sub, n32_le, n32_lt, n32_eq, n32_nat, gdn, gd_T, inbT, bd_y, bd2_y, ifp, ifn, not_true_eq_false, not_false_eq_true, and_self, true_and, and_true, false_and, and_false, or_self, true_or, or_true, false_or, or_false, wA_s, wL_s, sA_same, sL_same, sA_L, sL_A, sA_I, sL_I, wI_A, wI_L, wI_same, sA_sA, sL_sL, sA_ne, sL_ne, wI_ne])]; exact lay
      · rw [ifn (c := n32 (sT x) = (0 : Int32)) (by simp (disch := omega) only [↓reduceIte, ↓lt_y, leT, leF, ltT, ltF, eqT, eqF, n32_lit, n32_add, n32_mul, n32_sub, n32_le, n32_lt, n32_eq, n32_nat, gdn, gd_T, inbT, bd_y, bd2_y, ifp, ifn, not_true_eq_false, not_false_eq_true, and_self, true_and, and_true, false_and, and_false, or_self, true_or, or_true, false_or, or_false, wA_s, wL_s, sA_same, sL_same, sA_L, sL_A, sA_I, sL_I, wI_A, wI_L, wI_same, sA_sA, sL_sL, sA_ne, sL_ne, wI_ne]), ifp (c := n32 (sT x) = (1 : Int32)) (by simp (disch := omega) only [↓reduceIte, ↓lt_y, leT, leF, ltT, ltF, eqT, eqF, n32_lit, n32_add, n32_mul, n32_sub, n32_le, n32_lt, n32_eq, n32_nat, gdn, gd_T, inbT, bd_y, bd2_y, ifp, ifn, not_true_eq_false, not_false_eq_true, and_self, true_and, and_true, false_and, and_false, or_self, true_or, or_true, false_or, or_false, wA_s, wL_s, sA_same, sL_same, sA_L, sL_A, sA_I, sL_I, wI_A, wI_L, wI_same, sA_sA, sL_sL, sA_ne, sL_ne, wI_ne])]; exact lay
    rw [ifn t01, ifn (c := n32 (sT x) = (0 : Int32)) (by simp (disch := omega) only [↓reduceIte, ↓lt_y, leT, leF, ltT, ltF, eqT, eqF, n32_lit, n32_add, n32_mul, n32_sub, n32_le, n32_lt, n32_eq, n32_nat, gdn, gd_T, inbT, bd_y, bd2_y, ifp, ifn, not_true_eq_false, not_false_eq_true, and_self, true_and, and_true, false_and, and_false, or_self, true_or, or_true, false_or, or_false, wA_s, wL_s, sA_same, sL_same, sA_L, sL_A, sA_I, sL_I, wI_A, wI_L, wI_same, sA_sA, sL_sL, sA_ne, sL_ne, wI_ne]), ifn (c := n32 (sT x) = (1 : Int32)) (by simp (disch := omega) only [↓reduceIte, ↓lt_y, leT, leF, ltT, ltF, eqT, eqF, n32_lit, n32_add, n32_mul, n32_sub, n32_le, n32_lt, n32_eq, n32_nat, gdn, gd_T, inbT, bd_y, bd2_y, ifp, ifn, not_true_eq_false, not_false_eq_true, and_self, true_and, and_true, false_and, and_false, or_self, true_or, or_true, false_or, or_false, wA_s, wL_s, sA_same, sL_same, sA_L, sL_A, sA_I, sL_I, wI_A, wI_L, wI_same, sA_sA, sL_sL, sA_ne, sL_ne, wI_ne]), ifn (c := n32 (sT x) < (2 : Int32)) (by simp (disch := omega) only [↓reduceIte, ↓lt_y, leT, leF, ltT, ltF, eqT, eqF, n32_lit, n32_add, n32_mul, n32_sub, n32_le, n32_lt, n32_eq, n32_nat, gdn, gd_T, inbT, bd_y, bd2_y, ifp, ifn, not_true_eq_false, not_false_eq_true, and_self, true_and, and_true, false_and, and_false, or_self, true_or, or_true, false_or, or_false, wA_s, wL_s, sA_same, sL_same, sA_L, sL_A, sA_I, sL_I, wI_A, wI_L, wI_same, sA_sA, sL_sL, sA_ne, sL_ne, wI_ne])]
    have m76 : mI σ1 76 = n32 (yC g) := hG1.2.2.2.1
    have m75 : mI σ1 75 = n32 (yR g) := hG1.2.2.1
    by_cases t7 : sT x ≤ 7
    · rw [ifp t7, ifn (c := (7 : Int32) < n32 (sT x)) (by simp (disch := omega) only [↓reduceIte, ↓lt_y, leT, leF, ltT, ltF, eqT, eqF, n32_lit, n32_add, n32_mul, n32_sub, n32_le, n32_lt, n32_eq, n32_nat, gdn, gd_T, inbT, bd_y, bd2_y, ifp, ifn, not_true_eq_false, not_false_eq_true, and_self, true_and, and_true, false_and, and_false, or_self, true_or, or_true, false_or, or_false, wA_s, wL_s, sA_same, sL_same, sA_L, sL_A, sA_I, sL_I, wI_A, wI_L, wI_same, sA_sA, sL_sL, sA_ne, sL_ne, wI_ne]), m76, fits_L (by omega) hs1 hox (by omega) (yC g) o3]
      simp only [bd_y]
      by_cases q : need x ≤ yC g
      · have eb : b32 (need x ≤ yC g) = n32 1 := if_pos q
        rw [eb, ifp q, ifn (c := n32 1 = (0 : Int32)) (by decide)]
        have mov : ∀ (w : Nat) (τ0 : MS) (W : Int32), w < wys x → Fr [72] [] [] σ1 τ0 → MG9 τ0 (yA g, yS g + 1, yR g, yC g, ySn g, yLk g, W) → ∀ G : Pl, G = (yA g, yS g + 1, mvr (sfr x w) (yR g), yC g, ySn g, yLk g, W) → plQ R σ (plG (rX R) i f (pc + 1) G) (F_play_b268 (F_play_L55 fu) (n32 i) (n32 u) (n32 (yLk g).length) (n32 (pc + 1)) (n32 1) (n32 w) (n32 (52 * b + pc)) τ0) := by
          intro w τ0 W hw ff hg' G hG'
          have hs0 := hs1.fr ff (by simp)
          obtain ⟨ga, ha, d1, d2⟩ := layMove_L (by omega) hs0 hox (by omega) w hw
          unfold F_play_b268
          rw [d1]
          simp only [bd_y]
          have hn := need_le hox
          have cM : Fr [] [41, 42] [] τ0 (sA (sA τ0 42 ha) 41 ga) := (Fr.sA τ0 42 ha).tr (Fr.sA _ 41 ga) (by simp) (by simp) (by simp)
          have hgM := hg'.fr cM (by simp) (by simp)
          have h75 : mI (sA (sA τ0 42 ha) 41 ga) 75 = n32 (yR g) := hgM.2.2.1
          have hrow2 : mvr (sfr x w) (yR g) < 2 ^ yC g := by
            apply mvr_keep o2
            intro p hp hp2
            have h7 := sfr_ok hox hw p
            have h8 := ((sfr_ok hox hw (sfr x w p)).2.2 (yC g) q hp2).2
            rw [h7.2.1] at h8
            exact h8
          rw [h75, moved_L _ (sfr x w) (fun p hp => ⟨by rw [sA_same]; exact d2 p hp, ((sfr_ok hox hw p).2.2 8 hn hp).1⟩) (yR g) hrow]
          simp only [bd_y, ↓lt_y]
          generalize hτ : sA (sA τ0 42 ha) 41 ga = τ1 at cM hgM
          generalize mvr (sfr x w) (yR g) = row2 at hrow2 hG' ⊢
          have fw := Fr.wI τ1 75 (n32 row2)
          have e75 : mI (wI τ1 75 (n32 row2)) 75 = n32 row2 := wI_same τ1 75 (n32 row2)
          have h73 : mI τ1 73 = yA g := hgM.1
          have h74 : mI τ1 74 = n32 (yS g + 1) := hgM.2.1
          have h76 : mI τ1 76 = n32 (yC g) := hgM.2.2.2.1
          have h72 : mI τ1 72 = W := hgM.2.2.2.2.1
          have h78 : ∀ j c, (yLk g)[j]? = some c → mA τ1 78 j = n32 c := hgM.2.2.2.2.2
          have eA : yA G = yA g := by rw [hG']; rfl
          have eS : yS G = yS g + 1 := by rw [hG']; rfl
          have eR : yR G = row2 := by rw [hG']; rfl
          have eC : yC G = yC g := by rw [hG']; rfl
          have eN : ySn G = ySn g := by rw [hG']; rfl
          have eL : yLk G = yLk g := by rw [hG']; rfl
          have eW : yW G = W := by rw [hG']; rfl
          have key := on (wI τ1 75 (n32 row2)) G u ((ff.tr cM (js := [72]) (bs := [41, 42]) (ms := []) (by simp) (by simp) (by simp)).tr fw (by simp) (by simp) (by simp))
            (by unfold MG9; rw [eA, eS, eR, eC, eW, eL]; exact ⟨by rw [fw.1 73 (by simp)]; exact h73, by rw [fw.1 74 (by simp)]; exact h74, e75, by rw [fw.1 76 (by simp)]; exact h76, by rw [fw.1 72 (by simp)]; exact h72, by rw [fw.2.1 78 (by simp)]; exact h78⟩)
            (by unfold okG; rw [eS, eR, eC, eN, eL]; exact ⟨by omega, hrow2, o3, o4, by omega, o6⟩) (by rw [eN]; exact hu)
          rw [eL] at key
          exact key
        have gT : MG9 σ1 (yA g, yS g + 1, yR g, yC g, ySn g, yLk g, yW g) := hG1
        by_cases t4 : sT x < 4
        · rw [ifp (c := n32 (sT x) < (4 : Int32)) (by simp (disch := omega) only [↓reduceIte, ↓lt_y, leT, leF, ltT, ltF, eqT, eqF, n32_lit, n32_add, n32_mul, n32_sub, n32_le, n32_lt, n32_eq, n32_nat, gdn, gd_T, inbT, bd_y, bd2_y, ifp, ifn, not_true_eq_false, not_false_eq_true, and_self, true_and, and_true, false_and, and_false, or_self, true_or, or_true, false_or, or_false, wA_s, wL_s, sA_same, sL_same, sA_L, sL_A, sA_I, sL_I, wI_A, wI_L, wI_same, sA_sA, sL_sL, sA_ne, sL_ne, wI_ne])]
          refine mov 0 σ1 (yW g) (by omega) (Fr.rf.mono (by simp) (by simp) (by simp)) gT _ ?_
          unfold movG
          rw [ifn (by omega)]
          rfl
        · rw [ifn (c := n32 (sT x) < (4 : Int32)) (by simp (disch := omega) only [↓reduceIte, ↓lt_y, leT, leF, ltT, ltF, eqT, eqF, n32_lit, n32_add, n32_mul, n32_sub, n32_le, n32_lt, n32_eq, n32_nat, gdn, gd_T, inbT, bd_y, bd2_y, ifp, ifn, not_true_eq_false, not_false_eq_true, and_self, true_and, and_true, false_and, and_false, or_self, true_or, or_true, false_or, or_false, wA_s, wL_s, sA_same, sL_same, sA_L, sL_A, sA_I, sL_I, wI_A, wI_L, wI_same, sA_sA, sL_sL, sA_ne, sL_ne, wI_ne]), ways_L (by omega) hs1 hox]
          simp only [bd_y]
          have h72 : mI σ1 72 = yW g := hG1.2.2.2.2.1
          obtain ⟨W, hW⟩ : ∃ W, W = drw (yW g) := ⟨_, rfl⟩
          have hdr : F_draw (n32 (wys x)) σ1 = some (n32 (drv W (wys x)), wI σ1 72 W) := by
            rw [hW, ← h72]
            exact draw_L ⟨hwb.1, by omega⟩
          have em : movG x (tick g) = (yA g, yS g + 1, mvr (sfr x (drv W (wys x))) (yR g), yC g, ySn g, yLk g, W) := by
            rw [hW]
            unfold movG
            rw [ifp (by omega)]
            rfl
          have hdl : drv W (wys x) < wys x := by unfold drv; exact Nat.mod_lt _ hwb.1
          clear hW
          generalize drv W (wys x) = dv at hdr em hdl
          have fw := Fr.wI σ1 72 W
          have hw722 : mI (wI σ1 72 W) 72 = W := wI_same σ1 72 W
          rw [hdr]
          simp only [bd2_y]
          refine mov dv (wI σ1 72 W) W hdl fw ?_ _ em
          obtain ⟨k1, k2, k3, k4, k5, k6⟩ := gT
          exact ⟨by rw [fw.1 73 (by simp)]; exact k1, by rw [fw.1 74 (by simp)]; exact k2, by rw [fw.1 75 (by simp)]; exact k3, by rw [fw.1 76 (by simp)]; exact k4, hw722, by rw [fw.2.1 78 (by simp)]; exact k6⟩
      · have eb : b32 (need x ≤ yC g) = n32 0 := if_neg q
        rw [eb, ifn q, ifp (c := n32 0 = (0 : Int32)) rfl]
        exact stop σ1 (tick g) _ _ rf hG1 tickF rfl
    rw [ifn t7, ifp (c := (7 : Int32) < n32 (sT x)) (by simp (disch := omega) only [↓reduceIte, ↓lt_y, leT, leF, ltT, ltF, eqT, eqF, n32_lit, n32_add, n32_mul, n32_sub, n32_le, n32_lt, n32_eq, n32_nat, gdn, gd_T, inbT, bd_y, bd2_y, ifp, ifn, not_true_eq_false, not_false_eq_true, and_self, true_and, and_true, false_and, and_false, or_self, true_or, or_true, false_or, or_false, wA_s, wL_s, sA_same, sL_same, sA_L, sL_A, sA_I, sL_I, wI_A, wI_L, wI_same, sA_sA, sL_sL, sA_ne, sL_ne, wI_ne])]
    unfold F_play_b286
    by_cases t8 : sT x = 8
    · rw [ifp t8, ifp (c := n32 (sT x) = (8 : Int32)) (by simp (disch := omega) only [↓reduceIte, ↓lt_y, leT, leF, ltT, ltF, eqT, eqF, n32_lit, n32_add, n32_mul, n32_sub, n32_le, n32_lt, n32_eq, n32_nat, gdn, gd_T, inbT, bd_y, bd2_y, ifp, ifn, not_true_eq_false, not_false_eq_true, and_self, true_and, and_true, false_and, and_false, or_self, true_or, or_true, false_or, or_false, wA_s, wL_s, sA_same, sL_same, sA_L, sL_A, sA_I, sL_I, wI_A, wI_L, wI_same, sA_sA, sL_sL, sA_ne, sL_ne, wI_ne]), m76, fits_L (by omega) hs1 hox (by omega) (yC g) o3]
      simp only [bd_y]
      by_cases q : need x ≤ yC g
      · have eb : b32 (need x ≤ yC g) = n32 1 := if_pos q
        have o9 := hox.o9 t8
        rw [eb, ifp q, ifn (c := n32 1 = (0 : Int32)) (by decide), m75, colours_L (by omega) hs1 hox t8 hrow]
        simp only [bd_y]
        have hlt6 : (yLk g).length < 6 := by
          have := cntO_step hx t8
          have h7 : cntO (rX R) (pc + 1) ≤ 6 := Nat.le_trans (cntO_mono (by omega)) h6
          omega
        have zl := n32_nat (a := (yLk g).length) (by omega)
        have hcol := colS_lt o9.2.1 (yR g)
        rw [gd_y (n32_inb (by omega)), zl, wA_s]
        simp only [↓lt_y]
        generalize hτ : sA σ1 78 (up0 (mA σ1 78) (yLk g).length (n32 (colS x (yR g)))) = τ
        have fA' : Fr [] [78] [] σ1 τ := hτ ▸ Fr.sA _ _ _
        have g78 : mA τ 78 = up0 (mA σ1 78) (yLk g).length (n32 (colS x (yR g))) := by rw [← hτ, sA_same]
        have hst := hs1.fr fA' (by intro j a c; simp; omega)
        obtain ⟨e1, e2⟩ := hst.h5 (Or.inr t8)
        have hMN := MN_gt
        obtain ⟨fu2, u2, ⟨w1, w2⟩, e⟩ := upe (fun fu2 j (z : Nat) => F_play_L332 (F_play_L55 fu) fu2 (n32 i) (n32 z) (n32 (yLk g).length) (n32 (pc + 1)) (n32 1) (n32 (52 * b + pc)) (n32 j) τ) 0 (sl x).length
          (fun m z => z < 65536 ∧ ∀ p, p < 8 → (z >>> (2 * p)) &&& 3 = if (sl x).idxOf p < m then ((colS x (yR g) >>> (sl x).idxOf p) &&& 1) + 1 else ySn g p)
          (by
            rintro fu2 m z - hm ⟨z1, z2⟩
            have e3 := e2 m hm
            have h8 : (sl x).getD m 0 < 8 := o9.2.2.2 _ (by rw [getD_of_lt hm]; exact List.getElem_mem hm)
            obtain ⟨u', w1, w2, w3⟩ := pack_L (c := (colS x (yR g) >>> m) &&& 1) z1 h8 (and1_lt _ m)
            have zz := n32_nat (a := 8 * (52 * b + pc) + m) (by omega)
            have l78 : mA τ 78 (yLk g).length = n32 (colS x (yR g)) := by rw [g78, up0, ifp rfl]
            have hbit := n32_bit (colS x (yR g)) m (by omega) (by omega)
            have hb2 := and1_lt (colS x (yR g)) m
            refine ⟨u', ?_, w2, fun p hp => ?_⟩
            · try dsimp only
              rw [F_play_L332]
              simp only [zk, e1]
              rw [gd_y (n32_inb (by omega)), ifn (by simp (disch := omega) only [↓reduceIte, ↓lt_y, leT, leF, ltT, ltF, eqT, eqF, n32_lit, n32_add, n32_mul, n32_sub, n32_le, n32_lt, n32_eq, n32_nat, gdn, gd_T, inbT, bd_y, bd2_y, ifp, ifn, not_true_eq_false, not_false_eq_true, and_self, true_and, and_true, false_and, and_false, or_self, true_or, or_true, false_or, or_false, wA_s, wL_s, sA_same, sL_same, sA_L, sL_A, sA_I, sL_I, wI_A, wI_L, wI_same, sA_sA, sL_sL, sA_ne, sL_ne, wI_ne]), show (8 : Int32) * n32 (52 * b + pc) + n32 m = n32 (8 * (52 * b + pc) + m) from by simp (disch := omega) only [↓reduceIte, ↓lt_y, leT, leF, ltT, ltF, eqT, eqF, n32_lit, n32_add, n32_mul, n32_sub, n32_le, n32_lt, n32_eq, n32_nat, gdn, gd_T, inbT, bd_y, bd2_y, ifp, ifn, not_true_eq_false, not_false_eq_true, and_self, true_and, and_true, false_and, and_false, or_self, true_or, or_true, false_or, or_false, wA_s, wL_s, sA_same, sL_same, sA_L, sL_A, sA_I, sL_I, wI_A, wI_L, wI_same, sA_sA, sL_sL, sA_ne, sL_ne, wI_ne], gd_y (n32_inb (by omega)), gd_y (n32_inb (by omega)), gd_y (n32_inb (by omega))]
              simp only [↓lt_y, zz, zl, e3, l78]
              rw [show (2 : Int32) * n32 ((sl x).getD m 0) = n32 (2 * (sl x).getD m 0) from by simp (disch := omega) only [↓reduceIte, ↓lt_y, leT, leF, ltT, ltF, eqT, eqF, n32_lit, n32_add, n32_mul, n32_sub, n32_le, n32_lt, n32_eq, n32_nat, gdn, gd_T, inbT, bd_y, bd2_y, ifp, ifn, not_true_eq_false, not_false_eq_true, and_self, true_and, and_true, false_and, and_false, or_self, true_or, or_true, false_or, or_false, wA_s, wL_s, sA_same, sL_same, sA_L, sL_A, sA_I, sL_I, wI_A, wI_L, wI_same, sA_sA, sL_sL, sA_ne, sL_ne, wI_ne], show (31 : Int32) = n32 31 from rfl, show (1 : Int32) = n32 1 from rfl, show (3 : Int32) = n32 3 from rfl, hbit, n32_add, w1, n32_add]
            · rw [w3 p hp]
              by_cases q : p = (sl x).getD m 0
              · have hidx : (sl x).idxOf p = m := by rw [q]; exact idx_get o9.2.2.1 hm
                rw [ifp q, hidx, ifp (by omega)]
              · have hidx : (sl x).idxOf p ≠ m := fun z => q (by rw [← z]; exact (get_idx (List.idxOf_lt_length_iff.mp (by omega))).symm)
                rw [ifn q, z2 p hp]
                by_cases q2 : (sl x).idxOf p < m
                · rw [ifp q2, ifp (by omega)]
                · rw [ifn q2, ifn (by omega)])
          u MN (Nat.zero_le _) (by omega) ⟨hu.1, fun p hp => by rw [ifn (by omega)]; exact hu.2 p hp⟩
        rw [show (0 : Int32) = n32 0 from rfl]
        have e' : F_play_L332 (F_play_L55 fu) MN (n32 i) (n32 u) (n32 (yLk g).length) (n32 (pc + 1)) (n32 1) (n32 (52 * b + pc)) (n32 0) τ = F_play_L55 fu (n32 i) (n32 u2) (n32 ((yLk g).length + 1)) (n32 (pc + 1)) (n32 1) τ := by
          refine e.trans ?_
          try dsimp only
          rw [F_play_L332]
          simp only [zk, e1]
          rw [gd_y (n32_inb (by omega)), ifp (by simp (disch := omega) only [↓reduceIte, ↓lt_y, leT, leF, ltT, ltF, eqT, eqF, n32_lit, n32_add, n32_mul, n32_sub, n32_le, n32_lt, n32_eq, n32_nat, gdn, gd_T, inbT, bd_y, bd2_y, ifp, ifn, not_true_eq_false, not_false_eq_true, and_self, true_and, and_true, false_and, and_false, or_self, true_or, or_true, false_or, or_false, wA_s, wL_s, sA_same, sL_same, sA_L, sL_A, sA_I, sL_I, wI_A, wI_L, wI_same, sA_sA, sL_sL, sA_ne, sL_ne, wI_ne])]
          unfold F_play_b402
          simp only [↓lt_y]
          rw [show n32 (yLk g).length + (1 : Int32) = n32 ((yLk g).length + 1) from by simp (disch := omega) only [↓reduceIte, ↓lt_y, leT, leF, ltT, ltF, eqT, eqF, n32_lit, n32_add, n32_mul, n32_sub, n32_le, n32_lt, n32_eq, n32_nat, gdn, gd_T, inbT, bd_y, bd2_y, ifp, ifn, not_true_eq_false, not_false_eq_true, and_self, true_and, and_true, false_and, and_false, or_self, true_or, or_true, false_or, or_false, wA_s, wL_s, sA_same, sL_same, sA_L, sL_A, sA_I, sL_I, wI_A, wI_L, wI_same, sA_sA, sL_sL, sA_ne, sL_ne, wI_ne]]
        rw [e']
        have hGs : MG9 τ (seeG x (tick g)) := by
          refine ⟨by rw [fA'.1 73 (by simp)]; exact hG1.1, by rw [fA'.1 74 (by simp)]; exact hG1.2.1, by rw [fA'.1 75 (by simp)]; exact hG1.2.2.1, by rw [fA'.1 76 (by simp)]; exact hG1.2.2.2.1, by rw [fA'.1 72 (by simp)]; exact hG1.2.2.2.2.1, fun j c hj => ?_⟩
          have hj' : (yLk g ++ [colS x (yR g)])[j]? = some c := hj
          rw [g78, up0]
          by_cases y : j = (yLk g).length
          · rw [y, List.getElem?_append_right (Nat.le_refl _), Nat.sub_self] at hj'
            cases hj'
            rw [ifp y]
          · have hjl : j < (yLk g).length := by
              have := (List.getElem?_eq_some_iff.mp hj').1
              simp at this; omega
            rw [List.getElem?_append_left hjl] at hj'
            rw [ifn y]
            exact hG1.2.2.2.2.2 j c hj'
        have key := on τ (seeG x (tick g)) u2 (fA'.mono (by simp) (by simp) (by simp)) hGs ⟨tickG.1, o2, o3, fun p => ?_, ?_, fun c hc => ?_⟩ ⟨w1, fun p hp => ?_⟩
        · have el : (yLk (seeG x (tick g))).length = (yLk g).length + 1 := by show (yLk g ++ [_]).length = _; simp
          rw [el] at key
          exact key
        · show seeS x (colS x (yR g)) (ySn g) p ≤ 2
          unfold seeS
          split
          · have := and1_lt (colS x (yR g)) ((sl x).idxOf p); omega
          · exact o4 p
        · show (yLk g ++ [colS x (yR g)]).length ≤ cntO (rX R) (pc + 1)
          rw [cntO_step hx t8, List.length_append]
          show (yLk g).length + 1 ≤ _
          omega
        · rcases List.mem_append.mp (show c ∈ yLk g ++ [colS x (yR g)] from hc) with y | y
          · exact o6 c y
          · rw [List.mem_singleton.mp y]; exact hcol
        · show (u2 >>> (2 * p)) &&& 3 = seeS x (colS x (yR g)) (ySn g) p
          rw [w2 p hp, seeS]
          by_cases y : p ∈ sl x
          · rw [ifp y, ifp (List.idxOf_lt_length_of_mem y)]
          · rw [ifn y, ifn (fun z => y (List.idxOf_lt_length_iff.mp z))]
      · have eb : b32 (need x ≤ yC g) = n32 0 := if_neg q
        rw [eb, ifn q, ifp (c := n32 0 = (0 : Int32)) rfl]
        exact stop σ1 (tick g) _ _ rf hG1 tickF rfl
    rw [ifn t8, ifn (c := n32 (sT x) = (8 : Int32)) (by simp (disch := omega) only [↓reduceIte, ↓lt_y, leT, leF, ltT, ltF, eqT, eqF, n32_lit, n32_add, n32_mul, n32_sub, n32_le, n32_lt, n32_eq, n32_nat, gdn, gd_T, inbT, bd_y, bd2_y, ifp, ifn, not_true_eq_false, not_false_eq_true, and_self, true_and, and_true, false_and, and_false, or_self, true_or, or_true, false_or, or_false, wA_s, wL_s, sA_same, sL_same, sA_L, sL_A, sA_I, sL_I, wI_A, wI_L, wI_same, sA_sA, sL_sL, sA_ne, sL_ne, wI_ne])]
    by_cases t9 : sT x = 9
    · have o10 := hox.o10 t9
      have hg9 := (hX.2 _ x hx).2 t9
      rw [ifp t9, ifp (c := n32 (sT x) = (9 : Int32)) (by simp (disch := omega) only [↓reduceIte, ↓lt_y, leT, leF, ltT, ltF, eqT, eqF, n32_lit, n32_add, n32_mul, n32_sub, n32_le, n32_lt, n32_eq, n32_nat, gdn, gd_T, inbT, bd_y, bd2_y, ifp, ifn, not_true_eq_false, not_false_eq_true, and_self, true_and, and_true, false_and, and_false, or_self, true_or, or_true, false_or, or_false, wA_s, wL_s, sA_same, sL_same, sA_L, sL_A, sA_I, sL_I, wI_A, wI_L, wI_same, sA_sA, sL_sL, sA_ne, sL_ne, wI_ne]), gd_y (n32_inb (by omega)), gd_y (n32_inb (by omega))]
      simp only [zk, hs1.h2 (by omega), hs1.h3 (by omega), hs1.h4 (by omega)]
      have hsn := o4 (s1 x)
      rw [n32_bvx hu.1 o10.1, hu.2 _ o10.1, show n32 (s2 x) + (1 : Int32) = n32 (s2 x + 1) from by simp (disch := omega) only [↓reduceIte, ↓lt_y, leT, leF, ltT, ltF, eqT, eqF, n32_lit, n32_add, n32_mul, n32_sub, n32_le, n32_lt, n32_eq, n32_nat, gdn, gd_T, inbT, bd_y, bd2_y, ifp, ifn, not_true_eq_false, not_false_eq_true, and_self, true_and, and_true, false_and, and_false, or_self, true_or, or_true, false_or, or_false, wA_s, wL_s, sA_same, sL_same, sA_L, sL_A, sA_I, sL_I, wI_A, wI_L, wI_same, sA_sA, sL_sL, sA_ne, sL_ne, wI_ne]]
      by_cases q : ySn g (s1 x) = s2 x + 1
      · rw [ifp q, ifp (by rw [q]), gd_y (n32_inb (by omega))]
        simp only [↓lt_y]
        rw [show n32 (s3 x) + (1 : Int32) = n32 (s3 x + 1) from by simp (disch := omega) only [↓reduceIte, ↓lt_y, leT, leF, ltT, ltF, eqT, eqF, n32_lit, n32_add, n32_mul, n32_sub, n32_le, n32_lt, n32_eq, n32_nat, gdn, gd_T, inbT, bd_y, bd2_y, ifp, ifn, not_true_eq_false, not_false_eq_true, and_self, true_and, and_true, false_and, and_false, or_self, true_or, or_true, false_or, or_false, wA_s, wL_s, sA_same, sL_same, sA_L, sL_A, sA_I, sL_I, wI_A, wI_L, wI_same, sA_sA, sL_sL, sA_ne, sL_ne, wI_ne]]
        have cm2 := cntO_mono (xs := rX R) (show pc ≤ s3 x + 1 by omega)
        exact (ih (s3 x + 1) (tick g) σ1 u fu (by omega) (by omega) (by omega) hR1 hP1 hG1 ⟨by show yS g + 1 ≤ s3 x + 1; omega, o2, o3, o4, by show (yLk g).length ≤ _; omega, o6⟩ hu).from cF
      · rw [ifn q, ifn (fun z => q ((n32_eq ⟨by omega, by omega⟩).mp z))]
        exact on σ1 (tick g) u rf hG1 tickG hu
    rw [ifn t9, ifn (c := n32 (sT x) = (9 : Int32)) (by simp (disch := omega) only [↓reduceIte, ↓lt_y, leT, leF, ltT, ltF, eqT, eqF, n32_lit, n32_add, n32_mul, n32_sub, n32_le, n32_lt, n32_eq, n32_nat, gdn, gd_T, inbT, bd_y, bd2_y, ifp, ifn, not_true_eq_false, not_false_eq_true, and_self, true_and, and_true, false_and, and_false, or_self, true_or, or_true, false_or, or_false, wA_s, wL_s, sA_same, sL_same, sA_L, sL_A, sA_I, sL_I, wI_A, wI_L, wI_same, sA_sA, sL_sL, sA_ne, sL_ne, wI_ne])]
    by_cases t11 : sT x = 11
    · rw [ifp t11, ifp (c := n32 (sT x) = (11 : Int32)) (by simp (disch := omega) only [↓reduceIte, ↓lt_y, leT, leF, ltT, ltF, eqT, eqF, n32_lit, n32_add, n32_mul, n32_sub, n32_le, n32_lt, n32_eq, n32_nat, gdn, gd_T, inbT, bd_y, bd2_y, ifp, ifn, not_true_eq_false, not_false_eq_true, and_self, true_and, and_true, false_and, and_false, or_self, true_or, or_true, false_or, or_false, wA_s, wL_s, sA_same, sL_same, sA_L, sL_A, sA_I, sL_I, wI_A, wI_L, wI_same, sA_sA, sL_sL, sA_ne, sL_ne, wI_ne])]
      have o3' := hox.o3 (Or.inr t11)
      unfold F_play_b468
      have hans : F_answerOf σ1 (n32 (52 * b + pc)) = some (if need x ≤ yC g then ansS 1 x (yR g) else -1) := by
        unfold F_answerOf
        simp only [zk, t22, hs1.h1]
        rw [gd_y (n32_inb (by omega)), ifn (by simp (disch := omega) only [↓reduceIte, ↓lt_y, leT, leF, ltT, ltF, eqT, eqF, n32_lit, n32_add, n32_mul, n32_sub, n32_le, n32_lt, n32_eq, n32_nat, gdn, gd_T, inbT, bd_y, bd2_y, ifp, ifn, not_true_eq_false, not_false_eq_true, and_self, true_and, and_true, false_and, and_false, or_self, true_or, or_true, false_or, or_false, wA_s, wL_s, sA_same, sL_same, sA_L, sL_A, sA_I, sL_I, wI_A, wI_L, wI_same, sA_sA, sL_sL, sA_ne, sL_ne, wI_ne]), m76, fits_L (by omega) hs1 hox (by omega) (yC g) o3]
        simp only [bd_y]
        by_cases q : need x ≤ yC g
        · have eb : b32 (need x ≤ yC g) = n32 1 := if_pos q
          have p1 := and1_lt (yR g) (s1 x)
          have p2 := and1_lt (yR g) (s2 x)
          rw [eb, ifn (c := n32 1 = (0 : Int32)) (by decide), gd_y (n32_inb (by omega)), m75, hs1.h2 (by omega), hs1.h3 (by omega)]
          simp only [↓lt_y]
          rw [gd_y (n32_inb (by omega)), show (31 : Int32) = n32 31 from rfl, show (1 : Int32) = n32 1 from rfl, n32_bit _ _ (by omega) (by omega), n32_bit _ _ (by omega) (by omega)]
          simp only [ifp q]
          unfold ansS
          rw [ifn (c := (1 : Nat) = 2) (by omega), ifn (c := (1 : Nat) = 0) (by omega)]
          by_cases y : (yR g >>> s1 x) &&& 1 = (yR g >>> s2 x) &&& 1
          · rw [ifp (by rw [y]), ifp y]; rfl
          · rw [ifn (fun z => y ((n32_eq ⟨by omega, by omega⟩).mp z)), ifn y]
        · have eb : b32 (need x ≤ yC g) = n32 0 := if_neg q
          rw [eb, ifp (c := n32 0 = (0 : Int32)) rfl, ifn q]
      rw [hans]
      simp only [bd_y, ↓lt_y]
      have fw := Fr.wI σ1 73 (if need x ≤ yC g then ansS 1 x (yR g) else -1)
      exact stop _ (ansG (if need x ≤ yC g then ansS 1 x (yR g) else -1) (tick g)) _ _ (fw.mono (by simp) (by simp) (by simp)) ⟨wI_same _ _ _, by rw [fw.1 74 (by simp)]; exact hG1.2.1, by rw [fw.1 75 (by simp)]; exact hG1.2.2.1, by rw [fw.1 76 (by simp)]; exact hG1.2.2.2.1, by rw [fw.1 72 (by simp)]; exact hG1.2.2.2.2.1, hG1.2.2.2.2.2⟩ tickF rfl
    rw [ifn t11, ifn (c := n32 (sT x) = (11 : Int32)) (by simp (disch := omega) only [↓reduceIte, ↓lt_y, leT, leF, ltT, ltF, eqT, eqF, n32_lit, n32_add, n32_mul, n32_sub, n32_le, n32_lt, n32_eq, n32_nat, gdn, gd_T, inbT, bd_y, bd2_y, ifp, ifn, not_true_eq_false, not_false_eq_true, and_self, true_and, and_true, false_and, and_false, or_self, true_or, or_true, false_or, or_false, wA_s, wL_s, sA_same, sL_same, sA_L, sL_A, sA_I, sL_I, wI_A, wI_L, wI_same, sA_sA, sL_sL, sA_ne, sL_ne, wI_ne])]
    by_cases t12 : sT x = 12
    · rw [ifp t12, ifp (c := n32 (sT x) = (12 : Int32)) (by simp (disch := omega) only [↓reduceIte, ↓lt_y, leT, leF, ltT, ltF, eqT, eqF, n32_lit, n32_add, n32_mul, n32_sub, n32_le, n32_lt, n32_eq, n32_nat, gdn, gd_T, inbT, bd_y, bd2_y, ifp, ifn, not_true_eq_false, not_false_eq_true, and_self, true_and, and_true, false_and, and_false, or_self, true_or, or_true, false_or, or_false, wA_s, wL_s, sA_same, sL_same, sA_L, sL_A, sA_I, sL_I, wI_A, wI_L, wI_same, sA_sA, sL_sL, sA_ne, sL_ne, wI_ne])]
      unfold F_play_b468
      have hans : F_answerOf σ1 (n32 (52 * b + pc)) = some (n32 (s1 x)) := by
        unfold F_answerOf
        simp only [zk, hs1.h1, hs1.h2 (by omega)]
        rw [gd_y (n32_inb (by omega)), ifp (by simp (disch := omega) only [↓reduceIte, ↓lt_y, leT, leF, ltT, ltF, eqT, eqF, n32_lit, n32_add, n32_mul, n32_sub, n32_le, n32_lt, n32_eq, n32_nat, gdn, gd_T, inbT, bd_y, bd2_y, ifp, ifn, not_true_eq_false, not_false_eq_true, and_self, true_and, and_true, false_and, and_false, or_self, true_or, or_true, false_or, or_false, wA_s, wL_s, sA_same, sL_same, sA_L, sL_A, sA_I, sL_I, wI_A, wI_L, wI_same, sA_sA, sL_sL, sA_ne, sL_ne, wI_ne]), gd_y (n32_inb (by omega))]
      rw [hans]
      simp only [bd_y, ↓lt_y]
      have fw := Fr.wI σ1 73 (n32 (s1 x))
      exact stop _ (ansG (n32 (s1 x)) (tick g)) _ _ (fw.mono (by simp) (by simp) (by simp)) ⟨wI_same _ _ _, by rw [fw.1 74 (by simp)]; exact hG1.2.1, by rw [fw.1 75 (by simp)]; exact hG1.2.2.1, by rw [fw.1 76 (by simp)]; exact hG1.2.2.2.1, by rw [fw.1 72 (by simp)]; exact hG1.2.2.2.2.1, hG1.2.2.2.2.2⟩ tickF rfl
    · rw [ifn t12, ifn (c := n32 (sT x) = (12 : Int32)) (by simp (disch := omega) only [↓reduceIte, ↓lt_y, leT, leF, ltT, ltF, eqT, eqF, n32_lit, n32_add, n32_mul, n32_sub, n32_le, n32_lt, n32_eq, n32_nat, gdn, gd_T, inbT, bd_y, bd2_y, ifp, ifn, not_true_eq_false, not_false_eq_true, and_self, true_and, and_true, false_and, and_false, or_self, true_or, or_true, false_or, or_false, wA_s, wL_s, sA_same, sL_same, sA_L, sL_A, sA_I, sL_I, wI_A, wI_L, wI_same, sA_sA, sL_sL, sA_ne, sL_ne, wI_ne])]
      exact on σ1 (tick g) u rf hG1 tickG hu
