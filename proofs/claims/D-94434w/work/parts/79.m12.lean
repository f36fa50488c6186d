set_option maxRecDepth 100000
/-! THE REFERENCE: odds, ends, what is wrong, what leaks -/
theorem ixo1 (d : Int32) : F_isIn d 0 1 = some (b32 (ixo d 2 ≠ none)) := isIn_L d 2 (by omega)
theorem path_at {σ : MS} {R : Rc} {k : Nat} (hP : MPt σ R) (h : (pths R).length ≤ 200) (hk : k < (pths R).length) : PathR σ (rN R) k ((pths R).getD k default) := ((hP.2 h).2.2 k _ (pths_get hk)).1
theorem wys_lt {R : Rc} (hq : okQ R) {k : Nat} (hk : k < (pths R).length) : (∀ i, wysS ((pths R).getD k default) i ≤ 110075314176) ∧ vW (lfV ((pths R).getD k default)) ≤ 110075314176 := by
  have h := pths_ok hq hk
  have b := bd_lt hq.2.2.1 h.2.1 h.2.2.2.1
  exact ⟨fun i => Nat.le_trans (h.2.1.1 i) b.1, b.1⟩
theorem odds_L {σ : MS} {b : Nat} {R : Rc} (hR : MRc σ b R) (hq : okQ R) (hP : MPt σ R) (p i d : Int32) : F_odds σ p i d = some (p_odds R p i d) := by
  unfold F_odds p_odds
  by_cases q : 200 < (pths R).length
  · rw [(hP.1 q).1, ifn (by decide), ifp q]
  obtain ⟨a1, a2, a3⟩ := hP.2 (by omega)
  rw [a1, ifp (by decide), ifn q, isPath_L hP (by omega)]
  simp only [bd_y]
  cases hp : ixo p (pths R).length with
  | none => rw [b32_none rfl, ifp (by decide)]
  | some k =>
    obtain ⟨rfl, hk⟩ := ixo_some hp
    rw [b32_some rfl, ifn (by decide), isInput_L (hR.mb hq)]
    simp only [bd_y]
    cases hi : ixo i (rN R) with
    | none => rw [b32_none rfl, ifp (by decide)]
    | some j =>
      obtain ⟨rfl, hj⟩ := ixo_some hi
      rw [b32_some rfl, ifn (by decide), ixo1]
      simp only [bd_y]
      cases hd : ixo d 2 with
      | none => rw [b32_none rfl, ifp (by decide)]
      | some e =>
        obtain ⟨rfl, he⟩ := ixo_some hd
        have hN := rN_le hq
        obtain ⟨-, -, c3, -, c5, -⟩ := path_at hP (by omega) hk
        have hw := wys_lt hq hk
        have hpos := leaf_pos (pths_ok hq hk) hN.1
        have e1 := c3 j (by omega)
        rw [ifp hj] at e1
        rw [b32_some rfl, ifn (by decide), show (8 : Int32) * n32 k + n32 j = n32 (8 * k + j) from by simp (disch := omega) only [↓reduceIte, ↓lt_y, leT, leF, ltT, ltF, eqT, eqF, n32_lit, n32_add, n32_mul, n32_sub, n32_le, n32_lt, n32_eq, n32_nat, gdn, gd_T, inbT, bd_y, bd2_y, ifp, ifn, not_true_eq_false, not_false_eq_true, and_self, true_and, and_true, false_and, and_false, or_self, true_or, or_true, false_or, or_false, wA_s, wL_s, sA_same, sL_same, sA_L, sL_A, sA_I, sL_I, wI_A, wI_L, wI_same, sA_sA, sL_sL, sA_ne, sL_ne, wI_ne], gd_y (n32_inb (by omega)), gd_y (n32_inb (by omega)), n32_nat (by omega), n32_nat (by omega), e1, c5]
        have := hw.1 j
        have hz : wysS ((pths R).getD k default) j = sm 256 (vD (lfV ((pths R).getD k default)) j) := rfl
        rw [lowest_L (by omega) (by omega) hpos.1 he]
        rfl
theorem ends_L {σ : MS} {b : Nat} {R : Rc} (hR : MRc σ b R) (hq : okQ R) (hP : MPt σ R) (p i : Int32) : F_ends σ p i = some (p_ends R p i) := by
  unfold F_ends p_ends
  by_cases q : 200 < (pths R).length
  · rw [(hP.1 q).1, ifn (by decide), ifp q]
  obtain ⟨a1, a2, a3⟩ := hP.2 (by omega)
  rw [a1, ifp (by decide), ifn q, isPath_L hP (by omega)]
  simp only [bd_y]
  cases hp : ixo p (pths R).length with
  | none => rw [b32_none rfl, ifp (by decide)]
  | some k =>
    obtain ⟨rfl, hk⟩ := ixo_some hp
    rw [b32_some rfl, ifn (by decide), isInput_L (hR.mb hq)]
    simp only [bd_y]
    cases hi : ixo i (rN R) with
    | none => rw [b32_none rfl, ifp (by decide)]
    | some j =>
      obtain ⟨rfl, hj⟩ := ixo_some hi
      have hN := rN_le hq
      obtain ⟨-, -, -, c4, -, -⟩ := path_at hP (by omega) hk
      have e1 := c4 j (by omega)
      rw [ifp hj] at e1
      rw [b32_some rfl, ifn (by decide), show (8 : Int32) * n32 k + n32 j = n32 (8 * k + j) from by simp (disch := omega) only [↓reduceIte, ↓lt_y, leT, leF, ltT, ltF, eqT, eqF, n32_lit, n32_add, n32_mul, n32_sub, n32_le, n32_lt, n32_eq, n32_nat, gdn, gd_T, inbT, bd_y, bd2_y, ifp, ifn, not_true_eq_false, not_false_eq_true, and_self, true_and, and_true, false_and, and_false, or_self, true_or, or_true, false_or, or_false, wA_s, wL_s, sA_same, sL_same, sA_L, sL_A, sA_I, sL_I, wI_A, wI_L, wI_same, sA_sA, sL_sL, sA_ne, sL_ne, wI_ne], gd_y (n32_inb (by omega)), n32_nat (by omega), e1]
theorem asked_L {σ : MS} {b : Nat} {R : Rc} (hR : MRc σ b R) (hq : okQ R) (i : Int32) : ∃ g, F_asked i σ = some (p_asked R i, sA σ 34 g) := by
  unfold F_asked p_asked
  rw [isInput_L (hR.mb hq)]
  simp only [bd_y]
  cases hi : ixo i (rN R) with
  | none =>
    rw [b32_none rfl, ifp (by decide)]
    exact ⟨mA σ 34, by rw [sA_id]⟩
  | some j =>
    obtain ⟨rfl, hj⟩ := ixo_some hi
    have hN := rN_le hq
    obtain ⟨g, e⟩ := askedOf_L (hR.mb hq) hR.2.2.2.2.1 hq.2.2.2.2.2.2.2.1 (by omega : j < 8)
    rw [b32_some rfl, ifn (by decide), e]
    exact ⟨g, rfl⟩
theorem guess_L {σ : MS} {b : Nat} {R : Rc} (hR : MRc σ b R) (hq : okQ R) (hP : MPt σ R) (p i d : Int32) : F_guess σ p i d = some (p_guess R p i d) := by
  have hMN := MN_gt
  unfold F_guess p_guess
  by_cases q : 200 < (pths R).length
  · rw [(hP.1 q).1, ifn (by decide), ifp q]
  obtain ⟨a1, a2, a3⟩ := hP.2 (by omega)
  rw [a1, ifp (by decide), ifn q, isPath_L hP (by omega)]
  simp only [bd_y]
  cases hp : ixo p (pths R).length with
  | none => rw [b32_none rfl, ifp (by decide)]
  | some k =>
    obtain ⟨rfl, hk⟩ := ixo_some hp
    rw [b32_some rfl, ifn (by decide), isInput_L (hR.mb hq)]
    simp only [bd_y]
    cases hi : ixo i (rN R) with
    | none => rw [b32_none rfl, ifp (by decide)]
    | some j =>
      obtain ⟨rfl, hj⟩ := ixo_some hi
      rw [b32_some rfl, ifn (by decide), ixo1]
      simp only [bd_y]
      cases hd : ixo d 2 with
      | none => rw [b32_none rfl, ifp (by decide)]
      | some e =>
        obtain ⟨rfl, he⟩ := ixo_some hd
        have hN := rN_le hq
        obtain ⟨-, -, c3, -, c5, -⟩ := path_at hP (by omega) hk
        have hw := wys_lt hq hk
        have hpos := leaf_pos (pths_ok hq hk) hN.1
        rw [b32_some rfl, ifn (by decide)]
        obtain ⟨fu, s, rfl, e2⟩ := upe (fun fu m (s : Nat) => F_guess_L46 σ fu (n32 k) (n32 j) (n32 e) (e64 s) (n32 m)) 0 (rN R) (fun m s => s = sm m fun j => wysS ((pths R).getD k default) j)
          (by
            rintro fu m s - hm rfl
            have e1 := c3 m (by omega)
            rw [ifp hm] at e1
            refine ⟨_, ?_, rfl⟩
            simp only [F_guess_L46]
            rw [inputs_L (hR.mb hq)]
            simp only [bd_y]
            rw [ifn (by simp (disch := omega) only [↓reduceIte, ↓lt_y, leT, leF, ltT, ltF, eqT, eqF, n32_lit, n32_add, n32_mul, n32_sub, n32_le, n32_lt, n32_eq, n32_nat, gdn, gd_T, inbT, bd_y, bd2_y, ifp, ifn, not_true_eq_false, not_false_eq_true, and_self, true_and, and_true, false_and, and_false, or_self, true_or, or_true, false_or, or_false, wA_s, wL_s, sA_same, sL_same, sA_L, sL_A, sA_I, sL_I, wI_A, wI_L, wI_same, sA_sA, sL_sL, sA_ne, sL_ne, wI_ne]), show (8 : Int32) * n32 k + n32 m = n32 (8 * k + m) from by simp (disch := omega) only [↓reduceIte, ↓lt_y, leT, leF, ltT, ltF, eqT, eqF, n32_lit, n32_add, n32_mul, n32_sub, n32_le, n32_lt, n32_eq, n32_nat, gdn, gd_T, inbT, bd_y, bd2_y, ifp, ifn, not_true_eq_false, not_false_eq_true, and_self, true_and, and_true, false_and, and_false, or_self, true_or, or_true, false_or, or_false, wA_s, wL_s, sA_same, sL_same, sA_L, sL_A, sA_I, sL_I, wI_A, wI_L, wI_same, sA_sA, sL_sL, sA_ne, sL_ne, wI_ne], gd_y (n32_inb (by omega)), n32_nat (by omega), e1, ← e64_add]
            simp only [↓lt_y]
            rw [show n32 m + (1 : Int32) = n32 (m + 1) from by simp (disch := omega) only [↓reduceIte, ↓lt_y, leT, leF, ltT, ltF, eqT, eqF, n32_lit, n32_add, n32_mul, n32_sub, n32_le, n32_lt, n32_eq, n32_nat, gdn, gd_T, inbT, bd_y, bd2_y, ifp, ifn, not_true_eq_false, not_false_eq_true, and_self, true_and, and_true, false_and, and_false, or_self, true_or, or_true, false_or, or_false, wA_s, wL_s, sA_same, sL_same, sA_L, sL_A, sA_I, sL_I, wI_A, wI_L, wI_same, sA_sA, sL_sL, sA_ne, sL_ne, wI_ne]]
            rfl)
          0 MN (Nat.zero_le _) (by omega) rfl
        refine e2.trans ?_
        simp only [F_guess_L46, F_guess_b78]
        rw [inputs_L (hR.mb hq)]
        simp only [bd_y]
        have e1 := c3 j (by omega)
        rw [ifp hj] at e1
        rw [ifp (by simp (disch := omega) only [↓reduceIte, ↓lt_y, leT, leF, ltT, ltF, eqT, eqF, n32_lit, n32_add, n32_mul, n32_sub, n32_le, n32_lt, n32_eq, n32_nat, gdn, gd_T, inbT, bd_y, bd2_y, ifp, ifn, not_true_eq_false, not_false_eq_true, and_self, true_and, and_true, false_and, and_false, or_self, true_or, or_true, false_or, or_false, wA_s, wL_s, sA_same, sL_same, sA_L, sL_A, sA_I, sL_I, wI_A, wI_L, wI_same, sA_sA, sL_sL, sA_ne, sL_ne, wI_ne]), show (8 : Int32) * n32 k + n32 j = n32 (8 * k + j) from by simp (disch := omega) only [↓reduceIte, ↓lt_y, leT, leF, ltT, ltF, eqT, eqF, n32_lit, n32_add, n32_mul, n32_sub, n32_le, n32_lt, n32_eq, n32_nat, gdn, gd_T, inbT, bd_y, bd2_y, ifp, ifn, not_true_eq_false, not_false_eq_true, and_self, true_and, and_true, false_and, and_false, or_self, true_or, or_true, false_or, or_false, wA_s, wL_s, sA_same, sL_same, sA_L, sL_A, sA_I, sL_I, wI_A, wI_L, wI_same, sA_sA, sL_sL, sA_ne, sL_ne, wI_ne], gd_y (n32_inb (by omega)), n32_nat (by omega), e1]
        have := hw.1 j
        have hz : wysS ((pths R).getD k default) j = sm 256 (vD (lfV ((pths R).getD k default)) j) := rfl
        have hsum : (sm (rN R) fun j => wysS ((pths R).getD k default) j) ≤ 8 * 110075314176 := by
          calc _ ≤ sm (rN R) (fun _ => 110075314176) := sm_le fun i _ => hw.1 i
            _ = rN R * 110075314176 := sm_const _ _
            _ ≤ _ := Nat.mul_le_mul_right _ hN.1
        rw [lowest_L (by omega) (by omega) hpos.2 he]
        rfl
