set_option maxRecDepth 100000
/-! THE REFERENCE's MOVES -/
theorem sL_to {σ : MS} {k : Nat} {g : Nat → Int64} (h : ∀ j, g j = mL σ k j) : sL σ k g = σ := by rw [funext h]; exact sL_id σ k
theorem sA_to {σ : MS} {k : Nat} {g : Nat → Int32} (h : ∀ j, g j = mA σ k j) : sA σ k g = σ := by rw [funext h]; exact sA_id σ k
theorem n32_div (a b : Nat) (hb : 0 < b) (ha : a < 2147483648) (hb2 : b < 2147483648) : n32 a / n32 b = n32 (a / b) := by
  have h : a / b ≤ a := Nat.div_le_self a b
  rw [← Int32.toInt_inj, Int32.toInt_div, n32_toInt ha, n32_toInt hb2, n32_toInt (by omega)]
  rw [Int.tdiv_eq_ediv_of_nonneg (by omega), Int.natCast_ediv]
  apply Int.bmod_eq_of_le
  · have : (0 : Int) ≤ (a : Int) / b := Int.ediv_nonneg (by omega) (by omega)
    simp; omega
  · have : (a : Int) / b ≤ a := by exact_mod_cast h
    simp; omega
theorem bringBack_L (σ : MS) (l t : Nat) (hl : l < 18) (ht : t < 18) (hlt : l ≠ t) : F_bringBack (n32 l) (n32 t) σ = some (sL σ 43 fun j => if 2048 * t ≤ j ∧ j < 2048 * t + 2048 then mL σ 43 (2048 * l + (j - 2048 * t)) else mL σ 43 j) := by
  unfold F_bringBack
  simp (disch := omega) only [↓reduceIte, ↓lt_y, leT, leF, ltT, ltF, eqT, eqF, n32_lit, n32_add, n32_mul, n32_sub, n32_le, n32_lt, n32_eq, n32_nat, gdn, gd_T, inbT, bd_y, bd2_y, ifp, ifn, not_true_eq_false, not_false_eq_true, and_self, true_and, and_true, false_and, and_false, or_self, true_or, or_true, false_or, or_false, wA_s, wL_s, sA_same, sL_same, sA_L, sL_A, sA_I, sL_I, wI_A, wI_L, wI_same, sA_sA, sL_sL, sA_ne, sL_ne, wI_ne]
  have hMN := MN_gt
  refine upl (fun fu k s => F_bringBack_L2 fu (n32 l) (n32 t) (n32 k) s) 0 2048 (fun k s => s = sL σ 43 fun j => if 2048 * t ≤ j ∧ j < 2048 * t + k then mL σ 43 (2048 * l + (j - 2048 * t)) else mL σ 43 j) (fun o => o = some _) ?_ ?_ σ MN (by omega) (by omega) (sL_to fun j => ifn (by omega)).symm
  · rintro fu k s ha hk rfl
    refine ⟨_, ?_, rfl⟩
    simp only [F_bringBack_L2]
    simp (disch := omega) only [↓reduceIte, ↓lt_y, leT, leF, ltT, ltF, eqT, eqF, n32_lit, n32_add, n32_mul, n32_sub, n32_le, n32_lt, n32_eq, n32_nat, gdn, gd_T, inbT, bd_y, bd2_y, ifp, ifn, not_true_eq_false, not_false_eq_true, and_self, true_and, and_true, false_and, and_false, or_self, true_or, or_true, false_or, or_false, wA_s, wL_s, sA_same, sL_same, sA_L, sL_A, sA_I, sL_I, wI_A, wI_L, wI_same, sA_sA, sL_sL, sA_ne, sL_ne, wI_ne]
    congr 2
    funext j
    simp only [up0]
    repeat' split
    all_goals first | rfl | omega | (congr 1; omega)
  · rintro fu s rfl
    simp only [F_bringBack_L2]
    simp (disch := omega) only [↓reduceIte, ↓lt_y, leT, leF, ltT, ltF, eqT, eqF, n32_lit, n32_add, n32_mul, n32_sub, n32_le, n32_lt, n32_eq, n32_nat, gdn, gd_T, inbT, bd_y, bd2_y, ifp, ifn, not_true_eq_false, not_false_eq_true, and_self, true_and, and_true, false_and, and_false, or_self, true_or, or_true, false_or, or_false, wA_s, wL_s, sA_same, sL_same, sA_L, sL_A, sA_I, sL_I, wI_A, wI_L, wI_same, sA_sA, sL_sL, sA_ne, sL_ne, wI_ne]
theorem clearDist_L (σ : MS) (l : Nat) (hl : l < 18) : F_clearDist (n32 l) σ = some (sL σ 43 fun j => if 2048 * l ≤ j ∧ j < 2048 * l + 2048 then 0 else mL σ 43 j) := by
  unfold F_clearDist
  simp (disch := omega) only [↓reduceIte, ↓lt_y, leT, leF, ltT, ltF, eqT, eqF, n32_lit, n32_add, n32_mul, n32_sub, n32_le, n32_lt, n32_eq, n32_nat, gdn, gd_T, inbT, bd_y, bd2_y, ifp, ifn, not_true_eq_false, not_false_eq_true, and_self, true_and, and_true, false_and, and_false, or_self, true_or, or_true, false_or, or_false, wA_s, wL_s, sA_same, sL_same, sA_L, sL_A, sA_I, sL_I, wI_A, wI_L, wI_same, sA_sA, sL_sL, sA_ne, sL_ne, wI_ne]
  have hMN := MN_gt
  refine upl (fun fu k s => F_clearDist_L6 fu (n32 l) (n32 k) s) (2048 * l) (2048 * l + 2048) (fun k s => s = sL σ 43 fun j => if 2048 * l ≤ j ∧ j < k then 0 else mL σ 43 j) (fun o => o = some _) ?_ ?_ σ MN (by omega) (by omega) (sL_to fun j => ifn (by omega)).symm
  · rintro fu k s ha hk rfl
    refine ⟨_, ?_, rfl⟩
    simp only [F_clearDist_L6]
    simp (disch := omega) only [↓reduceIte, ↓lt_y, leT, leF, ltT, ltF, eqT, eqF, n32_lit, n32_add, n32_mul, n32_sub, n32_le, n32_lt, n32_eq, n32_nat, gdn, gd_T, inbT, bd_y, bd2_y, ifp, ifn, not_true_eq_false, not_false_eq_true, and_self, true_and, and_true, false_and, and_false, or_self, true_or, or_true, false_or, or_false, wA_s, wL_s, sA_same, sL_same, sA_L, sL_A, sA_I, sL_I, wI_A, wI_L, wI_same, sA_sA, sL_sL, sA_ne, sL_ne, wI_ne]
    congr 2
    funext j
    simp only [up0]
    repeat' split
    all_goals first | rfl | omega
  · rintro fu s rfl
    simp only [F_clearDist_L6]
    simp (disch := omega) only [↓reduceIte, ↓lt_y, leT, leF, ltT, ltF, eqT, eqF, n32_lit, n32_add, n32_mul, n32_sub, n32_le, n32_lt, n32_eq, n32_nat, gdn, gd_T, inbT, bd_y, bd2_y, ifp, ifn, not_true_eq_false, not_false_eq_true, and_self, true_and, and_true, false_and, and_false, or_self, true_or, or_true, false_or, or_false, wA_s, wL_s, sA_same, sL_same, sA_L, sL_A, sA_I, sL_I, wI_A, wI_L, wI_same, sA_sA, sL_sL, sA_ne, sL_ne, wI_ne]
theorem n32_ba (r p k : Nat) (hr : r < 2147483648) (hp : p < 32) (hk : k < 32) : ((n32 r >>> (n32 p &&& n32 31)) &&& n32 1) <<< (n32 k &&& n32 31) = n32 (((r >>> p) &&& 1) <<< k) := by
  rw [n32_shr r p hp hr, n32_and, n32_shl _ _ hk]
theorem n32_bit (r p : Nat) (hr : r < 2147483648) (hp : p < 32) : (n32 r >>> (n32 p &&& n32 31)) &&& n32 1 = n32 ((r >>> p) &&& 1) := by
  rw [n32_shr r p hp hr, n32_and]
theorem moved_L (σ : MS) (f : Nat → Nat) (hf : ∀ p, p < 8 → mA σ 41 p = n32 (f p) ∧ f p < 8) (r : Nat) (hr : r < 256) : F_moved σ (n32 r) = some (n32 (mvr f r)) := by
  unfold F_moved
  simp (disch := omega) only [↓reduceIte, ↓lt_y, leT, leF, ltT, ltF, eqT, eqF, n32_lit, n32_add, n32_mul, n32_sub, n32_le, n32_lt, n32_eq, n32_nat, gdn, gd_T, inbT, bd_y, bd2_y, ifp, ifn, not_true_eq_false, not_false_eq_true, and_self, true_and, and_true, false_and, and_false, or_self, true_or, or_true, false_or, or_false, wA_s, wL_s, sA_same, sL_same, sA_L, sL_A, sA_I, sL_I, wI_A, wI_L, wI_same, sA_sA, sL_sL, sA_ne, sL_ne, wI_ne]
  have hMN := MN_gt
  refine upl (fun fu k (s : Nat) => F_moved_L4 σ fu (n32 r) (n32 s) (n32 k)) 0 8 (fun k s => s = orr k fun p => ((r >>> f p) &&& 1) <<< p) (fun o => o = some (n32 (mvr f r))) ?_ ?_ 0 MN (by omega) (by omega) rfl
  · rintro fu k s ha hk rfl
    refine ⟨_, ?_, rfl⟩
    obtain ⟨e, h8⟩ := hf k hk
    simp only [F_moved_L4]
    simp (disch := omega) only [↓reduceIte, ↓lt_y, leT, leF, ltT, ltF, eqT, eqF, n32_lit, n32_add, n32_mul, n32_sub, n32_le, n32_lt, n32_eq, n32_nat, gdn, gd_T, inbT, bd_y, bd2_y, ifp, ifn, not_true_eq_false, not_false_eq_true, and_self, true_and, and_true, false_and, and_false, or_self, true_or, or_true, false_or, or_false, wA_s, wL_s, sA_same, sL_same, sA_L, sL_A, sA_I, sL_I, wI_A, wI_L, wI_same, sA_sA, sL_sL, sA_ne, sL_ne, wI_ne, e, n32_ba, n32_or]
    rfl
  · rintro fu s rfl
    simp only [F_moved_L4]
    simp (disch := omega) only [↓reduceIte, ↓lt_y, leT, leF, ltT, ltF, eqT, eqF, n32_lit, n32_add, n32_mul, n32_sub, n32_le, n32_lt, n32_eq, n32_nat, gdn, gd_T, inbT, bd_y, bd2_y, ifp, ifn, not_true_eq_false, not_false_eq_true, and_self, true_and, and_true, false_and, and_false, or_self, true_or, or_true, false_or, or_false, wA_s, wL_s, sA_same, sL_same, sA_L, sL_A, sA_I, sL_I, wI_A, wI_L, wI_same, sA_sA, sL_sL, sA_ne, sL_ne, wI_ne]
    rfl
def e64 (n : Nat) : Int64 := Int64.ofNat n
theorem e64_add (a b : Nat) : e64 (a + b) = e64 a + e64 b := Int64.ofNat_add a b
theorem e64_mul (a b : Nat) : e64 (a * b) = e64 a * e64 b := Int64.ofNat_mul a b
theorem e64_0 : e64 0 = 0 := rfl
theorem cmp0 (x : Int64) : lg_cmp x 0 = n32 0 ↔ x = 0 := by
  show lg_cmp x 0 = 0 ↔ x = 0
  unfold lg_cmp
  split
  · rename_i h
    constructor
    · intro q; exact absurd q (by decide)
    · rintro rfl; exact absurd h (by decide)
  · split
    · simp_all
    · rename_i h1 h2; simp only [h2, iff_false]; decide
/-- the reference's bank and people -/
def MB (σ : MS) (b N : Nat) : Prop := mI σ 35 = n32 b ∧ b < 2 ∧ ∃ ppl : Nat, mA σ 12 b = n32 ppl ∧ ppl ≤ 3 ∧ N = 2 ^ ppl
theorem MB.le {σ : MS} {b N : Nat} (h : MB σ b N) : N ≤ 8 := by
  obtain ⟨-, -, p, -, h, rfl⟩ := h
  calc 2 ^ p ≤ 2 ^ 3 := Nat.pow_le_pow_right (by omega) h
    _ = 8 := rfl
theorem inputs_L {σ : MS} {b N : Nat} (hB : MB σ b N) : F_inputs σ = some (n32 N) := by
  obtain ⟨h1, h2, ppl, h3, h4, rfl⟩ := hB
  unfold F_inputs
  simp (disch := omega) only [↓reduceIte, ↓lt_y, leT, leF, ltT, ltF, eqT, eqF, n32_lit, n32_add, n32_mul, n32_sub, n32_le, n32_lt, n32_eq, n32_nat, gdn, gd_T, inbT, bd_y, bd2_y, ifp, ifn, not_true_eq_false, not_false_eq_true, and_self, true_and, and_true, false_and, and_false, or_self, true_or, or_true, false_or, or_false, wA_s, wL_s, sA_same, sL_same, sA_L, sL_A, sA_I, sL_I, wI_A, wI_L, wI_same, sA_sA, sL_sL, sA_ne, sL_ne, wI_ne, h1, h3]
  rw [n32_shl _ _ (by omega), Nat.one_shiftLeft]
/-- what a level holds -/
def LD (σ : MS) (l : Nat) (D : Dst) : Prop := ∀ i q, i < 8 → q < 256 → mL σ 43 (2048 * l + 256 * i + q) = e64 (D i q)
theorem sendAll_L (σ : MS) (l t b N : Nat) (hl : l < 18) (ht : t < 18) (hlt : l ≠ t) (hB : MB σ b N) (f : Nat → Nat) (hf : ∀ p, p < 8 → mA σ 41 p = n32 (f p) ∧ f p < 8) (D : Dst) (hD : LD σ l D) :
    ∃ g, F_sendAll (n32 l) (n32 t) σ = some (sL σ 43 g) ∧ (∀ i q, i < 8 → q < 256 → g (2048 * t + 256 * i + q) = mL σ 43 (2048 * t + 256 * i + q) + e64 (if i < N then mvD f D i q else 0)) ∧ ∀ j, (j < 2048 * t ∨ 2048 * t + 2048 ≤ j) → g j = mL σ 43 j := by
  have hMN := MN_gt
  have h8 := hB.le
  unfold F_sendAll
  simp (disch := omega) only [↓reduceIte, ↓lt_y, leT, leF, ltT, ltF, eqT, eqF, n32_lit, n32_add, n32_mul, n32_sub, n32_le, n32_lt, n32_eq, n32_nat, gdn, gd_T, inbT, bd_y, bd2_y, ifp, ifn, not_true_eq_false, not_false_eq_true, and_self, true_and, and_true, false_and, and_false, or_self, true_or, or_true, false_or, or_false, wA_s, wL_s, sA_same, sL_same, sA_L, sL_A, sA_I, sL_I, wI_A, wI_L, wI_same, sA_sA, sL_sL, sA_ne, sL_ne, wI_ne]
  obtain ⟨fu, s, ⟨g, rfl, hg, hg2⟩, e⟩ := upe (fun fu k s => F_sendAll_L2 fu (n32 l) (n32 t) (n32 k) s) 0 (N)
    (fun k s => ∃ g, s = sL σ 43 g ∧ (∀ i q, i < 8 → q < 256 → g (2048 * t + 256 * i + q) = mL σ 43 (2048 * t + 256 * i + q) + e64 (if i < k then mvD f D i q else 0)) ∧ ∀ j, (j < 2048 * t ∨ 2048 * t + 2048 ≤ j) → g j = mL σ 43 j)
    (by
      rintro fu i0 s - hi ⟨g0, rfl, hg, hg2⟩
      simp only [F_sendAll_L2]
      rw [inputs_L (σ := sL σ 43 g0) (N := N) hB]
      simp (disch := omega) only [↓reduceIte, ↓lt_y, leT, leF, ltT, ltF, eqT, eqF, n32_lit, n32_add, n32_mul, n32_sub, n32_le, n32_lt, n32_eq, n32_nat, gdn, gd_T, inbT, bd_y, bd2_y, ifp, ifn, not_true_eq_false, not_false_eq_true, and_self, true_and, and_true, false_and, and_false, or_self, true_or, or_true, false_or, or_false, wA_s, wL_s, sA_same, sL_same, sA_L, sL_A, sA_I, sL_I, wI_A, wI_L, wI_same, sA_sA, sL_sL, sA_ne, sL_ne, wI_ne]
      obtain ⟨fu', s, ⟨g, rfl, hg, hg2⟩, e⟩ := upe (fun fu' k s => F_sendAll_L13 (F_sendAll_L2 fu) fu' (n32 l) (n32 t) (n32 i0) (n32 k) s) 0 256
        (fun k s => ∃ g, s = sL σ 43 g ∧ (∀ i q, i < 8 → q < 256 → g (2048 * t + 256 * i + q) = mL σ 43 (2048 * t + 256 * i + q) + e64 (if i < i0 then mvD f D i q else if i = i0 then sm k (fun r => if mvr f r = q then D i r else 0) else 0)) ∧ ∀ j, (j < 2048 * t ∨ 2048 * t + 2048 ≤ j) → g j = mL σ 43 j)
        (by
          rintro fu' k s - hk ⟨g, rfl, hg, hg2⟩
          have hsrc : g (2048 * l + 256 * i0 + k) = e64 (D i0 k) := by rw [hg2 _ (by omega)]; exact hD i0 k (by omega) hk
          simp only [F_sendAll_L13, F_sendAll_b77]
          simp (disch := omega) only [↓reduceIte, ↓lt_y, leT, leF, ltT, ltF, eqT, eqF, n32_lit, n32_add, n32_mul, n32_sub, n32_le, n32_lt, n32_eq, n32_nat, gdn, gd_T, inbT, bd_y, bd2_y, ifp, ifn, not_true_eq_false, not_false_eq_true, and_self, true_and, and_true, false_and, and_false, or_self, true_or, or_true, false_or, or_false, wA_s, wL_s, sA_same, sL_same, sA_L, sL_A, sA_I, sL_I, wI_A, wI_L, wI_same, sA_sA, sL_sL, sA_ne, sL_ne, wI_ne, hsrc]
          by_cases hz : e64 (D i0 k) = 0
          · rw [ifp ((cmp0 _).mpr hz)]
            refine ⟨_, rfl, g, rfl, fun i q hi' hq => ?_, hg2⟩
            rw [hg i q hi' hq]
            congr 1
            by_cases h1 : i < i0
            · simp only [h1, if_true]
            · by_cases h2 : i = i0
              · subst h2
                simp only [Nat.lt_irrefl, if_false, if_true, sm, e64_add]
                split
                · rw [hz, Int64.add_zero]
                · rw [e64_0, Int64.add_zero]
              · simp only [h1, h2, if_false]
          · rw [ifn (fun q => hz ((cmp0 _).mp q)), moved_L (sL σ 43 g) f hf k hk]
            have hm := mvr_lt f k
            simp (disch := omega) only [↓reduceIte, ↓lt_y, leT, leF, ltT, ltF, eqT, eqF, n32_lit, n32_add, n32_mul, n32_sub, n32_le, n32_lt, n32_eq, n32_nat, gdn, gd_T, inbT, bd_y, bd2_y, ifp, ifn, not_true_eq_false, not_false_eq_true, and_self, true_and, and_true, false_and, and_false, or_self, true_or, or_true, false_or, or_false, wA_s, wL_s, sA_same, sL_same, sA_L, sL_A, sA_I, sL_I, wI_A, wI_L, wI_same, sA_sA, sL_sL, sA_ne, sL_ne, wI_ne]
            refine ⟨_, rfl, _, rfl, fun i q hi' hq => ?_, fun j hj => ?_⟩
            · simp only [up0]
              by_cases h2 : i = i0
              · subst h2
                simp only [Nat.lt_irrefl, if_false, if_true, sm, e64_add]
                by_cases h3 : mvr f k = q
                · subst h3
                  rw [ifp rfl, hg i _ hi' hm]
                  simp only [Nat.lt_irrefl, if_false, if_true]
                  rw [Int64.add_assoc]
                · rw [ifn (by omega), hg i q hi' hq]
                  simp only [Nat.lt_irrefl, if_false, if_true, h3]
                  rw [e64_0, Int64.add_zero]
              · rw [ifn (by omega), hg i q hi' hq]
                simp only [h2, if_false]
            · simp only [up0]
              rw [ifn (by omega), hg2 j hj])
        (sL σ 43 g0) MN (by omega) (by omega) ⟨g0, rfl, by
          intro i q hi' hq
          rw [hg i q hi' hq]
          congr 2
          by_cases h1 : i < i0
          · rw [ifp h1, ifp h1]
          · rw [ifn h1, ifn h1]
            split <;> rfl, hg2⟩
      refine ⟨sL σ 43 g, ?_, g, rfl, fun i q hi' hq => ?_, hg2⟩
      · refine e.trans ?_
        simp only [F_sendAll_L13, F_sendAll_b83]
        simp (disch := omega) only [↓reduceIte, ↓lt_y, leT, leF, ltT, ltF, eqT, eqF, n32_lit, n32_add, n32_mul, n32_sub, n32_le, n32_lt, n32_eq, n32_nat, gdn, gd_T, inbT, bd_y, bd2_y, ifp, ifn, not_true_eq_false, not_false_eq_true, and_self, true_and, and_true, false_and, and_false, or_self, true_or, or_true, false_or, or_false, wA_s, wL_s, sA_same, sL_same, sA_L, sL_A, sA_I, sL_I, wI_A, wI_L, wI_same, sA_sA, sL_sL, sA_ne, sL_ne, wI_ne]
      · rw [hg i q hi' hq]
        congr 2
        by_cases h1 : i < i0
        · rw [ifp h1, ifp (by omega)]
        · by_cases h2 : i = i0
          · subst h2
            rw [ifn h1, ifp rfl, ifp (by omega)]
            rfl
          · rw [ifn h1, ifn h2, ifn (by omega)])
    σ MN (Nat.zero_le _) (by omega) ⟨mL σ 43, (sL_to fun j => rfl).symm, fun i q _ _ => by simp [e64_0], fun j _ => rfl⟩
  refine ⟨g, e.trans ?_, hg, hg2⟩
  simp only [F_sendAll_L2]
  rw [inputs_L (σ := sL σ 43 g) (N := N) hB]
  simp (disch := omega) only [↓reduceIte, ↓lt_y, leT, leF, ltT, ltF, eqT, eqF, n32_lit, n32_add, n32_mul, n32_sub, n32_le, n32_lt, n32_eq, n32_nat, gdn, gd_T, inbT, bd_y, bd2_y, ifp, ifn, not_true_eq_false, not_false_eq_true, and_self, true_and, and_true, false_and, and_false, or_self, true_or, or_true, false_or, or_false, wA_s, wL_s, sA_same, sL_same, sA_L, sL_A, sA_I, sL_I, wI_A, wI_L, wI_same, sA_sA, sL_sL, sA_ne, sL_ne, wI_ne]
