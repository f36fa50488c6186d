set_option maxRecDepth 100000
/-! THE REFERENCE's TREE: children -/
theorem colours_L {σ : MS} {k r : Nat} {x : Stq} (hk : k < 104) (h : MStp σ k x) (ho : okS x) (t : sT x = 8) (hr : r < 256) : F_colours σ (n32 k) (n32 r) = some (n32 (colS x r)) := by
  have hMN := MN_gt
  obtain ⟨e1, e2⟩ := h.h5 (Or.inr t)
  have o9 := ho.o9 t
  unfold F_colours
  simp (disch := omega) only [↓reduceIte, ↓lt_y, leT, leF, ltT, ltF, eqT, eqF, n32_lit, n32_add, n32_mul, n32_sub, n32_le, n32_lt, n32_eq, n32_nat, gdn, gd_T, inbT, bd_y, bd2_y, ifp, ifn, not_true_eq_false, not_false_eq_true, and_self, true_and, and_true, false_and, and_false, or_self, true_or, or_true, false_or, or_false, wA_s, wL_s, sA_same, sL_same, sA_L, sL_A, sA_I, sL_I, wI_A, wI_L, wI_same, sA_sA, sL_sL, sA_ne, sL_ne, wI_ne]
  obtain ⟨fu, s, rfl, e⟩ := upe (fun fu j (s : Nat) => F_colours_L5 σ fu (n32 k) (n32 r) (n32 s) (n32 j)) 0 (sl x).length (fun j s => s = orr j fun k => ((r >>> (sl x).getD k 0) &&& 1) <<< k)
    (by
      rintro fu j s - hj rfl
      have e3 := e2 j hj
      have h8 : (sl x).getD j 0 < 8 := o9.2.2.2 _ (by rw [getD_of_lt hj]; exact List.getElem_mem hj)
      refine ⟨_, ?_, rfl⟩
      simp only [F_colours_L5]
      simp (disch := omega) only [↓reduceIte, ↓lt_y, leT, leF, ltT, ltF, eqT, eqF, n32_lit, n32_add, n32_mul, n32_sub, n32_le, n32_lt, n32_eq, n32_nat, gdn, gd_T, inbT, bd_y, bd2_y, ifp, ifn, not_true_eq_false, not_false_eq_true, and_self, true_and, and_true, false_and, and_false, or_self, true_or, or_true, false_or, or_false, wA_s, wL_s, sA_same, sL_same, sA_L, sL_A, sA_I, sL_I, wI_A, wI_L, wI_same, sA_sA, sL_sL, sA_ne, sL_ne, wI_ne, e1, e3, n32_ba, n32_or]
      rfl)
    0 MN (by omega) (by omega) rfl
  refine e.trans ?_
  simp only [F_colours_L5]
  simp (disch := omega) only [↓reduceIte, ↓lt_y, leT, leF, ltT, ltF, eqT, eqF, n32_lit, n32_add, n32_mul, n32_sub, n32_le, n32_lt, n32_eq, n32_nat, gdn, gd_T, inbT, bd_y, bd2_y, ifp, ifn, not_true_eq_false, not_false_eq_true, and_self, true_and, and_true, false_and, and_false, or_self, true_or, or_true, false_or, or_false, wA_s, wL_s, sA_same, sL_same, sA_L, sL_A, sA_I, sL_I, wI_A, wI_L, wI_same, sA_sA, sL_sL, sA_ne, sL_ne, wI_ne, e1]
  rfl
theorem e64_ne {a : Nat} (h : a < 9223372036854775808) : e64 a = 0 ↔ a = 0 := by
  constructor
  · intro q
    have h1 : (e64 a).toInt = a := Int64.toInt_ofNat_of_lt (by simpa using h)
    rw [q] at h1
    have h2 : (0 : Int64).toInt = 0 := rfl
    omega
  · rintro rfl; rfl
theorem isAny_L {σ : MS} {l : Nat} {v : Lv} (hl : l < 16) (hD : LD σ l (vD v)) (hb : ∀ i r, r < 256 → vD v i r < 9223372036854775808) : F_isAny σ (n32 l) = some (b32 (wgt v ≠ 0)) := by
  have hMN := MN_gt
  unfold F_isAny
  simp (disch := omega) only [↓reduceIte, ↓lt_y, leT, leF, ltT, ltF, eqT, eqF, n32_lit, n32_add, n32_mul, n32_sub, n32_le, n32_lt, n32_eq, n32_nat, gdn, gd_T, inbT, bd_y, bd2_y, ifp, ifn, not_true_eq_false, not_false_eq_true, and_self, true_and, and_true, false_and, and_false, or_self, true_or, or_true, false_or, or_false, wA_s, wL_s, sA_same, sL_same, sA_L, sL_A, sA_I, sL_I, wI_A, wI_L, wI_same, sA_sA, sL_sL, sA_ne, sL_ne, wI_ne]
  have dec : ∀ j, 2048 * l ≤ j → j < 2048 * l + 2048 → mL σ 43 j = e64 (vD v ((j - 2048 * l) / 256) ((j - 2048 * l) % 256)) := by
    intro j h1 h2
    have := hD ((j - 2048 * l) / 256) ((j - 2048 * l) % 256) (by omega) (by omega)
    rw [← this]
    congr 1
    omega
  refine upf (fun fu k (_ : Unit) => F_isAny_L6 σ fu (n32 l) (n32 k)) (2048 * l) (2048 * l + 2048) (fun j _ => ∀ j', 2048 * l ≤ j' → j' < j → vD v ((j' - 2048 * l) / 256) ((j' - 2048 * l) % 256) = 0) (fun o => o = some (b32 (wgt v ≠ 0))) ?_ ?_ () MN (by omega) (by omega) (fun j' h1 h2 => by omega)
  · rintro fu j - ha hj hI
    simp only [F_isAny_L6]
    simp (disch := omega) only [↓reduceIte, ↓lt_y, leT, leF, ltT, ltF, eqT, eqF, n32_lit, n32_add, n32_mul, n32_sub, n32_le, n32_lt, n32_eq, n32_nat, gdn, gd_T, inbT, bd_y, bd2_y, ifp, ifn, not_true_eq_false, not_false_eq_true, and_self, true_and, and_true, false_and, and_false, or_self, true_or, or_true, false_or, or_false, wA_s, wL_s, sA_same, sL_same, sA_L, sL_A, sA_I, sL_I, wI_A, wI_L, wI_same, sA_sA, sL_sL, sA_ne, sL_ne, wI_ne, dec j ha hj]
    by_cases q : vD v ((j - 2048 * l) / 256) ((j - 2048 * l) % 256) = 0
    · rw [ifp ((cmp0 _).mpr ((e64_ne (hb _ _ (by omega))).mpr q))]
      refine Or.inl ⟨(), rfl, fun j' h1 h2 => ?_⟩
      by_cases e : j' = j
      · subst e; exact q
      · exact hI j' h1 (by omega)
    · rw [ifn (fun z => q ((e64_ne (hb _ _ (by omega))).mp ((cmp0 _).mp z)))]
      refine Or.inr ?_
      have : wgt v ≠ 0 := wgt_ne.mpr ⟨_, _, by omega, by omega, q⟩
      rw [b32, ifp this]
  · rintro fu - hI
    simp only [F_isAny_L6]
    simp (disch := omega) only [↓reduceIte, ↓lt_y, leT, leF, ltT, ltF, eqT, eqF, n32_lit, n32_add, n32_mul, n32_sub, n32_le, n32_lt, n32_eq, n32_nat, gdn, gd_T, inbT, bd_y, bd2_y, ifp, ifn, not_true_eq_false, not_false_eq_true, and_self, true_and, and_true, false_and, and_false, or_self, true_or, or_true, false_or, or_false, wA_s, wL_s, sA_same, sL_same, sA_L, sL_A, sA_I, sL_I, wI_A, wI_L, wI_same, sA_sA, sL_sL, sA_ne, sL_ne, wI_ne]
    have : ¬ wgt v ≠ 0 := fun z => by
      obtain ⟨i, r, hi, hr, h⟩ := wgt_ne.mp z
      have := hI (2048 * l + 256 * i + r) (by omega) (by omega)
      rw [show (2048 * l + 256 * i + r - 2048 * l) / 256 = i by omega, show (2048 * l + 256 * i + r - 2048 * l) % 256 = r by omega] at this
      exact h this
    rw [b32, ifn this]
theorem children_L {σ : MS} {b N l : Nat} {xs : List Stq} {md : Md} {x : Stq} {v : Lv} (hl : l < 16) (hB : MB σ b N) (hX : MSteps σ b xs) (ho : okX xs) (hM : MMd σ md) (hv : LV σ l v) (hx : xs[vP v]? = some x) (ht : 2 ≤ sT x ∧ sT x ≤ 8) : F_children σ (n32 l) = some (n32 (chN md x)) ∧ chN md x ≤ 256 := by
  have hlt : vP v < xs.length := (List.getElem?_eq_some_iff.mp hx).1
  have hb := hB.2.1
  have h40 := ho.1
  have hs := hX.2 _ x hx
  have hox := (ho.2 _ x hx).1
  have t22 := hs.h1
  have hwb := wys_b hox
  have m1 := hM.1
  have m2 := hM.2.1
  unfold F_children chN
  simp (disch := omega) only [↓reduceIte, ↓lt_y, leT, leF, ltT, ltF, eqT, eqF, n32_lit, n32_add, n32_mul, n32_sub, n32_le, n32_lt, n32_eq, n32_nat, gdn, gd_T, inbT, bd_y, bd2_y, ifp, ifn, not_true_eq_false, not_false_eq_true, and_self, true_and, and_true, false_and, and_false, or_self, true_or, or_true, false_or, or_false, wA_s, wL_s, sA_same, sL_same, sA_L, sL_A, sA_I, sL_I, wI_A, wI_L, wI_same, sA_sA, sL_sL, sA_ne, sL_ne, wI_ne, hB.1, hv.2.1, t22, m1]
  by_cases t : sT x = 8
  · have o9 := hox.o9 t
    rw [ifp t, ifp t, (hs.h5 (Or.inr t)).1, n32_shl _ _ (by omega), Nat.one_shiftLeft]
    exact ⟨rfl, by
      calc 2 ^ (sl x).length ≤ 2 ^ 8 := Nat.pow_le_pow_right (by omega) (by omega)
        _ = 256 := rfl⟩
  rw [ifn t, ifn t]
  by_cases q : md.1 = 2
  · rw [ifp q, ifp q, ways_L (by omega) hs hox]
    exact ⟨rfl, by omega⟩
  · rw [ifn q, ifn q]
    exact ⟨rfl, by omega⟩
/-- places' colours, two bits each -/
theorem pack_L {u p c : Nat} (hu : u < 65536) (hp : p < 8) (hc : c < 2) : ∃ u', (n32 u &&& ((n32 3 <<< (n32 (2 * p) &&& n32 31)) ^^^ (-n32 1))) ||| (n32 (c + 1) <<< (n32 (2 * p) &&& n32 31)) = n32 u' ∧ u' < 65536 ∧ ∀ p', p' < 8 → (u' >>> (2 * p')) &&& 3 = if p' = p then c + 1 else (u >>> (2 * p')) &&& 3 := by
  have hlow : c + 1 < 4 := by omega
  have e1 : n32 3 <<< (n32 (2 * p) &&& n32 31) = n32 (3 <<< (2 * p)) := n32_shl _ _ (by omega)
  have e2 : n32 (c + 1) <<< (n32 (2 * p) &&& n32 31) = n32 ((c + 1) <<< (2 * p)) := n32_shl _ _ (by omega)
  have e3 : n32 u &&& (n32 (3 <<< (2 * p)) ^^^ (-n32 1)) = n32 (u &&& (65535 ^^^ (3 <<< (2 * p)))) := by
    apply n32_ext
    rw [Int32.toBitVec_and, Int32.toBitVec_xor]
    simp only [n32_bv]
    apply BitVec.eq_of_getLsbD_eq
    intro i hi
    have hm1 : (-n32 1).toBitVec = BitVec.allOnes 32 := rfl
    rw [hm1]
    simp only [BitVec.getLsbD_and, BitVec.getLsbD_xor, BitVec.getLsbD_allOnes, BitVec.getLsbD_ofNat, Nat.testBit_and, Nat.testBit_xor, hi, decide_true, Bool.true_and]
    have h16 : (65535 : Nat).testBit i = decide (i < 16) := by
      rw [show (65535 : Nat) = 2 ^ 16 - 1 from rfl, Nat.testBit_two_pow_sub_one]
    rw [h16]
    by_cases q : i < 16
    · simp [q, Bool.xor_comm]
    · have hu' : u.testBit i = false := Nat.testBit_lt_two_pow (Nat.lt_of_lt_of_le hu (by rw [show (65536 : Nat) = 2 ^ 16 from rfl]; exact Nat.pow_le_pow_right (by omega) (by omega)))
      simp [hu']
  rw [e1, e2, e3, n32_or]
  refine ⟨_, rfl, ?_, ?_⟩
  · apply Nat.or_lt_two_pow (n := 16)
    · exact Nat.lt_of_le_of_lt Nat.and_le_left hu
    · rw [Nat.shiftLeft_eq]
      have : 2 ^ (2 * p) ≤ 2 ^ 14 := Nat.pow_le_pow_right (by omega) (by omega)
      calc (c + 1) * 2 ^ (2 * p) ≤ 3 * 2 ^ 14 := Nat.mul_le_mul (by omega) this
        _ < 2 ^ 16 := by decide
  · intro p' hp'
    apply Nat.eq_of_testBit_eq
    intro i
    by_cases hi : i < 2
    · have b3 : (3 : Nat).testBit i = true := by
        have : i = 0 ∨ i = 1 := by omega
        rcases this with rfl | rfl <;> decide
      have h16 : (65535 : Nat).testBit (2 * p' + i) = true := by
        rw [show (65535 : Nat) = 2 ^ 16 - 1 from rfl, Nat.testBit_two_pow_sub_one]
        simp; omega
      by_cases q : p' = p
      · subst q
        rw [ifp rfl]
        simp only [Nat.testBit_and, Nat.testBit_shiftRight, Nat.testBit_or, Nat.testBit_xor, Nat.testBit_shiftLeft, b3, h16, Nat.add_sub_cancel_left]
        simp
      · rw [ifn q]
        have z3 : (3 <<< (2 * p)).testBit (2 * p' + i) = false := by
          rw [Nat.testBit_shiftLeft]
          by_cases z : 2 * p' + i ≥ 2 * p
          · have : (3 : Nat).testBit (2 * p' + i - 2 * p) = false := Nat.testBit_lt_two_pow (x := 3) (by
              calc 3 < 2 ^ 2 := by decide
                _ ≤ _ := Nat.pow_le_pow_right (by omega) (by omega))
            simp [this]
          · simp [z]
        have zc : ((c + 1) <<< (2 * p)).testBit (2 * p' + i) = false := by
          rw [Nat.testBit_shiftLeft]
          by_cases z : 2 * p' + i ≥ 2 * p
          · have : (c + 1).testBit (2 * p' + i - 2 * p) = false := Nat.testBit_lt_two_pow (by
              calc c + 1 < 2 ^ 2 := by omega
                _ ≤ _ := Nat.pow_le_pow_right (by omega) (by omega))
            simp [this]
          · simp [z]
        simp only [Nat.testBit_and, Nat.testBit_shiftRight, Nat.testBit_or, Nat.testBit_xor, b3, h16, z3, zc]
        simp
    · have b3 : (3 : Nat).testBit i = false := Nat.testBit_lt_two_pow (by
        calc 3 < 2 ^ 2 := by decide
          _ ≤ _ := Nat.pow_le_pow_right (by omega) (by omega))
      have hb : ∀ z : Nat, (z &&& 3).testBit i = false := fun z => by rw [Nat.testBit_and, b3, Bool.and_false]
      rw [hb]
      split
      · exact (Nat.testBit_lt_two_pow (by
          calc c + 1 < 2 ^ 2 := by omega
            _ ≤ _ := Nat.pow_le_pow_right (by omega) (by omega))).symm
      · exact (hb _).symm
theorem lookAt_L {σ : MS} {b N l k c : Nat} {x : Stq} {D : Dst} {s : Nat → Nat} (hl : l < 15) (hB : MB σ b N) (hk : k < 104) (h : MStp σ k x) (ho : okS x) (t : sT x = 8) (hc : c < 256) (hD : LD σ l D) (h0 : LD σ (l + 1) (fun _ _ => 0)) (hs : MSn (mA σ 48 (l + 1)) s) :
    ∃ τ, F_lookAt (n32 l) (n32 k) (n32 c) σ = some τ ∧ Fr [] [48] [43] σ τ ∧ LD τ (l + 1) (fun i q => if i < N ∧ colS x q = c then D i q else 0) ∧ (∀ j, (j < 2048 * (l + 1) ∨ 2048 * (l + 1) + 2048 ≤ j) → mL τ 43 j = mL σ 43 j) ∧ MSn (mA τ 48 (l + 1)) (seeS x c s) ∧ ∀ j, j ≠ l + 1 → mA τ 48 j = mA σ 48 j := by
  have hMN := MN_gt
  have hN := hB.le
  have o9 := ho.o9 t
  unfold F_lookAt
  simp (disch := omega) only [↓reduceIte, ↓lt_y, leT, leF, ltT, ltF, eqT, eqF, n32_lit, n32_add, n32_mul, n32_sub, n32_le, n32_lt, n32_eq, n32_nat, gdn, gd_T, inbT, bd_y, bd2_y, ifp, ifn, not_true_eq_false, not_false_eq_true, and_self, true_and, and_true, false_and, and_false, or_self, true_or, or_true, false_or, or_false, wA_s, wL_s, sA_same, sL_same, sA_L, sL_A, sA_I, sL_I, wI_A, wI_L, wI_same, sA_sA, sL_sL, sA_ne, sL_ne, wI_ne]
  obtain ⟨fu, s1, ⟨g, rfl, hg, hg2⟩, e⟩ := upe (fun fu i s => F_lookAt_L3 fu (n32 l) (n32 k) (n32 c) (n32 i) s) 0 N
    (fun i0 s => ∃ g, s = sL σ 43 g ∧ (∀ i q, i < 8 → q < 256 → g (2048 * (l + 1) + 256 * i + q) = e64 (if i < i0 ∧ colS x q = c then D i q else 0)) ∧ ∀ j, (j < 2048 * (l + 1) ∨ 2048 * (l + 1) + 2048 ≤ j) → g j = mL σ 43 j)
    (by
      rintro fu i0 s - hi ⟨g0, rfl, hg, hg2⟩
      simp only [F_lookAt_L3]
      rw [inputs_L (σ := sL σ 43 g0) (N := N) hB]
      simp (disch := omega) only [↓reduceIte, ↓lt_y, leT, leF, ltT, ltF, eqT, eqF, n32_lit, n32_add, n32_mul, n32_sub, n32_le, n32_lt, n32_eq, n32_nat, gdn, gd_T, inbT, bd_y, bd2_y, ifp, ifn, not_true_eq_false, not_false_eq_true, and_self, true_and, and_true, false_and, and_false, or_self, true_or, or_true, false_or, or_false, wA_s, wL_s, sA_same, sL_same, sA_L, sL_A, sA_I, sL_I, wI_A, wI_L, wI_same, sA_sA, sL_sL, sA_ne, sL_ne, wI_ne]
      obtain ⟨fu', s, ⟨g, rfl, hg, hg2⟩, e⟩ := upe (fun fu' r s => F_lookAt_L15 (F_lookAt_L3 fu) fu' (n32 l) (n32 k) (n32 c) (n32 i0) (n32 r) s) 0 256
        (fun r0 s => ∃ g, s = sL σ 43 g ∧ (∀ i q, i < 8 → q < 256 → g (2048 * (l + 1) + 256 * i + q) = e64 (if (i < i0 ∨ (i = i0 ∧ q < r0)) ∧ colS x q = c then D i q else 0)) ∧ ∀ j, (j < 2048 * (l + 1) ∨ 2048 * (l + 1) + 2048 ≤ j) → g j = mL σ 43 j)
        (by
          rintro fu' r s - hr ⟨g, rfl, hg, hg2⟩
          simp only [F_lookAt_L15, F_lookAt_b76]
          have hsrc : g (2048 * l + 256 * i0 + r) = e64 (D i0 r) := by rw [hg2 _ (by omega)]; exact hD i0 r (by omega) hr
          have hcol : colS x r < 256 := by
            refine orr_lt _ 8 _ fun j hj => ?_
            have := and1_lt r ((sl x).getD j 0)
            rw [Nat.shiftLeft_eq]
            have h7 : 2 ^ j ≤ 2 ^ 7 := Nat.pow_le_pow_right (by omega) (by omega)
            calc _ ≤ 1 * 2 ^ 7 := Nat.mul_le_mul (by omega) h7
              _ < 2 ^ 8 := by decide
          rw [colours_L (σ := sL σ 43 g) hk (h.fr (Fr.sL σ 43 g) (by simp)) ho t hr]
          simp (disch := omega) only [↓reduceIte, ↓lt_y, leT, leF, ltT, ltF, eqT, eqF, n32_lit, n32_add, n32_mul, n32_sub, n32_le, n32_lt, n32_eq, n32_nat, gdn, gd_T, inbT, bd_y, bd2_y, ifp, ifn, not_true_eq_false, not_false_eq_true, and_self, true_and, and_true, false_and, and_false, or_self, true_or, or_true, false_or, or_false, wA_s, wL_s, sA_same, sL_same, sA_L, sL_A, sA_I, sL_I, wI_A, wI_L, wI_same, sA_sA, sL_sL, sA_ne, sL_ne, wI_ne, hsrc]
          by_cases z : colS x r = c
          · rw [ifp z]
            refine ⟨_, rfl, _, rfl, fun i q hi' hq => ?_, fun j hj => ?_⟩
            · simp only [up0]
              by_cases z2 : i = i0 ∧ q = r
              · rw [ifp (by omega), ifp ⟨Or.inr ⟨z2.1, by omega⟩, by rw [z2.2]; exact z⟩, z2.1, z2.2]
              · rw [ifn (by omega), hg i q hi' hq]
                congr 1
                by_cases z3 : (i < i0 ∨ (i = i0 ∧ q < r)) ∧ colS x q = c
                · rw [ifp z3, ifp ⟨by omega, z3.2⟩]
                · rw [ifn z3, ifn (fun z4 => z3 ⟨by omega, z4.2⟩)]
            · simp only [up0]
              rw [ifn (by omega)]
              exact hg2 j hj
          · rw [ifn z]
            refine ⟨_, rfl, _, rfl, fun i q hi' hq => ?_, hg2⟩
            rw [hg i q hi' hq]
            congr 1
            by_cases z3 : (i < i0 ∨ (i = i0 ∧ q < r)) ∧ colS x q = c
            · rw [ifp z3, ifp ⟨by omega, z3.2⟩]
            · rw [ifn z3, ifn (fun z4 => z3 ⟨by
                rcases z4.1 with z5 | z5
                · exact Or.inl z5
                · refine Or.inr ⟨z5.1, ?_⟩
                  by_cases z6 : q = r
                  · rw [z6] at z4; exact absurd z4.2 z
                  · omega, z4.2⟩)])
        (sL σ 43 g0) MN (by omega) (by omega) ⟨g0, rfl, fun i q hi' hq => by
          rw [hg i q hi' hq]
          congr 1
          by_cases z3 : i < i0 ∧ colS x q = c
          · rw [ifp z3, ifp ⟨Or.inl z3.1, z3.2⟩]
          · rw [ifn z3, ifn (fun z4 => z3 ⟨by omega, z4.2⟩)], hg2⟩
      refine ⟨sL σ 43 g, ?_, g, rfl, fun i q hi' hq => ?_, hg2⟩
      · refine e.trans ?_
        simp only [F_lookAt_L15, F_lookAt_b82]
        simp (disch := omega) only [↓reduceIte, ↓lt_y, leT, leF, ltT, ltF, eqT, eqF, n32_lit, n32_add, n32_mul, n32_sub, n32_le, n32_lt, n32_eq, n32_nat, gdn, gd_T, inbT, bd_y, bd2_y, ifp, ifn, not_true_eq_false, not_false_eq_true, and_self, true_and, and_true, false_and, and_false, or_self, true_or, or_true, false_or, or_false, wA_s, wL_s, sA_same, sL_same, sA_L, sL_A, sA_I, sL_I, wI_A, wI_L, wI_same, sA_sA, sL_sL, sA_ne, sL_ne, wI_ne]
      · rw [hg i q hi' hq]
        congr 1
        by_cases z3 : i < i0 + 1 ∧ colS x q = c
        · rw [ifp z3, ifp ⟨by omega, z3.2⟩]
        · rw [ifn z3, ifn (fun z4 => z3 ⟨by omega, z4.2⟩)])
    σ MN (by omega) (by omega) ⟨mL σ 43, (sL_to fun j => rfl).symm, fun i q hi hq => by rw [ifn (by omega)]; exact h0 i q hi hq, fun j _ => rfl⟩
  rw [e]
  simp only [F_lookAt_L3, F_lookAt_b88]
  rw [inputs_L (σ := sL σ 43 g) (N := N) hB]
  simp (disch := omega) only [↓reduceIte, ↓lt_y, leT, leF, ltT, ltF, eqT, eqF, n32_lit, n32_add, n32_mul, n32_sub, n32_le, n32_lt, n32_eq, n32_nat, gdn, gd_T, inbT, bd_y, bd2_y, ifp, ifn, not_true_eq_false, not_false_eq_true, and_self, true_and, and_true, false_and, and_false, or_self, true_or, or_true, false_or, or_false, wA_s, wL_s, sA_same, sL_same, sA_L, sL_A, sA_I, sL_I, wI_A, wI_L, wI_same, sA_sA, sL_sL, sA_ne, sL_ne, wI_ne]
  obtain ⟨e1, e2⟩ := h.h5 (Or.inr t)
  obtain ⟨fu, s2, ⟨gs, rfl, hs2, hs3⟩, e⟩ := upe (fun fu j s => F_lookAt_L91 fu (n32 l) (n32 k) (n32 c) (n32 j) s) 0 (sl x).length
    (fun m s' => ∃ gs, s' = sA (sL σ 43 g) 48 gs ∧ MSn (gs (l + 1)) (fun p => if (sl x).idxOf p < m then ((c >>> (sl x).idxOf p) &&& 1) + 1 else s p) ∧ ∀ j, j ≠ l + 1 → gs j = mA σ 48 j)
    (by
      rintro fu m s' - hm ⟨gs, rfl, ⟨u, u1, u2, u3⟩, hs3⟩
      have e3 := e2 m hm
      have h8 : (sl x).getD m 0 < 8 := o9.2.2.2 _ (by rw [getD_of_lt hm]; exact List.getElem_mem hm)
      obtain ⟨u', w1, w2, w3⟩ := pack_L (c := (c >>> m) &&& 1) u2 h8 (and1_lt c m)
      simp only [F_lookAt_L91]
      simp (disch := omega) only [↓reduceIte, ↓lt_y, leT, leF, ltT, ltF, eqT, eqF, n32_lit, n32_add, n32_mul, n32_sub, n32_le, n32_lt, n32_eq, n32_nat, gdn, gd_T, inbT, bd_y, bd2_y, ifp, ifn, not_true_eq_false, not_false_eq_true, and_self, true_and, and_true, false_and, and_false, or_self, true_or, or_true, false_or, or_false, wA_s, wL_s, sA_same, sL_same, sA_L, sL_A, sA_I, sL_I, wI_A, wI_L, wI_same, sA_sA, sL_sL, sA_ne, sL_ne, wI_ne, e1, e3, u1, n32_bit]
      rw [w1]
      refine ⟨_, rfl, _, rfl, ⟨u', by simp only [up0, if_true], w2, fun p hp => ?_⟩, fun j hj => ?_⟩
      · rw [w3 p hp]
        dsimp only
        by_cases q : p = (sl x).getD m 0
        · have hidx : (sl x).idxOf p = m := by rw [q]; exact idx_get o9.2.2.1 hm
          rw [ifp q, hidx, ifp (by omega)]
        · have hidx : (sl x).idxOf p ≠ m := fun z => q (by rw [← z]; exact (get_idx (List.idxOf_lt_length_iff.mp (by omega))).symm)
          rw [ifn q, u3 p hp]
          dsimp only
          by_cases q2 : (sl x).idxOf p < m
          · rw [ifp q2, ifp (by omega)]
          · rw [ifn q2, ifn (by omega)]
      · simp only [up0]
        rw [ifn hj]
        exact hs3 j hj)
    (sL σ 43 g) MN (by omega) (by omega) ⟨mA σ 48, (sA_id _ _).symm, by
      obtain ⟨u, u1, u2, u3⟩ := hs
      exact ⟨u, u1, u2, fun p hp => by dsimp only; rw [ifn (by omega)]; exact u3 p hp⟩, fun j _ => rfl⟩
  refine ⟨_, e.trans ?_, (Fr.sL σ 43 g).tr (Fr.sA _ 48 gs) (by simp) (by simp) (by simp), ?_, ?_, ?_, ?_⟩
  · simp only [F_lookAt_L91]
    simp (disch := omega) only [↓reduceIte, ↓lt_y, leT, leF, ltT, ltF, eqT, eqF, n32_lit, n32_add, n32_mul, n32_sub, n32_le, n32_lt, n32_eq, n32_nat, gdn, gd_T, inbT, bd_y, bd2_y, ifp, ifn, not_true_eq_false, not_false_eq_true, and_self, true_and, and_true, false_and, and_false, or_self, true_or, or_true, false_or, or_false, wA_s, wL_s, sA_same, sL_same, sA_L, sL_A, sA_I, sL_I, wI_A, wI_L, wI_same, sA_sA, sL_sL, sA_ne, sL_ne, wI_ne, e1]
  · intro i q hi hq
    rw [sA_L, sL_same]
    exact hg i q hi hq
  · intro j hj
    rw [sA_L, sL_same]
    exact hg2 j hj
  · rw [sA_same]
    obtain ⟨u, u1, u2, u3⟩ := hs2
    refine ⟨u, u1, u2, fun p hp => ?_⟩
    rw [u3 p hp, seeS]
    dsimp only
    by_cases q : p ∈ sl x
    · rw [ifp q, ifp (List.idxOf_lt_length_of_mem q)]
    · rw [ifn q, ifn (fun z => q (List.idxOf_lt_length_iff.mp z))]
  · intro j hj
    rw [sA_same]
    exact hs3 j hj
theorem mtc_2 {md : Md} {x : Stq} {kn : Option Nat} {w c : Nat} (h : md.1 = 2) : mtc md x kn w c = true ↔ w = c := by
  unfold mtc; rw [ifp h]; simp
theorem mtc_1 {md : Md} {x : Stq} {p w c : Nat} (h : md.1 ≠ 2) : mtc md x (some p) w c = true ↔ sto x w p = c := by
  unfold mtc; rw [ifn h]; simp
/-- the parts of a move -/
theorem part_L {σ : MS} {b N l k c : Nat} {x : Stq} {md : Md} {v : Lv} (k211 : Int32 → MS → Option (Int32 × MS)) (hl : l < 15) (hB : MB σ b N) (hk : k < 104) (h : MStp σ k x) (ho : okS x) (ht : 2 ≤ sT x ∧ sT x ≤ 7) (hM : MMd σ md) (hc : c < 256) (hv : LV σ l v) (hok : okV N v)
    (hsn : md.1 = 2 ∨ (md.1 = 1 ∧ vK v ≠ none)) (h0 : LD σ (l + 1) (fun _ _ => 0)) (hk1 : mA σ 47 (l + 1) = kn32 (vK v)) :
    ∃ τ, F_descend_L131 k211 MN (n32 l) (n32 k) (n32 c) (n32 (l + 1)) (n32 0) σ = k211 (n32 (l + 1)) τ ∧ Fr [] [41, 42, 47] [43] σ τ ∧ LD τ (l + 1) (vD (chP md x c v)) ∧ (∀ j, (j < 2048 * (l + 1) ∨ 2048 * (l + 1) + 2048 ≤ j) → mL τ 43 j = mL σ 43 j) ∧
      (∀ j, j ≠ l + 1 → mA τ 47 j = mA σ 47 j) ∧ ((∃ w, w < wys x ∧ mtc md x (vK v) w c = true) → mA τ 47 (l + 1) = kn32 (vK (chP md x c v))) := by
  have hMN := MN_gt
  have hwb := wys_b ho
  have hn := need_le ho
  obtain ⟨m1, m2, -⟩ := id hM
  obtain ⟨fu, s, ⟨f1, f2, f3, f4, f5⟩, e⟩ := upe (fun fu w s => F_descend_L131 k211 fu (n32 l) (n32 k) (n32 c) (n32 (l + 1)) (n32 w) s) 0 (wys x)
    (fun w s => Fr [] [41, 42, 47] [43] σ s ∧ LD s (l + 1) (fun i q => sm w fun w' => if mtc md x (vK v) w' c then mvD (sfr x w') (vD v) i q else 0) ∧ (∀ j, (j < 2048 * (l + 1) ∨ 2048 * (l + 1) + 2048 ≤ j) → mL s 43 j = mL σ 43 j) ∧
      (∀ j, j ≠ l + 1 → mA s 47 j = mA σ 47 j) ∧ ((md.1 ≠ 1 → mA s 47 (l + 1) = kn32 (vK v)) ∧ ((∃ w', w' < w ∧ mtc md x (vK v) w' c = true) → md.1 = 1 → mA s 47 (l + 1) = n32 c)))
    (by
      rintro fu w s - hw ⟨f1, f2, f3, f4, f5, f6⟩
      have hs' := h.fr f1 (by intro j h1 h2; simp; omega)
      have hB' := hB.fr f1 (by simp) (by simp)
      have hM' := hM.fr f1 (by simp) (by simp) (by simp)
      obtain ⟨g, hh, e2, hg⟩ := layMove_L hk hs' ho ht w hw
      have fr2 : Fr [] [41, 42] [] s (sA (sA s 42 hh) 41 g) := (Fr.sA s 42 hh).tr (Fr.sA _ 41 g) (by simp) (by simp) (by simp)
      generalize hτ : sA (sA s 42 hh) 41 g = τ at e2 fr2
      have hg41 : ∀ p, p < 8 → mA τ 41 p = n32 (sfr x w p) := fun p hp => by rw [← hτ, sA_same]; exact hg p hp
      have hD1 : LD τ l (vD v) := by
        intro i q hi hq
        rw [fr2.2.2 43 (by simp), f3 _ (by omega)]
        exact hv.1 i q hi hq
      have fr3 : Fr [] [41, 42, 47] [43] σ τ := f1.tr fr2 (by simp) (by simp <;> omega) (by simp)
      have t51 : mI τ 51 = n32 md.1 := by rw [fr3.1 51 (by simp)]; exact m1
      have t47 : mA τ 47 l = kn32 (vK v) := by rw [fr2.2.1 47 (by simp), f4 l (by omega)]; exact hv.2.2.2.1
      -- whether the way matches
      have key : Ok (F_descend_L131 k211 (fu + 1) (n32 l) (n32 k) (n32 c) (n32 (l + 1)) (n32 w) s) (fun _ => True) ∨ True := Or.inr trivial
      have unf : F_descend_L131 k211 (fu + 1) (n32 l) (n32 k) (n32 c) (n32 (l + 1)) (n32 w) s = (if mtc md x (vK v) w c = true then F_descend_b182 (F_descend_b205 (F_descend_L131 k211 fu)) (n32 l) (n32 k) (n32 c) (n32 (l + 1)) (n32 w) τ else F_descend_b205 (F_descend_L131 k211 fu) (n32 l) (n32 k) (n32 c) (n32 (l + 1)) (n32 w) τ) := by
        rw [F_descend_L131, ways_L hk hs' ho]
        simp only [bd_y]
        rw [ifn (by simp (disch := omega) only [↓reduceIte, ↓lt_y, leT, leF, ltT, ltF, eqT, eqF, n32_lit, n32_add, n32_mul, n32_sub, n32_le, n32_lt, n32_eq, n32_nat, gdn, gd_T, inbT, bd_y, bd2_y, ifp, ifn, not_true_eq_false, not_false_eq_true, and_self, true_and, and_true, false_and, and_false, or_self, true_or, or_true, false_or, or_false, wA_s, wL_s, sA_same, sL_same, sA_L, sL_A, sA_I, sL_I, wI_A, wI_L, wI_same, sA_sA, sL_sL, sA_ne, sL_ne, wI_ne]), e2]
        simp only [bd_y, t51]
        by_cases q2 : md.1 = 2
        · rw [ifp (by simp (disch := omega) only [↓reduceIte, ↓lt_y, leT, leF, ltT, ltF, eqT, eqF, n32_lit, n32_add, n32_mul, n32_sub, n32_le, n32_lt, n32_eq, n32_nat, gdn, gd_T, inbT, bd_y, bd2_y, ifp, ifn, not_true_eq_false, not_false_eq_true, and_self, true_and, and_true, false_and, and_false, or_self, true_or, or_true, false_or, or_false, wA_s, wL_s, sA_same, sL_same, sA_L, sL_A, sA_I, sL_I, wI_A, wI_L, wI_same, sA_sA, sL_sL, sA_ne, sL_ne, wI_ne])]
          by_cases q3 : w = c
          · rw [ifp (by simp (disch := omega) only [↓reduceIte, ↓lt_y, leT, leF, ltT, ltF, eqT, eqF, n32_lit, n32_add, n32_mul, n32_sub, n32_le, n32_lt, n32_eq, n32_nat, gdn, gd_T, inbT, bd_y, bd2_y, ifp, ifn, not_true_eq_false, not_false_eq_true, and_self, true_and, and_true, false_and, and_false, or_self, true_or, or_true, false_or, or_false, wA_s, wL_s, sA_same, sL_same, sA_L, sL_A, sA_I, sL_I, wI_A, wI_L, wI_same, sA_sA, sL_sL, sA_ne, sL_ne, wI_ne]), ifp ((mtc_2 q2).mpr q3)]
          · rw [ifn (by simp (disch := omega) only [↓reduceIte, ↓lt_y, leT, leF, ltT, ltF, eqT, eqF, n32_lit, n32_add, n32_mul, n32_sub, n32_le, n32_lt, n32_eq, n32_nat, gdn, gd_T, inbT, bd_y, bd2_y, ifp, ifn, not_true_eq_false, not_false_eq_true, and_self, true_and, and_true, false_and, and_false, or_self, true_or, or_true, false_or, or_false, wA_s, wL_s, sA_same, sL_same, sA_L, sL_A, sA_I, sL_I, wI_A, wI_L, wI_same, sA_sA, sL_sL, sA_ne, sL_ne, wI_ne]), ifn (fun z => q3 ((mtc_2 q2).mp z))]
        · have q1 : md.1 = 1 := by omega
          cases hkn : vK v with
          | none => rw [hkn] at hsn; simp at hsn; omega
          | some p =>
            have hp := hok.2.2.1 p hkn
            have hc8 := hok.1
            have hsp := ((sfr_ok ho hw p).2.2 8 hn (by omega)).2
            have zl := n32_nat (a := l) (by omega)
            rw [hkn] at t47
            rw [ifn (by simp (disch := omega) only [↓reduceIte, ↓lt_y, leT, leF, ltT, ltF, eqT, eqF, n32_lit, n32_add, n32_mul, n32_sub, n32_le, n32_lt, n32_eq, n32_nat, gdn, gd_T, inbT, bd_y, bd2_y, ifp, ifn, not_true_eq_false, not_false_eq_true, and_self, true_and, and_true, false_and, and_false, or_self, true_or, or_true, false_or, or_false, wA_s, wL_s, sA_same, sL_same, sA_L, sL_A, sA_I, sL_I, wI_A, wI_L, wI_same, sA_sA, sL_sL, sA_ne, sL_ne, wI_ne]), gd_y (n32_inb (by omega)), zl, t47]
            simp only [kn32]
            rw [movedPlace_L ho hw hg41 p (by omega) hn]
            simp only [bd_y]
            by_cases q3 : sto x w p = c
            · rw [ifp (by simp (disch := omega) only [↓reduceIte, ↓lt_y, leT, leF, ltT, ltF, eqT, eqF, n32_lit, n32_add, n32_mul, n32_sub, n32_le, n32_lt, n32_eq, n32_nat, gdn, gd_T, inbT, bd_y, bd2_y, ifp, ifn, not_true_eq_false, not_false_eq_true, and_self, true_and, and_true, false_and, and_false, or_self, true_or, or_true, false_or, or_false, wA_s, wL_s, sA_same, sL_same, sA_L, sL_A, sA_I, sL_I, wI_A, wI_L, wI_same, sA_sA, sL_sL, sA_ne, sL_ne, wI_ne]), ifp ((mtc_1 q2).mpr q3)]
            · rw [ifn (by simp (disch := omega) only [↓reduceIte, ↓lt_y, leT, leF, ltT, ltF, eqT, eqF, n32_lit, n32_add, n32_mul, n32_sub, n32_le, n32_lt, n32_eq, n32_nat, gdn, gd_T, inbT, bd_y, bd2_y, ifp, ifn, not_true_eq_false, not_false_eq_true, and_self, true_and, and_true, false_and, and_false, or_self, true_or, or_true, false_or, or_false, wA_s, wL_s, sA_same, sL_same, sA_L, sL_A, sA_I, sL_I, wI_A, wI_L, wI_same, sA_sA, sL_sL, sA_ne, sL_ne, wI_ne]), ifn (fun z => q3 ((mtc_1 q2).mp z))]
      rw [unf]
      by_cases qm : mtc md x (vK v) w c = true
      · rw [ifp qm]
        obtain ⟨g2, e3, hg2, hg3⟩ := sendAll_L τ l (l + 1) b N (by omega) (by omega) (by omega) (hB'.fr fr2 (by simp) (by simp)) (sfr x w) (fun p hp => ⟨hg41 p hp, ((sfr_ok ho hw p).2.2 8 hn hp).1⟩) (vD v) hD1
        have hLD : ∀ i q, i < 8 → q < 256 → g2 (2048 * (l + 1) + 256 * i + q) = e64 (sm (w + 1) fun w' => if mtc md x (vK v) w' c then mvD (sfr x w') (vD v) i q else 0) := by
          intro i q hi hq
          rw [hg2 i q hi hq, sm, e64_add]
          congr 1
          · rw [fr2.2.2 43 (by simp)]
            exact f2 i q hi hq
          · rw [ifp qm]
            congr 1
            by_cases z : i < N
            · rw [ifp z]
            · rw [ifn z]
              exact (sm_zero fun r hr => by
                have : vD v i r = 0 := Classical.byContradiction fun y => z (hok.2.1 i r y).1
                rw [this]; split <;> rfl).symm
        unfold F_descend_b182
        rw [e3]
        simp only [bd_y, sL_I, t51]
        by_cases q1 : md.1 = 1
        · rw [ifp (by simp (disch := omega) only [↓reduceIte, ↓lt_y, leT, leF, ltT, ltF, eqT, eqF, n32_lit, n32_add, n32_mul, n32_sub, n32_le, n32_lt, n32_eq, n32_nat, gdn, gd_T, inbT, bd_y, bd2_y, ifp, ifn, not_true_eq_false, not_false_eq_true, and_self, true_and, and_true, false_and, and_false, or_self, true_or, or_true, false_or, or_false, wA_s, wL_s, sA_same, sL_same, sA_L, sL_A, sA_I, sL_I, wI_A, wI_L, wI_same, sA_sA, sL_sL, sA_ne, sL_ne, wI_ne])]
          unfold F_descend_b205
          simp (disch := omega) only [↓reduceIte, ↓lt_y, leT, leF, ltT, ltF, eqT, eqF, n32_lit, n32_add, n32_mul, n32_sub, n32_le, n32_lt, n32_eq, n32_nat, gdn, gd_T, inbT, bd_y, bd2_y, ifp, ifn, not_true_eq_false, not_false_eq_true, and_self, true_and, and_true, false_and, and_false, or_self, true_or, or_true, false_or, or_false, wA_s, wL_s, sA_same, sL_same, sA_L, sL_A, sA_I, sL_I, wI_A, wI_L, wI_same, sA_sA, sL_sL, sA_ne, sL_ne, wI_ne]
          refine ⟨_, rfl, ?_, ?_, ?_, ?_, ?_, ?_⟩
          · exact ((fr3.tr (Fr.sL τ 43 g2) (js := []) (bs := [41, 42, 47]) (ms := [43]) (by simp) (by simp) (by simp))).tr (Fr.sA _ 47 _) (by simp) (by simp <;> omega) (by simp)
          · intro i q hi hq
            rw [sA_L, sL_same]; exact hLD i q hi hq
          · intro j hj
            rw [sA_L, sL_same, hg3 j hj, fr2.2.2 43 (by simp)]; exact f3 j hj
          · intro j hj
            rw [sA_same, up0, ifn hj, fr2.2.1 47 (by simp)]; exact f4 j hj
          · intro z; exact absurd q1 z
          · intro _ _
            rw [sA_same, up0, ifp rfl]
        · rw [ifn (by simp (disch := omega) only [↓reduceIte, ↓lt_y, leT, leF, ltT, ltF, eqT, eqF, n32_lit, n32_add, n32_mul, n32_sub, n32_le, n32_lt, n32_eq, n32_nat, gdn, gd_T, inbT, bd_y, bd2_y, ifp, ifn, not_true_eq_false, not_false_eq_true, and_self, true_and, and_true, false_and, and_false, or_self, true_or, or_true, false_or, or_false, wA_s, wL_s, sA_same, sL_same, sA_L, sL_A, sA_I, sL_I, wI_A, wI_L, wI_same, sA_sA, sL_sL, sA_ne, sL_ne, wI_ne])]
          unfold F_descend_b205
          simp (disch := omega) only [↓reduceIte, ↓lt_y, leT, leF, ltT, ltF, eqT, eqF, n32_lit, n32_add, n32_mul, n32_sub, n32_le, n32_lt, n32_eq, n32_nat, gdn, gd_T, inbT, bd_y, bd2_y, ifp, ifn, not_true_eq_false, not_false_eq_true, and_self, true_and, and_true, false_and, and_false, or_self, true_or, or_true, false_or, or_false, wA_s, wL_s, sA_same, sL_same, sA_L, sL_A, sA_I, sL_I, wI_A, wI_L, wI_same, sA_sA, sL_sL, sA_ne, sL_ne, wI_ne]
          refine ⟨_, rfl, ?_, ?_, ?_, ?_, ?_, ?_⟩
          · exact fr3.tr (Fr.sL τ 43 g2) (by simp) (by simp) (by simp)
          · intro i q hi hq
            rw [sL_same]; exact hLD i q hi hq
          · intro j hj
            rw [sL_same, hg3 j hj, fr2.2.2 43 (by simp)]; exact f3 j hj
          · intro j hj
            rw [sL_A, fr2.2.1 47 (by simp)]; exact f4 j hj
          · intro z
            rw [sL_A, fr2.2.1 47 (by simp)]; exact f5 z
          · intro _ z; first | exact absurd z q1 | exact z.elim
      · rw [ifn qm]
        unfold F_descend_b205
        simp (disch := omega) only [↓reduceIte, ↓lt_y, leT, leF, ltT, ltF, eqT, eqF, n32_lit, n32_add, n32_mul, n32_sub, n32_le, n32_lt, n32_eq, n32_nat, gdn, gd_T, inbT, bd_y, bd2_y, ifp, ifn, not_true_eq_false, not_false_eq_true, and_self, true_and, and_true, false_and, and_false, or_self, true_or, or_true, false_or, or_false, wA_s, wL_s, sA_same, sL_same, sA_L, sL_A, sA_I, sL_I, wI_A, wI_L, wI_same, sA_sA, sL_sL, sA_ne, sL_ne, wI_ne]
        refine ⟨_, rfl, fr3, ?_, ?_, ?_, ?_, ?_⟩
        · intro i q hi hq
          show mL τ 43 _ = e64 (sm (w + 1) fun w' => if mtc md x (vK v) w' c then mvD (sfr x w') (vD v) i q else 0)
          rw [fr2.2.2 43 (by simp), sm, ifn qm, Nat.add_zero]
          exact f2 i q hi hq
        · intro j hj
          rw [fr2.2.2 43 (by simp)]; exact f3 j hj
        · intro j hj
          rw [fr2.2.1 47 (by simp)]; exact f4 j hj
        · intro z
          rw [fr2.2.1 47 (by simp)]; exact f5 z
        · rintro ⟨w', hw', hm'⟩ z
          rw [fr2.2.1 47 (by simp)]
          refine f6 ⟨w', ?_, hm'⟩ z
          by_cases y : w' = w
          · subst y; exact absurd hm' qm
          · omega)
    σ MN (by omega) (by omega) ⟨Fr.rf.mono (by simp) (by simp) (by simp), fun i q hi hq => h0 i q hi hq, fun j _ => rfl, fun j _ => rfl, fun _ => hk1, fun ⟨w, hw, _⟩ => by omega⟩
  refine ⟨s, e.trans ?_, f1, f2, f3, f4, fun hm => ?_⟩
  · have hs' := h.fr f1 (by intro j h1 h2; simp; omega)
    rw [F_descend_L131, ways_L hk hs' ho]
    simp only [bd_y]
    rw [ifp (by simp (disch := omega) only [↓reduceIte, ↓lt_y, leT, leF, ltT, ltF, eqT, eqF, n32_lit, n32_add, n32_mul, n32_sub, n32_le, n32_lt, n32_eq, n32_nat, gdn, gd_T, inbT, bd_y, bd2_y, ifp, ifn, not_true_eq_false, not_false_eq_true, and_self, true_and, and_true, false_and, and_false, or_self, true_or, or_true, false_or, or_false, wA_s, wL_s, sA_same, sL_same, sA_L, sL_A, sA_I, sL_I, wI_A, wI_L, wI_same, sA_sA, sL_sL, sA_ne, sL_ne, wI_ne])]
  · show mA s 47 (l + 1) = kn32 (if md.1 = 1 then some c else vK v)
    by_cases q1 : md.1 = 1
    · rw [ifp q1]; exact f5.2 hm q1
    · rw [ifn q1]; exact f5.1 q1
theorem wgt_match {md : Md} {x : Stq} {c : Nat} {v : Lv} (h : wgt (chP md x c v) ≠ 0) : ∃ w, w < wys x ∧ mtc md x (vK v) w c = true := by
  obtain ⟨i, r, hi, hr, h⟩ := wgt_ne.mp h
  obtain ⟨w, hw, h⟩ := sm_ne (show sm (wys x) (fun w => if mtc md x (vK v) w c then mvD (sfr x w) (vD v) i r else 0) ≠ 0 from h)
  refine ⟨w, hw, ?_⟩
  by_cases q : mtc md x (vK v) w c = true
  · exact q
  · rw [ifn q] at h; exact absurd rfl h
theorem descend_L {σ : MS} {b N l c : Nat} {xs : List Stq} {md : Md} {x : Stq} {v : Lv} (hl : l < 15) (hB : MB σ b N) (hX : MSteps σ b xs) (ho : okX xs) (hM : MMd σ md) (hv : LV σ l v) (hok : okV N v) (hx : xs[vP v]? = some x) (ht : sT x = 8 ∨ (2 ≤ sT x ∧ sT x ≤ 7 ∧ seenS xs md x v)) (hc : c < 256) (hch : mA σ 50 l = n32 c)
    (hb : ∀ i r, r < 256 → vD (chS N md x c v) i r < 9223372036854775808) :
    ∃ τ, F_descend (n32 l) σ = some (b32 (wgt (chS N md x c v) ≠ 0), τ) ∧ Fr [] [41, 42, 45, 46, 47, 48] [43, 44] σ τ ∧ OL (l + 1) σ τ ∧ (wgt (chS N md x c v) ≠ 0 → LV τ (l + 1) (chS N md x c v)) := by
  have hlt : vP v < xs.length := (List.getElem?_eq_some_iff.mp hx).1
  have hbb := hB.2.1
  have h40 := ho.1
  have hs := hX.2 _ x hx
  have hox := (ho.2 _ x hx).1
  have hT := hox.o12
  have hwb := wys_b hox
  obtain ⟨v1, v2, v3, v4, v5, v6⟩ := id hv
  have zl := n32_nat (a := l) (by omega)
  have zl1 := n32_nat (a := l + 1) (by omega)
  have zk := n32_nat (a := 52 * b + vP v) (by omega)
  unfold F_descend
  rw [gd_y (n32_inb (by omega))]
  simp only [zl]
  rw [hB.1, v2, show (52 : Int32) * n32 b + n32 (vP v) = n32 (52 * b + vP v) from by simp (disch := omega) only [↓reduceIte, ↓lt_y, leT, leF, ltT, ltF, eqT, eqF, n32_lit, n32_add, n32_mul, n32_sub, n32_le, n32_lt, n32_eq, n32_nat, gdn, gd_T, inbT, bd_y, bd2_y, ifp, ifn, not_true_eq_false, not_false_eq_true, and_self, true_and, and_true, false_and, and_false, or_self, true_or, or_true, false_or, or_false, wA_s, wL_s, sA_same, sL_same, sA_L, sL_A, sA_I, sL_I, wI_A, wI_L, wI_same, sA_sA, sL_sL, sA_ne, sL_ne, wI_ne]]
  simp only [↓lt_y, hch]
  rw [gd_y (n32_inb (by omega)), show n32 l + (1 : Int32) = n32 (l + 1) from by simp (disch := omega) only [↓reduceIte, ↓lt_y, leT, leF, ltT, ltF, eqT, eqF, n32_lit, n32_add, n32_mul, n32_sub, n32_le, n32_lt, n32_eq, n32_nat, gdn, gd_T, inbT, bd_y, bd2_y, ifp, ifn, not_true_eq_false, not_false_eq_true, and_self, true_and, and_true, false_and, and_false, or_self, true_or, or_true, false_or, or_false, wA_s, wL_s, sA_same, sL_same, sA_L, sL_A, sA_I, sL_I, wI_A, wI_L, wI_same, sA_sA, sL_sL, sA_ne, sL_ne, wI_ne], clearDist_L σ (l + 1) (by omega)]
  simp only [bd_y]
  simp only [zl1, zk]
  rw [gd_y (n32_inb (by omega)), gd_y (n32_inb (by omega)), gd_y (n32_inb (by omega)), gd_y (n32_inb (by omega)), gd_y (n32_inb (by omega)), gd_y (n32_inb (by omega)), gd_y (n32_inb (by omega)), gd_y (n32_inb (by omega)), gd_y (n32_inb (by omega))]
  generalize h1 : sL σ 43 (fun j => if 2048 * (l + 1) ≤ j ∧ j < 2048 * (l + 1) + 2048 then 0 else mL σ 43 j) = τ1
  generalize h2 : wA (wA (wA (wA τ1 45 (l + 1) (mA τ1 45 l + 1)) 46 (l + 1) (mA (wA τ1 45 (l + 1) (mA τ1 45 l + 1)) 46 l)) 47 (l + 1) (mA (wA (wA τ1 45 (l + 1) (mA τ1 45 l + 1)) 46 (l + 1) (mA (wA τ1 45 (l + 1) (mA τ1 45 l + 1)) 46 l)) 47 l)) 48 (l + 1) (mA (wA (wA (wA τ1 45 (l + 1) (mA τ1 45 l + 1)) 46 (l + 1) (mA (wA τ1 45 (l + 1) (mA τ1 45 l + 1)) 46 l)) 47 (l + 1) (mA (wA (wA τ1 45 (l + 1) (mA τ1 45 l + 1)) 46 (l + 1) (mA (wA τ1 45 (l + 1) (mA τ1 45 l + 1)) 46 l)) 47 l)) 48 l) = τ2
  have c1 : Fr [] [] [43] σ τ1 := h1 ▸ Fr.sL σ 43 _
  have c2 : Fr [] [45, 46, 47, 48] [] τ1 τ2 := by
    rw [← h2]
    refine ⟨fun _ _ => rfl, fun k hk => ?_, fun _ _ => rfl⟩
    simp at hk
    simp (disch := omega) only [wA_s, sA_ne]
  have e45 : mA τ2 45 = up0 (mA σ 45) (l + 1) (n32 (vP v + 1)) := by
    rw [← h2]
    simp (disch := omega) only [wA_s, sA_ne, sA_same, c1.2.1 45 (by simp), v2]
    simp (disch := omega) only [↓reduceIte, ↓lt_y, leT, leF, ltT, ltF, eqT, eqF, n32_lit, n32_add, n32_mul, n32_sub, n32_le, n32_lt, n32_eq, n32_nat, gdn, gd_T, inbT, bd_y, bd2_y, ifp, ifn, not_true_eq_false, not_false_eq_true, and_self, true_and, and_true, false_and, and_false, or_self, true_or, or_true, false_or, or_false, wA_s, wL_s, sA_same, sL_same, sA_L, sL_A, sA_I, sL_I, wI_A, wI_L, wI_same, sA_sA, sL_sL, sA_ne, sL_ne, wI_ne]
  have e46 : mA τ2 46 = up0 (mA σ 46) (l + 1) (n32 (vC v)) := by
    rw [← h2]
    simp (disch := omega) only [wA_s, sA_ne, sA_same, c1.2.1 46 (by simp), v3]
  have e47 : mA τ2 47 = up0 (mA σ 47) (l + 1) (kn32 (vK v)) := by
    rw [← h2]
    simp (disch := omega) only [wA_s, sA_ne, sA_same, c1.2.1 47 (by simp), v4]
  have e48 : mA τ2 48 = up0 (mA σ 48) (l + 1) (mA σ 48 l) := by
    rw [← h2]
    simp (disch := omega) only [wA_s, sA_ne, sA_same, c1.2.1 48 (by simp)]
  have c3 : Fr [] [45, 46, 47, 48] [43] σ τ2 := c1.tr c2 (by simp) (by simp <;> omega) (by simp)
  have hs2 := hs.fr c3 (by intro j h1 h2; simp; omega)
  rw [ways_L (by omega) hs2 hox]
  simp only [bd_y]
  rw [gd_y (n32_inb (by omega)), gd_y (n32_inb (by omega)), n32_e64 (by omega), show mL τ2 44 l = e64 (vW v) from by rw [c3.2.2 44 (by simp)]; exact v6, ← e64_mul, wL_s]
  generalize h3 : sL τ2 44 (up0 (mL τ2 44) (l + 1) (e64 (vW v * wys x))) = τ3
  have c4 : Fr [] [] [44] τ2 τ3 := h3 ▸ Fr.sL τ2 44 _
  have c5 : Fr [] [45, 46, 47, 48] [43, 44] σ τ3 := c3.tr c4 (by simp) (by simp) (by simp <;> omega)
  have hs3 := hs.fr c5 (by intro j h1 h2; simp; omega)
  have hB3 := hB.fr c5 (by simp) (by simp)
  have hM3 := hM.fr c5 (by simp) (by simp) (by simp)
  have g43 : ∀ j, (j < 2048 * (l + 1) ∨ 2048 * (l + 1) + 2048 ≤ j) → mL τ3 43 j = mL σ 43 j := by
    intro j hj
    rw [c4.2.2 43 (by simp), c2.2.2 43 (by simp), ← h1, sL_same, ifn (by omega)]
  have z43 : LD τ3 (l + 1) (fun _ _ => 0) := by
    intro i q hi hq
    rw [c4.2.2 43 (by simp), c2.2.2 43 (by simp), ← h1, sL_same, ifp (by omega)]
    rfl
  have f45 : mA τ3 45 = up0 (mA σ 45) (l + 1) (n32 (vP v + 1)) := by rw [c4.2.1 45 (by simp)]; exact e45
  have f46 : mA τ3 46 = up0 (mA σ 46) (l + 1) (n32 (vC v)) := by rw [c4.2.1 46 (by simp)]; exact e46
  have f47 : mA τ3 47 = up0 (mA σ 47) (l + 1) (kn32 (vK v)) := by rw [c4.2.1 47 (by simp)]; exact e47
  have f48 : mA τ3 48 = up0 (mA σ 48) (l + 1) (mA σ 48 l) := by rw [c4.2.1 48 (by simp)]; exact e48
  have f44 : mL τ3 44 = up0 (mL σ 44) (l + 1) (e64 (vW v * wys x)) := by rw [← h3, sL_same, c3.2.2 44 (by simp)]
  have hv3 : LV τ3 l v := by
    refine ⟨fun i q hi hq => ?_, ?_, ?_, ?_, ?_, ?_⟩
    · rw [g43 _ (by omega)]; exact v1 i q hi hq
    · rw [f45, up0, ifn (by omega)]; exact v2
    · rw [f46, up0, ifn (by omega)]; exact v3
    · rw [f47, up0, ifn (by omega)]; exact v4
    · rw [f48, up0, ifn (by omega)]; exact v5
    · rw [f44, up0, ifn (by omega)]; exact v6
  have t22 := hs3.h1
  rw [t22]
  by_cases t8 : sT x = 8
  · have ech : chS N md x c v = chO N x c v := by unfold chS; rw [ifp t8]
    rw [ech] at hb ⊢
    rw [ifp (by simp (disch := omega) only [↓reduceIte, ↓lt_y, leT, leF, ltT, ltF, eqT, eqF, n32_lit, n32_add, n32_mul, n32_sub, n32_le, n32_lt, n32_eq, n32_nat, gdn, gd_T, inbT, bd_y, bd2_y, ifp, ifn, not_true_eq_false, not_false_eq_true, and_self, true_and, and_true, false_and, and_false, or_self, true_or, or_true, false_or, or_false, wA_s, wL_s, sA_same, sL_same, sA_L, sL_A, sA_I, sL_I, wI_A, wI_L, wI_same, sA_sA, sL_sL, sA_ne, sL_ne, wI_ne])]
    obtain ⟨τ, d1, d2, d3, d4, d5, d6⟩ := lookAt_L (N := N) (D := vD v) (s := vS v) hl hB3 (by omega : 52 * b + vP v < 104) hs3 hox t8 hc hv3.1 z43 (by rw [f48, up0, ifp rfl]; exact v5)
    rw [d1]
    simp only [bd_y]
    unfold F_descend_b211
    have hLV : LV τ (l + 1) (chO N x c v) := by
      refine ⟨d3, ?_, ?_, ?_, d5, ?_⟩
      · rw [d2.2.1 45 (by simp), f45, up0, ifp rfl]; rfl
      · rw [d2.2.1 46 (by simp), f46, up0, ifp rfl]; rfl
      · rw [d2.2.1 47 (by simp), f47, up0, ifp rfl]; rfl
      · rw [d2.2.2 44 (by simp), f44, up0, ifp rfl]; rfl
    rw [isAny_L (v := chO N x c v) (by omega) d3 hb]
    simp only [bd_y]
    rw [gd_y (by unfold b32; split <;> decide)]
    refine ⟨τ, rfl, c5.tr d2 (by simp) (by simp <;> omega) (by simp <;> omega), ⟨fun j hj => ?_, fun j hj => ⟨?_, ?_, ?_, ?_, ?_⟩⟩, fun _ => hLV⟩
    · rw [d4 j hj.1, g43 j hj.1]
    · rw [d2.2.1 45 (by simp), f45, up0, ifn hj]
    · rw [d2.2.1 46 (by simp), f46, up0, ifn hj]
    · rw [d2.2.1 47 (by simp), f47, up0, ifn hj]
    · rw [d6 j hj, f48, up0, ifn hj]
    · rw [d2.2.2 44 (by simp), f44, up0, ifn hj]
  · have ech : chS N md x c v = chP md x c v := by unfold chS; rw [ifn t8]
    rw [ech] at hb ⊢
    have ht2 := ht.resolve_left t8
    have hsn : md.1 = 2 ∨ (md.1 = 1 ∧ vK v ≠ none) := ht2.2.2.2.elim (fun z => Or.inl z.1) Or.inr
    rw [ifn (by simp (disch := omega) only [↓reduceIte, ↓lt_y, leT, leF, ltT, ltF, eqT, eqF, n32_lit, n32_add, n32_mul, n32_sub, n32_le, n32_lt, n32_eq, n32_nat, gdn, gd_T, inbT, bd_y, bd2_y, ifp, ifn, not_true_eq_false, not_false_eq_true, and_self, true_and, and_true, false_and, and_false, or_self, true_or, or_true, false_or, or_false, wA_s, wL_s, sA_same, sL_same, sA_L, sL_A, sA_I, sL_I, wI_A, wI_L, wI_same, sA_sA, sL_sL, sA_ne, sL_ne, wI_ne])]
    obtain ⟨τ, d1, d2, d3, d4, d5, d6⟩ := part_L F_descend_b211 hl hB3 (by omega : 52 * b + vP v < 104) hs3 hox ⟨ht2.1, ht2.2.1⟩ hM3 hc hv3 hok hsn z43 (by rw [f47, up0, ifp rfl])
    rw [show (0 : Int32) = n32 0 from rfl, d1]
    unfold F_descend_b211
    rw [isAny_L (v := chP md x c v) (by omega) d3 hb]
    simp only [bd_y]
    rw [gd_y (by unfold b32; split <;> decide)]
    refine ⟨τ, rfl, c5.tr d2 (by simp) (by simp <;> omega) (by simp <;> omega), ⟨fun j hj => ?_, fun j hj => ⟨?_, ?_, ?_, ?_, ?_⟩⟩, fun hw => ⟨d3, ?_, ?_, d6 (wgt_match hw), ?_, ?_⟩⟩
    · rw [d4 j hj.1, g43 j hj.1]
    · rw [d2.2.1 45 (by simp), f45, up0, ifn hj]
    · rw [d2.2.1 46 (by simp), f46, up0, ifn hj]
    · rw [d5 j hj, f47, up0, ifn hj]
    · rw [d2.2.1 48 (by simp), f48, up0, ifn hj]
    · rw [d2.2.2 44 (by simp), f44, up0, ifn hj]
    · rw [d2.2.1 45 (by simp), f45, up0, ifp rfl]; rfl
    · rw [d2.2.1 46 (by simp), f46, up0, ifp rfl]; rfl
    · rw [d2.2.1 48 (by simp), f48, up0, ifp rfl]; exact v5
    · rw [d2.2.2 44 (by simp), f44, up0, ifp rfl]; rfl
