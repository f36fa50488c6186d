set_option maxRecDepth 100000
/-! THE REFERENCE: a game -/
/-- the game as it stands in the reference -/
def MG9 (σ : MS) (g : Pl) : Prop := mI σ 73 = yA g ∧ mI σ 74 = n32 (yS g) ∧ mI σ 75 = n32 (yR g) ∧ mI σ 76 = n32 (yC g) ∧ mI σ 72 = yW g ∧ ∀ j c, (yLk g)[j]? = some c → mA σ 78 j = n32 c
def okG (xs : List Stq) (pc : Nat) (g : Pl) : Prop := yS g ≤ pc ∧ yR g < 2 ^ yC g ∧ yC g ≤ 8 ∧ (∀ p, ySn g p ≤ 2) ∧ (yLk g).length ≤ cntO xs pc ∧ (∀ c ∈ yLk g, c < 256)
theorem colS_lt {x : Stq} (hl : (sl x).length ≤ 8) (r : Nat) : colS x r < 256 := by
  refine orr_lt _ 8 _ fun j hj => ?_
  have := and1_lt r ((sl x).getD j 0)
  rw [Nat.shiftLeft_eq]
  have h7 : 2 ^ j ≤ 2 ^ 7 := Nat.pow_le_pow_right (by omega) (by omega)
  calc _ ≤ 1 * 2 ^ 7 := Nat.mul_le_mul (by omega) h7
    _ < 2 ^ 8 := by decide
theorem draw_L {σ : MS} {n : Nat} (hn : 0 < n ∧ n < 1000) : F_draw (n32 n) σ = some (n32 (drv (drw (mI σ 72)) n), wI σ 72 (drw (mI σ 72))) := by
  unfold F_draw
  simp only [↓lt_y]
  rw [wI_same, gd_y (by simp (disch := omega) only [↓reduceIte, ↓lt_y, leT, leF, ltT, ltF, eqT, eqF, n32_lit, n32_add, n32_mul, n32_sub, n32_le, n32_lt, n32_eq, n32_nat, gdn, gd_T, inbT, bd_y, bd2_y, ifp, ifn, not_true_eq_false, not_false_eq_true, and_self, true_and, and_true, false_and, and_false, or_self, true_or, or_true, false_or, or_false, wA_s, wL_s, sA_same, sL_same, sA_L, sL_A, sA_I, sL_I, wI_A, wI_L, wI_same, sA_sA, sL_sL, sA_ne, sL_ne, wI_ne])]
  have e : ((drw (mI σ 72)).toUInt32 >>> ((16 : Int32).toUInt32 &&& (31 : Int32).toUInt32)).toInt32 = n32 ((drw (mI σ 72)).toUInt32.toNat >>> 16) := by
    generalize (drw (mI σ 72)).toUInt32 = u
    apply n32_ext
    rw [n32_bv]
    apply BitVec.eq_of_toNat_eq
    have h16 : ((16 : Int32).toUInt32 &&& (31 : Int32).toUInt32) = 16 := by decide
    rw [h16]
    show (u >>> 16).toNat = _
    rw [UInt32.toNat_shiftRight]
    have : u.toNat < 4294967296 := UInt32.toNat_lt u
    simp only [BitVec.toNat_ofNat]
    rw [Nat.mod_eq_of_lt (a := u.toNat >>> 16)]
    · rfl
    · exact Nat.lt_of_le_of_lt (Nat.shiftRight_le _ _) (by omega)
  have hlt : (drw (mI σ 72)).toUInt32.toNat >>> 16 < 65536 := by
    have : (drw (mI σ 72)).toUInt32.toNat < 4294967296 := UInt32.toNat_lt _
    rw [Nat.shiftRight_eq_div_pow]
    omega
  show some ((((drw (mI σ 72)).toUInt32 >>> ((16 : Int32).toUInt32 &&& (31 : Int32).toUInt32)).toInt32 - ((drw (mI σ 72)).toUInt32 >>> ((16 : Int32).toUInt32 &&& (31 : Int32).toUInt32)).toInt32 / n32 n * n32 n), wI σ 72 (drw (mI σ 72))) = _
  rw [e, n32_mod _ _ hn.1 (by omega) (by omega)]
  rfl
theorem pathOf_L {σ : MS} {R : Rc} (hP : MPt σ R) (h2 : (pths R).length ≤ 200) {lk : List Nat} (hl : lk.length ≤ 6) (hlk : ∀ j c, lk[j]? = some c → mA σ 78 j = n32 c) (hc : ∀ c ∈ lk, c < 256) (hkc : ∀ k, k < (pths R).length → ∀ c ∈ lfK ((pths R).getD k default), c < 256) :
    ∃ r, F_pathOf σ (n32 lk.length) = some r ∧ fstS (pths R).length (fun p => lfK ((pths R).getD p default) = lk) r := by
  have hMN := MN_gt
  obtain ⟨a1, a2, a3⟩ := hP.2 h2
  unfold F_pathOf
  rw [show (0 : Int32) = n32 0 from rfl]
  refine upf (fun fu p (_ : Unit) => F_pathOf_L2 σ fu (n32 lk.length) (n32 p)) 0 (pths R).length (fun p0 _ => ∀ p, p < p0 → lfK ((pths R).getD p default) ≠ lk) (fun o => ∃ r, o = some r ∧ fstS (pths R).length (fun p => lfK ((pths R).getD p default) = lk) r) ?_ ?_ () MN (Nat.zero_le _) (by omega) (fun p hp => by omega)
  · rintro fu p0 - - hp hno
    obtain ⟨⟨c1, c2, -⟩, c6⟩ := a3 p0 _ (pths_get hp)
    have hkc0 := hkc p0 hp
    have zp := n32_nat (a := p0) (by omega)
    generalize hK : lfK ((pths R).getD p0 default) = K at c1 c2 c6 hkc0
    try dsimp only
    rw [F_pathOf_L2, a2, ifn (by simp (disch := omega) only [↓reduceIte, ↓lt_y, leT, leF, ltT, ltF, eqT, eqF, n32_lit, n32_add, n32_mul, n32_sub, n32_le, n32_lt, n32_eq, n32_nat, gdn, gd_T, inbT, bd_y, bd2_y, ifp, ifn, not_true_eq_false, not_false_eq_true, and_self, true_and, and_true, false_and, and_false, or_self, true_or, or_true, false_or, or_false, wA_s, wL_s, sA_same, sL_same, sA_L, sL_A, sA_I, sL_I, wI_A, wI_L, wI_same, sA_sA, sL_sL, sA_ne, sL_ne, wI_ne]), gd_y (n32_inb (by omega)), zp, c1]
    -- the end of the inner loop
    have b73 : ∀ z : Nat, z < 2 → (z = 1 ↔ K = lk) → (∃ s' : Unit, F_pathOf_b73 σ (F_pathOf_L2 σ fu) (n32 lk.length) (n32 p0) (n32 z) = F_pathOf_L2 σ fu (n32 lk.length) (n32 (p0 + 1)) ∧ ∀ p, p < p0 + 1 → lfK ((pths R).getD p default) ≠ lk) ∨ ∃ r, F_pathOf_b73 σ (F_pathOf_L2 σ fu) (n32 lk.length) (n32 p0) (n32 z) = some r ∧ fstS (pths R).length (fun p => lfK ((pths R).getD p default) = lk) r := by
      intro z hz hiff
      unfold F_pathOf_b73
      by_cases q : z = 1
      · rw [ifn (by simp (disch := omega) only [↓reduceIte, ↓lt_y, leT, leF, ltT, ltF, eqT, eqF, n32_lit, n32_add, n32_mul, n32_sub, n32_le, n32_lt, n32_eq, n32_nat, gdn, gd_T, inbT, bd_y, bd2_y, ifp, ifn, not_true_eq_false, not_false_eq_true, and_self, true_and, and_true, false_and, and_false, or_self, true_or, or_true, false_or, or_false, wA_s, wL_s, sA_same, sL_same, sA_L, sL_A, sA_I, sL_I, wI_A, wI_L, wI_same, sA_sA, sL_sL, sA_ne, sL_ne, wI_ne])]
        exact Or.inr ⟨_, rfl, Or.inl ⟨p0, hp, by show lfK _ = lk; rw [hK]; exact hiff.mp q, hno, rfl⟩⟩
      · rw [ifp (by simp (disch := omega) only [↓reduceIte, ↓lt_y, leT, leF, ltT, ltF, eqT, eqF, n32_lit, n32_add, n32_mul, n32_sub, n32_le, n32_lt, n32_eq, n32_nat, gdn, gd_T, inbT, bd_y, bd2_y, ifp, ifn, not_true_eq_false, not_false_eq_true, and_self, true_and, and_true, false_and, and_false, or_self, true_or, or_true, false_or, or_false, wA_s, wL_s, sA_same, sL_same, sA_L, sL_A, sA_I, sL_I, wI_A, wI_L, wI_same, sA_sA, sL_sL, sA_ne, sL_ne, wI_ne])]
        simp only [↓lt_y]
        rw [show n32 p0 + (1 : Int32) = n32 (p0 + 1) from by simp (disch := omega) only [↓reduceIte, ↓lt_y, leT, leF, ltT, ltF, eqT, eqF, n32_lit, n32_add, n32_mul, n32_sub, n32_le, n32_lt, n32_eq, n32_nat, gdn, gd_T, inbT, bd_y, bd2_y, ifp, ifn, not_true_eq_false, not_false_eq_true, and_self, true_and, and_true, false_and, and_false, or_self, true_or, or_true, false_or, or_false, wA_s, wL_s, sA_same, sL_same, sA_L, sL_A, sA_I, sL_I, wI_A, wI_L, wI_same, sA_sA, sL_sL, sA_ne, sL_ne, wI_ne]]
        refine Or.inl ⟨(), rfl, fun p hp' => ?_⟩
        by_cases y : p = p0
        · rw [y, hK]; exact fun w => q (hiff.mpr w)
        · exact hno p (by omega)
    by_cases ql : K.length = lk.length
    · rw [ifp (by rw [ql])]
      unfold F_pathOf_b25
      rw [show (0 : Int32) = n32 0 from rfl, show (1 : Int32) = n32 1 from rfl]
      refine upf (fun fu2 j (z : Nat) => F_pathOf_L29 σ (F_pathOf_L2 σ fu) fu2 (n32 lk.length) (n32 p0) (n32 z) (n32 j)) 0 lk.length (fun j z => z < 2 ∧ (z = 1 ↔ ∀ i, i < j → K.getD i 0 = lk.getD i 0))
        (fun o => (∃ s' : Unit, o = F_pathOf_L2 σ fu (n32 lk.length) (n32 (p0 + 1)) ∧ ∀ p, p < p0 + 1 → lfK ((pths R).getD p default) ≠ lk) ∨ ∃ r, o = some r ∧ fstS (pths R).length (fun p => lfK ((pths R).getD p default) = lk) r) ?_ ?_ 1 MN (Nat.zero_le _) (by omega) ⟨by omega, by simp⟩
      · rintro fu2 j z - hj ⟨hz, hiff⟩
        try dsimp only
        rw [F_pathOf_L29, ifn (by simp (disch := omega) only [↓reduceIte, ↓lt_y, leT, leF, ltT, ltF, eqT, eqF, n32_lit, n32_add, n32_mul, n32_sub, n32_le, n32_lt, n32_eq, n32_nat, gdn, gd_T, inbT, bd_y, bd2_y, ifp, ifn, not_true_eq_false, not_false_eq_true, and_self, true_and, and_true, false_and, and_false, or_self, true_or, or_true, false_or, or_false, wA_s, wL_s, sA_same, sL_same, sA_L, sL_A, sA_I, sL_I, wI_A, wI_L, wI_same, sA_sA, sL_sL, sA_ne, sL_ne, wI_ne])]
        by_cases q : z = 1
        · have e1 := c2 j (by omega)
          have hlkj : lk[j]? = some (lk.getD j 0) := by rw [List.getD_eq_getElem?_getD, List.getElem?_eq_getElem hj]; rfl
          have e2 := hlk j _ hlkj
          have m1 : K.getD j 0 < 256 := hkc0 _ (by rw [getD_of_lt (by omega)]; exact List.getElem_mem _)
          have m2 : lk.getD j 0 < 256 := hc _ (List.mem_of_getElem? hlkj)
          rw [ifn (by simp (disch := omega) only [↓reduceIte, ↓lt_y, leT, leF, ltT, ltF, eqT, eqF, n32_lit, n32_add, n32_mul, n32_sub, n32_le, n32_lt, n32_eq, n32_nat, gdn, gd_T, inbT, bd_y, bd2_y, ifp, ifn, not_true_eq_false, not_false_eq_true, and_self, true_and, and_true, false_and, and_false, or_self, true_or, or_true, false_or, or_false, wA_s, wL_s, sA_same, sL_same, sA_L, sL_A, sA_I, sL_I, wI_A, wI_L, wI_same, sA_sA, sL_sL, sA_ne, sL_ne, wI_ne]), show (6 : Int32) * n32 p0 + n32 j = n32 (6 * p0 + j) from by simp (disch := omega) only [↓reduceIte, ↓lt_y, leT, leF, ltT, ltF, eqT, eqF, n32_lit, n32_add, n32_mul, n32_sub, n32_le, n32_lt, n32_eq, n32_nat, gdn, gd_T, inbT, bd_y, bd2_y, ifp, ifn, not_true_eq_false, not_false_eq_true, and_self, true_and, and_true, false_and, and_false, or_self, true_or, or_true, false_or, or_false, wA_s, wL_s, sA_same, sL_same, sA_L, sL_A, sA_I, sL_I, wI_A, wI_L, wI_same, sA_sA, sL_sL, sA_ne, sL_ne, wI_ne], gd_y (n32_inb (by omega)), gd_y (n32_inb (by omega)), n32_nat (by omega), n32_nat (by omega), e1, e2]
          unfold F_pathOf_b66
          simp only [↓lt_y]
          rw [show n32 j + (1 : Int32) = n32 (j + 1) from by simp (disch := omega) only [↓reduceIte, ↓lt_y, leT, leF, ltT, ltF, eqT, eqF, n32_lit, n32_add, n32_mul, n32_sub, n32_le, n32_lt, n32_eq, n32_nat, gdn, gd_T, inbT, bd_y, bd2_y, ifp, ifn, not_true_eq_false, not_false_eq_true, and_self, true_and, and_true, false_and, and_false, or_self, true_or, or_true, false_or, or_false, wA_s, wL_s, sA_same, sL_same, sA_L, sL_A, sA_I, sL_I, wI_A, wI_L, wI_same, sA_sA, sL_sL, sA_ne, sL_ne, wI_ne]]
          by_cases y : K.getD j 0 = lk.getD j 0
          · rw [ifp (by rw [y])]
            refine Or.inl ⟨1, rfl, by omega, ⟨fun _ i hi => ?_, fun _ => rfl⟩⟩
            by_cases w : i = j
            · rw [w]; exact y
            · exact hiff.mp q i (by omega)
          · rw [ifn (fun w => y ((n32_eq ⟨by omega, by omega⟩).mp w))]
            exact Or.inl ⟨0, rfl, by omega, ⟨fun w => by omega, fun w => absurd (w j (by omega)) y⟩⟩
        · rw [ifp (by simp (disch := omega) only [↓reduceIte, ↓lt_y, leT, leF, ltT, ltF, eqT, eqF, n32_lit, n32_add, n32_mul, n32_sub, n32_le, n32_lt, n32_eq, n32_nat, gdn, gd_T, inbT, bd_y, bd2_y, ifp, ifn, not_true_eq_false, not_false_eq_true, and_self, true_and, and_true, false_and, and_false, or_self, true_or, or_true, false_or, or_false, wA_s, wL_s, sA_same, sL_same, sA_L, sL_A, sA_I, sL_I, wI_A, wI_L, wI_same, sA_sA, sL_sL, sA_ne, sL_ne, wI_ne])]
          refine Or.inr (b73 z hz ⟨fun w => absurd w q, fun w => hiff.mpr fun i hi => by rw [w]⟩)
      · rintro fu2 z ⟨hz, hiff⟩
        try dsimp only
        rw [F_pathOf_L29, ifp (by simp (disch := omega) only [↓reduceIte, ↓lt_y, leT, leF, ltT, ltF, eqT, eqF, n32_lit, n32_add, n32_mul, n32_sub, n32_le, n32_lt, n32_eq, n32_nat, gdn, gd_T, inbT, bd_y, bd2_y, ifp, ifn, not_true_eq_false, not_false_eq_true, and_self, true_and, and_true, false_and, and_false, or_self, true_or, or_true, false_or, or_false, wA_s, wL_s, sA_same, sL_same, sA_L, sL_A, sA_I, sL_I, wI_A, wI_L, wI_same, sA_sA, sL_sL, sA_ne, sL_ne, wI_ne])]
        refine b73 z hz ⟨fun w => ?_, fun w => hiff.mpr fun i hi => by rw [w]⟩
        apply List.ext_getElem ql
        intro i h1 h2
        have := hiff.mp w i h2
        rw [getD_of_lt h1, getD_of_lt h2] at this
        exact this
    · rw [ifn (fun w => ql ((n32_eq ⟨by omega, by omega⟩).mp w))]
      unfold F_pathOf_b25
      obtain ⟨f2, hf2⟩ : ∃ f, MN = f + 1 := ⟨MN - 1, by omega⟩
      rw [hf2, F_pathOf_L29]
      have := b73 0 (by omega) ⟨fun w => by omega, fun w => absurd (by rw [w]) ql⟩
      by_cases q0 : lk.length ≤ 0
      · rw [ifp (by simp (disch := omega) only [↓reduceIte, ↓lt_y, leT, leF, ltT, ltF, eqT, eqF, n32_lit, n32_add, n32_mul, n32_sub, n32_le, n32_lt, n32_eq, n32_nat, gdn, gd_T, inbT, bd_y, bd2_y, ifp, ifn, not_true_eq_false, not_false_eq_true, and_self, true_and, and_true, false_and, and_false, or_self, true_or, or_true, false_or, or_false, wA_s, wL_s, sA_same, sL_same, sA_L, sL_A, sA_I, sL_I, wI_A, wI_L, wI_same, sA_sA, sL_sL, sA_ne, sL_ne, wI_ne])]; exact this
      · rw [ifn (by simp (disch := omega) only [↓reduceIte, ↓lt_y, leT, leF, ltT, ltF, eqT, eqF, n32_lit, n32_add, n32_mul, n32_sub, n32_le, n32_lt, n32_eq, n32_nat, gdn, gd_T, inbT, bd_y, bd2_y, ifp, ifn, not_true_eq_false, not_false_eq_true, and_self, true_and, and_true, false_and, and_false, or_self, true_or, or_true, false_or, or_false, wA_s, wL_s, sA_same, sL_same, sA_L, sL_A, sA_I, sL_I, wI_A, wI_L, wI_same, sA_sA, sL_sL, sA_ne, sL_ne, wI_ne]), ifp (c := (0 : Int32) = 0) rfl]; exact this
  · rintro fu - hno
    try dsimp only
    rw [F_pathOf_L2, a2, ifp (by simp (disch := omega) only [↓reduceIte, ↓lt_y, leT, leF, ltT, ltF, eqT, eqF, n32_lit, n32_add, n32_mul, n32_sub, n32_le, n32_lt, n32_eq, n32_nat, gdn, gd_T, inbT, bd_y, bd2_y, ifp, ifn, not_true_eq_false, not_false_eq_true, and_self, true_and, and_true, false_and, and_false, or_self, true_or, or_true, false_or, or_false, wA_s, wL_s, sA_same, sL_same, sA_L, sL_A, sA_I, sL_I, wI_A, wI_L, wI_same, sA_sA, sL_sL, sA_ne, sL_ne, wI_ne])]
    exact ⟨_, rfl, Or.inr ⟨hno, rfl⟩⟩
theorem chN_le {md : Md} {x : Stq} (ho : okS x) : chN md x ≤ 256 := by
  have := wys_b ho
  unfold chN
  split
  · rename_i t
    calc 2 ^ (sl x).length ≤ 2 ^ 8 := Nat.pow_le_pow_right (by omega) (ho.o9 t).2.1
      _ = 256 := rfl
  split <;> omega
theorem lvs_lk {N : Nat} {xs : List Stq} {md : Md} (hr : okX xs) : ∀ (f : Nat) (lk : List Nat) (v : Lv), (∀ c ∈ lk, c < 256) → ∀ lf ∈ lvs N xs md f lk v, ∀ c ∈ lfK lf, c < 256 := by
  intro f
  induction f with
  | zero => intro lk v _ lf h; simp [lvs] at h
  | succ f ih =>
    intro lk v hlk lf h
    have a5 := adv_end (N := N) (xs := xs) (md := md) (xs.length + 1) v
    generalize hradv : adv N xs md (xs.length + 1) v = r at a5
    by_cases q : r.1 = 3
    · rw [lvs_part hradv q] at h
      obtain ⟨x, hx, -⟩ := a5.2.1 q
      have hox := (hr.2 _ x hx).1
      rw [stpAt_eq hx] at h
      obtain ⟨c, hc, h⟩ := List.mem_flatMap.mp h
      have hc' := List.mem_range.mp hc
      have hcl := chN_le (md := md) hox
      by_cases hz : wgt (chS N md x c r.2) = 0
      · rw [ifp hz] at h; simp at h
      · rw [ifn hz] at h
        refine ih _ _ (fun d hd => ?_) lf h
        rcases List.mem_append.mp hd with y | y
        · exact hlk d y
        · rw [List.mem_singleton.mp y]; omega
    · rw [lvs_stop hradv q] at h
      rw [List.mem_singleton.mp h]
      exact hlk
theorem n32_bvx {u p : Nat} (hu : u < 65536) (hp : p < 8) : (n32 u >>> ((2 : Int32) * n32 p &&& 31)) &&& 3 = n32 ((u >>> (2 * p)) &&& 3) := by
  rw [show (2 : Int32) * n32 p = n32 (2 * p) from by simp (disch := omega) only [↓reduceIte, ↓lt_y, leT, leF, ltT, ltF, eqT, eqF, n32_lit, n32_add, n32_mul, n32_sub, n32_le, n32_lt, n32_eq, n32_nat, gdn, gd_T, inbT, bd_y, bd2_y, ifp, ifn, not_true_eq_false, not_false_eq_true, and_self, true_and, and_true, false_and, and_false, or_self, true_or, or_true, false_or, or_false, wA_s, wL_s, sA_same, sL_same, sA_L, sL_A, sA_I, sL_I, wI_A, wI_L, wI_same, sA_sA, sL_sL, sA_ne, sL_ne, wI_ne], show (31 : Int32) = n32 31 from rfl, n32_shr _ _ (by omega) (by omega), show (3 : Int32) = n32 3 from rfl, n32_and]
theorem MG9.fr {is as ls : List Nat} {σ τ : MS} {g : Pl} (h : MG9 σ g) (f : Fr is as ls σ τ) (h1 : ∀ j, 72 ≤ j → j ≤ 76 → j ∉ is) (h2 : 78 ∉ as) : MG9 τ g := by
  obtain ⟨a1, a2, a3, a4, a5, a6⟩ := h
  exact ⟨by rw [f.1 73 (h1 73 (by omega) (by omega))]; exact a1, by rw [f.1 74 (h1 74 (by omega) (by omega))]; exact a2, by rw [f.1 75 (h1 75 (by omega) (by omega))]; exact a3, by rw [f.1 76 (h1 76 (by omega) (by omega))]; exact a4, by rw [f.1 72 (h1 72 (by omega) (by omega))]; exact a5, by rw [f.2.1 78 h2]; exact a6⟩
theorem cardComes_L {σ : MS} {g : Pl} {red : Nat} (h : MG9 σ g) (hr : yR g < 256) (hc : yC g ≤ 7) (hred : red < 2) : ∃ τ, F_cardComes (n32 red) σ = some τ ∧ Fr [75, 76] [] [] σ τ ∧ MG9 τ (card1 red g) := by
  obtain ⟨a1, a2, a3, a4, a5, a6⟩ := h
  unfold F_cardComes
  simp only [↓lt_y]
  rw [a3, a4, show (31 : Int32) = n32 31 from rfl, n32_shl _ _ (by omega), n32_or, wI_ne _ _ _ _ (by omega), a4, show n32 (yC g) + (1 : Int32) = n32 (yC g + 1) from by simp (disch := omega) only [↓reduceIte, ↓lt_y, leT, leF, ltT, ltF, eqT, eqF, n32_lit, n32_add, n32_mul, n32_sub, n32_le, n32_lt, n32_eq, n32_nat, gdn, gd_T, inbT, bd_y, bd2_y, ifp, ifn, not_true_eq_false, not_false_eq_true, and_self, true_and, and_true, false_and, and_false, or_self, true_or, or_true, false_or, or_false, wA_s, wL_s, sA_same, sL_same, sA_L, sL_A, sA_I, sL_I, wI_A, wI_L, wI_same, sA_sA, sL_sL, sA_ne, sL_ne, wI_ne]]
  have f : Fr [75, 76] [] [] σ (wI (wI σ 75 (n32 (yR g ||| red <<< yC g))) 76 (n32 (yC g + 1))) := (Fr.wI σ 75 _).tr (Fr.wI _ 76 _) (by simp) (by simp) (by simp)
  refine ⟨_, rfl, f, by rw [f.1 73 (by simp)]; exact a1, by rw [f.1 74 (by simp)]; exact a2, ?_, wI_same _ _ _, by rw [f.1 72 (by simp)]; exact a5, a6⟩
  rw [wI_ne _ _ _ _ (by omega), wI_same]; rfl
