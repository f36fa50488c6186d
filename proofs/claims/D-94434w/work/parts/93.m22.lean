set_option maxRecDepth 100000
/-! THE REFERENCE: what is seen tells -/
/-- the ways by colours are gathered -/
theorem tells1_L {σ : MS} {b N k : Nat} {x : Stq} {D : Dst} (hB : MB σ b N) (hk : k < 104) (h : MStp σ k x) (ho : okS x) (t : sT x = 8) (hD : LD σ 0 D) : ∃ g, F_tells (n32 k) σ = F_tells_b102 (n32 k) (sL σ 71 g) ∧ ∀ i c, i < N → c < 256 → g (256 * i + c) = e64 (clS x D i c) := by
  have hMN := MN_gt
  have hN := hB.le
  have o9 := ho.o9 t
  unfold F_tells
  obtain ⟨fu, s, ⟨g0, rfl, h0⟩, e⟩ := upe (fun fu j s => F_tells_L2 fu (n32 k) (n32 j) s) 0 2048
    (fun m s => ∃ g, s = sL σ 71 g ∧ ∀ j, j < m → g j = 0)
    (by
      rintro fu m s - hm ⟨g, rfl, hg⟩
      simp only [F_tells_L2]
      simp (disch := omega) only [↓reduceIte, ↓lt_y, leT, leF, ltT, ltF, eqT, eqF, n32_lit, n32_add, n32_mul, n32_sub, n32_le, n32_lt, n32_eq, n32_nat, gdn, gd_T, inbT, bd_y, bd2_y, ifp, ifn, not_true_eq_false, not_false_eq_true, and_self, true_and, and_true, false_and, and_false, or_self, true_or, or_true, false_or, or_false, wA_s, wL_s, sA_same, sL_same, sA_L, sL_A, sA_I, sL_I, wI_A, wI_L, wI_same, sA_sA, sL_sL, sA_ne, sL_ne, wI_ne]
      refine ⟨_, rfl, _, rfl, fun j hj => ?_⟩
      simp only [up0]
      by_cases q : j = m
      · rw [ifp q]
      · rw [ifn q]; exact hg j (by omega))
    σ MN (by omega) (by omega) ⟨mL σ 71, (sL_to fun j => rfl).symm, fun j hj => by omega⟩
  rw [show (0 : Int32) = n32 0 from rfl, e]
  simp only [F_tells_L2, F_tells_b22]
  rw [ifp (by simp (disch := omega) only [↓reduceIte, ↓lt_y, leT, leF, ltT, ltF, eqT, eqF, n32_lit, n32_add, n32_mul, n32_sub, n32_le, n32_lt, n32_eq, n32_nat, gdn, gd_T, inbT, bd_y, bd2_y, ifp, ifn, not_true_eq_false, not_false_eq_true, and_self, true_and, and_true, false_and, and_false, or_self, true_or, or_true, false_or, or_false, wA_s, wL_s, sA_same, sL_same, sA_L, sL_A, sA_I, sL_I, wI_A, wI_L, wI_same, sA_sA, sL_sL, sA_ne, sL_ne, wI_ne]), show (0 : Int32) = n32 0 from rfl]
  obtain ⟨fu, s, ⟨g, rfl, hg⟩, e⟩ := upe (fun fu i s => F_tells_L24 fu (n32 k) (n32 i) s) 0 N
    (fun i0 s => ∃ g, s = sL σ 71 g ∧ ∀ i c, i < 8 → c < 256 → g (256 * i + c) = e64 (if i < i0 then clS x D i c else 0))
    (by
      rintro fu i0 s - hi ⟨g, rfl, hg⟩
      simp only [F_tells_L24]
      rw [inputs_L (hB.fr (Fr.sL σ 71 g) (by simp) (by simp))]
      simp only [bd_y]
      rw [ifn (by simp (disch := omega) only [↓reduceIte, ↓lt_y, leT, leF, ltT, ltF, eqT, eqF, n32_lit, n32_add, n32_mul, n32_sub, n32_le, n32_lt, n32_eq, n32_nat, gdn, gd_T, inbT, bd_y, bd2_y, ifp, ifn, not_true_eq_false, not_false_eq_true, and_self, true_and, and_true, false_and, and_false, or_self, true_or, or_true, false_or, or_false, wA_s, wL_s, sA_same, sL_same, sA_L, sL_A, sA_I, sL_I, wI_A, wI_L, wI_same, sA_sA, sL_sL, sA_ne, sL_ne, wI_ne]), show (0 : Int32) = n32 0 from rfl]
      obtain ⟨fu', s, ⟨g, rfl, hg⟩, e⟩ := upe (fun fu' r s => F_tells_L34 (F_tells_L24 fu) fu' (n32 k) (n32 i0) (n32 r) s) 0 256
        (fun r0 s => ∃ g, s = sL σ 71 g ∧ ∀ i c, i < 8 → c < 256 → g (256 * i + c) = e64 (if i < i0 then clS x D i c else if i = i0 then sm r0 (fun r => if colS x r = c then D i r else 0) else 0))
        (by
          rintro fu' r s - hr ⟨g, rfl, hg⟩
          have hsrc : mL σ 43 (256 * i0 + r) = e64 (D i0 r) := by
            have := hD i0 r (by omega) hr
            rw [← this]; congr 1; omega
          have z1 := n32_nat (a := 256 * i0 + r) (by omega)
          have hcol := colS_lt o9.2.1 r
          try dsimp only
          rw [F_tells_L34, ifn (by simp (disch := omega) only [↓reduceIte, ↓lt_y, leT, leF, ltT, ltF, eqT, eqF, n32_lit, n32_add, n32_mul, n32_sub, n32_le, n32_lt, n32_eq, n32_nat, gdn, gd_T, inbT, bd_y, bd2_y, ifp, ifn, not_true_eq_false, not_false_eq_true, and_self, true_and, and_true, false_and, and_false, or_self, true_or, or_true, false_or, or_false, wA_s, wL_s, sA_same, sL_same, sA_L, sL_A, sA_I, sL_I, wI_A, wI_L, wI_same, sA_sA, sL_sL, sA_ne, sL_ne, wI_ne]), show (256 : Int32) * n32 i0 + n32 r = n32 (256 * i0 + r) from by simp (disch := omega) only [↓reduceIte, ↓lt_y, leT, leF, ltT, ltF, eqT, eqF, n32_lit, n32_add, n32_mul, n32_sub, n32_le, n32_lt, n32_eq, n32_nat, gdn, gd_T, inbT, bd_y, bd2_y, ifp, ifn, not_true_eq_false, not_false_eq_true, and_self, true_and, and_true, false_and, and_false, or_self, true_or, or_true, false_or, or_false, wA_s, wL_s, sA_same, sL_same, sA_L, sL_A, sA_I, sL_I, wI_A, wI_L, wI_same, sA_sA, sL_sL, sA_ne, sL_ne, wI_ne], gd_y (n32_inb (by omega))]
          simp only [z1, sL_ne _ _ _ _ (show (43 : Nat) ≠ 71 by omega), hsrc]
          unfold F_tells_b90
          simp only [↓lt_y]
          rw [show n32 r + (1 : Int32) = n32 (r + 1) from by simp (disch := omega) only [↓reduceIte, ↓lt_y, leT, leF, ltT, ltF, eqT, eqF, n32_lit, n32_add, n32_mul, n32_sub, n32_le, n32_lt, n32_eq, n32_nat, gdn, gd_T, inbT, bd_y, bd2_y, ifp, ifn, not_true_eq_false, not_false_eq_true, and_self, true_and, and_true, false_and, and_false, or_self, true_or, or_true, false_or, or_false, wA_s, wL_s, sA_same, sL_same, sA_L, sL_A, sA_I, sL_I, wI_A, wI_L, wI_same, sA_sA, sL_sL, sA_ne, sL_ne, wI_ne]]
          by_cases hz : e64 (D i0 r) = 0
          · rw [ifp ((cmpZ _).mpr hz)]
            refine ⟨_, rfl, g, rfl, fun i c hi' hc => ?_⟩
            rw [hg i c hi' hc]
            by_cases y1 : i < i0
            · rw [ifp y1, ifp y1]
            · rw [ifn y1, ifn y1]
              by_cases y2 : i = i0
              · subst y2
                rw [ifp rfl, ifp rfl, sm, e64_add]
                split
                · rw [hz, Int64.add_zero]
                · rw [e64_0, Int64.add_zero]
              · rw [ifn y2, ifn y2]
          · rw [ifn (fun y => hz ((cmpZ _).mp y)), colours_L (σ := sL σ 71 g) hk (h.fr (Fr.sL σ 71 g) (by simp)) ho t hr]
            simp only [bd_y]
            rw [show (256 : Int32) * n32 i0 + n32 (colS x r) = n32 (256 * i0 + colS x r) from by simp (disch := omega) only [↓reduceIte, ↓lt_y, leT, leF, ltT, ltF, eqT, eqF, n32_lit, n32_add, n32_mul, n32_sub, n32_le, n32_lt, n32_eq, n32_nat, gdn, gd_T, inbT, bd_y, bd2_y, ifp, ifn, not_true_eq_false, not_false_eq_true, and_self, true_and, and_true, false_and, and_false, or_self, true_or, or_true, false_or, or_false, wA_s, wL_s, sA_same, sL_same, sA_L, sL_A, sA_I, sL_I, wI_A, wI_L, wI_same, sA_sA, sL_sL, sA_ne, sL_ne, wI_ne], gd_y (n32_inb (by omega)), gd_y (n32_inb (by omega)), gd_y (n32_inb (by omega)), n32_nat (a := 256 * i0 + colS x r) (by omega), sL_same, wL_s, sL_same, sL_sL]
            refine ⟨_, rfl, _, rfl, fun i c hi' hc => ?_⟩
            simp only [up0]
            by_cases y2 : i = i0
            · subst y2
              rw [ifn (c := i < i) (by omega), ifp (c := i = i) rfl, sm, e64_add]
              by_cases y3 : colS x r = c
              · subst y3
                rw [ifp (c := 256 * i + colS x r = 256 * i + colS x r) rfl, hg i _ hi' hcol, ifn (c := i < i) (by omega), ifp (c := i = i) rfl, ifp (c := colS x r = colS x r) rfl]
              · rw [ifn (c := 256 * i + c = 256 * i + colS x r) (by omega), hg i c hi' hc, ifn (c := i < i) (by omega), ifp (c := i = i) rfl, ifn y3, e64_0, Int64.add_zero]
            · rw [ifn (c := 256 * i + c = 256 * i0 + colS x r) (by omega), hg i c hi' hc]
              simp only [y2, if_false])
        (sL σ 71 g) MN (by omega) (by omega) ⟨g, rfl, fun i c hi' hc => by
          rw [hg i c hi' hc]
          congr 1
          by_cases y1 : i < i0
          · rw [ifp y1, ifp y1]
          · rw [ifn y1, ifn y1]
            split <;> rfl⟩
      refine ⟨sL σ 71 g, e.trans ?_, g, rfl, fun i c hi' hc => ?_⟩
      · try dsimp only
        rw [F_tells_L34, ifp (by simp (disch := omega) only [↓reduceIte, ↓lt_y, leT, leF, ltT, ltF, eqT, eqF, n32_lit, n32_add, n32_mul, n32_sub, n32_le, n32_lt, n32_eq, n32_nat, gdn, gd_T, inbT, bd_y, bd2_y, ifp, ifn, not_true_eq_false, not_false_eq_true, and_self, true_and, and_true, false_and, and_false, or_self, true_or, or_true, false_or, or_false, wA_s, wL_s, sA_same, sL_same, sA_L, sL_A, sA_I, sL_I, wI_A, wI_L, wI_same, sA_sA, sL_sL, sA_ne, sL_ne, wI_ne])]
        unfold F_tells_b96
        simp only [↓lt_y]
        rw [show n32 i0 + (1 : Int32) = n32 (i0 + 1) from by simp (disch := omega) only [↓reduceIte, ↓lt_y, leT, leF, ltT, ltF, eqT, eqF, n32_lit, n32_add, n32_mul, n32_sub, n32_le, n32_lt, n32_eq, n32_nat, gdn, gd_T, inbT, bd_y, bd2_y, ifp, ifn, not_true_eq_false, not_false_eq_true, and_self, true_and, and_true, false_and, and_false, or_self, true_or, or_true, false_or, or_false, wA_s, wL_s, sA_same, sL_same, sA_L, sL_A, sA_I, sL_I, wI_A, wI_L, wI_same, sA_sA, sL_sL, sA_ne, sL_ne, wI_ne]]
      · rw [hg i c hi' hc]
        congr 1
        by_cases y1 : i < i0
        · rw [ifp y1, ifp (by omega)]
        · rw [ifn y1]
          by_cases y2 : i = i0
          · subst y2; rw [ifp rfl, ifp (by omega)]; rfl
          · rw [ifn y2, ifn (by omega)])
    (sL σ 71 g0) MN (Nat.zero_le _) (by omega) ⟨g0, rfl, fun i c hi hc => by rw [h0 _ (by omega), ifn (by omega)]; rfl⟩
  refine ⟨g, e.trans ?_, fun i c hi hc => by rw [hg i c (by omega) hc, ifp hi]⟩
  try dsimp only
  rw [F_tells_L24, inputs_L (hB.fr (Fr.sL σ 71 g) (by simp) (by simp))]
  simp only [bd_y]
  rw [ifp (by simp (disch := omega) only [↓reduceIte, ↓lt_y, leT, leF, ltT, ltF, eqT, eqF, n32_lit, n32_add, n32_mul, n32_sub, n32_le, n32_lt, n32_eq, n32_nat, gdn, gd_T, inbT, bd_y, bd2_y, ifp, ifn, not_true_eq_false, not_false_eq_true, and_self, true_and, and_true, false_and, and_false, or_self, true_or, or_true, false_or, or_false, wA_s, wL_s, sA_same, sL_same, sA_L, sL_A, sA_I, sL_I, wI_A, wI_L, wI_same, sA_sA, sL_sL, sA_ne, sL_ne, wI_ne])]
/-- two inputs, at colours, as they should be -/
def telP (ak : Nat → Int32) (x : Stq) (D : Dst) (c i j : Nat) : Prop := (ak i = ak j → clS x D i c = clS x D j c) ∧ (ak i ≠ ak j → clS x D i c = 0 ∨ clS x D j c = 0)
theorem tells_L {σ : MS} {b N k : Nat} {x : Stq} {D : Dst} {ak : Nat → Int32} (hB : MB σ b N) (hk : k < 104) (h : MStp σ k x) (ho : okS x) (t : sT x = 8) (hD : LD σ 0 D) (hak : ∀ i, i < N → mA σ 56 i = ak i) (hb : ∀ i c, clS x D i c < 9223372036854775808) :
    ∃ r g, F_tells (n32 k) σ = some (r, sL σ 71 g) ∧ (telS N ak x D → r = n32 1) ∧ (¬ telS N ak x D → r = n32 0) := by
  have hMN := MN_gt
  have hN := hB.le
  have o9 := ho.o9 t
  obtain ⟨g, e0, hg⟩ := tells1_L hB hk h ho t hD
  rw [e0]
  have fr : Fr [] [] [71] σ (sL σ 71 g) := Fr.sL σ 71 g
  have hst := h.fr fr (by simp)
  have hB1 := hB.fr fr (by simp) (by simp)
  have hp256 : 2 ^ (sl x).length ≤ 256 := by
    calc 2 ^ (sl x).length ≤ 2 ^ 8 := Nat.pow_le_pow_right (by omega) o9.2.1
      _ = 256 := rfl
  have zk := n32_nat (a := k) (by omega)
  have e26 := (hst.h5 (Or.inr t)).1
  have key : ∀ o : Option (Int32 × MS), ((∀ c i j, c < 2 ^ (sl x).length → i < N → j < i → telP ak x D c i j) ∧ o = some (n32 1, sL σ 71 g)) ∨ ((∃ c i j, c < 2 ^ (sl x).length ∧ i < N ∧ j < i ∧ ¬ telP ak x D c i j) ∧ o = some (n32 0, sL σ 71 g)) → ∃ r g', o = some (r, sL σ 71 g') ∧ (telS N ak x D → r = n32 1) ∧ (¬ telS N ak x D → r = n32 0) := by
    rintro o (⟨h1, h2⟩ | ⟨⟨c, i, j, h1, h2, h3, h4⟩, h5⟩)
    · exact ⟨_, g, h2, fun _ => rfl, fun z => absurd h1 z⟩
    · exact ⟨_, g, h5, fun z => absurd (z c i j h1 h2 h3) h4, fun _ => rfl⟩
  apply key
  unfold F_tells_b102
  rw [show (0 : Int32) = n32 0 from rfl]
  refine upf (fun fu c (_ : Unit) => F_tells_L104 fu (n32 k) (n32 c) (sL σ 71 g)) 0 (2 ^ (sl x).length) (fun c0 _ => ∀ c i j, c < c0 → i < N → j < i → telP ak x D c i j) (fun o => ((∀ c i j, c < 2 ^ (sl x).length → i < N → j < i → telP ak x D c i j) ∧ o = some (n32 1, sL σ 71 g)) ∨ ((∃ c i j, c < 2 ^ (sl x).length ∧ i < N ∧ j < i ∧ ¬ telP ak x D c i j) ∧ o = some (n32 0, sL σ 71 g))) ?_ ?_ () MN (Nat.zero_le _) (by omega) (fun c i j hc => by omega)
  · rintro fu c0 - - hc hI
    try dsimp only
    rw [F_tells_L104]
    simp only [zk, e26]
    rw [gd_y (n32_inb (by omega)), show (1 : Int32) = n32 1 from rfl, show (31 : Int32) = n32 31 from rfl, n32_shl _ _ (by omega), Nat.one_shiftLeft, ifn (by rw [n32_le ⟨by omega, by omega⟩]; omega), show (0 : Int32) = n32 0 from rfl]
    refine upf (fun fu' i (_ : Unit) => F_tells_L118 (F_tells_L104 fu) fu' (n32 k) (n32 c0) (n32 i) (sL σ 71 g)) 0 N (fun i0 _ => ∀ i j, i < i0 → j < i → telP ak x D c0 i j)
      (fun o => (∃ s' : Unit, o = F_tells_L104 fu (n32 k) (n32 (c0 + 1)) (sL σ 71 g) ∧ ∀ c i j, c < c0 + 1 → i < N → j < i → telP ak x D c i j) ∨ (((∀ c i j, c < 2 ^ (sl x).length → i < N → j < i → telP ak x D c i j) ∧ o = some (n32 1, sL σ 71 g)) ∨ ((∃ c i j, c < 2 ^ (sl x).length ∧ i < N ∧ j < i ∧ ¬ telP ak x D c i j) ∧ o = some (n32 0, sL σ 71 g)))) ?_ ?_ () MN (Nat.zero_le _) (by omega) (fun i j hi => by omega)
    · rintro fu' i0 - - hi hI2
      try dsimp only
      rw [F_tells_L118, inputs_L hB1]
      simp only [bd_y]
      rw [ifn (by simp (disch := omega) only [↓reduceIte, ↓lt_y, leT, leF, ltT, ltF, eqT, eqF, n32_lit, n32_add, n32_mul, n32_sub, n32_le, n32_lt, n32_eq, n32_nat, gdn, gd_T, inbT, bd_y, bd2_y, ifp, ifn, not_true_eq_false, not_false_eq_true, and_self, true_and, and_true, false_and, and_false, or_self, true_or, or_true, false_or, or_false, wA_s, wL_s, sA_same, sL_same, sA_L, sL_A, sA_I, sL_I, wI_A, wI_L, wI_same, sA_sA, sL_sL, sA_ne, sL_ne, wI_ne]), show (0 : Int32) = n32 0 from rfl]
      refine upf (fun fu2 j (_ : Unit) => F_tells_L129 (F_tells_L118 (F_tells_L104 fu) fu') fu2 (n32 k) (n32 c0) (n32 i0) (n32 j) (sL σ 71 g)) 0 i0 (fun j0 _ => ∀ j, j < j0 → telP ak x D c0 i0 j)
        (fun o => (∃ s' : Unit, o = F_tells_L118 (F_tells_L104 fu) fu' (n32 k) (n32 c0) (n32 (i0 + 1)) (sL σ 71 g) ∧ ∀ i j, i < i0 + 1 → j < i → telP ak x D c0 i j) ∨ ((∃ s' : Unit, o = F_tells_L104 fu (n32 k) (n32 (c0 + 1)) (sL σ 71 g) ∧ ∀ c i j, c < c0 + 1 → i < N → j < i → telP ak x D c i j) ∨ (((∀ c i j, c < 2 ^ (sl x).length → i < N → j < i → telP ak x D c i j) ∧ o = some (n32 1, sL σ 71 g)) ∨ ((∃ c i j, c < 2 ^ (sl x).length ∧ i < N ∧ j < i ∧ ¬ telP ak x D c i j) ∧ o = some (n32 0, sL σ 71 g))))) ?_ ?_ () MN (Nat.zero_le _) (by omega) (fun j hj => by omega)
      · rintro fu2 j0 - - hj hI3
        have z1 := n32_nat (a := 256 * i0 + c0) (by omega)
        have z2 := n32_nat (a := 256 * j0 + c0) (by omega)
        have z3 := n32_nat (a := i0) (by omega)
        have z4 := n32_nat (a := j0) (by omega)
        have g1 := hg i0 c0 hi (by omega)
        have g2 := hg j0 c0 (by omega) (by omega)
        have yes : telP ak x D c0 i0 j0 → ∃ s' : Unit, F_tells_b207 (F_tells_L129 (F_tells_L118 (F_tells_L104 fu) fu') fu2) (n32 k) (n32 c0) (n32 i0) (n32 j0) (sL σ 71 g) = F_tells_L129 (F_tells_L118 (F_tells_L104 fu) fu') fu2 (n32 k) (n32 c0) (n32 i0) (n32 (j0 + 1)) (sL σ 71 g) ∧ ∀ j, j < j0 + 1 → telP ak x D c0 i0 j := by
          intro y
          unfold F_tells_b207
          simp only [↓lt_y]
          rw [show n32 j0 + (1 : Int32) = n32 (j0 + 1) from by simp (disch := omega) only [↓reduceIte, ↓lt_y, leT, leF, ltT, ltF, eqT, eqF, n32_lit, n32_add, n32_mul, n32_sub, n32_le, n32_lt, n32_eq, n32_nat, gdn, gd_T, inbT, bd_y, bd2_y, ifp, ifn, not_true_eq_false, not_false_eq_true, and_self, true_and, and_true, false_and, and_false, or_self, true_or, or_true, false_or, or_false, wA_s, wL_s, sA_same, sL_same, sA_L, sL_A, sA_I, sL_I, wI_A, wI_L, wI_same, sA_sA, sL_sL, sA_ne, sL_ne, wI_ne]]
          refine ⟨(), rfl, fun j hj' => ?_⟩
          by_cases w : j = j0
          · rw [w]; exact y
          · exact hI3 j (by omega)
        have no : ¬ telP ak x D c0 i0 j0 → (∃ c i j, c < 2 ^ (sl x).length ∧ i < N ∧ j < i ∧ ¬ telP ak x D c i j) := fun y => ⟨c0, i0, j0, hc, hi, hj, y⟩
        try dsimp only
        rw [F_tells_L129, ifn (by simp (disch := omega) only [↓reduceIte, ↓lt_y, leT, leF, ltT, ltF, eqT, eqF, n32_lit, n32_add, n32_mul, n32_sub, n32_le, n32_lt, n32_eq, n32_nat, gdn, gd_T, inbT, bd_y, bd2_y, ifp, ifn, not_true_eq_false, not_false_eq_true, and_self, true_and, and_true, false_and, and_false, or_self, true_or, or_true, false_or, or_false, wA_s, wL_s, sA_same, sL_same, sA_L, sL_A, sA_I, sL_I, wI_A, wI_L, wI_same, sA_sA, sL_sL, sA_ne, sL_ne, wI_ne]), show (256 : Int32) * n32 i0 + n32 c0 = n32 (256 * i0 + c0) from by simp (disch := omega) only [↓reduceIte, ↓lt_y, leT, leF, ltT, ltF, eqT, eqF, n32_lit, n32_add, n32_mul, n32_sub, n32_le, n32_lt, n32_eq, n32_nat, gdn, gd_T, inbT, bd_y, bd2_y, ifp, ifn, not_true_eq_false, not_false_eq_true, and_self, true_and, and_true, false_and, and_false, or_self, true_or, or_true, false_or, or_false, wA_s, wL_s, sA_same, sL_same, sA_L, sL_A, sA_I, sL_I, wI_A, wI_L, wI_same, sA_sA, sL_sL, sA_ne, sL_ne, wI_ne], show (256 : Int32) * n32 j0 + n32 c0 = n32 (256 * j0 + c0) from by simp (disch := omega) only [↓reduceIte, ↓lt_y, leT, leF, ltT, ltF, eqT, eqF, n32_lit, n32_add, n32_mul, n32_sub, n32_le, n32_lt, n32_eq, n32_nat, gdn, gd_T, inbT, bd_y, bd2_y, ifp, ifn, not_true_eq_false, not_false_eq_true, and_self, true_and, and_true, false_and, and_false, or_self, true_or, or_true, false_or, or_false, wA_s, wL_s, sA_same, sL_same, sA_L, sL_A, sA_I, sL_I, wI_A, wI_L, wI_same, sA_sA, sL_sL, sA_ne, sL_ne, wI_ne], gd_y (n32_inb (by omega))]
        simp only [↓lt_y]
        rw [gd_y (n32_inb (by omega)), gd_y (n32_inb (by omega)), gd_y (n32_inb (by omega))]
        simp only [z1, z2, z3, z4, sL_same, sL_A, g1, g2, hak i0 hi, hak j0 (by omega)]
        by_cases qa : ak i0 = ak j0
        · rw [ifp qa]
          by_cases qe : clS x D i0 c0 = clS x D j0 c0
          · rw [ifp ((lg_eq _ _).mpr (by rw [qe]))]
            exact Or.inl (yes ⟨fun _ => qe, fun z => absurd qa z⟩)
          · rw [ifn (fun y => qe ((e64_inj (hb _ _) (hb _ _)).mp ((lg_eq _ _).mp y)))]
            exact Or.inr (Or.inr (Or.inr (Or.inr ⟨no fun y => qe (y.1 qa), rfl⟩)))
        · rw [ifn qa]
          by_cases q1 : clS x D i0 c0 = 0
          · rw [ifp ((cmpZ _).mpr ((e64_ne (hb _ _)).mpr q1))]
            exact Or.inl (yes ⟨fun z => absurd z qa, fun _ => Or.inl q1⟩)
          · rw [ifn (fun y => q1 ((e64_ne (hb _ _)).mp ((cmpZ _).mp y)))]
            by_cases q2 : clS x D j0 c0 = 0
            · rw [ifp ((cmpZ _).mpr ((e64_ne (hb _ _)).mpr q2))]
              exact Or.inl (yes ⟨fun z => absurd z qa, fun _ => Or.inr q2⟩)
            · rw [ifn (fun y => q2 ((e64_ne (hb _ _)).mp ((cmpZ _).mp y)))]
              exact Or.inr (Or.inr (Or.inr (Or.inr ⟨no fun y => (y.2 qa).elim q1 q2, rfl⟩)))
      · rintro fu2 - hI3
        try dsimp only
        rw [F_tells_L129, ifp (by simp (disch := omega) only [↓reduceIte, ↓lt_y, leT, leF, ltT, ltF, eqT, eqF, n32_lit, n32_add, n32_mul, n32_sub, n32_le, n32_lt, n32_eq, n32_nat, gdn, gd_T, inbT, bd_y, bd2_y, ifp, ifn, not_true_eq_false, not_false_eq_true, and_self, true_and, and_true, false_and, and_false, or_self, true_or, or_true, false_or, or_false, wA_s, wL_s, sA_same, sL_same, sA_L, sL_A, sA_I, sL_I, wI_A, wI_L, wI_same, sA_sA, sL_sL, sA_ne, sL_ne, wI_ne])]
        unfold F_tells_b213
        simp only [↓lt_y]
        rw [show n32 i0 + (1 : Int32) = n32 (i0 + 1) from by simp (disch := omega) only [↓reduceIte, ↓lt_y, leT, leF, ltT, ltF, eqT, eqF, n32_lit, n32_add, n32_mul, n32_sub, n32_le, n32_lt, n32_eq, n32_nat, gdn, gd_T, inbT, bd_y, bd2_y, ifp, ifn, not_true_eq_false, not_false_eq_true, and_self, true_and, and_true, false_and, and_false, or_self, true_or, or_true, false_or, or_false, wA_s, wL_s, sA_same, sL_same, sA_L, sL_A, sA_I, sL_I, wI_A, wI_L, wI_same, sA_sA, sL_sL, sA_ne, sL_ne, wI_ne]]
        refine Or.inl ⟨(), rfl, fun i j hi' hj => ?_⟩
        by_cases w : i = i0
        · rw [w] at hj ⊢; exact hI3 j hj
        · exact hI2 i j (by omega) hj
    · rintro fu' - hI2
      try dsimp only
      rw [F_tells_L118, inputs_L hB1]
      simp only [bd_y]
      rw [ifp (by simp (disch := omega) only [↓reduceIte, ↓lt_y, leT, leF, ltT, ltF, eqT, eqF, n32_lit, n32_add, n32_mul, n32_sub, n32_le, n32_lt, n32_eq, n32_nat, gdn, gd_T, inbT, bd_y, bd2_y, ifp, ifn, not_true_eq_false, not_false_eq_true, and_self, true_and, and_true, false_and, and_false, or_self, true_or, or_true, false_or, or_false, wA_s, wL_s, sA_same, sL_same, sA_L, sL_A, sA_I, sL_I, wI_A, wI_L, wI_same, sA_sA, sL_sL, sA_ne, sL_ne, wI_ne])]
      unfold F_tells_b219
      simp only [↓lt_y]
      rw [show n32 c0 + (1 : Int32) = n32 (c0 + 1) from by simp (disch := omega) only [↓reduceIte, ↓lt_y, leT, leF, ltT, ltF, eqT, eqF, n32_lit, n32_add, n32_mul, n32_sub, n32_le, n32_lt, n32_eq, n32_nat, gdn, gd_T, inbT, bd_y, bd2_y, ifp, ifn, not_true_eq_false, not_false_eq_true, and_self, true_and, and_true, false_and, and_false, or_self, true_or, or_true, false_or, or_false, wA_s, wL_s, sA_same, sL_same, sA_L, sL_A, sA_I, sL_I, wI_A, wI_L, wI_same, sA_sA, sL_sL, sA_ne, sL_ne, wI_ne]]
      refine Or.inl ⟨(), rfl, fun c i j hc' hi hj => ?_⟩
      by_cases w : c = c0
      · rw [w]; exact hI2 i j hi hj
      · exact hI c i j (by omega) hi hj
  · rintro fu - hI
    try dsimp only
    rw [F_tells_L104]
    simp only [zk, e26]
    rw [gd_y (n32_inb (by omega)), show (1 : Int32) = n32 1 from rfl, show (31 : Int32) = n32 31 from rfl, n32_shl _ _ (by omega), Nat.one_shiftLeft, ifp (by rw [n32_le ⟨by omega, by omega⟩]; exact Nat.le_refl _)]
    exact Or.inl ⟨hI, rfl⟩
