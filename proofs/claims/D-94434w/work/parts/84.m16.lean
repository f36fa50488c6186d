set_option maxRecDepth 100000
/-! THE REFERENCE's CALLS: boxes, the tape, what can be -/
theorem can_M {σ : MS} {S : St} (h : MR σ S) (ho : okSt S) (k : Int32) : F_can σ k = some (o_can k S) := by
  have hMN := MN_gt
  obtain ⟨⟨b, hR⟩, hP, -, -, a5, -, a7, a8, a9, -, a11⟩ := id h
  have hN := rN_le ho.2.1
  have hl := ho.2.2.1
  have htm := ho.2.2.2.2.2.1
  have hB := hR.mb ho.2.1
  unfold F_can o_can
  rw [inputs_L hB]
  simp only [bd_y, ↓lt_y]
  have main : ∀ (l : List Tl) (j : Nat) (s : Int32) (fu : Nat), (zL S).drop j = l → j + l.length = (zL S).length → l.length < fu → F_can_L11 σ fu k s (n32 j) = some (canL (zR S) k l s) := by
    intro l
    induction l with
    | nil =>
      intro j s fu hd hj hfu
      obtain ⟨fu, rfl⟩ : ∃ f, fu = f + 1 := ⟨fu - 1, by omega⟩
      have : j = (zL S).length := by simpa using hj
      rw [F_can_L11, a7.1, ifp (by simp (disch := omega) only [↓reduceIte, ↓lt_y, leT, leF, ltT, ltF, eqT, eqF, n32_lit, n32_add, n32_mul, n32_sub, n32_le, n32_lt, n32_eq, n32_nat, gdn, gd_T, inbT, bd_y, bd2_y, ifp, ifn, not_true_eq_false, not_false_eq_true, and_self, true_and, and_true, false_and, and_false, or_self, true_or, or_true, false_or, or_false, wA_s, wL_s, sA_same, sL_same, sA_L, sL_A, sA_I, sL_I, wI_A, wI_L, wI_same, sA_sA, sL_sL, sA_ne, sL_ne, wI_ne])]
      rfl
    | cons t l ih =>
      intro j s fu hd hj hfu
      obtain ⟨fu, rfl⟩ : ∃ f, fu = f + 1 := ⟨fu - 1, by omega⟩
      simp only [List.length_cons] at hj hfu
      have hq : (zL S)[j]? = some t := by
        have : ((zL S).drop j)[0]? = some t := by rw [hd]; rfl
        rwa [List.getElem?_drop, Nat.add_zero] at this
      have hd' : (zL S).drop (j + 1) = l := by rw [← List.tail_drop, hd]; rfl
      obtain ⟨t1, t2, t3⟩ := a7.2 j t hq
      rw [Nat.zero_add] at t1 t2 t3
      have hot := ho.2.2.2.1 t (List.mem_of_getElem? hq)
      have h200 := ho.2.2.2.2.1 (by omega)
      have zj := n32_nat (a := j) (by omega)
      have step : ∀ s', F_can_b100 σ (F_can_L11 σ fu) k s' (n32 j) = some (canL (zR S) k l s') := by
        intro s'
        unfold F_can_b100
        simp only [↓lt_y]
        rw [show n32 j + (1 : Int32) = n32 (j + 1) from by simp (disch := omega) only [↓reduceIte, ↓lt_y, leT, leF, ltT, ltF, eqT, eqF, n32_lit, n32_add, n32_mul, n32_sub, n32_le, n32_lt, n32_eq, n32_nat, gdn, gd_T, inbT, bd_y, bd2_y, ifp, ifn, not_true_eq_false, not_false_eq_true, and_self, true_and, and_true, false_and, and_false, or_self, true_or, or_true, false_or, or_false, wA_s, wL_s, sA_same, sL_same, sA_L, sL_A, sA_I, sL_I, wI_A, wI_L, wI_same, sA_sA, sL_sL, sA_ne, sL_ne, wI_ne]]
        exact ih (j + 1) s' fu hd' (by omega) (by omega)
      have inner : F_can_b51 σ (F_can_b100 σ (F_can_L11 σ fu)) k s (n32 j) = some (canL (zR S) k l (canI (zR S) t.1 (rN (zR S)) s)) := by
        unfold F_can_b51
        have hpath := path_at hP h200 hot.1
        obtain ⟨-, -, c3, -⟩ := hpath
        have hw := (wys_lt ho.2.1 hot.1).1
        obtain ⟨fu2, s2, rfl, e⟩ := upe (fun fu2 i (s' : Int32) => F_can_L54 σ (F_can_b100 σ (F_can_L11 σ fu)) fu2 k s' (n32 j) (n32 i)) 0 (rN (zR S)) (fun i s' => s' = canI (zR S) t.1 i s)
          (by
            rintro fu2 i s' - hi rfl
            refine ⟨_, ?_, rfl⟩
            have e1 := c3 i (by omega)
            rw [ifp hi] at e1
            have hwi := hw i
            have hzz : wysS ((pths (zR S)).getD t.1 default) i = sm 256 (vD (lfV ((pths (zR S)).getD t.1 default)) i) := rfl
            have hp1 := hot.1
            have z8 := n32_nat (a := 8 * t.1 + i) (by omega)
            try dsimp only
            rw [F_can_L54, inputs_L hB]
            simp only [bd_y, zj, t1]
            have h200' := hot.1
            rw [ifn (by simp (disch := omega) only [↓reduceIte, ↓lt_y, leT, leF, ltT, ltF, eqT, eqF, n32_lit, n32_add, n32_mul, n32_sub, n32_le, n32_lt, n32_eq, n32_nat, gdn, gd_T, inbT, bd_y, bd2_y, ifp, ifn, not_true_eq_false, not_false_eq_true, and_self, true_and, and_true, false_and, and_false, or_self, true_or, or_true, false_or, or_false, wA_s, wL_s, sA_same, sL_same, sA_L, sL_A, sA_I, sL_I, wI_A, wI_L, wI_same, sA_sA, sL_sL, sA_ne, sL_ne, wI_ne]), show (8 : Int32) * n32 t.1 + n32 i = n32 (8 * t.1 + i) from by simp (disch := omega) only [↓reduceIte, ↓lt_y, leT, leF, ltT, ltF, eqT, eqF, n32_lit, n32_add, n32_mul, n32_sub, n32_le, n32_lt, n32_eq, n32_nat, gdn, gd_T, inbT, bd_y, bd2_y, ifp, ifn, not_true_eq_false, not_false_eq_true, and_self, true_and, and_true, false_and, and_false, or_self, true_or, or_true, false_or, or_false, wA_s, wL_s, sA_same, sL_same, sA_L, sL_A, sA_I, sL_I, wI_A, wI_L, wI_same, sA_sA, sL_sL, sA_ne, sL_ne, wI_ne], gd_y (n32_inb (by omega)), gd_y (n32_inb (by omega)), z8, e1]
            unfold F_can_b94
            simp only [↓lt_y]
            rw [show n32 i + (1 : Int32) = n32 (i + 1) from by simp (disch := omega) only [↓reduceIte, ↓lt_y, leT, leF, ltT, ltF, eqT, eqF, n32_lit, n32_add, n32_mul, n32_sub, n32_le, n32_lt, n32_eq, n32_nat, gdn, gd_T, inbT, bd_y, bd2_y, ifp, ifn, not_true_eq_false, not_false_eq_true, and_self, true_and, and_true, false_and, and_false, or_self, true_or, or_true, false_or, or_false, wA_s, wL_s, sA_same, sL_same, sA_L, sL_A, sA_I, sL_I, wI_A, wI_L, wI_same, sA_sA, sL_sL, sA_ne, sL_ne, wI_ne], canI]
            by_cases q : wysS ((pths (zR S)).getD t.1 default) i = 0
            · rw [ifp ((cmpZ _).mpr ((e64_ne (by omega)).mpr (by omega))), ifp q]
              rfl
            · rw [ifn (fun y => q (by have := (e64_ne (by omega)).mp ((cmpZ _).mp y); omega)), ifn q])
          s MN (Nat.zero_le _) (by omega) rfl
        rw [show (0 : Int32) = n32 0 from rfl]
        refine e.trans ?_
        try dsimp only
        rw [F_can_L54, inputs_L hB]
        simp only [bd_y]
        rw [ifp (by simp (disch := omega) only [↓reduceIte, ↓lt_y, leT, leF, ltT, ltF, eqT, eqF, n32_lit, n32_add, n32_mul, n32_sub, n32_le, n32_lt, n32_eq, n32_nat, gdn, gd_T, inbT, bd_y, bd2_y, ifp, ifn, not_true_eq_false, not_false_eq_true, and_self, true_and, and_true, false_and, and_false, or_self, true_or, or_true, false_or, or_false, wA_s, wL_s, sA_same, sL_same, sA_L, sL_A, sA_I, sL_I, wI_A, wI_L, wI_same, sA_sA, sL_sL, sA_ne, sL_ne, wI_ne])]
        exact step _
      rw [F_can_L11, a7.1, ifn (by simp (disch := omega) only [↓reduceIte, ↓lt_y, leT, leF, ltT, ltF, eqT, eqF, n32_lit, n32_add, n32_mul, n32_sub, n32_le, n32_lt, n32_eq, n32_nat, gdn, gd_T, inbT, bd_y, bd2_y, ifp, ifn, not_true_eq_false, not_false_eq_true, and_self, true_and, and_true, false_and, and_false, or_self, true_or, or_true, false_or, or_false, wA_s, wL_s, sA_same, sL_same, sA_L, sL_A, sA_I, sL_I, wI_A, wI_L, wI_same, sA_sA, sL_sL, sA_ne, sL_ne, wI_ne]), gd_y (n32_inb (by omega))]
      simp only [zj, t2, t3]
      rw [canL]
      have hkn := kn_neg' t.2.2 (fun p hp => by have := hot.2.2 p hp; omega)
      have le_iff : ∀ a : Int32, ¬ (k < a) ↔ a ≤ k := fun a => by rw [Int32.lt_iff_toInt_lt, Int32.le_iff_toInt_le]; omega
      by_cases q : k < n32 t.2.1
      · have : knwn t k = false := by unfold knwn; rw [decide_eq_false (fun z => (le_iff _).mpr z q)]; rfl
        rw [ifp q, step, this]
        rfl
      · rw [ifn q, gd_y (n32_inb (by omega))]
        have hle := (le_iff _).mp q
        cases hu : t.2.2 with
        | none =>
          have : knwn t k = true := by unfold knwn; rw [decide_eq_true hle, hu]; rfl
          rw [ifp ((hu ▸ hkn).mpr rfl), inner, this]
          rfl
        | some u =>
          rw [ifn (fun z => by have := (hu ▸ hkn).mp z; cases this), gd_y (n32_inb (by omega))]
          by_cases q2 : k < kn32 (some u)
          · have : knwn t k = true := by unfold knwn; rw [decide_eq_true hle, hu]; simp only [Bool.true_and]; exact decide_eq_true q2
            rw [ifp q2, inner, this]
            rfl
          · have : knwn t k = false := by unfold knwn; rw [decide_eq_true hle, hu]; simp only [Bool.true_and]; exact decide_eq_false q2
            rw [ifn q2, step, this]
            rfl
  exact main (zL S) 0 _ MN rfl (by omega) (by omega)
theorem image_M {σ : MS} {S : St} (h : MR σ S) (ho : okSt S) (p : Int32) : Ok (F_image p σ) fun o => o.1 = (o_image p S).1 ∧ MR o.2 (o_image p S).2 := by
  have hMN := MN_gt
  have hl := ho.2.2.1
  obtain ⟨-, -, -, -, a5, -, a7, a8, a9, -, a11⟩ := id h
  have e0 : F_isIn p 0 2 = some (b32 (ixo p 3 ≠ none)) := isIn_L p 3 (by omega)
  unfold F_image o_image
  refine Ok.bd e0 ?_
  cases hi : ixo p 3 with
  | none =>
    rw [b32_none rfl]
    exact Ok.tt (by decide) (Ok.done ⟨rfl, h⟩)
  | some j =>
    obtain ⟨rfl, hj⟩ := ixo_some hi
    have zj := n32_nat (a := j) (by omega)
    rw [b32_some rfl]
    refine Ok.ff (by decide) (Ok.gd (n32_inb (by omega)) (Ok.lt _ rfl (Ok.gd (n32_inb (by omega)) (Ok.lt _ rfl ?_))))
    simp only [zj, wA_s, sA_I, a7.1, a9, sA_ne _ _ _ _ (show (85 : Nat) ≠ 84 by omega)]
    generalize hσ1 : sA (sA σ 84 (up0 (mA σ 84) j (n32 (zL S).length))) 85 (up0 (mA σ 85) j (zW S)) = σ1
    have f1 : Fr [] [84, 85] [] σ σ1 := hσ1 ▸ (Fr.sA σ 84 _).tr (Fr.sA _ 85 _) (by simp) (by simp) (by simp)
    have g84 : mA σ1 84 = up0 (mA σ 84) j (n32 (zL S).length) := by rw [← hσ1, sA_ne _ _ _ _ (by omega), sA_same]
    have g85 : mA σ1 85 = up0 (mA σ 85) j (zW S) := by rw [← hσ1, sA_same]
    have m82 : mI σ1 82 = n32 (zL S).length := by rw [f1.1 82 (by simp)]; exact a7.1
    obtain ⟨fu, s, ⟨f2, b1, b2⟩, e⟩ := upe (fun fu k s => F_image_L33 fu (n32 j) (n32 k) s) 0 (zL S).length
      (fun k s => Fr [] [86, 87, 88] [] σ1 s ∧ (∀ i, i < k → mA s 86 (20 * j + i) = mA σ 79 i ∧ mA s 87 (20 * j + i) = mA σ 80 i ∧ mA s 88 (20 * j + i) = mA σ 81 i) ∧ ∀ i, i < 20 * j ∨ 20 * j + 20 ≤ i → mA s 86 i = mA σ 86 i ∧ mA s 87 i = mA σ 87 i ∧ mA s 88 i = mA σ 88 i)
      (by
        rintro fu k s - hk ⟨f2, b1, b2⟩
        have zk := n32_nat (a := k) (by omega)
        have z20 := n32_nat (a := 20 * j + k) (by omega)
        try dsimp only
        rw [F_image_L33, f2.1 82 (by simp), m82, ifn (by simp (disch := omega) only [↓reduceIte, ↓lt_y, leT, leF, ltT, ltF, eqT, eqF, n32_lit, n32_add, n32_mul, n32_sub, n32_le, n32_lt, n32_eq, n32_nat, gdn, gd_T, inbT, bd_y, bd2_y, ifp, ifn, not_true_eq_false, not_false_eq_true, and_self, true_and, and_true, false_and, and_false, or_self, true_or, or_true, false_or, or_false, wA_s, wL_s, sA_same, sL_same, sA_L, sL_A, sA_I, sL_I, wI_A, wI_L, wI_same, sA_sA, sL_sL, sA_ne, sL_ne, wI_ne]), show (20 : Int32) * n32 j + n32 k = n32 (20 * j + k) from by simp (disch := omega) only [↓reduceIte, ↓lt_y, leT, leF, ltT, ltF, eqT, eqF, n32_lit, n32_add, n32_mul, n32_sub, n32_le, n32_lt, n32_eq, n32_nat, gdn, gd_T, inbT, bd_y, bd2_y, ifp, ifn, not_true_eq_false, not_false_eq_true, and_self, true_and, and_true, false_and, and_false, or_self, true_or, or_true, false_or, or_false, wA_s, wL_s, sA_same, sL_same, sA_L, sL_A, sA_I, sL_I, wI_A, wI_L, wI_same, sA_sA, sL_sL, sA_ne, sL_ne, wI_ne], gd_y (n32_inb (by omega)), gd_y (n32_inb (by omega))]
        have i1 : inb (n32 k) 20 := n32_inb (by omega)
        have i2 : inb (n32 (20 * j + k)) 60 := n32_inb (by omega)
        simp only [↓lt_y, gd_y i1, gd_y i2]
        simp only [zk, z20, wA_s, sA_ne _ _ _ _ (show (80 : Nat) ≠ 86 by omega), sA_ne _ _ _ _ (show (87 : Nat) ≠ 86 by omega), sA_ne _ _ _ _ (show (81 : Nat) ≠ 87 by omega), sA_ne _ _ _ _ (show (81 : Nat) ≠ 86 by omega), sA_ne _ _ _ _ (show (88 : Nat) ≠ 87 by omega), sA_ne _ _ _ _ (show (88 : Nat) ≠ 86 by omega)]
        rw [show n32 k + (1 : Int32) = n32 (k + 1) from by simp (disch := omega) only [↓reduceIte, ↓lt_y, leT, leF, ltT, ltF, eqT, eqF, n32_lit, n32_add, n32_mul, n32_sub, n32_le, n32_lt, n32_eq, n32_nat, gdn, gd_T, inbT, bd_y, bd2_y, ifp, ifn, not_true_eq_false, not_false_eq_true, and_self, true_and, and_true, false_and, and_false, or_self, true_or, or_true, false_or, or_false, wA_s, wL_s, sA_same, sL_same, sA_L, sL_A, sA_I, sL_I, wI_A, wI_L, wI_same, sA_sA, sL_sL, sA_ne, sL_ne, wI_ne], f2.2.1 79 (by simp), f2.2.1 80 (by simp), f2.2.1 81 (by simp), f1.2.1 79 (by simp), f1.2.1 80 (by simp), f1.2.1 81 (by simp)]
        refine ⟨_, rfl, ?_, fun i hi' => ?_, fun i hi' => ?_⟩
        · exact ((f2.tr (Fr.sA s 86 _) (js := []) (bs := [86, 87, 88]) (ms := []) (by simp) (by simp <;> omega) (by simp)).tr (Fr.sA _ 87 _) (js := []) (bs := [86, 87, 88]) (ms := []) (by simp) (by simp <;> omega) (by simp)).tr (Fr.sA _ 88 _) (by simp) (by simp <;> omega) (by simp)
        · simp only [sA_same, sA_ne _ _ _ _ (show (86 : Nat) ≠ 88 by omega), sA_ne _ _ _ _ (show (86 : Nat) ≠ 87 by omega), sA_ne _ _ _ _ (show (87 : Nat) ≠ 88 by omega), up0]
          by_cases q : i = k
          · subst q; simp only [if_true, and_self]
          · rw [ifn (by omega), ifn (by omega), ifn (by omega)]
            exact b1 i (by omega)
        · simp only [sA_same, sA_ne _ _ _ _ (show (86 : Nat) ≠ 88 by omega), sA_ne _ _ _ _ (show (86 : Nat) ≠ 87 by omega), sA_ne _ _ _ _ (show (87 : Nat) ≠ 88 by omega), up0]
          rw [ifn (by omega), ifn (by omega), ifn (by omega)]
          exact b2 i hi')
      σ1 MN (Nat.zero_le _) (by omega) ⟨Fr.rf.mono (by simp) (by simp) (by simp), fun i hi => by omega, fun i _ => ⟨by rw [f1.2.1 86 (by simp)], by rw [f1.2.1 87 (by simp)], by rw [f1.2.1 88 (by simp)]⟩⟩
    rw [show (0 : Int32) = n32 0 from rfl]
    have e' : F_image_L33 MN (n32 j) (n32 0) σ1 = some (n32 (zL S).length, s) := by
      refine e.trans ?_
      try dsimp only
      rw [F_image_L33, f2.1 82 (by simp), m82, ifp (by simp (disch := omega) only [↓reduceIte, ↓lt_y, leT, leF, ltT, ltF, eqT, eqF, n32_lit, n32_add, n32_mul, n32_sub, n32_le, n32_lt, n32_eq, n32_nat, gdn, gd_T, inbT, bd_y, bd2_y, ifp, ifn, not_true_eq_false, not_false_eq_true, and_self, true_and, and_true, false_and, and_false, or_self, true_or, or_true, false_or, or_false, wA_s, wL_s, sA_same, sL_same, sA_L, sL_A, sA_I, sL_I, wI_A, wI_L, wI_same, sA_sA, sL_sL, sA_ne, sL_ne, wI_ne])]
    refine ⟨_, e', rfl, ?_⟩
    have f : Fr [] [84, 85, 86, 87, 88] [] σ s := f1.tr f2 (by simp) (by simp <;> omega) (by simp)
    refine h.re f (by simp) (by simp <;> omega) rfl rfl rfl ⟨by rw [f.1 2 (by simp)]; exact a5.1, by rw [f.2.1 0 (by simp)]; exact a5.2⟩ ⟨by rw [f.1 82 (by simp)]; exact a7.1, a7.2.eq (f.2.1 79 (by simp)) (f.2.1 80 (by simp)) (f.2.1 81 (by simp))⟩ (by rw [f.1 83 (by simp)]; exact a8) (by rw [f.1 72 (by simp)]; exact a9) (fun i hi' => ?_)
    show MBx s i (if i = j then some (zL S, zW S) else zB S i)
    by_cases q : i = j
    · subst q
      rw [ifp rfl]
      refine ⟨by rw [f2.2.1 84 (by simp), g84, up0, ifp rfl], by rw [f2.2.1 85 (by simp), g85, up0, ifp rfl], fun k t hk => ?_⟩
      have hkl : k < (zL S).length := (List.getElem?_eq_some_iff.mp hk).1
      obtain ⟨x1, x2, x3⟩ := b1 k hkl
      have := a7.2 k t hk
      unfold MTl at this ⊢
      rw [Nat.zero_add] at this
      rw [x1, x2, x3]
      exact this
    · rw [ifn q]
      have := a11 i hi'
      unfold MBx at this ⊢
      split
      · rename_i eq; rw [eq] at this
        rw [f2.2.1 84 (by simp), g84, up0, ifn q]; exact this
      · rename_i l w eq
        rw [eq] at this
        obtain ⟨x1, x2, x3⟩ := this
        refine ⟨by rw [f2.2.1 84 (by simp), g84, up0, ifn q]; exact x1, by rw [f2.2.1 85 (by simp), g85, up0, ifn q]; exact x2, fun k t hk => ?_⟩
        have hkl : k < l.length := (List.getElem?_eq_some_iff.mp hk).1
        have hl20 := (ho.2.2.2.2.2.2.2.2.2 i l w eq).1
        obtain ⟨y1, y2, y3⟩ := b2 (20 * i + k) (by omega)
        have := x3 k t hk
        unfold MTl at this ⊢
        rw [y1, y2, y3]
        exact this
theorem back_M {σ : MS} {S : St} (h : MR σ S) (ho : okSt S) (p : Int32) : Ok (F_back p σ) fun o => o.1 = (o_back p S).1 ∧ MR o.2 (o_back p S).2 := by
  have hMN := MN_gt
  obtain ⟨-, -, -, -, a5, -, a7, a8, a9, -, a11⟩ := id h
  have e0 : F_isIn p 0 2 = some (b32 (ixo p 3 ≠ none)) := isIn_L p 3 (by omega)
  unfold F_back o_back
  refine Ok.bd e0 ?_
  cases hi : ixo p 3 with
  | none =>
    rw [b32_none rfl]
    exact Ok.tt (by decide) (Ok.done ⟨rfl, h⟩)
  | some j =>
    obtain ⟨rfl, hj⟩ := ixo_some hi
    have zj := n32_nat (a := j) (by omega)
    rw [b32_some rfl]
    refine Ok.ff (by decide) (Ok.gd (n32_inb (by omega)) ?_)
    simp only [zj]
    have hbx := a11 j hj
    cases hb : zB S j with
    | none =>
      rw [hb] at hbx
      rw [show mA σ 84 j = -1 from hbx]
      exact Ok.ff (by decide) (Ok.done ⟨rfl, h⟩)
    | some q =>
      obtain ⟨l, w⟩ := q
      rw [hb] at hbx
      obtain ⟨x1, x2, x3⟩ := hbx
      have hl20 := (ho.2.2.2.2.2.2.2.2.2 j l w hb).1
      rw [x1]
      refine Ok.tt (n32_ge _ (by omega)) (Ok.gd (n32_inb (by omega)) (Ok.lt _ rfl (Ok.gd (n32_inb (by omega)) (Ok.lt _ rfl ?_))))
      rw [wI_A, x2]
      generalize hσ1 : wI (wI σ 82 (n32 l.length)) 72 w = σ1
      have f1 : Fr [82, 72] [] [] σ σ1 := hσ1 ▸ (Fr.wI σ 82 _).tr (Fr.wI _ 72 _) (by simp) (by simp) (by simp)
      have m82 : mI σ1 82 = n32 l.length := by rw [← hσ1, wI_ne _ _ _ _ (by omega), wI_same]
      have m72 : mI σ1 72 = w := by rw [← hσ1, wI_same]
      obtain ⟨fu, s, ⟨f2, b1⟩, e⟩ := upe (fun fu k s => F_back_L42 fu (n32 j) (n32 k) s) 0 l.length
        (fun k s => Fr [] [79, 80, 81] [] σ1 s ∧ (∀ i, i < k → mA s 79 i = mA σ 86 (20 * j + i) ∧ mA s 80 i = mA σ 87 (20 * j + i) ∧ mA s 81 i = mA σ 88 (20 * j + i)))
        (by
          rintro fu k s - hk ⟨f2, b1⟩
          have zk := n32_nat (a := k) (by omega)
          have z20 := n32_nat (a := 20 * j + k) (by omega)
          try dsimp only
          rw [F_back_L42, f2.1 82 (by simp), m82, ifn (by simp (disch := omega) only [↓reduceIte, ↓lt_y, leT, leF, ltT, ltF, eqT, eqF, n32_lit, n32_add, n32_mul, n32_sub, n32_le, n32_lt, n32_eq, n32_nat, gdn, gd_T, inbT, bd_y, bd2_y, ifp, ifn, not_true_eq_false, not_false_eq_true, and_self, true_and, and_true, false_and, and_false, or_self, true_or, or_true, false_or, or_false, wA_s, wL_s, sA_same, sL_same, sA_L, sL_A, sA_I, sL_I, wI_A, wI_L, wI_same, sA_sA, sL_sL, sA_ne, sL_ne, wI_ne]), show (20 : Int32) * n32 j + n32 k = n32 (20 * j + k) from by simp (disch := omega) only [↓reduceIte, ↓lt_y, leT, leF, ltT, ltF, eqT, eqF, n32_lit, n32_add, n32_mul, n32_sub, n32_le, n32_lt, n32_eq, n32_nat, gdn, gd_T, inbT, bd_y, bd2_y, ifp, ifn, not_true_eq_false, not_false_eq_true, and_self, true_and, and_true, false_and, and_false, or_self, true_or, or_true, false_or, or_false, wA_s, wL_s, sA_same, sL_same, sA_L, sL_A, sA_I, sL_I, wI_A, wI_L, wI_same, sA_sA, sL_sL, sA_ne, sL_ne, wI_ne]]
          have i1 : inb (n32 k) 20 := n32_inb (by omega)
          have i2 : inb (n32 (20 * j + k)) 60 := n32_inb (by omega)
          simp only [↓lt_y, gd_y i1, gd_y i2]
          simp only [zk, z20, wA_s, sA_ne _ _ _ _ (show (87 : Nat) ≠ 79 by omega), sA_ne _ _ _ _ (show (80 : Nat) ≠ 79 by omega), sA_ne _ _ _ _ (show (88 : Nat) ≠ 80 by omega), sA_ne _ _ _ _ (show (88 : Nat) ≠ 79 by omega), sA_ne _ _ _ _ (show (81 : Nat) ≠ 80 by omega), sA_ne _ _ _ _ (show (81 : Nat) ≠ 79 by omega)]
          rw [show n32 k + (1 : Int32) = n32 (k + 1) from by simp (disch := omega) only [↓reduceIte, ↓lt_y, leT, leF, ltT, ltF, eqT, eqF, n32_lit, n32_add, n32_mul, n32_sub, n32_le, n32_lt, n32_eq, n32_nat, gdn, gd_T, inbT, bd_y, bd2_y, ifp, ifn, not_true_eq_false, not_false_eq_true, and_self, true_and, and_true, false_and, and_false, or_self, true_or, or_true, false_or, or_false, wA_s, wL_s, sA_same, sL_same, sA_L, sL_A, sA_I, sL_I, wI_A, wI_L, wI_same, sA_sA, sL_sL, sA_ne, sL_ne, wI_ne], f2.2.1 86 (by simp), f2.2.1 87 (by simp), f2.2.1 88 (by simp), f1.2.1 86 (by simp), f1.2.1 87 (by simp), f1.2.1 88 (by simp)]
          refine ⟨_, rfl, ?_, fun i hi' => ?_⟩
          · exact ((f2.tr (Fr.sA s 79 _) (js := []) (bs := [79, 80, 81]) (ms := []) (by simp) (by simp <;> omega) (by simp)).tr (Fr.sA _ 80 _) (js := []) (bs := [79, 80, 81]) (ms := []) (by simp) (by simp <;> omega) (by simp)).tr (Fr.sA _ 81 _) (by simp) (by simp <;> omega) (by simp)
          · simp only [sA_same, sA_ne _ _ _ _ (show (79 : Nat) ≠ 81 by omega), sA_ne _ _ _ _ (show (79 : Nat) ≠ 80 by omega), sA_ne _ _ _ _ (show (80 : Nat) ≠ 81 by omega), up0]
            by_cases q : i = k
            · subst q; simp only [if_true, and_self]
            · rw [ifn q, ifn q, ifn q]
              exact b1 i (by omega))
        σ1 MN (Nat.zero_le _) (by omega) ⟨Fr.rf.mono (by simp) (by simp) (by simp), fun i hi => by omega⟩
      rw [show (0 : Int32) = n32 0 from rfl]
      have e' : F_back_L42 MN (n32 j) (n32 0) σ1 = some (n32 l.length, s) := by
        refine e.trans ?_
        try dsimp only
        rw [F_back_L42, f2.1 82 (by simp), m82, ifp (by simp (disch := omega) only [↓reduceIte, ↓lt_y, leT, leF, ltT, ltF, eqT, eqF, n32_lit, n32_add, n32_mul, n32_sub, n32_le, n32_lt, n32_eq, n32_nat, gdn, gd_T, inbT, bd_y, bd2_y, ifp, ifn, not_true_eq_false, not_false_eq_true, and_self, true_and, and_true, false_and, and_false, or_self, true_or, or_true, false_or, or_false, wA_s, wL_s, sA_same, sL_same, sA_L, sL_A, sA_I, sL_I, wI_A, wI_L, wI_same, sA_sA, sL_sL, sA_ne, sL_ne, wI_ne])]
      refine ⟨_, e', rfl, ?_⟩
      have f : Fr [82, 72] [79, 80, 81] [] σ s := f1.tr f2 (by simp) (by simp) (by simp)
      refine h.re f (by simp) (by simp <;> omega) rfl rfl rfl ⟨by rw [f.1 2 (by simp)]; exact a5.1, by rw [f.2.1 0 (by simp)]; exact a5.2⟩ ⟨by rw [f2.1 82 (by simp)]; exact m82, fun k t hk => ?_⟩ (by rw [f.1 83 (by simp)]; exact a8) (by rw [f2.1 72 (by simp)]; exact m72) (fun i hi' => (a11 i hi').eq fun q x y => f.2.1 q (by simp; omega))
      have hkl : k < l.length := (List.getElem?_eq_some_iff.mp hk).1
      obtain ⟨y1, y2, y3⟩ := b1 k hkl
      have := x3 k t hk
      unfold MTl at this ⊢
      rw [Nat.zero_add, y1, y2, y3]
      exact this
theorem i8_i8 (x : Int8) : x.toInt32.toInt8 = x := by simp
theorem feed_M {σ : MS} {S : St} (h : MR σ S) (ho : okSt S) (a b c d e : Int32) : Ok (F_feed a b c d e σ) fun o => o.1 = (o_feed a b c d e S).1 ∧ MR o.2 (o_feed a b c d e S).2 := by
  have hMN := MN_gt
  have ht := ho.1
  obtain ⟨-, -, -, -, a5, -, a7, a8, a9, -, a11⟩ := id h
  unfold F_feed o_feed
  rw [a5.1, show n32 (zTp S).length + (20 : Int32) = n32 ((zTp S).length + 20) from by simp (disch := omega) only [↓reduceIte, ↓lt_y, leT, leF, ltT, ltF, eqT, eqF, n32_lit, n32_add, n32_mul, n32_sub, n32_le, n32_lt, n32_eq, n32_nat, gdn, gd_T, inbT, bd_y, bd2_y, ifp, ifn, not_true_eq_false, not_false_eq_true, and_self, true_and, and_true, false_and, and_false, or_self, true_or, or_true, false_or, or_false, wA_s, wL_s, sA_same, sL_same, sA_L, sL_A, sA_I, sL_I, wI_A, wI_L, wI_same, sA_sA, sL_sL, sA_ne, sL_ne, wI_ne]]
  by_cases q : 1600 < (zTp S).length + 20
  · simp only [ifp q]
    exact Ok.ff (by simp (disch := omega) only [↓reduceIte, ↓lt_y, leT, leF, ltT, ltF, eqT, eqF, n32_lit, n32_add, n32_mul, n32_sub, n32_le, n32_lt, n32_eq, n32_nat, gdn, gd_T, inbT, bd_y, bd2_y, ifp, ifn, not_true_eq_false, not_false_eq_true, and_self, true_and, and_true, false_and, and_false, or_self, true_or, or_true, false_or, or_false, wA_s, wL_s, sA_same, sL_same, sA_L, sL_A, sA_I, sL_I, wI_A, wI_L, wI_same, sA_sA, sL_sL, sA_ne, sL_ne, wI_ne]) (Ok.done ⟨rfl, h⟩)
  simp only [ifn q]
  refine Ok.tt (by simp (disch := omega) only [↓reduceIte, ↓lt_y, leT, leF, ltT, ltF, eqT, eqF, n32_lit, n32_add, n32_mul, n32_sub, n32_le, n32_lt, n32_eq, n32_nat, gdn, gd_T, inbT, bd_y, bd2_y, ifp, ifn, not_true_eq_false, not_false_eq_true, and_self, true_and, and_true, false_and, and_false, or_self, true_or, or_true, false_or, or_false, wA_s, wL_s, sA_same, sL_same, sA_L, sL_A, sA_I, sL_I, wI_A, wI_L, wI_same, sA_sA, sL_sL, sA_ne, sL_ne, wI_ne]) ?_
  generalize hB : byts a ++ byts b ++ byts c ++ byts d ++ byts e = bs
  have hbl : bs.length = 20 := by rw [← hB]; rfl
  obtain ⟨fu, s, ⟨g, rfl, b1, b2⟩, e1⟩ := upe (fun fu k s => F_feed_L18 fu a b c d e (n32 k) s) 0 20
    (fun k s => ∃ g, s = sA σ 0 g ∧ (∀ i, i < k → g ((zTp S).length + i) = bs.getD i 0) ∧ ∀ i, i < (zTp S).length → g i = mA σ 0 i)
    (by
      rintro fu k s - hk ⟨g, rfl, b1, b2⟩
      have hstep : ∀ y : Int32, (y >>> n32 (24 - 8 * (k % 4))).toInt8.toInt32 = bs.getD k 0 → ∃ s', F_feed_b71 (F_feed_L18 fu) a b c d e (n32 k) y (sA σ 0 g) = F_feed_L18 fu a b c d e (n32 (k + 1)) s' ∧ ∃ g, s' = sA σ 0 g ∧ (∀ i, i < k + 1 → g ((zTp S).length + i) = bs.getD i 0) ∧ ∀ i, i < (zTp S).length → g i = mA σ 0 i := by
        intro y hy
        unfold F_feed_b71
        have zz := n32_nat (a := (zTp S).length + k) (by omega)
        have e3 : n32 k &&& (3 : Int32) = n32 (k % 4) := by
          rw [show (3 : Int32) = n32 3 from rfl, n32_and]
          congr 1
          exact Nat.and_two_pow_sub_one_eq_mod k 2
        have e4 : ((24 : Int32) - (8 : Int32) * n32 (k % 4)) &&& 31 = n32 (24 - 8 * (k % 4)) := by
          rw [show (8 : Int32) * n32 (k % 4) = n32 (8 * (k % 4)) from by simp (disch := omega) only [↓reduceIte, ↓lt_y, leT, leF, ltT, ltF, eqT, eqF, n32_lit, n32_add, n32_mul, n32_sub, n32_le, n32_lt, n32_eq, n32_nat, gdn, gd_T, inbT, bd_y, bd2_y, ifp, ifn, not_true_eq_false, not_false_eq_true, and_self, true_and, and_true, false_and, and_false, or_self, true_or, or_true, false_or, or_false, wA_s, wL_s, sA_same, sL_same, sA_L, sL_A, sA_I, sL_I, wI_A, wI_L, wI_same, sA_sA, sL_sL, sA_ne, sL_ne, wI_ne], show (24 : Int32) = n32 24 from rfl, n32_sub (by omega), show (31 : Int32) = n32 31 from rfl, n32_m31 _ (by omega)]
        rw [sA_I, a5.1, show n32 (zTp S).length + n32 k = n32 ((zTp S).length + k) from by simp (disch := omega) only [↓reduceIte, ↓lt_y, leT, leF, ltT, ltF, eqT, eqF, n32_lit, n32_add, n32_mul, n32_sub, n32_le, n32_lt, n32_eq, n32_nat, gdn, gd_T, inbT, bd_y, bd2_y, ifp, ifn, not_true_eq_false, not_false_eq_true, and_self, true_and, and_true, false_and, and_false, or_self, true_or, or_true, false_or, or_false, wA_s, wL_s, sA_same, sL_same, sA_L, sL_A, sA_I, sL_I, wI_A, wI_L, wI_same, sA_sA, sL_sL, sA_ne, sL_ne, wI_ne], gd_y (n32_inb (by omega)), zz, e3, e4, i8_i8, hy, wA_s, sA_same, sA_sA]
        simp only [↓lt_y]
        rw [show n32 k + (1 : Int32) = n32 (k + 1) from by simp (disch := omega) only [↓reduceIte, ↓lt_y, leT, leF, ltT, ltF, eqT, eqF, n32_lit, n32_add, n32_mul, n32_sub, n32_le, n32_lt, n32_eq, n32_nat, gdn, gd_T, inbT, bd_y, bd2_y, ifp, ifn, not_true_eq_false, not_false_eq_true, and_self, true_and, and_true, false_and, and_false, or_self, true_or, or_true, false_or, or_false, wA_s, wL_s, sA_same, sL_same, sA_L, sL_A, sA_I, sL_I, wI_A, wI_L, wI_same, sA_sA, sL_sL, sA_ne, sL_ne, wI_ne]]
        refine ⟨_, rfl, _, rfl, fun i hi => ?_, fun i hi => ?_⟩
        · simp only [up0]
          by_cases z : i = k
          · rw [ifp (by omega), z]
          · rw [ifn (by omega)]; exact b1 i (by omega)
        · simp only [up0]
          rw [ifn (by omega)]; exact b2 i hi
      try dsimp only
      rw [F_feed_L18, ifn (by simp (disch := omega) only [↓reduceIte, ↓lt_y, leT, leF, ltT, ltF, eqT, eqF, n32_lit, n32_add, n32_mul, n32_sub, n32_le, n32_lt, n32_eq, n32_nat, gdn, gd_T, inbT, bd_y, bd2_y, ifp, ifn, not_true_eq_false, not_false_eq_true, and_self, true_and, and_true, false_and, and_false, or_self, true_or, or_true, false_or, or_false, wA_s, wL_s, sA_same, sL_same, sA_L, sL_A, sA_I, sL_I, wI_A, wI_L, wI_same, sA_sA, sL_sL, sA_ne, sL_ne, wI_ne])]
      by_cases k4 : k < 4
      · rw [ifn (by simp (disch := omega) only [↓reduceIte, ↓lt_y, leT, leF, ltT, ltF, eqT, eqF, n32_lit, n32_add, n32_mul, n32_sub, n32_le, n32_lt, n32_eq, n32_nat, gdn, gd_T, inbT, bd_y, bd2_y, ifp, ifn, not_true_eq_false, not_false_eq_true, and_self, true_and, and_true, false_and, and_false, or_self, true_or, or_true, false_or, or_false, wA_s, wL_s, sA_same, sL_same, sA_L, sL_A, sA_I, sL_I, wI_A, wI_L, wI_same, sA_sA, sL_sL, sA_ne, sL_ne, wI_ne])]
        refine hstep a ?_
        rw [← hB]
        have : k = 0 ∨ k = 1 ∨ k = 2 ∨ k = 3 := by omega
        rcases this with rfl | rfl | rfl | rfl <;> rfl
      · rw [ifp (by simp (disch := omega) only [↓reduceIte, ↓lt_y, leT, leF, ltT, ltF, eqT, eqF, n32_lit, n32_add, n32_mul, n32_sub, n32_le, n32_lt, n32_eq, n32_nat, gdn, gd_T, inbT, bd_y, bd2_y, ifp, ifn, not_true_eq_false, not_false_eq_true, and_self, true_and, and_true, false_and, and_false, or_self, true_or, or_true, false_or, or_false, wA_s, wL_s, sA_same, sL_same, sA_L, sL_A, sA_I, sL_I, wI_A, wI_L, wI_same, sA_sA, sL_sL, sA_ne, sL_ne, wI_ne])]
        by_cases k8 : k < 8
        · rw [ifn (by simp (disch := omega) only [↓reduceIte, ↓lt_y, leT, leF, ltT, ltF, eqT, eqF, n32_lit, n32_add, n32_mul, n32_sub, n32_le, n32_lt, n32_eq, n32_nat, gdn, gd_T, inbT, bd_y, bd2_y, ifp, ifn, not_true_eq_false, not_false_eq_true, and_self, true_and, and_true, false_and, and_false, or_self, true_or, or_true, false_or, or_false, wA_s, wL_s, sA_same, sL_same, sA_L, sL_A, sA_I, sL_I, wI_A, wI_L, wI_same, sA_sA, sL_sL, sA_ne, sL_ne, wI_ne])]
          refine hstep b ?_
          rw [← hB]
          have : k = 4 ∨ k = 5 ∨ k = 6 ∨ k = 7 := by omega
          rcases this with rfl | rfl | rfl | rfl <;> rfl
        · rw [ifp (by simp (disch := omega) only [↓reduceIte, ↓lt_y, leT, leF, ltT, ltF, eqT, eqF, n32_lit, n32_add, n32_mul, n32_sub, n32_le, n32_lt, n32_eq, n32_nat, gdn, gd_T, inbT, bd_y, bd2_y, ifp, ifn, not_true_eq_false, not_false_eq_true, and_self, true_and, and_true, false_and, and_false, or_self, true_or, or_true, false_or, or_false, wA_s, wL_s, sA_same, sL_same, sA_L, sL_A, sA_I, sL_I, wI_A, wI_L, wI_same, sA_sA, sL_sL, sA_ne, sL_ne, wI_ne])]
          by_cases k12 : k < 12
          · rw [ifn (by simp (disch := omega) only [↓reduceIte, ↓lt_y, leT, leF, ltT, ltF, eqT, eqF, n32_lit, n32_add, n32_mul, n32_sub, n32_le, n32_lt, n32_eq, n32_nat, gdn, gd_T, inbT, bd_y, bd2_y, ifp, ifn, not_true_eq_false, not_false_eq_true, and_self, true_and, and_true, false_and, and_false, or_self, true_or, or_true, false_or, or_false, wA_s, wL_s, sA_same, sL_same, sA_L, sL_A, sA_I, sL_I, wI_A, wI_L, wI_same, sA_sA, sL_sL, sA_ne, sL_ne, wI_ne])]
            refine hstep c ?_
            rw [← hB]
            have : k = 8 ∨ k = 9 ∨ k = 10 ∨ k = 11 := by omega
            rcases this with rfl | rfl | rfl | rfl <;> rfl
          · rw [ifp (by simp (disch := omega) only [↓reduceIte, ↓lt_y, leT, leF, ltT, ltF, eqT, eqF, n32_lit, n32_add, n32_mul, n32_sub, n32_le, n32_lt, n32_eq, n32_nat, gdn, gd_T, inbT, bd_y, bd2_y, ifp, ifn, not_true_eq_false, not_false_eq_true, and_self, true_and, and_true, false_and, and_false, or_self, true_or, or_true, false_or, or_false, wA_s, wL_s, sA_same, sL_same, sA_L, sL_A, sA_I, sL_I, wI_A, wI_L, wI_same, sA_sA, sL_sL, sA_ne, sL_ne, wI_ne])]
            by_cases k16 : k < 16
            · rw [ifn (by simp (disch := omega) only [↓reduceIte, ↓lt_y, leT, leF, ltT, ltF, eqT, eqF, n32_lit, n32_add, n32_mul, n32_sub, n32_le, n32_lt, n32_eq, n32_nat, gdn, gd_T, inbT, bd_y, bd2_y, ifp, ifn, not_true_eq_false, not_false_eq_true, and_self, true_and, and_true, false_and, and_false, or_self, true_or, or_true, false_or, or_false, wA_s, wL_s, sA_same, sL_same, sA_L, sL_A, sA_I, sL_I, wI_A, wI_L, wI_same, sA_sA, sL_sL, sA_ne, sL_ne, wI_ne])]
              refine hstep d ?_
              rw [← hB]
              have : k = 12 ∨ k = 13 ∨ k = 14 ∨ k = 15 := by omega
              rcases this with rfl | rfl | rfl | rfl <;> rfl
            · rw [ifp (by simp (disch := omega) only [↓reduceIte, ↓lt_y, leT, leF, ltT, ltF, eqT, eqF, n32_lit, n32_add, n32_mul, n32_sub, n32_le, n32_lt, n32_eq, n32_nat, gdn, gd_T, inbT, bd_y, bd2_y, ifp, ifn, not_true_eq_false, not_false_eq_true, and_self, true_and, and_true, false_and, and_false, or_self, true_or, or_true, false_or, or_false, wA_s, wL_s, sA_same, sL_same, sA_L, sL_A, sA_I, sL_I, wI_A, wI_L, wI_same, sA_sA, sL_sL, sA_ne, sL_ne, wI_ne])]
              refine hstep e ?_
              rw [← hB]
              have : k = 16 ∨ k = 17 ∨ k = 18 ∨ k = 19 := by omega
              rcases this with rfl | rfl | rfl | rfl <;> rfl)
    σ MN (by omega) (by omega) ⟨mA σ 0, (sA_id σ 0).symm, fun i hi => by omega, fun i _ => rfl⟩
  rw [show (0 : Int32) = n32 0 from rfl]
  have e' : F_feed_L18 MN a b c d e (n32 0) σ = some (n32 ((zTp S).length + 20), wI (sA σ 0 g) 2 (n32 ((zTp S).length + 20))) := by
    refine e1.trans ?_
    try dsimp only
    rw [F_feed_L18, ifp (by simp (disch := omega) only [↓reduceIte, ↓lt_y, leT, leF, ltT, ltF, eqT, eqF, n32_lit, n32_add, n32_mul, n32_sub, n32_le, n32_lt, n32_eq, n32_nat, gdn, gd_T, inbT, bd_y, bd2_y, ifp, ifn, not_true_eq_false, not_false_eq_true, and_self, true_and, and_true, false_and, and_false, or_self, true_or, or_true, false_or, or_false, wA_s, wL_s, sA_same, sL_same, sA_L, sL_A, sA_I, sL_I, wI_A, wI_L, wI_same, sA_sA, sL_sL, sA_ne, sL_ne, wI_ne])]
    unfold F_feed_b105
    simp only [↓lt_y]
    rw [sA_I, a5.1, show n32 (zTp S).length + (20 : Int32) = n32 ((zTp S).length + 20) from by simp (disch := omega) only [↓reduceIte, ↓lt_y, leT, leF, ltT, ltF, eqT, eqF, n32_lit, n32_add, n32_mul, n32_sub, n32_le, n32_lt, n32_eq, n32_nat, gdn, gd_T, inbT, bd_y, bd2_y, ifp, ifn, not_true_eq_false, not_false_eq_true, and_self, true_and, and_true, false_and, and_false, or_self, true_or, or_true, false_or, or_false, wA_s, wL_s, sA_same, sL_same, sA_L, sL_A, sA_I, sL_I, wI_A, wI_L, wI_same, sA_sA, sL_sL, sA_ne, sL_ne, wI_ne], wI_same]
  refine ⟨_, e', rfl, ?_⟩
  have f : Fr [2] [0] [] σ (wI (sA σ 0 g) 2 (n32 ((zTp S).length + 20))) := (Fr.sA σ 0 g).tr (Fr.wI _ 2 _) (by simp) (by simp) (by simp)
  refine h.re f (by simp) (by simp) rfl rfl rfl ⟨?_, fun i v hv => ?_⟩ ⟨by rw [f.1 82 (by simp)]; exact a7.1, a7.2.eq (f.2.1 79 (by simp)) (f.2.1 80 (by simp)) (f.2.1 81 (by simp))⟩ (by rw [f.1 83 (by simp)]; exact a8) (by rw [f.1 72 (by simp)]; exact a9) (fun j hj => (a11 j hj).eq fun q x y => f.2.1 q (by simp; omega))
  · show mI (wI (sA σ 0 g) 2 _) 2 = n32 (zTp S ++ bs).length
    rw [wI_same, List.length_append, hbl]
  · have hv' : (zTp S ++ bs)[i]? = some v := hv
    rw [wI_A, sA_same]
    by_cases z : i < (zTp S).length
    · rw [List.getElem?_append_left z] at hv'
      rw [b2 i z]
      exact a5.2 i v hv'
    · rw [List.getElem?_append_right (by omega)] at hv'
      have hlt : i - (zTp S).length < bs.length := (List.getElem?_eq_some_iff.mp hv').1
      have := b1 (i - (zTp S).length) (by omega)
      rw [show (zTp S).length + (i - (zTp S).length) = i by omega] at this
      rw [this, List.getD_eq_getElem?_getD, hv']
      rfl
