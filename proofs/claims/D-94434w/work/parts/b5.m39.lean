set_option maxRecDepth 100000
/-! THE REFERENCE: marks are settled -/
def mtS (xs : List Stq) (n j : Nat) : Prop := ∃ y, xs[j]? = some y ∧ sT y = 10 ∧ sn y = n
/-- marks stand once, behind those who go there -/
def okMk (xs : List Stq) : Prop := (∀ x ∈ xs, okS x) ∧ ∀ (k : Nat) (x : Stq), xs[k]? = some x → sT x = 9 ∨ sT x = 10 → mrk (xs.take k) (sn x) = false
theorem mt_lt {xs : List Stq} (h : okMk xs) {k j : Nat} {x : Stq} (hk : xs[k]? = some x) (hx : sT x = 9 ∨ sT x = 10) (hj : mtS xs (sn x) j) : k ≤ j := by
  obtain ⟨y, h1, h2, h3⟩ := hj
  apply Classical.byContradiction
  intro z
  have : mrk (xs.take k) (sn x) = true := mrk_get (j := j) (y := y) (by rw [List.getElem?_take, if_pos (by omega)]; exact h1) h2 h3
  rw [h.2 k x hk hx] at this; cases this
theorem mt_un {xs : List Stq} (h : okMk xs) {n i j : Nat} (hi : mtS xs n i) (hj : mtS xs n j) : i = j := by
  obtain ⟨y, h1, h2, h3⟩ := id hi
  obtain ⟨y', h1', h2', h3'⟩ := id hj
  have a := mt_lt h h1 (Or.inr h2) (by rw [h3]; exact hj)
  have b := mt_lt h h1' (Or.inr h2') (by rw [h3']; exact hi)
  omega
theorem mrkAt_some {xs : List Stq} (h : okMk xs) {n j : Nat} (hj : mtS xs n j) : mrkAt xs n = some j := by
  cases hm : mrkAt xs n with
  | some k => rw [mt_un h hj (mrkAt_i hm)]
  | none =>
    exfalso
    unfold mrkAt at hm
    rw [List.findIdx?_eq_none_iff] at hm
    obtain ⟨y, h1, h2, h3⟩ := hj
    have := hm y (List.mem_of_getElem? h1)
    rw [decide_eq_true ⟨h2, h3⟩] at this; cases this
theorem mrkAt_none {xs : List Stq} {n : Nat} (h : ∀ j, ¬ mtS xs n j) : mrkAt xs n = none := by
  cases hm : mrkAt xs n with
  | some k => exact absurd (mrkAt_i hm) (h k)
  | none => rfl
theorem settle_L {b : Nat} {t : List Nat} {l0 : List Tk} {xs : List Stq} (hb : b < 2) (hx : xs.length ≤ 40) (hmk : okMk xs) : ∀ (l : List Stq) (k : Nat) (σ : MS) (fu : Nat), xs.drop k = l → k + l.length = xs.length → l.length < fu → mI σ 36 = n32 b → mA σ 13 b = n32 xs.length → MQs σ (52 * b) xs → PS σ t (.inr l0) →
    ∃ τ, F_settleMarks_L8 fu (n32 (52 * b + k)) σ = some τ ∧ Fr [4, 5] [25] [] σ τ ∧ (∀ i, (i < 52 * b + k ∨ 52 * b + xs.length ≤ i) → mA τ 25 i = mA σ 25 i) ∧ match pStl xs l with
      | .inl e => PS τ t (.inl e)
      | .inr l' => PS τ t (.inr l0) ∧ ∀ j x, l'[j]? = some x → MStp τ (52 * b + k + j) x := by
  have hMN := MN_gt
  have zb := n32_nat (a := b) (by omega)
  intro l
  induction l with
  | nil =>
    intro k σ fu hd hl hfu h36 h13 hq hS
    obtain ⟨fu, rfl⟩ : ∃ f, fu = f + 1 := ⟨fu - 1, by omega⟩
    rw [List.length_nil] at hl
    rw [F_settleMarks_L8]
    simp only [h36, zb, h13]
    rw [gd_y (n32_inb (by omega)), show (52 : Int32) * n32 b + n32 xs.length = n32 (52 * b + xs.length) from by simp (disch := omega) only [↓reduceIte, ↓lt_y, leT, leF, ltT, ltF, eqT, eqF, n32_lit, n32_add, n32_mul, n32_sub, n32_le, n32_lt, n32_eq, n32_nat, gdn, gd_T, inbT, bd_y, bd2_y, ifp, ifn, not_true_eq_false, not_false_eq_true, and_self, true_and, and_true, false_and, and_false, or_self, true_or, or_true, false_or, or_false, wA_s, wL_s, sA_same, sL_same, sA_L, sL_A, sA_I, sL_I, wI_A, wI_L, wI_same, sA_sA, sL_sL, sA_ne, sL_ne, wI_ne], ifp ((n32_le ⟨by omega, by omega⟩).mpr (by omega))]
    exact ⟨σ, rfl, Fr.any, fun _ _ => rfl, hS, fun j x hj => by simp at hj⟩
  | cons x l ih =>
    intro k σ fu hd hl hfu h36 h13 hq hS
    obtain ⟨fu, rfl⟩ : ∃ f, fu = f + 1 := ⟨fu - 1, by omega⟩
    rw [List.length_cons] at hl hfu
    have hxk : xs[k]? = some x := by
      have : (xs.drop k)[0]? = some x := by rw [hd]; rfl
      rw [List.getElem?_drop, Nat.add_zero] at this; exact this
    have hd2 : xs.drop (k + 1) = l := by
      have : (xs.drop k).drop 1 = l := by rw [hd]; rfl
      rw [List.drop_drop] at this; exact this
    have hm := hq k x hxk
    have hox := hmk.1 x (List.mem_of_getElem? hxk)
    have hT12 := hox.o12
    have zk := n32_nat (a := 52 * b + k) (by omega)
    have e52 : (52 : Int32) * n32 b + n32 xs.length = n32 (52 * b + xs.length) := by simp (disch := omega) only [↓reduceIte, ↓lt_y, leT, leF, ltT, ltF, eqT, eqF, n32_lit, n32_add, n32_mul, n32_sub, n32_le, n32_lt, n32_eq, n32_nat, gdn, gd_T, inbT, bd_y, bd2_y, ifp, ifn, not_true_eq_false, not_false_eq_true, and_self, true_and, and_true, false_and, and_false, or_self, true_or, or_true, false_or, or_false, wA_s, wL_s, sA_same, sL_same, sA_L, sL_A, sA_I, sL_I, wI_A, wI_L, wI_same, sA_sA, sL_sL, sA_ne, sL_ne, wI_ne]
    rw [F_settleMarks_L8]
    simp only [h36, zb, h13, zk, hm.1]
    rw [gd_y (n32_inb (by omega)), e52, ifn (by rw [n32_le ⟨by omega, by omega⟩]; omega), isGood_y hS, bd_y, ifn g1N, gd_y (n32_inb (by omega)), gd_y (n32_inb (by omega))]
    have next : ∀ χ, F_settleMarks_b149 (F_settleMarks_L8 fu) (n32 (52 * b + k)) χ = F_settleMarks_L8 fu (n32 (52 * b + (k + 1))) χ := fun χ => by
      unfold F_settleMarks_b149
      rw [lt_y, show n32 (52 * b + k) + (1 : Int32) = n32 (52 * b + (k + 1)) from by simp (disch := omega) only [↓reduceIte, ↓lt_y, leT, leF, ltT, ltF, eqT, eqF, n32_lit, n32_add, n32_mul, n32_sub, n32_le, n32_lt, n32_eq, n32_nat, gdn, gd_T, inbT, bd_y, bd2_y, ifp, ifn, not_true_eq_false, not_false_eq_true, and_self, true_and, and_true, false_and, and_false, or_self, true_or, or_true, false_or, or_false, wA_s, wL_s, sA_same, sL_same, sA_L, sL_A, sA_I, sL_I, wI_A, wI_L, wI_same, sA_sA, sL_sL, sA_ne, sL_ne, wI_ne]]
    rw [pStl]
    have k9 : n32 (sT x) = (9 : Int32) ↔ sT x = 9 := n32_eq (b := 9) ⟨by omega, by omega⟩
    by_cases q9 : sT x = 9
    · rw [ifp (k9.mpr q9), ifp q9, lt_y]
      -- the marks behind it are looked through
      obtain ⟨fu2, s2, ⟨j1, j2, j3⟩, e2⟩ := upe (fun fu' j σ' => F_settleMarks_L59 (F_settleMarks_b149 (F_settleMarks_L8 fu)) fu' (n32 (52 * b + k)) (n32 (52 * b + j)) σ') k xs.length
        (fun j σ' => Fr [] [25] [] σ σ' ∧ (∀ i, i ≠ 52 * b + k → mA σ' 25 i = mA σ 25 i) ∧ ((∃ m, m < j ∧ mtS xs (sn x) m ∧ mA σ' 25 (52 * b + k) = n32 m) ∨ ((∀ m, m < j → ¬ mtS xs (sn x) m) ∧ mA σ' 25 (52 * b + k) = -1)))
        (by
          rintro fu' j σ' hj1 hj2 ⟨f1, f2, f3⟩
          obtain ⟨y, hy⟩ : ∃ y, xs[j]? = some y := ⟨_, List.getElem?_eq_getElem hj2⟩
          have hmy := hq j y hy
          have hoy := hmk.1 y (List.mem_of_getElem? hy)
          have hTy := hoy.o12
          have zj := n32_nat (a := 52 * b + j) (by omega)
          have i36 : mI σ' 36 = n32 b := by rw [f1.1 36 (by simp)]; exact h36
          have i13 : mA σ' 13 b = n32 xs.length := by rw [f1.2.1 13 (by simp)]; exact h13
          have i22 : mA σ' 22 (52 * b + j) = n32 (sT y) := by rw [f1.2.1 22 (by simp)]; exact hmy.1
          have i29 : mL σ' 29 (52 * b + k) = e64 (sn x) := by rw [f1.2.2 29 (by simp)]; exact (hm.2.2.2.2.2.1 (Or.inl q9)).1
          have go : ∀ χ, F_settleMarks_b122 (F_settleMarks_L59 (F_settleMarks_b149 (F_settleMarks_L8 fu)) fu') (n32 (52 * b + k)) (n32 (52 * b + j)) χ = F_settleMarks_L59 (F_settleMarks_b149 (F_settleMarks_L8 fu)) fu' (n32 (52 * b + k)) (n32 (52 * b + (j + 1))) χ := fun χ => by
            unfold F_settleMarks_b122
            rw [lt_y, show n32 (52 * b + j) + (1 : Int32) = n32 (52 * b + (j + 1)) from by simp (disch := omega) only [↓reduceIte, ↓lt_y, leT, leF, ltT, ltF, eqT, eqF, n32_lit, n32_add, n32_mul, n32_sub, n32_le, n32_lt, n32_eq, n32_nat, gdn, gd_T, inbT, bd_y, bd2_y, ifp, ifn, not_true_eq_false, not_false_eq_true, and_self, true_and, and_true, false_and, and_false, or_self, true_or, or_true, false_or, or_false, wA_s, wL_s, sA_same, sL_same, sA_L, sL_A, sA_I, sL_I, wI_A, wI_L, wI_same, sA_sA, sL_sL, sA_ne, sL_ne, wI_ne]]
          have k10 : n32 (sT y) = (10 : Int32) ↔ sT y = 10 := n32_eq (b := 10) ⟨by omega, by omega⟩
          have stay : ¬ mtS xs (sn x) j → ∃ s', F_settleMarks_L59 (F_settleMarks_b149 (F_settleMarks_L8 fu)) fu' (n32 (52 * b + k)) (n32 (52 * b + (j + 1))) σ' = F_settleMarks_L59 (F_settleMarks_b149 (F_settleMarks_L8 fu)) fu' (n32 (52 * b + k)) (n32 (52 * b + (j + 1))) s' ∧ Fr [] [25] [] σ s' ∧ (∀ i, i ≠ 52 * b + k → mA s' 25 i = mA σ 25 i) ∧ ((∃ m, m < j + 1 ∧ mtS xs (sn x) m ∧ mA s' 25 (52 * b + k) = n32 m) ∨ ((∀ m, m < j + 1 → ¬ mtS xs (sn x) m) ∧ mA s' 25 (52 * b + k) = -1)) := by
            intro hno
            refine ⟨σ', rfl, f1, f2, ?_⟩
            rcases f3 with ⟨m, m1, m2, m3⟩ | ⟨m1, m2⟩
            · exact Or.inl ⟨m, by omega, m2, m3⟩
            · refine Or.inr ⟨fun m hm' => ?_, m2⟩
              by_cases e : m = j
              · rw [e]; exact hno
              · exact m1 m (by omega)
          try dsimp only
          rw [F_settleMarks_L59]
          simp only [i36, zb, i13, zj, zk, i22, i29]
          rw [gd_y (n32_inb (by omega)), e52, ifn (by rw [n32_le ⟨by omega, by omega⟩]; omega), gd_y (n32_inb (by omega)), gd_y (n32_inb (by omega)), gd_y (n32_inb (by omega)), gd_y (n32_inb (by omega)), lt_y]
          rw [go, go]
          by_cases q10 : sT y = 10
          · rw [ifp (k10.mpr q10)]
            have i29y : mL σ' 29 (52 * b + j) = e64 (sn y) := by rw [f1.2.2 29 (by simp)]; exact (hmy.2.2.2.2.2.1 (Or.inr q10)).1
            rw [i29y]
            have kcc := kc (hmy.2.2.2.2.2.1 (Or.inr q10)).2 (hm.2.2.2.2.2.1 (Or.inl q9)).2
            by_cases qn : sn y = sn x
            · rw [ifp (kcc.mpr qn), show n32 (52 * b + j) - (52 : Int32) * n32 b = n32 j from by rw [show (52 : Int32) * n32 b = n32 (52 * b) from by simp (disch := omega) only [↓reduceIte, ↓lt_y, leT, leF, ltT, ltF, eqT, eqF, n32_lit, n32_add, n32_mul, n32_sub, n32_le, n32_lt, n32_eq, n32_nat, gdn, gd_T, inbT, bd_y, bd2_y, ifp, ifn, not_true_eq_false, not_false_eq_true, and_self, true_and, and_true, false_and, and_false, or_self, true_or, or_true, false_or, or_false, wA_s, wL_s, sA_same, sL_same, sA_L, sL_A, sA_I, sL_I, wI_A, wI_L, wI_same, sA_sA, sL_sL, sA_ne, sL_ne, wI_ne], n32_sub (by omega)]; congr 1; omega]
              refine ⟨_, rfl, f1.wA1 25 _ _ (by simp), fun i hi => by rw [wA_ne _ _ _ _ _ _ (fun z => hi z.2)]; exact f2 i hi, Or.inl ⟨j, by omega, ⟨y, hy, q10, qn⟩, wA_at _ _ _ _⟩⟩
            · rw [ifn (fun z => qn (kcc.mp z))]
              exact stay (fun ⟨w, w1, w2, w3⟩ => by rw [hy] at w1; cases w1; exact qn w3)
          · rw [ifn (fun z => q10 (k10.mp z))]
            exact stay (fun ⟨w, w1, w2, w3⟩ => by rw [hy] at w1; cases w1; exact q10 w2))
        (wA σ 25 (52 * b + k) (-1)) MN (by omega) (by omega) ⟨Fr.any.wA1 25 _ _ (by simp), fun i hi => wA_ne _ _ _ _ _ _ (fun z => hi z.2), Or.inr ⟨fun m hm' hmt => by have := mt_lt hmk hxk (Or.inl q9) hmt; omega, wA_at _ _ _ _⟩⟩
      have e2' : F_settleMarks_L59 (F_settleMarks_b149 (F_settleMarks_L8 fu)) MN (n32 (52 * b + k)) (n32 (52 * b + k)) (wA σ 25 (52 * b + k) (-1)) = F_settleMarks_L59 (F_settleMarks_b149 (F_settleMarks_L8 fu)) (fu2 + 1) (n32 (52 * b + k)) (n32 (52 * b + xs.length)) s2 := e2
      have i36 : mI s2 36 = n32 b := by rw [j1.1 36 (by simp)]; exact h36
      have i13 : mA s2 13 b = n32 xs.length := by rw [j1.2.1 13 (by simp)]; exact h13
      rw [e2', F_settleMarks_L59]
      simp only [i36, zb, i13]
      rw [gd_y (n32_inb (by omega)), e52, ifp ((n32_le ⟨by omega, by omega⟩).mpr (Nat.le_refl _))]
      unfold F_settleMarks_b128
      simp only [zk]
      rw [gd_y (n32_inb (by omega)), gd_y (n32_inb (by omega)), next]
      have hq2 : ∀ j y, xs[j]? = some y → MSq s2 (52 * b + j) y := by
        intro j y hj
        obtain ⟨p1, p2, p3, p4, p5, p6, p7⟩ := hq j y hj
        refine ⟨by rw [j1.2.1 22 (by simp)]; exact p1, fun z => by rw [j1.2.1 23 (by simp)]; exact p2 z, fun z => by rw [j1.2.1 24 (by simp)]; exact p3 z, fun z => ?_, fun z => by rw [j1.2.1 26 (by simp), j1.2.1 27 (by simp)]; exact p5 z, fun z => by rw [j1.2.2 29 (by simp)]; exact p6 z, fun z => by rw [j1.2.1 28 (by simp)]; exact p7 z⟩
        by_cases e : j = k
        · subst e; rw [hxk] at hj; cases hj; omega
        · rw [j2 _ (by omega)]; exact p4 z
      have hS2 : PS s2 t (.inr l0) := hS.fr j1 (by simp) (by simp) (by simp)
      rcases j3 with ⟨m, m1, m2, m3⟩ | ⟨m1, m2⟩
      · rw [m3, ifp (n32_ge m (by omega))]
        obtain ⟨τ, e3, f3, g3, p3⟩ := ih (k + 1) s2 fu hd2 (by omega) (by omega) i36 i13 hq2 hS2
        rw [mrkAt_some hmk m2]
        refine ⟨τ, e3, Fr.tr j1 f3 (by simp) (by simp) (by simp), fun i hi => by rw [g3 i (by omega), j2 i (by omega)], ?_⟩
        show match rbd (pStl xs l) (fun l' => .inr (setS3 x m :: l')) with
          | .inl e => PS τ t (.inl e)
          | .inr l' => PS τ t (.inr l0) ∧ ∀ j x, l'[j]? = some x → MStp τ (52 * b + k + j) x
        cases hp : pStl xs l with
        | inl e => rw [hp] at p3; exact p3
        | inr l' =>
          rw [hp] at p3
          refine ⟨p3.1, fun j y hj => ?_⟩
          cases j with
          | zero =>
            cases hj
            obtain ⟨p1, p2, p3', p4, p5, p6, p7⟩ := hq2 k x hxk
            refine ⟨by rw [f3.2.1 22 (by simp)]; exact p1, fun z => by rw [f3.2.1 23 (by simp)]; exact p2 z, fun z => by rw [f3.2.1 24 (by simp)]; exact p3' z, fun z => ?_, fun z => by rw [f3.2.1 26 (by simp), f3.2.1 27 (by simp)]; exact p5 z⟩
            rw [Nat.add_zero, g3 _ (by omega), m3]; rfl
          | succ j =>
            have := p3.2 j y hj
            rw [show 52 * b + k + (j + 1) = 52 * b + (k + 1) + j from by omega]; exact this
      · have hno : mrkAt xs (sn x) = none := mrkAt_none fun j hj => by
          obtain ⟨y, h1, -⟩ := id hj
          exact m1 j (List.getElem?_eq_some_iff.mp h1).1 hj
        rw [m2, ifn (by decide), hno]
        have i28 : mA s2 28 (52 * b + k) = n32 (sg x) := by rw [j1.2.1 28 (by simp)]; exact hm.2.2.2.2.2.2 q9
        obtain ⟨χ, e3, f3, g3⟩ := fails_S hS2 (k := 6) (p := sg x) (by omega)
        have g3' : PS χ t (.inl (6, sg x)) := g3
        rw [i28, show (6 : Int32) = n32 6 from rfl, e3, bd_y, next]
        have fχ : Fr [4, 5] [25] [] σ χ := Fr.tr j1 f3 (by simp) (by simp) (by simp)
        refine ⟨χ, ?_, fχ, fun i hi => by rw [f3.2.1 25 (by simp)]; exact j2 i (by omega), g3'⟩
        obtain ⟨fu, rfl⟩ : ∃ f, fu = f + 1 := ⟨fu - 1, by omega⟩
        rw [F_settleMarks_L8]
        have l36 : mI χ 36 = n32 b := by rw [fχ.1 36 (by simp)]; exact h36
        have l13 : mA χ 13 b = n32 xs.length := by rw [fχ.2.1 13 (by simp)]; exact h13
        simp only [l36, zb, l13]
        rw [gd_y (n32_inb (by omega)), e52, isGood_n g3', bd_y]
        by_cases qe : n32 (52 * b + xs.length) ≤ n32 (52 * b + (k + 1))
        · rw [ifp qe]
        · rw [ifn qe, ifp rfl]
    · rw [ifn (fun z => q9 (k9.mp z)), ifn q9, next]
      obtain ⟨τ, e3, f3, g3, p3⟩ := ih (k + 1) σ fu hd2 (by omega) (by omega) h36 h13 hq hS
      refine ⟨τ, e3, f3, fun i hi => g3 i (by omega), ?_⟩
      cases hp : pStl xs l with
      | inl e => rw [hp] at p3; exact p3
      | inr l' =>
        rw [hp] at p3
        refine ⟨p3.1, fun j y hj => ?_⟩
        cases j with
        | zero =>
          cases hj
          obtain ⟨p1, p2, p3', p4, p5, p6, p7⟩ := hm
          refine ⟨by rw [f3.2.1 22 (by simp)]; exact p1, fun z => by rw [f3.2.1 23 (by simp)]; exact p2 z, fun z => by rw [f3.2.1 24 (by simp)]; exact p3' z, fun z => ?_, fun z => by rw [f3.2.1 26 (by simp), f3.2.1 27 (by simp)]; exact p5 z⟩
          rw [Nat.add_zero, g3 _ (by omega)]
          exact p4 (z.resolve_right q9)
        | succ j =>
          have := p3.2 j y hj
          rw [show 52 * b + k + (j + 1) = 52 * b + (k + 1) + j from by omega]; exact this
