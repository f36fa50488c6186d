set_option maxRecDepth 100000
/-! THE REFERENCE: steps, lines -/
theorem MAsk.bs {s b : Nat} {σ τ : MS} {A : Option Cd} (h : MAsk σ b A) (f : BS s σ τ) : MAsk τ b A := h.fr f.1 (by simp)
theorem readStep_L {σ : MS} {b k : Nat} {t : List Nat} {l : List Tk} {s : Ps} (hb : b < 2) (hS : PS σ t (.inr l)) (hM : MPs σ b s) (hok : okPs s) (hk : stpK l = some k) : ∃ τ, F_readStep (n32 k) σ = some τ ∧ FB b σ τ ∧ LQ b t τ (pStp s l) := by
  have zb := n32_nat (a := b) (by omega)
  obtain ⟨k1, h2, k3⟩ := stpK_i hk
  obtain ⟨o1, o2, o3, o4, o5, o6, o7, o8, -⟩ := id hok
  obtain ⟨a1, a2, a3, a4, a5, a6, a7, a8, a9, a10, a11, a12, a13, a14, a15⟩ := id hM
  obtain ⟨mx, hmx⟩ : ∃ m : Bool, m = decide (4 ≤ k ∧ k ≤ 7) := ⟨_, rfl⟩
  have hp : pStp s l = if (jX s).length = 40 ∨ (k = 8 ∧ cntO (jX s) (jX s).length = 6) ∨ ((4 ≤ k ∧ k ≤ 7) ∧ mixNo (jX s) (jX s).length = 8) then .inl (errT l) else rbd (if 2 ≤ k ∧ k ≤ 8 then pMov k l.tail else pOth k (jP s) (jX s) l.tail) fun a => .inr ((jP s, jT s, jL s || decide (k = 0), jX s ++ [a.1], jY s, jO s, jA s, jU s), a.2) := by unfold pStp; rw [hk]
  rw [hp]
  have h16 : F_readStep (n32 k) σ = F_readStep_b16 (n32 k) (bi mx) σ := by
    unfold F_readStep F_readStep_b15
    by_cases q4 : k < 4
    · rw [ifp (c := n32 k < (4 : Int32)) ((n32_lt (b := 4) ⟨by omega, by omega⟩).mpr q4), hmx, decide_eq_false (by omega)]; rfl
    · rw [ifn (c := n32 k < (4 : Int32)) (fun z => q4 ((n32_lt (b := 4) ⟨by omega, by omega⟩).mp z))]
      by_cases q7 : 7 < k
      · rw [ifp (c := (7 : Int32) < n32 k) ((n32_lt (a := 7) ⟨by omega, by omega⟩).mpr q7), hmx, decide_eq_false (by omega)]; rfl
      · rw [ifn (c := (7 : Int32) < n32 k) (fun z => q7 ((n32_lt (a := 7) ⟨by omega, by omega⟩).mp z)), hmx, decide_eq_true (by omega)]; rfl
  rw [h16]
  unfold F_readStep_b16 F_readStep_b51
  simp only [a1, zb, a5, a11, a12]
  rw [gd_y (n32_inb (by omega))]
  have e13 : n32 (jX s).length = (40 : Int32) ↔ (jX s).length = 40 := n32_eq (b := 40) ⟨by omega, by omega⟩
  have e16 : n32 (cntO (jX s) (jX s).length) = (6 : Int32) ↔ cntO (jX s) (jX s).length = 6 := n32_eq (b := 6) ⟨by omega, by omega⟩
  have e17 : n32 (mixNo (jX s) (jX s).length) = (8 : Int32) ↔ mixNo (jX s) (jX s).length = 8 := n32_eq (b := 8) ⟨by omega, by omega⟩
  have ek8 : n32 k = (8 : Int32) ↔ k = 8 := n32_eq (b := 8) ⟨by omega, by omega⟩
  obtain ⟨Q, hQ⟩ : ∃ Q : Prop, Q = ((jX s).length = 40 ∨ (k = 8 ∧ cntO (jX s) (jX s).length = 6) ∨ ((4 ≤ k ∧ k ≤ 7) ∧ mixNo (jX s) (jX s).length = 8)) := ⟨_, rfl⟩
  have sel : ∀ X Y : Option MS, (Q ∧ (if n32 (jX s).length = (40 : Int32) then X else if n32 k = (8 : Int32) then gd (inb (n32 b) 2) (if n32 (cntO (jX s) (jX s).length) = (6 : Int32) then X else if bi mx = 0 then Y else gd (inb (n32 b) 2) (if n32 (mixNo (jX s) (jX s).length) = (8 : Int32) then X else Y)) else if bi mx = 0 then Y else gd (inb (n32 b) 2) (if n32 (mixNo (jX s) (jX s).length) = (8 : Int32) then X else Y)) = X) ∨ (¬ Q ∧ (if n32 (jX s).length = (40 : Int32) then X else if n32 k = (8 : Int32) then gd (inb (n32 b) 2) (if n32 (cntO (jX s) (jX s).length) = (6 : Int32) then X else if bi mx = 0 then Y else gd (inb (n32 b) 2) (if n32 (mixNo (jX s) (jX s).length) = (8 : Int32) then X else Y)) else if bi mx = 0 then Y else gd (inb (n32 b) 2) (if n32 (mixNo (jX s) (jX s).length) = (8 : Int32) then X else Y)) = Y) := by
    intro X Y
    rw [gd_y (n32_inb (by omega)), gd_y (n32_inb (by omega))]
    by_cases q1 : (jX s).length = 40
    · exact Or.inl ⟨by rw [hQ]; exact Or.inl q1, by rw [ifp (e13.mpr q1)]⟩
    · rw [ifn (fun z => q1 (e13.mp z))]
      by_cases q8 : k = 8
      · rw [ifp (ek8.mpr q8)]
        have : mx = false := by rw [hmx]; exact decide_eq_false (by omega)
        rw [this, ifp gN]
        by_cases q2 : cntO (jX s) (jX s).length = 6
        · exact Or.inl ⟨by rw [hQ]; exact Or.inr (Or.inl ⟨q8, q2⟩), by rw [ifp (e16.mpr q2)]⟩
        · exact Or.inr ⟨by rw [hQ]; omega, by rw [ifn (fun z => q2 (e16.mp z))]⟩
      · rw [ifn (fun z => q8 (ek8.mp z))]
        cases hm : mx with
        | false =>
          have : ¬ (4 ≤ k ∧ k ≤ 7) := by rw [hm] at hmx; exact of_decide_eq_false hmx.symm
          exact Or.inr ⟨by rw [hQ]; omega, by rw [ifp gN]⟩
        | true =>
          have : 4 ≤ k ∧ k ≤ 7 := by rw [hm] at hmx; exact of_decide_eq_true hmx.symm
          rw [ifn gY]
          by_cases q2 : mixNo (jX s) (jX s).length = 8
          · exact Or.inl ⟨by rw [hQ]; exact Or.inr (Or.inr ⟨this, q2⟩), by rw [ifp (e17.mpr q2)]⟩
          · exact Or.inr ⟨by rw [hQ]; omega, by rw [ifn (fun z => q2 (e17.mp z))]⟩
  have sel' := sel (F_readStep_b69 F_readStep_b73 (n32 k) (bi mx) σ) (F_readStep_b73 (n32 k) (bi mx) σ)
  rcases sel' with ⟨q, e⟩ | ⟨q, e⟩
  · rw [hQ] at q
    rw [e, ifp q]
    unfold F_readStep_b69 F_readStep_b73
    obtain ⟨χ, e1, f1, g1⟩ := misplaced_S hS
    have g1' : PS χ t (.inl (errT l)) := g1
    rw [e1, bd_y, isGood_n g1', bd_y, ifp rfl]
    exact ⟨χ, rfl, FB.of f1 (by simp) (by simp), g1'⟩
  · rw [hQ] at q
    rw [e, ifn q]
    unfold F_readStep_b73
    obtain ⟨τ, e1, f1, g1⟩ := goOn_S hS h2
    have hM1 := hM.fr f1 (by simp) (by simp) (by simp)
    obtain ⟨c1, c2, c3, c4, c5, c6, c7, c8, c9, c10, c11, c12, c13, c14, c15⟩ := id hM1
    rw [isGood_y hS, bd_y, ifn g1N, e1, bd_y]
    simp only [c1, zb, c5]
    rw [gd_y (n32_inb (by omega)), lt_y, show (52 : Int32) * n32 b + n32 (jX s).length = n32 (52 * b + (jX s).length) from by simp (disch := omega) only [↓reduceIte, ↓lt_y, leT, leF, ltT, ltF, eqT, eqF, n32_lit, n32_add, n32_mul, n32_sub, n32_le, n32_lt, n32_eq, n32_nat, gdn, gd_T, inbT, bd_y, bd2_y, ifp, ifn, not_true_eq_false, not_false_eq_true, and_self, true_and, and_true, false_and, and_false, or_self, true_or, or_true, false_or, or_false, wA_s, wL_s, sA_same, sL_same, sA_L, sL_A, sA_I, sL_I, wI_A, wI_L, wI_same, sA_sA, sL_sL, sA_ne, sL_ne, wI_ne]]
    have fB1 : FB b σ τ := FB.of f1 (by simp) (by simp)
    have hx40 : (jX s).length < 40 := by omega
    -- counts
    have b129 : ∀ (χ : MS) (st : Rs (Stq × List Tk)), BS (52 * b + (jX s).length) τ χ → PS (if k = 0 then wI χ 40 1 else χ) t (rl st) → (∀ a, st = .inr a → MSq χ (52 * b + (jX s).length) a.1 ∧ sT a.1 = k) → ∃ ω, F_readStep_b129 (n32 k) (bi mx) (if k = 0 then wI χ 40 1 else χ) = some ω ∧ FB b σ ω ∧ LQ b t ω (rbd st fun a => .inr ((jP s, jT s, jL s || decide (k = 0), jX s ++ [a.1], jY s, jO s, jA s, jU s), a.2)) := by
      intro χ st fχ gχ vχ
      obtain ⟨υ, hυ⟩ : ∃ υ, υ = (if k = 0 then wI χ 40 1 else χ) := ⟨_, rfl⟩
      rw [← hυ] at gχ ⊢
      have fυ : Fr [40] [] [] χ υ := by
        rw [hυ]
        by_cases q0 : k = 0
        · rw [ifp q0]; exact Fr.wI _ _ _
        · rw [ifn q0]; exact Fr.any
      have m40 : mI υ 40 = bi (jL s || decide (k = 0)) := by
        rw [hυ]
        by_cases q0 : k = 0
        · rw [ifp q0, wI_same, decide_eq_true q0, Bool.or_true]; rfl
        · rw [ifn q0, decide_eq_false q0, Bool.or_false, fχ.1.1 40 (by simp)]; exact c4
      have i36 : mI υ 36 = n32 b := by rw [fυ.1 36 (by simp), fχ.1.1 36 (by simp)]; exact c1
      have i13 : mA υ 13 b = n32 (jX s).length := by rw [fυ.2.1 13 (by simp), fχ.1.2.1 13 (by simp)]; exact c5
      have i16 : mA υ 16 b = n32 (cntO (jX s) (jX s).length) := by rw [fυ.2.1 16 (by simp), fχ.1.2.1 16 (by simp)]; exact c11
      have i17 : mA υ 17 b = n32 (mixNo (jX s) (jX s).length) := by rw [fυ.2.1 17 (by simp), fχ.1.2.1 17 (by simp)]; exact c12
      obtain ⟨n8, hn8⟩ : ∃ n, n = (if k = 8 then 1 else 0) := ⟨_, rfl⟩
      obtain ⟨n7, hn7⟩ : ∃ n, n = (if 4 ≤ k ∧ k ≤ 7 then 1 else 0) := ⟨_, rfl⟩
      obtain ⟨ω, hω⟩ : ∃ ω, ω = wA (wA (wA υ 13 b (n32 ((jX s).length + 1))) 16 b (n32 (cntO (jX s) (jX s).length + n8))) 17 b (n32 (mixNo (jX s) (jX s).length + n7)) := ⟨_, rfl⟩
      have run : F_readStep_b129 (n32 k) (bi mx) υ = some ω := by
        unfold F_readStep_b129
        simp only [i36, zb, i13]
        rw [gd_y (n32_inb (by omega)), gd_y (n32_inb (by omega)), lt_y, show n32 (jX s).length + (1 : Int32) = n32 ((jX s).length + 1) from by simp (disch := omega) only [↓reduceIte, ↓lt_y, leT, leF, ltT, ltF, eqT, eqF, n32_lit, n32_add, n32_mul, n32_sub, n32_le, n32_lt, n32_eq, n32_nat, gdn, gd_T, inbT, bd_y, bd2_y, ifp, ifn, not_true_eq_false, not_false_eq_true, and_self, true_and, and_true, false_and, and_false, or_self, true_or, or_true, false_or, or_false, wA_s, wL_s, sA_same, sL_same, sA_L, sL_A, sA_I, sL_I, wI_A, wI_L, wI_same, sA_sA, sL_sL, sA_ne, sL_ne, wI_ne]]
        have j36 : mI (wA υ 13 b (n32 ((jX s).length + 1))) 36 = n32 b := i36
        have j16 : mA (wA υ 13 b (n32 ((jX s).length + 1))) 16 b = n32 (cntO (jX s) (jX s).length) := by rw [wA_ne _ _ _ _ _ _ (by omega)]; exact i16
        simp only [j36, zb, j16]
        rw [gd_y (n32_inb (by omega))]
        have b163 : ∀ y0, y0 = n32 n8 → F_readStep_b163 (bi mx) y0 (n32 (cntO (jX s) (jX s).length)) (n32 b) (wA υ 13 b (n32 ((jX s).length + 1))) = some ω := by
          rintro y0 rfl
          unfold F_readStep_b163
          simp only [zb]
          rw [gd_y (n32_inb (by omega)), lt_y, n32_add]
          have l36 : mI (wA (wA υ 13 b (n32 ((jX s).length + 1))) 16 b (n32 (cntO (jX s) (jX s).length + n8))) 36 = n32 b := i36
          have l17 : mA (wA (wA υ 13 b (n32 ((jX s).length + 1))) 16 b (n32 (cntO (jX s) (jX s).length + n8))) 17 b = n32 (mixNo (jX s) (jX s).length) := by rw [wA_ne _ _ _ _ _ _ (by omega), wA_ne _ _ _ _ _ _ (by omega)]; exact i17
          simp only [l36, zb, l17]
          rw [gd_y (n32_inb (by omega))]
          unfold F_readStep_b184
          simp only [zb]
          rw [gd_y (n32_inb (by omega)), gd_y (n32_inb (by omega)), lt_y, lt_y, hω]
          cases hm : mx with
          | false =>
            have : n7 = 0 := by
              rw [hm] at hmx
              rw [hn7, ifn (of_decide_eq_false hmx.symm)]
            rw [ifp gN, this, show (0 : Int32) = n32 0 from rfl, n32_add]
          | true =>
            have : n7 = 1 := by
              rw [hm] at hmx
              rw [hn7, ifp (of_decide_eq_true hmx.symm)]
            rw [ifn gY, this, show (1 : Int32) = n32 1 from rfl, n32_add]
        by_cases q8 : k = 8
        · rw [ifp (ek8.mpr q8)]
          exact b163 _ (by rw [hn8, ifp q8]; rfl)
        · rw [ifn (fun z => q8 (ek8.mp z))]
          exact b163 _ (by rw [hn8, ifn q8]; rfl)
      have fw : Fr [] [13, 16, 17] [] υ ω := by rw [hω]; exact ((Fr.any.wA1 13 _ _ (by simp)).wA1 16 _ _ (by simp)).wA1 17 _ _ (by simp)
      refine ⟨ω, run, fB1.tr ((FB.bs hb (by omega) fχ).tr ((FB.of fυ (by simp) (by simp)).tr ?_)), ?_⟩
      · rw [hω]; exact (FB.wA _ hb (by omega)).tr ((FB.wA _ hb (by omega)).tr (FB.wA _ hb (by omega)))
      · have gω : PS ω t (rl st) := gχ.fr fw (by simp) (by simp) (by simp)
        cases st with
        | inl er => exact gω
        | inr a =>
          obtain ⟨v1, v2⟩ := vχ a rfl
          refine ⟨gω, ?_⟩
          show MPs ω b (jP s, jT s, jL s || decide (k = 0), jX s ++ [a.1], jY s, jO s, jA s, jU s)
          have xX : MQs χ (52 * b) (jX s ++ [a.1]) := (c6.bs fχ (by omega) o3).snoc v1
          have yY : MQs χ (52 * b + 40) (jY s) := c8.bs fχ (by omega) (fun x hx => (o6 x hx).1)
          have oO : MQs χ (52 * b + 48) (jO s) := c10.bs fχ (by omega) (fun x hx => (o8 x hx).1)
          have w13 : mA ω 13 b = n32 ((jX s).length + 1) := by rw [hω, wA_ne _ _ _ _ _ _ (by omega), wA_ne _ _ _ _ _ _ (by omega), wA_at]
          have w16 : mA ω 16 b = n32 (cntO (jX s) (jX s).length + n8) := by rw [hω, wA_ne _ _ _ _ _ _ (by omega), wA_at]
          have w17 : mA ω 17 b = n32 (mixNo (jX s) (jX s).length + n7) := by rw [hω, wA_at]
          refine ⟨by rw [fw.1 36 (by simp)]; exact i36, by rw [fw.2.1 12 (by simp), fυ.2.1 12 (by simp), fχ.1.2.1 12 (by simp)]; exact c2, by rw [fw.2.1 20 (by simp), fυ.2.1 20 (by simp), fχ.1.2.1 20 (by simp)]; exact c3, by rw [fw.1 40 (by simp)]; exact m40, ?_, (xX.fr fυ (by simp) (by simp)).fr fw (by intro j x y; simp; omega) (by simp), by rw [fw.2.1 14 (by simp), fυ.2.1 14 (by simp), fχ.1.2.1 14 (by simp)]; exact c7, (yY.fr fυ (by simp) (by simp)).fr fw (by intro j x y; simp; omega) (by simp), by rw [fw.2.1 15 (by simp), fυ.2.1 15 (by simp), fχ.1.2.1 15 (by simp)]; exact c9, (oO.fr fυ (by simp) (by simp)).fr fw (by intro j x y; simp; omega) (by simp), ?_, ?_, by rw [fw.2.1 18 (by simp), fυ.2.1 18 (by simp), fχ.1.2.1 18 (by simp)]; exact c13, ((c14.bs fχ).fr fυ (by simp)).fr fw (by simp), fun z => by rw [fw.1 37 (by simp), fυ.1 37 (by simp), fχ.1.1 37 (by simp)]; exact c15 z⟩
          · rw [w13]
            show _ = n32 (jX s ++ [a.1]).length
            rw [List.length_append, List.length_singleton]
          · rw [w16]
            show _ = n32 (cntO (jX s ++ [a.1]) (jX s ++ [a.1]).length)
            rw [cntO_snoc, v2, hn8]
          · rw [w17]
            show _ = n32 (mixNo (jX s ++ [a.1]) (jX s ++ [a.1]).length)
            rw [mixNo_snoc, v2, hn7]
    unfold F_readStep_b123
    by_cases qm : 2 ≤ k ∧ k ≤ 8
    · rw [ifn (c := n32 k < (2 : Int32)) (fun z => by rw [show (2 : Int32) = n32 2 from rfl, n32_lt ⟨by omega, by omega⟩] at z; omega), ifn (c := (8 : Int32) < n32 k) (fun z => by rw [show (8 : Int32) = n32 8 from rfl, n32_lt ⟨by omega, by omega⟩] at z; omega), ifp qm]
      obtain ⟨χ, e2, f2, g2, v2⟩ := readMove_L (s := 52 * b + (jX s).length) (k := k) (by omega) qm g1
      rw [e2, bd_y]
      have := b129 χ (pMov k l.tail) f2 (by rw [ifn (by omega)]; exact g2) (fun a ha => ⟨v2 a ha, (pMov_i qm ha).2.1⟩)
      rw [ifn (by omega)] at this
      exact this
    · rw [ifn qm]
      obtain ⟨χ, e2, f2, g2, v2⟩ := readOther_L (k := k) hb hx40 c1 c2 o1.2 c6 o3 (k3.resolve_left qm) g1
      have run := b129 χ (pOth k (jP s) (jX s) l.tail) f2 (by
        by_cases q0 : k = 0
        · rw [ifp q0]; exact g2.fr (Fr.wI χ 40 1) (by intro j hj; simp; omega) (by simp) (by simp)
        · rw [ifn q0]; exact g2) (fun a ha => ⟨v2 a ha, (pOth_i o1.2 (k3.resolve_left qm) ha).2.1⟩)
      by_cases q2 : k < 2
      · rw [ifp (c := n32 k < (2 : Int32)) ((n32_lt (b := 2) ⟨by omega, by omega⟩).mpr q2), e2, bd_y]
        exact run
      · rw [ifn (c := n32 k < (2 : Int32)) (fun z => q2 ((n32_lt (b := 2) ⟨by omega, by omega⟩).mp z)), ifp (c := (8 : Int32) < n32 k) ((n32_lt (a := 8) ⟨by omega, by omega⟩).mpr (by omega)), e2, bd_y]
        exact run
theorem readLine_L {σ : MS} {b : Nat} {t : List Nat} {l : List Tk} {s : Ps} (hb : b < 2) (hS : PS σ t (.inr l)) (hM : MPs σ b s) (hok : okPs s) : ∃ τ, F_readLine σ = some τ ∧ FB b σ τ ∧ LQ b t τ (pLin s l) := by
  have hT := hS.2.2
  have e1 : F_isWord σ 123580963646565 = some (bi (isW l 123580963646565)) := isWord_L hT (w := 123580963646565) (by decide)
  have e2 : F_isWord σ 1634954099 = some (bi (isW l 1634954099)) := isWord_L hT (w := 1634954099) (by decide)
  have e3 : F_isWord σ 7168377 = some (bi (isW l 7168377)) := isWord_L hT (w := 7168377) (by decide)
  unfold F_readLine
  rw [stepHere_L hT, bd_y, e1, bd_y, e2, e3]
  -- behind a line
  have tail : ∀ (χ : MS) (r : Rs (Ps × List Tk)), FB b σ χ → LQ b t χ r → ∃ τ, F_readLine_b72 χ = some τ ∧ FB b σ τ ∧ LQ b t τ (rbd r fun a => rbd (pMust (isC a.2 59) a.2) fun l' => .inr (a.1, l')) := by
    intro χ r fχ hr
    unfold F_readLine_b72
    cases r with
    | inl e =>
      have hr' : PS χ t (.inl e) := hr
      obtain ⟨y, τ, e4, e5, f5, g5⟩ := mustC_S hr' (c := 59) (by omega)
      have e4' : F_stands χ 59 = some y := e4
      rw [e4', bd_y, e5, bd_y]
      exact ⟨τ, rfl, fχ.tr (FB.of f5 (by simp) (by simp)), g5⟩
    | inr a =>
      obtain ⟨hr1, hr2⟩ := hr
      obtain ⟨y, τ, e4, e5, f5, g5⟩ := mustC_S hr1 (c := 59) (by omega)
      have e4' : F_stands χ 59 = some y := e4
      rw [e4', bd_y, e5, bd_y]
      have g5' : PS τ t (pMust (isC a.2 59) a.2) := g5
      refine ⟨τ, rfl, fχ.tr (FB.of f5 (by simp) (by simp)), ?_⟩
      show LQ b t τ (rbd (pMust (isC a.2 59) a.2) fun l' => .inr (a.1, l'))
      cases hp : pMust (isC a.2 59) a.2 with
      | inl e => rw [hp] at g5'; exact g5'
      | inr l' => rw [hp] at g5'; exact ⟨g5', hr2.fr f5 (by simp) (by simp) (by simp)⟩
  unfold pLin
  cases w1 : isW l 123580963646565 with
  | true =>
    rw [ifn gY, ifp rfl]
    obtain ⟨χ, e4, f4, g4⟩ := readPeople_L hb hS hM (isW_2 w1)
    rw [e4, bd_y]
    exact tail χ _ f4 g4
  | false =>
    rw [ifp gN, bd_y, ifn (c := false = true) (by decide)]
    cases w2 : isW l 1634954099 with
    | true =>
      rw [ifn gY, ifp rfl]
      obtain ⟨χ, e4, f4, g4⟩ := readAsks_L hb hS hM hok (isW_2 w2)
      rw [e4, bd_y]
      rcases g4 with g4 | ⟨a, h5, h6, h7⟩
      · exact tail χ _ f4 g4
      · have hz : (rbd (pAsk s l) fun a => rbd (pMust (isC a.2 59) a.2) fun l' => .inr (a.1, l')) = (.inl (errT a.2) : Rs (Ps × List Tk)) := by
          rw [h5]
          show rbd (pMust (isC a.2 59) a.2) _ = _
          unfold pMust
          rw [h6]; rfl
        rw [hz]
        exact tail χ (.inl (errT a.2)) f4 h7
    | false =>
      rw [ifp gN, bd_y, ifn (c := false = true) (by decide)]
      cases w3 : isW l 7168377 with
      | true =>
        rw [ifn gY, ifp rfl]
        obtain ⟨χ, e4, f4, g4⟩ := readMay_L hb hS hM hok (isW_2 w3)
        rw [e4, bd_y]
        exact tail χ _ f4 g4
      | false =>
        rw [ifp gN, ifn (c := false = true) (by decide)]
        cases hk : stpK l with
        | none =>
          have e0 : kn32 none = (-1 : Int32) := rfl
          rw [e0, ifp (by decide)]
          obtain ⟨χ, e4, f4, g4⟩ := misplaced_S hS
          rw [e4, bd_y]
          have hp : pStp s l = .inl (errT l) := by unfold pStp; rw [hk]
          rw [hp]
          exact tail χ (.inl (errT l)) (FB.of f4 (by simp) (by simp)) g4
        | some k =>
          have k1 := (stpK_i hk).1
          have e0 : kn32 (some k) = n32 k := rfl
          rw [e0, ifn (by rw [show (0 : Int32) = n32 0 from rfl, n32_lt ⟨by omega, by omega⟩]; omega)]
          obtain ⟨χ, e4, f4, g4⟩ := readStep_L hb hS hM hok hk
          rw [e4, bd_y]
          exact tail χ _ f4 g4
