set_option maxRecDepth 100000
/-! THE REFERENCE: lines -/
theorem movK_open {l : List Tk} {k : Nat} (h : movK l = some k) : isW l 1869636974 = false := by
  unfold movK at h
  repeat' split at h
  all_goals first | (rename_i z; exact isW_un z (by decide)) | cases h
theorem readMay_L {σ : MS} {b : Nat} {t : List Nat} {l : List Tk} {s : Ps} (hb : b < 2) (hS : PS σ t (.inr l)) (hM : MPs σ b s) (hok : okPs s) (h2 : 2 ≤ kS (cur l)) : ∃ τ, F_readMay σ = some τ ∧ FB b σ τ ∧ LQ b t τ (pMay s l) := by
  have zb := n32_nat (a := b) (by omega)
  obtain ⟨o1, o2, o3, o4, o5, o6, o7, o8, -⟩ := hok
  unfold F_readMay
  rw [lt_y, hS.2.2.cur.2.2.1]
  obtain ⟨τ, e, f, g⟩ := goOn_S hS h2
  have hM1 := hM.fr f (by simp) (by simp) (by simp)
  obtain ⟨a1, a2, a3, a4, a5, a6, a7, a8, a9, a10, a11, a12, a13, a14, a15⟩ := id hM1
  have eo : F_isWord τ 1869636974 = some (bi (isW l.tail 1869636974)) := isWord_L g.2.2 (w := 1869636974) (by decide)
  have fB0 : FB b σ τ := FB.of f (by simp) (by simp)
  rw [e, bd_y, moveHere_L g.2.2, bd_y, eo, bd_y]
  -- a move or a look that is read
  have b141 : ∀ (υ : MS) (l2 : List Tk) (k o n : Nat) (op : Bool), 2 ≤ k → k ≤ 8 → (op = true → o = 48 ∧ n = (jO s).length ∧ n < 4) → (op = false → o = 40 ∧ n = (jY s).length ∧ n < 8) → PS υ t (.inr l2) → MPs υ b s → FB b σ υ → ∃ χ, F_readMay_b141 (bi op) (n32 k) (n32 (52 * b + (o + n))) υ = some χ ∧ FB b σ χ ∧ LQ b t χ (rbd (pMov k l2) fun a => .inr (if op = true then (jP s, jT s, jL s, jX s, jY s, jO s ++ [a.1], jA s, jU s) else (jP s, jT s, jL s, jX s, jY s ++ [a.1], jO s, jA s, jU s), a.2)) := by
    intro υ l2 k o n op hk1 hk2 hop1 hop2 gυ mυ fυ
    have hon : o + n < 52 ∧ 40 ≤ o + n := by
      cases op with
      | true => have := hop1 rfl; omega
      | false => have := hop2 rfl; omega
    unfold F_readMay_b141
    obtain ⟨χ, e1, f1, g1, v1⟩ := readMove_L (s := 52 * b + (o + n)) (k := k) (by omega) ⟨hk1, hk2⟩ gυ
    rw [e1, bd_y]
    have fB1 : FB b σ χ := fυ.tr (FB.bs hb (by omega) f1)
    obtain ⟨d1, d2, d3, d4, d5, d6, d7, d8, d9, d10, d11, d12, d13, d14, d15⟩ := id mυ
    have i36 : mI χ 36 = n32 b := by rw [f1.1.1 36 (by simp)]; exact d1
    have xX : MQs χ (52 * b) (jX s) := d6.bs f1 (by omega) o3
    cases op with
    | false =>
      obtain ⟨rfl, rfl, hn⟩ := hop2 rfl
      rw [ifp gN]
      have m14 : mA χ 14 b = n32 (jY s).length := by rw [f1.1.2.1 14 (by simp)]; exact d7
      simp only [i36, zb, m14]
      rw [gd_y (n32_inb (by omega)), gd_y (n32_inb (by omega)), lt_y, show n32 (jY s).length + (1 : Int32) = n32 ((jY s).length + 1) from by simp (disch := omega) only [↓reduceIte, ↓lt_y, leT, leF, ltT, ltF, eqT, eqF, n32_lit, n32_add, n32_mul, n32_sub, n32_le, n32_lt, n32_eq, n32_nat, gdn, gd_T, inbT, bd_y, bd2_y, ifp, ifn, not_true_eq_false, not_false_eq_true, and_self, true_and, and_true, false_and, and_false, or_self, true_or, or_true, false_or, or_false, wA_s, wL_s, sA_same, sL_same, sA_L, sL_A, sA_I, sL_I, wI_A, wI_L, wI_same, sA_sA, sL_sL, sA_ne, sL_ne, wI_ne]]
      refine ⟨_, rfl, fB1.tr (FB.wA _ hb (by omega)), ?_⟩
      have g2 := g1.bs (s := 0) 14 b (n32 ((jY s).length + 1)) (by omega)
      have fw : Fr [] [14] [] χ (wA χ 14 b (n32 ((jY s).length + 1))) := Fr.any.wA1 14 _ _ (by simp)
      cases hp : pMov k l2 with
      | inl er => rw [hp] at g2; exact g2
      | inr a =>
        rw [hp] at g2
        have hv := v1 a hp
        refine ⟨g2, ?_⟩
        show MPs (wA χ 14 b (n32 ((jY s).length + 1))) b (jP s, jT s, jL s, jX s, jY s ++ [a.1], jO s, jA s, jU s)
        have yY : MQs χ (52 * b + 40) (jY s) := d8.bs f1 (by omega) (fun x hx => (o6 x hx).1)
        have oO : MQs χ (52 * b + 48) (jO s) := d10.bs f1 (by omega) (fun x hx => (o8 x hx).1)
        refine ⟨i36, by rw [fw.2.1 12 (by simp), f1.1.2.1 12 (by simp)]; exact d2, by rw [fw.2.1 20 (by simp), f1.1.2.1 20 (by simp)]; exact d3, by show mI χ 40 = _; rw [f1.1.1 40 (by simp)]; exact d4, by rw [fw.2.1 13 (by simp), f1.1.2.1 13 (by simp)]; exact d5, xX.fr fw (by intro j x y; simp; omega) (by simp), ?_, ?_, by rw [fw.2.1 15 (by simp), f1.1.2.1 15 (by simp)]; exact d9, oO.fr fw (by intro j x y; simp; omega) (by simp), by rw [fw.2.1 16 (by simp), f1.1.2.1 16 (by simp)]; exact d11, by rw [fw.2.1 17 (by simp), f1.1.2.1 17 (by simp)]; exact d12, by rw [fw.2.1 18 (by simp), f1.1.2.1 18 (by simp)]; exact d13, (d14.fr f1.1 (by simp)).fr fw (by simp), fun z => by show mI χ 37 = _; rw [f1.1.1 37 (by simp)]; exact d15 z⟩
        · rw [wA_at]
          show _ = n32 (jY s ++ [a.1]).length
          rw [List.length_append, List.length_singleton]
        · refine (MQs.snoc yY ?_).fr fw (by intro j x y; simp; omega) (by simp)
          rw [show 52 * b + 40 + (jY s).length = 52 * b + (40 + (jY s).length) from by omega]; exact hv
    | true =>
      obtain ⟨rfl, rfl, hn⟩ := hop1 rfl
      rw [ifn gY]
      have m15 : mA χ 15 b = n32 (jO s).length := by rw [f1.1.2.1 15 (by simp)]; exact d9
      simp only [i36, zb, m15]
      rw [gd_y (n32_inb (by omega)), gd_y (n32_inb (by omega)), lt_y, show n32 (jO s).length + (1 : Int32) = n32 ((jO s).length + 1) from by simp (disch := omega) only [↓reduceIte, ↓lt_y, leT, leF, ltT, ltF, eqT, eqF, n32_lit, n32_add, n32_mul, n32_sub, n32_le, n32_lt, n32_eq, n32_nat, gdn, gd_T, inbT, bd_y, bd2_y, ifp, ifn, not_true_eq_false, not_false_eq_true, and_self, true_and, and_true, false_and, and_false, or_self, true_or, or_true, false_or, or_false, wA_s, wL_s, sA_same, sL_same, sA_L, sL_A, sA_I, sL_I, wI_A, wI_L, wI_same, sA_sA, sL_sL, sA_ne, sL_ne, wI_ne]]
      refine ⟨_, rfl, fB1.tr (FB.wA _ hb (by omega)), ?_⟩
      have g2 := g1.bs (s := 0) 15 b (n32 ((jO s).length + 1)) (by omega)
      have fw : Fr [] [15] [] χ (wA χ 15 b (n32 ((jO s).length + 1))) := Fr.any.wA1 15 _ _ (by simp)
      cases hp : pMov k l2 with
      | inl er => rw [hp] at g2; exact g2
      | inr a =>
        rw [hp] at g2
        have hv := v1 a hp
        refine ⟨g2, ?_⟩
        show MPs (wA χ 15 b (n32 ((jO s).length + 1))) b (jP s, jT s, jL s, jX s, jY s, jO s ++ [a.1], jA s, jU s)
        have yY : MQs χ (52 * b + 40) (jY s) := d8.bs f1 (by omega) (fun x hx => (o6 x hx).1)
        have oO : MQs χ (52 * b + 48) (jO s) := d10.bs f1 (by omega) (fun x hx => (o8 x hx).1)
        refine ⟨i36, by rw [fw.2.1 12 (by simp), f1.1.2.1 12 (by simp)]; exact d2, by rw [fw.2.1 20 (by simp), f1.1.2.1 20 (by simp)]; exact d3, by show mI χ 40 = _; rw [f1.1.1 40 (by simp)]; exact d4, by rw [fw.2.1 13 (by simp), f1.1.2.1 13 (by simp)]; exact d5, xX.fr fw (by intro j x y; simp; omega) (by simp), by rw [fw.2.1 14 (by simp), f1.1.2.1 14 (by simp)]; exact d7, yY.fr fw (by intro j x y; simp; omega) (by simp), ?_, ?_, by rw [fw.2.1 16 (by simp), f1.1.2.1 16 (by simp)]; exact d11, by rw [fw.2.1 17 (by simp), f1.1.2.1 17 (by simp)]; exact d12, by rw [fw.2.1 18 (by simp), f1.1.2.1 18 (by simp)]; exact d13, (d14.fr f1.1 (by simp)).fr fw (by simp), fun z => by show mI χ 37 = _; rw [f1.1.1 37 (by simp)]; exact d15 z⟩
        · rw [wA_at]
          show _ = n32 (jO s ++ [a.1]).length
          rw [List.length_append, List.length_singleton]
        · refine (MQs.snoc oO ?_).fr fw (by intro j x y; simp; omega) (by simp)
          rw [show 52 * b + 48 + (jO s).length = 52 * b + (48 + (jO s).length) from by omega]; exact hv
  have b75e : ∀ (υ : MS) (e : Er) (x2 x3 : Int32), PS υ t (.inl e) → F_readMay_b75 x2 x3 υ = some υ := fun υ e x2 x3 hυ => by
    unfold F_readMay_b75
    rw [isGood_n hυ, bd_y, ifp rfl]
  -- too many
  have many : ∀ x2 x3 : Int32, (0 ≤ x2 ∨ ¬ x3 = 0) → ∃ χ, F_readMay_b57 F_readMay_b63 (n32 (kP (cur l))) x2 x3 τ = some χ ∧ FB b σ χ ∧ PS χ t (.inl (2, kP (cur l))) := by
    intro x2 x3 hx
    unfold F_readMay_b57
    obtain ⟨χ, e1, f1, g1⟩ := fails_S g (k := 2) (p := kP (cur l)) (by omega)
    have g1' : PS χ t (.inl (2, kP (cur l))) := g1
    rw [show (2 : Int32) = n32 2 from rfl, e1, bd_y]
    unfold F_readMay_b63
    rw [b75e χ _ x2 x3 g1']
    refine ⟨χ, ?_, fB0.tr (FB.of f1 (by simp) (by simp)), g1'⟩
    by_cases q : 0 ≤ x2
    · rw [ifp q]
    · rw [ifn q, ifn (hx.resolve_left q)]
  cases hm : movK l.tail with
  | some k =>
    obtain ⟨k1, k2, k3⟩ := movK_i hm
    have hop := movK_open hm
    have hp : pMay s l = if (jY s).length = 8 then .inl (2, kP (cur l)) else rbd (pMov k l.tail.tail) fun a => .inr ((jP s, jT s, jL s, jX s, jY s ++ [a.1], jO s, jA s, jU s), a.2) := by unfold pMay; rw [hm]
    have e0 : kn32 (some k) = n32 k := rfl
    rw [hp, e0, hop, ifn (by rw [show (0 : Int32) = n32 0 from rfl, n32_lt ⟨by omega, by omega⟩]; omega)]
    simp only [a1, zb, a7]
    rw [gd_y (n32_inb (by omega))]
    by_cases q : (jY s).length = 8
    · rw [ifp (c := n32 (jY s).length = (8 : Int32)) (by rw [q]; rfl), ifp q]
      exact many _ _ (Or.inl (n32_ge k (by omega)))
    · rw [ifn (c := n32 (jY s).length = (8 : Int32)) (fun z => q ((n32_eq (b := 8) ⟨by omega, by omega⟩).mp z)), ifn q]
      unfold F_readMay_b40
      rw [ifp gN]
      unfold F_readMay_b63
      rw [ifp (n32_ge k (by omega))]
      unfold F_readMay_b75
      obtain ⟨υ, e2, f2, g2⟩ := goOn_S g k3
      have hM2 := hM1.fr f2 (by simp) (by simp) (by simp)
      rw [isGood_y g, bd_y, ifn g1N, e2, bd_y, ifp gN]
      have i36 : mI υ 36 = n32 b := hM2.1
      have i14 : mA υ 14 b = n32 (jY s).length := hM2.2.2.2.2.2.2.1
      simp only [i36, zb, i14]
      rw [gd_y (n32_inb (by omega))]
      unfold F_readMay_b125
      rw [lt_y, ifp gN, show (52 : Int32) * n32 b + ((40 : Int32) + n32 (jY s).length) = n32 (52 * b + (40 + (jY s).length)) from by simp (disch := omega) only [↓reduceIte, ↓lt_y, leT, leF, ltT, ltF, eqT, eqF, n32_lit, n32_add, n32_mul, n32_sub, n32_le, n32_lt, n32_eq, n32_nat, gdn, gd_T, inbT, bd_y, bd2_y, ifp, ifn, not_true_eq_false, not_false_eq_true, and_self, true_and, and_true, false_and, and_false, or_self, true_or, or_true, false_or, or_false, wA_s, wL_s, sA_same, sL_same, sA_L, sL_A, sA_I, sL_I, wI_A, wI_L, wI_same, sA_sA, sL_sL, sA_ne, sL_ne, wI_ne]]
      exact b141 υ l.tail.tail k 40 (jY s).length false (by omega) (by omega) (fun z => by cases z) (fun _ => ⟨rfl, rfl, by omega⟩) g2 hM2 (fB0.tr (FB.of f2 (by simp) (by simp)))
  | none =>
    have hp : pMay s l = if isW l.tail 1869636974 then (if (jO s).length = 4 then .inl (2, kP (cur l)) else rbd (pMov 8 l.tail.tail) fun a => .inr ((jP s, jT s, jL s, jX s, jY s, jO s ++ [a.1], jA s, jU s), a.2)) else .inl (errT l.tail) := by unfold pMay; rw [hm]
    have e0 : kn32 none = (-1 : Int32) := rfl
    rw [hp, e0, ifp (by decide)]
    unfold F_readMay_b40
    simp only [a1, zb, a9]
    cases hop : isW l.tail 1869636974 with
    | false =>
      rw [ifp gN, ifn (c := false = true) (by decide)]
      unfold F_readMay_b63
      rw [ifn (by decide), ifp gN]
      obtain ⟨χ, e1, f1, g1⟩ := misplaced_S g
      have g1' : PS χ t (.inl (errT l.tail)) := g1
      rw [e1, bd_y, b75e χ _ _ _ g1']
      exact ⟨χ, rfl, fB0.tr (FB.of f1 (by simp) (by simp)), g1'⟩
    | true =>
      rw [ifn gY, gd_y (n32_inb (by omega)), ifp (c := true = true) rfl]
      by_cases q : (jO s).length = 4
      · rw [ifp (c := n32 (jO s).length = (4 : Int32)) (by rw [q]; rfl), ifp q]
        exact many _ _ (Or.inr gY)
      · rw [ifn (c := n32 (jO s).length = (4 : Int32)) (fun z => q ((n32_eq (b := 4) ⟨by omega, by omega⟩).mp z)), ifn q]
        unfold F_readMay_b63
        rw [ifn (by decide), ifn gY]
        unfold F_readMay_b75
        obtain ⟨υ, e2, f2, g2⟩ := goOn_S g (isW_2 hop)
        have hM2 := hM1.fr f2 (by simp) (by simp) (by simp)
        rw [isGood_y g, bd_y, ifn g1N, e2, bd_y, ifn gY]
        have i36 : mI υ 36 = n32 b := hM2.1
        have i15 : mA υ 15 b = n32 (jO s).length := hM2.2.2.2.2.2.2.2.2.1
        simp only [i36, zb, i15]
        rw [gd_y (n32_inb (by omega))]
        unfold F_readMay_b125
        rw [lt_y, ifn gY, show (52 : Int32) * n32 b + ((48 : Int32) + n32 (jO s).length) = n32 (52 * b + (48 + (jO s).length)) from by simp (disch := omega) only [↓reduceIte, ↓lt_y, leT, leF, ltT, ltF, eqT, eqF, n32_lit, n32_add, n32_mul, n32_sub, n32_le, n32_lt, n32_eq, n32_nat, gdn, gd_T, inbT, bd_y, bd2_y, ifp, ifn, not_true_eq_false, not_false_eq_true, and_self, true_and, and_true, false_and, and_false, or_self, true_or, or_true, false_or, or_false, wA_s, wL_s, sA_same, sL_same, sA_L, sL_A, sA_I, sL_I, wI_A, wI_L, wI_same, sA_sA, sL_sL, sA_ne, sL_ne, wI_ne]]
        exact b141 υ l.tail.tail 8 48 (jO s).length true (by omega) (by omega) (fun _ => ⟨rfl, rfl, by omega⟩) (fun z => by cases z) g2 hM2 (fB0.tr (FB.of f2 (by simp) (by simp)))
