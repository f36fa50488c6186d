set_option maxRecDepth 100000
/-! THE REFERENCE: recipes -/
theorem okMk_of {s : Ps} (h : okPs s) : okMk (jX s) := ⟨h.2.2.1, h.2.2.2.2.2.2.2.2.2.2.2.2⟩
theorem recipe_M {σ : MS} {S : St} (h : MR σ S) (ho : okSt S) : Ok (F_recipe σ) fun o => o.1 = (o_recipe S).1 ∧ MR o.2 (o_recipe S).2 := by
  have hMN := MN_gt
  obtain ⟨⟨b0, hR⟩, hP, h54, h67, ⟨t1, t2⟩, ⟨p4, p5⟩, ⟨l1, l2⟩, p83, p72, p77, pB⟩ := id h
  have htl := ho.1
  have hb0 : b0 < 2 := hR.2.1
  have hq := ho.2.1
  obtain ⟨t, ht⟩ : ∃ t, t = txS S := ⟨_, rfl⟩
  have htlen : t.length = (zTp S).length := by rw [ht]; unfold txS; rw [List.length_map]
  unfold F_recipe
  simp only [↓lt_y]
  have e2 : mI (wI (wI σ 4 0) 5 (-1)) 2 = n32 t.length := by rw [wI_ne _ _ _ _ (by omega), wI_ne _ _ _ _ (by omega), htlen]; exact t1
  rw [e2]
  have f3 : Fr [3, 4, 5] [] [] σ (wI (wI (wI σ 4 0) 5 (-1)) 3 (n32 t.length)) := ((Fr.any.w1 4 _ (by simp)).w1 5 _ (by simp)).w1 3 _ (by simp)
  have v3 : mI (wI (wI (wI σ 4 0) 5 (-1)) 3 (n32 t.length)) 3 = n32 t.length := wI_same _ _ _
  have v4 : mI (wI (wI (wI σ 4 0) 5 (-1)) 3 (n32 t.length)) 4 = 0 := by rw [wI_ne _ _ _ _ (by omega), wI_ne _ _ _ _ (by omega), wI_same]
  have v5 : mI (wI (wI (wI σ 4 0) 5 (-1)) 3 (n32 t.length)) 5 = -1 := by rw [wI_ne _ _ _ _ (by omega), wI_same]
  generalize wI (wI (wI σ 4 0) 5 (-1)) 3 (n32 t.length) = σ3 at f3 v3 v4 v5
  -- the tape comes into the text
  obtain ⟨fu, s, ⟨i1, i2⟩, e⟩ := upe (fun fu k s => F_recipe_L20 fu (n32 k) s) 0 t.length (fun k s => Fr [] [1] [] σ3 s ∧ ∀ j, j < k → mA s 1 j = (mA σ 0 j).toInt8.toInt32)
    (by
      rintro fu k s - hk ⟨g1, g2⟩
      have zk := n32_nat (a := k) (by omega)
      have i3 : mI s 3 = n32 t.length := by rw [g1.1 3 (by simp)]; exact v3
      have i0 : mA s 0 = mA σ 0 := by rw [g1.2.1 0 (by simp), f3.2.1 0 (by simp)]
      refine ⟨wA s 1 k (mA σ 0 k).toInt8.toInt32, ?_, g1.wA1 1 _ _ (by simp), fun j hj => ?_⟩
      · try dsimp only
        rw [F_recipe_L20, i3, ifn (by rw [n32_le ⟨by omega, by omega⟩]; omega)]
        simp only [zk, i0]
        rw [gd_y (n32_inb (by omega)), gd_y (n32_inb (by omega)), lt_y, lt_y, show n32 k + (1 : Int32) = n32 (k + 1) from by simp (disch := omega) only [↓reduceIte, ↓lt_y, leT, leF, ltT, ltF, eqT, eqF, n32_lit, n32_add, n32_mul, n32_sub, n32_le, n32_lt, n32_eq, n32_nat, gdn, gd_T, inbT, bd_y, bd2_y, ifp, ifn, not_true_eq_false, not_false_eq_true, and_self, true_and, and_true, false_and, and_false, or_self, true_or, or_true, false_or, or_false, wA_s, wL_s, sA_same, sL_same, sA_L, sL_A, sA_I, sL_I, wI_A, wI_L, wI_same, sA_sA, sL_sL, sA_ne, sL_ne, wI_ne]]
      · by_cases e : j = k
        · rw [e, wA_at]
        · rw [wA_ne _ _ _ _ _ _ (fun z => e z.2)]; exact g2 j (by omega))
    σ3 MN (by omega) (by omega) ⟨Fr.any, fun j hj => by omega⟩
  have e' : F_recipe_L20 MN 0 σ3 = F_recipe_L20 (fu + 1) (n32 t.length) s := e
  have i3 : mI s 3 = n32 t.length := by rw [i1.1 3 (by simp)]; exact v3
  rw [e', F_recipe_L20, i3, ifp ((n32_le ⟨by omega, by omega⟩).mpr (Nat.le_refl _))]
  have fs : Fr [3, 4, 5] [1] [] σ s := Fr.tr f3 i1 (by simp) (by simp) (by simp)
  have hTs : MTx s t := by
    refine ⟨i3, by omega, fun k c hk => ?_, fun c hc => ?_⟩
    · have hkl : k < t.length := (List.getElem?_eq_some_iff.mp hk).1
      rw [ht] at hk
      unfold txS at hk
      rw [List.getElem?_map] at hk
      cases hv : (zTp S)[k]? with
      | none => rw [hv] at hk; cases hk
      | some v =>
        rw [hv] at hk
        cases hk
        rw [i2 k hkl, t2 k v hv, i8_255, (byt_n v).1]
    · rw [ht] at hc
      unfold txS at hc
      obtain ⟨v, -, rfl⟩ := List.mem_map.mp hc
      exact (byt_n v).2
  unfold F_recipe_b46
  simp only [↓lt_y]
  have g35 : mI (wI (wI s 2 0) 7 0) 35 = n32 b0 := by rw [wI_ne _ _ _ _ (by omega), wI_ne _ _ _ _ (by omega), fs.1 35 (by simp)]; exact hR.1
  rw [g35, show (1 : Int32) - n32 b0 = n32 (1 - b0) from by rw [show (1 : Int32) = n32 1 from rfl, n32_sub (by omega)]]
  obtain ⟨b, hb'⟩ : ∃ b, b = 1 - b0 := ⟨_, rfl⟩
  have hb : b < 2 := by omega
  have hbb : 1 - b = b0 := by omega
  rw [← hb']
  have f6 : Fr [2, 3, 4, 5, 7, 36] [1] [] σ (wI (wI (wI s 2 0) 7 0) 36 (n32 b)) := (((Fr.mono fs (by simp) (by simp) (by simp)).w1 2 _ (by simp)).w1 7 _ (by simp)).w1 36 _ (by simp)
  have f6' : Fr [2, 7, 36] [] [] s (wI (wI (wI s 2 0) 7 0) 36 (n32 b)) := ((Fr.any.w1 2 _ (by simp)).w1 7 _ (by simp)).w1 36 _ (by simp)
  have u36 : mI (wI (wI (wI s 2 0) 7 0) 36 (n32 b)) 36 = n32 b := wI_same _ _ _
  have u7 : mI (wI (wI (wI s 2 0) 7 0) 36 (n32 b)) 7 = n32 0 := by rw [wI_ne _ _ _ _ (by omega), wI_same]; rfl
  have u2 : mI (wI (wI (wI s 2 0) 7 0) 36 (n32 b)) 2 = n32 0 := by rw [wI_ne _ _ _ _ (by omega), wI_ne _ _ _ _ (by omega), wI_same]; rfl
  have u4 : mI (wI (wI (wI s 2 0) 7 0) 36 (n32 b)) 4 = 0 := by rw [f6'.1 4 (by simp), i1.1 4 (by simp)]; exact v4
  have u5 : mI (wI (wI (wI s 2 0) 7 0) 36 (n32 b)) 5 = -1 := by rw [f6'.1 5 (by simp), i1.1 5 (by simp)]; exact v5
  have hTu := hTs.fr f6' (by simp) (by simp)
  generalize wI (wI (wI s 2 0) 7 0) 36 (n32 b) = υ at f6 f6' u36 u7 u2 u4 u5 hTu
  obtain ⟨χ, e7, f7, m7, f7'⟩ := clearBank_L hb u36
  rw [e7, bd_y]
  have hTχ := hTu.fr f7' (by simp) (by simp)
  have htk : TkA t 0 (toks t) := ⟨by omega, t.length + 1, by omega, by rw [List.drop_zero]; rfl⟩
  obtain ⟨ω, e8, f8, g8⟩ := goOn_L hTχ (by rw [f7'.1 7 (by simp)]; exact u7) htk
  rw [e8, bd_y]
  have hSω : PS ω t (.inr (toks t)) := ⟨hTχ.fr f8 (by simp) (by simp), ⟨by rw [f8.1 4 (by simp), f7'.1 4 (by simp)]; exact u4, by rw [f8.1 5 (by simp), f7'.1 5 (by simp)]; exact u5⟩, g8⟩
  have mω := m7.fr f8 (by simp) (by simp) (by simp)
  have hlen := tks_len (t.length + 1) 0 t
  have hlen' : (toks t).length ≤ t.length + 1 := hlen
  obtain ⟨ψ, e9, f9, g9⟩ := lines_L hb ((toks t).length + 1) ps0 (toks t) ω MN (by omega) (by omega) hSω mω ps0_ok (tks_ok _ _ _)
  rw [e9]
  have fB : FB b υ ψ := f7.tr ((FB.of f8 (by simp) (by simp)).tr f9)
  have ψ36 : mI ψ 36 = n32 b := by rw [fB.1.1 36 (by simp)]; exact u36
  have zb := n32_nat (a := b) (by omega)
  -- what is left as it is
  have keep : ∀ (X : MS) (kd : Nat) (pl : Int32), FB b υ X → mI X 4 = n32 kd → mI X 5 = pl → MR X ([], (kd, pl), S.2.2) := by
    intro X kd pl fX h4 h5
    have gI : ∀ j, j ∉ [2, 3, 4, 5, 7, 36] → j ∉ qI → mI X j = mI σ j := fun j x y => by rw [fX.1.1 j y, f6.1 j x]
    have gA : ∀ j, j ≠ 1 → j ∉ qA → mA X j = mA σ j := fun j x y => by rw [fX.1.2.1 j y, f6.2.1 j (by simpa using x)]
    have gL : ∀ j, j ∉ qL → mL X j = mL σ j := fun j y => by rw [fX.1.2.2 j y, f6.2.2 j (by simp)]
    have hR6 : MRc υ b0 (zR S) := hR.fr f6 (by simp) (by intro j x y; simp; omega)
    have fX2 := fX.2
    rw [hbb] at fX2
    refine ⟨⟨b0, hR6.obk hq (fX.1.1 35 (by simp)) fX2⟩, ?_, ?_, ?_, ⟨?_, fun k v hk => by simp [zTp] at hk⟩, ⟨h4, h5⟩, ⟨?_, ?_⟩, ?_, ?_, ?_, ?_⟩
    · refine ⟨fun z => by rw [gI 65 (by simp) (by simp), gI 63 (by simp) (by simp)]; exact hP.1 z, fun z => ?_⟩
      rw [gI 65 (by simp) (by simp), gI 63 (by simp) (by simp)]
      obtain ⟨x1, x2, x3⟩ := hP.2 z
      refine ⟨x1, x2, fun p lf hp => ?_⟩
      have := x3 p lf hp
      unfold PathR at this ⊢
      rw [gA 57 (by omega) (by simp), gA 58 (by omega) (by simp), gA 59 (by omega) (by simp), gA 60 (by omega) (by simp), gL 61 (by simp), gL 62 (by simp)]
      exact this
    · obtain ⟨e, x, y⟩ := h54; exact ⟨e, x, by rw [gI 54 (by simp) (by simp)]; exact y⟩
    · obtain ⟨⟨s, x⟩, w', y, z⟩ := h67; exact ⟨⟨s, by rw [gI 67 (by simp) (by simp)]; exact x⟩, w', y, by rw [gI 52 (by simp) (by simp)]; exact z⟩
    · rw [fX.1.1 2 (by simp)]; exact u2
    · rw [gI 82 (by simp) (by simp)]; exact l1
    · exact MLk.eq l2 (gA 79 (by omega) (by simp)) (gA 80 (by omega) (by simp)) (gA 81 (by omega) (by simp))
    · rw [gI 83 (by simp) (by simp)]; exact p83
    · rw [gI 72 (by simp) (by simp)]; exact p72
    · rw [gI 77 (by simp) (by simp), gI 73 (by simp) (by simp), gI 74 (by simp) (by simp), gI 75 (by simp) (by simp), gI 76 (by simp) (by simp)]; exact p77
    · intro j hj
      exact MBx.eq (pB j hj) (fun i x y => gA i (by omega) (by simp; omega))
  have herr : ∀ (X : MS) (er : Er), FB b υ X → PS X t (.inl er) → prs t = .inl er → (o_recipe S).1 = -1 ∧ MR X (o_recipe S).2 := by
    intro X er fX gX hpr
    have : o_recipe S = (-1, ([], (er.1, n32 er.2), S.2.2)) := by unfold o_recipe; rw [← ht, hpr]
    rw [this]
    exact ⟨rfl, keep X er.1 (n32 er.2) fX gX.2.1.1 gX.2.1.2.2.2⟩
  have hprs : prs t = rbd (pTxt ((toks t).length + 1) ps0 (toks t)) fun s => rbd (pStl (jX s) (jX s)) fun xs => .inr (jP s, xs, jY s, jO s, jA s, jU s) := rfl
  unfold F_recipe_b95 F_settleMarks
  rw [lt_y, ψ36, show (52 : Int32) * n32 b = n32 (52 * b + 0) from by simp (disch := omega) only [↓reduceIte, ↓lt_y, leT, leF, ltT, ltF, eqT, eqF, n32_lit, n32_add, n32_mul, n32_sub, n32_le, n32_lt, n32_eq, n32_nat, gdn, gd_T, inbT, bd_y, bd2_y, ifp, ifn, not_true_eq_false, not_false_eq_true, and_self, true_and, and_true, false_and, and_false, or_self, true_or, or_true, false_or, or_false, wA_s, wL_s, sA_same, sL_same, sA_L, sL_A, sA_I, sL_I, wI_A, wI_L, wI_same, sA_sA, sL_sL, sA_ne, sL_ne, wI_ne]]
  cases hpt : pTxt ((toks t).length + 1) ps0 (toks t) with
  | inl er =>
    rw [hpt] at g9 hprs
    have g9' : PS ψ t (.inl er) := g9
    have estl : F_settleMarks_L8 MN (n32 (52 * b + 0)) ψ = some ψ := by
      obtain ⟨fu, hfu⟩ : ∃ f, MN = f + 1 := ⟨MN - 1, by omega⟩
      rw [hfu, F_settleMarks_L8, ψ36, gd_y (n32_inb (by omega)), isGood_n g9', bd_y]
      split
      · rfl
      · rw [ifp rfl]
    rw [estl, bd_y, isGood_n g9', bd_y, ifp rfl]
    obtain ⟨r1, r2⟩ := herr ψ er fB g9' hprs
    exact Ok.done ⟨r1.symm, r2⟩
  | inr s' =>
    rw [hpt] at g9 hprs
    obtain ⟨l', g9a, g9b⟩ := g9
    have hps : okPs s' := pTxt_i _ _ _ _ ps0_ok (tks_ok _ _ _) hpt
    obtain ⟨c1, c2, c3, c4, c5, c6, c7, c8, c9, c10, c11, c12, c13, c14, c15⟩ := id g9b
    obtain ⟨o1, o2, o3, o4, o5, o6, o7, o8, o9, o10, -⟩ := id hps
    obtain ⟨ξ, e10, f10, q10, r10⟩ := settle_L hb o2 (okMk_of hps) (jX s') 0 ψ MN List.drop_zero (by omega) (by omega) ψ36 c5 c6 g9a
    rw [e10, bd_y]
    have fBξ : FB b ψ ξ := ⟨Fr.mono f10 (by simp) (by simp) (by simp), fun j x y => by rw [f10.2.1 j (by simp; omega)], fun j k x y z w => by
      by_cases e : j = 25
      · rw [e]; exact q10 k (by omega)
      · rw [f10.2.1 j (by simpa using e)], fun k x y => by rw [f10.2.1 27 (by simp)], fun k x y => ⟨by rw [f10.2.1 30 (by simp)], by rw [f10.2.1 31 (by simp)]⟩⟩
    have hprs2 : prs t = rbd (pStl (jX s') (jX s')) fun xs => .inr (jP s', xs, jY s', jO s', jA s', jU s') := hprs
    cases hst : pStl (jX s') (jX s') with
    | inl er =>
      rw [hst] at r10 hprs2
      have r10' : PS ξ t (.inl er) := r10
      rw [isGood_n r10', bd_y, ifp rfl]
      obtain ⟨r1, r2⟩ := herr ξ er (fB.tr fBξ) r10' hprs2
      exact Ok.done ⟨r1.symm, r2⟩
    | inr xs =>
      rw [hst] at r10 hprs2
      obtain ⟨r10a, r10b⟩ := r10
      obtain ⟨R, hRdef⟩ : ∃ R : Rc, R = (jP s', xs, jY s', jO s', jA s', jU s') := ⟨_, rfl⟩
      have hprs3 : prs t = .inr R := by rw [hprs2, hRdef]; rfl
      have hqR := prs_ok hprs3
      obtain ⟨s1, s2, s3, s4⟩ := stl_ok hps hst
      rw [isGood_y r10a, bd_y, ifn g1N, f10.1 36 (by simp), ψ36]
      simp only [↓lt_y]
      have f11 : Fr [35, 77, 82] [] [] ξ (wI (wI (wI ξ 35 (n32 b)) 82 0) 77 0) := ((Fr.any.w1 35 _ (by simp)).w1 82 _ (by simp)).w1 77 _ (by simp)
      have w35 : mI (wI (wI (wI ξ 35 (n32 b)) 82 0) 77 0) 35 = n32 b := by rw [wI_ne _ _ _ _ (by omega), wI_ne _ _ _ _ (by omega), wI_same]
      have w82 : mI (wI (wI (wI ξ 35 (n32 b)) 82 0) 77 0) 82 = n32 0 := by rw [wI_ne _ _ _ _ (by omega), wI_same]; rfl
      have w77 : mI (wI (wI (wI ξ 35 (n32 b)) 82 0) 77 0) 77 = 0 := wI_same _ _ _
      generalize wI (wI (wI ξ 35 (n32 b)) 82 0) 77 0 = ζ at f11 w35 w82 w77
      -- boxes
      obtain ⟨fu3, ζ2, ⟨x1, x2⟩, e12⟩ := upe (fun fu k s => F_recipe_L128 fu (n32 k) s) 0 3 (fun k s => Fr [] [84] [] ζ s ∧ ∀ j, j < k → mA s 84 j = -1)
        (by
          rintro fu k s - hk ⟨y1, y2⟩
          refine ⟨wA s 84 k (-1), ?_, y1.wA1 84 _ _ (by simp), fun j hj => ?_⟩
          · try dsimp only
            rw [F_recipe_L128, ifn (c := (3 : Int32) ≤ n32 k) (fun z => by rw [show (3 : Int32) = n32 3 from rfl, n32_le ⟨by omega, by omega⟩] at z; omega)]
            simp only [n32_nat (a := k) (by omega)]
            rw [gd_y (n32_inb (by omega)), lt_y, lt_y, show n32 k + (1 : Int32) = n32 (k + 1) from by simp (disch := omega) only [↓reduceIte, ↓lt_y, leT, leF, ltT, ltF, eqT, eqF, n32_lit, n32_add, n32_mul, n32_sub, n32_le, n32_lt, n32_eq, n32_nat, gdn, gd_T, inbT, bd_y, bd2_y, ifp, ifn, not_true_eq_false, not_false_eq_true, and_self, true_and, and_true, false_and, and_false, or_self, true_or, or_true, false_or, or_false, wA_s, wL_s, sA_same, sL_same, sA_L, sL_A, sA_I, sL_I, wI_A, wI_L, wI_same, sA_sA, sL_sL, sA_ne, sL_ne, wI_ne]]
          · by_cases e : j = k
            · rw [e, wA_at]
            · rw [wA_ne _ _ _ _ _ _ (fun z => e z.2)]; exact y2 j (by omega))
        ζ MN (by omega) (by omega) ⟨Fr.any, fun j hj => by omega⟩
      have e12' : F_recipe_L128 MN 0 ζ = F_recipe_L128 (fu3 + 1) (n32 3) ζ2 := e12
      rw [e12', F_recipe_L128, ifp (c := (3 : Int32) ≤ n32 3) (by decide)]
      unfold F_recipe_b146
      have fz : Fr [35, 77, 82] [84] [] ξ ζ2 := Fr.tr f11 x1 (by simp) (by simp) (by simp)
      have hMRc : MRc ζ2 b R := by
        rw [hRdef]
        refine ⟨by rw [x1.1 35 (by simp)]; exact w35, hb, ?_, ⟨?_, fun k x hk => ?_⟩, ?_, ⟨?_, fun k x hk => ?_⟩, ⟨?_, fun k x hk => ?_⟩, ?_, ?_⟩
        · rw [fz.2.1 12 (by simp), f10.2.1 12 (by simp)]; exact c2
        · rw [fz.2.1 13 (by simp), f10.2.1 13 (by simp)]; show _ = n32 xs.length; rw [s2]; exact c5
        · have := r10b k x hk
          rw [Nat.add_zero] at this
          exact this.fr fz (by intro j h1 h2; simp; omega)
        · exact (c14.fr f10 (by simp)).fr fz (by simp)
        · rw [fz.2.1 14 (by simp), f10.2.1 14 (by simp)]; exact c7
        · have hsT := (o6 x (List.mem_of_getElem? hk)).2
          have := (c8 k x hk).stp (by omega)
          refine MStp.fr (σ := ξ) ?_ fz (by intro j h1 h2; simp; omega)
          obtain ⟨m1, m2, m3, m4, m5⟩ := this
          have hk8 : k < (jY s').length := (List.getElem?_eq_some_iff.mp hk).1
          exact ⟨by rw [f10.2.1 22 (by simp)]; exact m1, fun z => by rw [f10.2.1 23 (by simp)]; exact m2 z, fun z => by rw [f10.2.1 24 (by simp)]; exact m3 z, fun z => by rw [q10 _ (by omega)]; exact m4 z, fun z => by rw [f10.2.1 26 (by simp), f10.2.1 27 (by simp)]; exact m5 z⟩
        · rw [fz.2.1 15 (by simp), f10.2.1 15 (by simp)]; exact c9
        · have hsT := (o8 x (List.mem_of_getElem? hk)).2
          have := (c10 k x hk).stp (by omega)
          refine MStp.fr (σ := ξ) ?_ fz (by intro j h1 h2; simp; omega)
          obtain ⟨m1, m2, m3, m4, m5⟩ := this
          exact ⟨by rw [f10.2.1 22 (by simp)]; exact m1, fun z => by rw [f10.2.1 23 (by simp)]; exact m2 z, fun z => by rw [f10.2.1 24 (by simp)]; exact m3 z, fun z => by rw [q10 _ (by omega)]; exact m4 z, fun z => by rw [f10.2.1 26 (by simp), f10.2.1 27 (by simp)]; exact m5 z⟩
        · rw [fz.2.1 17 (by simp), f10.2.1 17 (by simp)]
          show _ = n32 (mixNo xs xs.length)
          rw [s4]; exact c12
        · rw [fz.2.1 18 (by simp), f10.2.1 18 (by simp)]; exact c13
      -- the rest
      have fBall : FB b υ ξ := fB.tr fBξ
      have gI : ∀ j, j ∉ [2, 3, 4, 5, 7, 36] → j ∉ qI → j ∉ [35, 77, 82] → mI ζ2 j = mI σ j := fun j x y z => by rw [fz.1 j z, fBall.1.1 j y, f6.1 j x]
      obtain ⟨⟨sec, h67a⟩, w', h67b, h67c⟩ := h67
      obtain ⟨ee, h54a, h54b⟩ := h54
      obtain ⟨τ, e13, f13, ⟨z54, z52⟩, zP⟩ := layPaths_L (sec := sec) hMRc hqR (by rw [gI 67 (by simp) (by simp) (by simp)]; exact h67a) ⟨ee, h54a, by rw [gI 54 (by simp) (by simp) (by simp)]; exact h54b⟩
      rw [e13, bd_y]
      have t35 : mI τ 35 = n32 b := by rw [f13.1 35 (by simp)]; exact hMRc.1
      have t13 : mA τ 13 b = n32 (rX R).length := by rw [f13.2.1 13 (by simp)]; exact hMRc.2.2.2.1.1
      simp only [t35, zb, t13]
      rw [gd_y (n32_inb (by omega))]
      have hoR : o_recipe S = (n32 (rX R).length, ([], (0, -1), R, [], zT S, zW S, (false, (zG S).2), fun _ => none)) := by unfold o_recipe; rw [← ht, hprs3]
      rw [hoR]
      have tI : ∀ j, j ∉ [2, 3, 4, 5, 7, 36] → j ∉ qI → j ∉ [35, 77, 82] → j ∉ (63 :: 65 :: fI) → mI τ j = mI σ j := fun j x y z w => by rw [f13.1 j w]; exact gI j x y z
      have t4 : mI ξ 4 = 0 := r10a.2.1.1
      have t5 : mI ξ 5 = -1 := r10a.2.1.2
      refine Ok.done ⟨rfl, ⟨b, hMRc.fr f13 (by simp) (by intro j x y; simp; omega)⟩, zP, z54, ⟨⟨sec, ?_⟩, 0, by omega, z52⟩, ⟨?_, fun k v hk => by simp [zTp] at hk⟩, ⟨?_, ?_⟩, ⟨?_, fun k t' hk => by simp [zL] at hk⟩, ?_, ?_, ⟨?_, fun z => by cases z⟩, fun j hj => ?_⟩
      · rw [tI 67 (by simp) (by simp) (by simp) (by simp)]; exact h67a
      · rw [f13.1 2 (by simp), fz.1 2 (by simp), fBall.1.1 2 (by simp)]; exact u2
      · rw [f13.1 4 (by simp), fz.1 4 (by simp)]; exact t4
      · rw [f13.1 5 (by simp), fz.1 5 (by simp)]; exact t5
      · rw [f13.1 82 (by simp), x1.1 82 (by simp)]; exact w82
      · rw [tI 83 (by simp) (by simp) (by simp) (by simp)]; exact p83
      · rw [tI 72 (by simp) (by simp) (by simp) (by simp)]; exact p72
      · rw [f13.1 77 (by simp), x1.1 77 (by simp)]; exact w77
      · show mA τ 84 j = -1
        rw [f13.2.1 84 (by simp)]; exact x2 j hj
