set_option maxRecDepth 100000
/-! THE REFERENCE: its recipe, its paths -/
def MRc (σ : MS) (b : Nat) (R : Rc) : Prop :=
  mI σ 35 = n32 b ∧ b < 2 ∧ mA σ 12 b = n32 (rP R) ∧ MSteps σ b (rX R) ∧ MAsk σ b (rA R) ∧ (mA σ 14 b = n32 (rY R).length ∧ ∀ k x, (rY R)[k]? = some x → MStp σ (52 * b + 40 + k) x) ∧ (mA σ 15 b = n32 (rO R).length ∧ ∀ k x, (rO R)[k]? = some x → MStp σ (52 * b + 48 + k) x) ∧
  mA σ 17 b = n32 (mixNo (rX R) (rX R).length) ∧ mA σ 18 b = n32 (rU R)
theorem MRc.fr {is as ls : List Nat} {σ τ : MS} {b : Nat} {R : Rc} (h : MRc σ b R) (f : Fr is as ls σ τ) (h1 : 35 ∉ is) (h2 : ∀ j, 12 ≤ j → j ≤ 31 → j ∉ as) : MRc τ b R := by
  obtain ⟨a1, a2, a3, a4, a5, a6, a7, a8, a9⟩ := h
  have g : ∀ j, 12 ≤ j → j ≤ 31 → mA τ j = mA σ j := fun j x y => f.2.1 j (h2 j x y)
  refine ⟨by rw [f.1 35 h1]; exact a1, a2, by rw [g 12 (by omega) (by omega)]; exact a3, a4.fr f (h2 13 (by omega) (by omega)) (fun j x y => h2 j (by omega) (by omega)), ?_, ⟨by rw [g 14 (by omega) (by omega)]; exact a6.1, fun k x hk => (a6.2 k x hk).fr f (fun j x y => h2 j (by omega) (by omega))⟩, ⟨by rw [g 15 (by omega) (by omega)]; exact a7.1, fun k x hk => (a7.2 k x hk).fr f (fun j x y => h2 j (by omega) (by omega))⟩, by rw [g 17 (by omega) (by omega)]; exact a8, by rw [g 18 (by omega) (by omega)]; exact a9⟩
  unfold MAsk at a5 ⊢
  cases hA : rA R with
  | none =>
    rw [hA] at a5
    exact ⟨by rw [g 21 (by omega) (by omega)]; exact a5.1, by rw [g 19 (by omega) (by omega)]; exact a5.2⟩
  | some code =>
    rw [hA] at a5
    exact ⟨by rw [g 21 (by omega) (by omega)]; exact a5.1, by rw [g 19 (by omega) (by omega)]; exact a5.2.1, by rw [g 30 (by omega) (by omega), g 31 (by omega) (by omega)]; exact a5.2.2⟩
theorem MRc.mb {σ : MS} {b : Nat} {R : Rc} (h : MRc σ b R) (hq : okQ R) : MB σ b (rN R) := ⟨h.1, h.2.1, rP R, h.2.2.1, hq.2.1, rfl⟩
abbrev fI : List Nat := [51, 52, 54, 55, 64, 66]
abbrev fA : List Nat := [34, 41, 42, 45, 46, 47, 48, 49, 50, 56]
abbrev fP : List Nat := [34, 41, 42, 45, 46, 47, 48, 49, 50, 56, 57, 58, 59, 60]
def E54 (σ : MS) : Prop := ∃ e, e < 104 ∧ mI σ 54 = n32 e
theorem explore_L {σ : MS} {b : Nat} {R : Rc} {md : Md} {sec : Bool} {most : Nat} (hR : MRc σ b R) (hq : okQ R) (hmd : md.1 < 4 ∧ md.2.1 < 100) (h53 : md.1 = 3 → mI σ 53 = n32 md.2.2 ∧ md.2.2 < 2) (hsec : mI σ 67 = if sec then 1 else 0) (h54 : E54 σ) (hmost : md.1 = 0 → most ≤ 200) (hm2 : most < 1000000) :
    ∃ τ r, F_explore (n32 md.1) (n32 md.2.1) (n32 most) σ = some (r, τ) ∧ Fr fI fP [43, 44, 61, 62] σ τ ∧ (md.1 ≠ 0 → Fr fI fA [43, 44] σ τ) ∧ (E54 τ ∧ mI τ 52 = n32 md.2.1) ∧
      ((tree R md).length ≤ most → r = n32 1 ∧ AccL τ (rN R) md (askS (rA R)) sec (mI σ 64) (mI σ 66) (tree R md)) ∧ (most < (tree R md).length → r = n32 0) := by
  have hMN := MN_eq
  have hB := hR.mb hq
  unfold F_explore
  simp only [↓lt_y]
  generalize hσ1 : wI (wI (wI σ 51 (n32 md.1)) 52 (n32 md.2.1)) 55 (0 : Int32) = σ1
  have c1 : Fr [51, 52, 55] [] [] σ σ1 := hσ1 ▸ ((Fr.wI σ 51 _).tr (Fr.wI _ 52 _) (js := [51, 52]) (bs := []) (ms := []) (by simp) (by simp) (by simp)).tr (Fr.wI _ 55 _) (by simp <;> omega) (by simp) (by simp)
  have m51 : mI σ1 51 = n32 md.1 := by rw [← hσ1, wI_ne _ _ _ _ (by omega), wI_ne _ _ _ _ (by omega), wI_same]
  have m52 : mI σ1 52 = n32 md.2.1 := by rw [← hσ1, wI_ne _ _ _ _ (by omega), wI_same]
  have m55 : mI σ1 55 = n32 0 := by rw [← hσ1, wI_same]; rfl
  have hR1 := hR.fr c1 (by simp) (by simp)
  obtain ⟨τ1, e1, c2, hv, hak⟩ := begin_L (hR1.mb hq) hR1.2.2.2.2.1 hq.2.2.2.2.2.2.2.1
  rw [e1]
  simp only [bd_y]
  have c3 : Fr [51, 52, 55] [34, 45, 46, 47, 48, 56] [43, 44] σ τ1 := c1.tr c2 (by simp) (by simp) (by simp)
  have hR2 := hR1.fr c2 (by simp) (by intro j x y; simp; omega)
  have hM : MMd τ1 md := ⟨by rw [c2.1 51 (by simp)]; exact m51, hmd.1, by rw [c2.1 52 (by simp)]; exact m52, hmd.2, fun z => ⟨by rw [c3.1 53 (by simp)]; exact (h53 z).1, (h53 z).2⟩⟩
  have hE : Env9 τ1 b (rN R) (rX R) md (askS (rA R)) sec := ⟨hR2.mb hq, hR2.2.2.2.1, hM, hak, by rw [c3.1 67 (by simp)]; exact hsec, by
    obtain ⟨e, x, y⟩ := h54
    exact ⟨e, x, by rw [c3.1 54 (by simp)]; exact y⟩⟩
  have hA0 : AccL τ1 (rN R) md (askS (rA R)) sec (mI σ 64) (mI σ 66) [] := ⟨by rw [c2.1 55 (by simp)]; exact m55, by rw [c3.1 64 (by simp)]; rfl, fun ⟨lf, z, _⟩ => absurd z (by simp), fun _ => by rw [c3.1 66 (by simp)], fun _ p lf z => by simp at z⟩
  have hcost : cost 16 ≤ MN := by
    rw [hMN]
    unfold cost
    decide
  have main := node_L (b := b) (N := rN R) (xs := rX R) (md := md) (ak := askS (rA R)) (sec := sec) (a0 := mI σ 64) (u0 := mI σ 66) (most := most) hq.2.2.1 (fun z => (h53 z).2) hmost hm2 16 0 [] (lv0 (rN R)) τ1 [] MN rfl (Nat.zero_le _) (fun _ => Nat.zero_le _) rfl (fun _ j hj => by omega) (Nat.zero_le _) hE hv (lv0_ok _) (lv0_bd _ _) hA0 (Nat.zero_le _) hcost
  rw [List.nil_append] at main
  have htree : lvs (rN R) (rX R) md 16 [] (lv0 (rN R)) = tree R md := rfl
  rw [htree] at main
  have frs : ∀ τ, FX md τ1 τ → Fr fI fP [43, 44, 61, 62] σ τ ∧ (md.1 ≠ 0 → Fr fI fA [43, 44] σ τ) := fun τ f => ⟨c3.tr f.1 (by simp <;> omega) (by simp <;> omega) (by simp <;> omega), fun z => c3.tr (f.2 z) (by simp <;> omega) (by simp <;> omega) (by simp)⟩
  rw [show (0 : Int32) = n32 0 from rfl, show (1 : Int32) = n32 1 from rfl]
  rcases main with ⟨τ, fu, i1, i2, i3, i4, i5, i6, i7⟩ | ⟨τ, i1, i2, i3, i4⟩
  · have hf0 : fu ≠ 0 := fun z => by
      rw [z, Nat.zero_add, hMN] at i2
      exact absurd i2 (by unfold cost; decide)
    obtain ⟨fu, rfl⟩ : ∃ g, fu = g + 1 := ⟨fu - 1, by omega⟩
    rw [i1, F_explore_L25, ifp (by decide)]
    exact ⟨τ, _, rfl, (frs τ i3).1, (frs τ i3).2, ⟨i5.2.2.2.2.2, by rw [i3.1.1 52 (by simp)]; exact hM.2.2.1⟩, fun _ => ⟨rfl, i6⟩, fun z => by omega⟩
  · rw [i1]
    exact ⟨τ, _, rfl, (frs τ i2).1, (frs τ i2).2, ⟨i3, by rw [i2.1.1 52 (by simp)]; exact hM.2.2.1⟩, fun z => by omega, fun _ => rfl⟩
/-- the paths, as the reference keeps them -/
def MPt (σ : MS) (R : Rc) : Prop := (200 < (pths R).length → mI σ 65 = n32 1 ∧ mI σ 63 = n32 0) ∧ ((pths R).length ≤ 200 → mI σ 65 = n32 0 ∧ mI σ 63 = n32 (pths R).length ∧ ∀ p lf, (pths R)[p]? = some lf → PathR σ (rN R) p lf ∧ (lfK lf).length ≤ 6)
theorem MPt.fr {is as ls : List Nat} {σ τ : MS} {R : Rc} (h : MPt σ R) (f : Fr is as ls σ τ) (h1 : 63 ∉ is) (h2 : 65 ∉ is) (h4 : ∀ j, 57 ≤ j → j ≤ 60 → j ∉ as) (h5 : 61 ∉ ls) (h6 : 62 ∉ ls) : MPt τ R := by
  refine ⟨fun z => ?_, fun z => ?_⟩
  · rw [f.1 65 h2, f.1 63 h1]; exact h.1 z
  · obtain ⟨a1, a2, a3⟩ := h.2 z
    refine ⟨by rw [f.1 65 h2]; exact a1, by rw [f.1 63 h1]; exact a2, fun p lf hp => ?_⟩
    obtain ⟨b1, b2⟩ := a3 p lf hp
    refine ⟨?_, b2⟩
    unfold PathR at b1 ⊢
    rw [f.2.1 57 (h4 57 (by omega) (by omega)), f.2.1 58 (h4 58 (by omega) (by omega)), f.2.1 59 (h4 59 (by omega) (by omega)), f.2.1 60 (h4 60 (by omega) (by omega)), f.2.2 61 h5, f.2.2 62 h6]
    exact b1
theorem layPaths_L {σ : MS} {b : Nat} {R : Rc} {sec : Bool} (hR : MRc σ b R) (hq : okQ R) (hsec : mI σ 67 = if sec then 1 else 0) (h54 : E54 σ) :
    ∃ τ, F_layPaths σ = some τ ∧ Fr (63 :: 65 :: fI) fP [43, 44, 61, 62] σ τ ∧ (E54 τ ∧ mI τ 52 = n32 0) ∧ MPt τ R := by
  unfold F_layPaths
  obtain ⟨τ, r, e, f1, -, ⟨f2, f52⟩, f3, f4⟩ := explore_L (md := (0, 0, 0)) (sec := sec) (most := 200) hR hq ⟨by decide, by decide⟩ (fun z => by cases z) hsec h54 (fun _ => by omega) (by omega)
  rw [show (0 : Int32) = n32 0 from rfl, show (200 : Int32) = n32 200 from rfl, e]
  simp only [bd2_y]
  have hfin : ∀ (y z : Int32), Fr (63 :: 65 :: fI) fP [43, 44, 61, 62] σ (wI (wI τ 65 y) 63 z) := fun y z => (f1.tr (Fr.wI τ 65 y) (js := 65 :: fI) (bs := fP) (ms := [43, 44, 61, 62]) (by simp) (by simp) (by simp)).tr (Fr.wI _ 63 z) (by simp) (by simp) (by simp)
  by_cases q : (pths R).length ≤ 200
  · obtain ⟨r1, hA⟩ := f3 q
    subst r1
    rw [ifn (by decide)]
    unfold F_layPaths_b18 F_layPaths_b37
    rw [gd_y (by decide)]
    simp only [↓lt_y]
    rw [ifp (by rw [wI_same]; rfl), wI_ne _ _ _ _ (by omega)]
    obtain ⟨b1, b2, b3, b4, b5⟩ := id hA
    refine ⟨_, rfl, hfin _ _, ⟨by obtain ⟨ee, x, y⟩ := f2; exact ⟨ee, x, y⟩, f52⟩, fun z => by omega, fun _ => ⟨by rw [wI_ne _ _ _ _ (by omega), wI_same], by rw [wI_same]; exact b1, fun p lf hp => b5 rfl p lf hp⟩⟩
  · have r1 := f4 (by show 200 < (pths R).length; omega)
    subst r1
    rw [ifp (by decide)]
    unfold F_layPaths_b18 F_layPaths_b37
    rw [gd_y (by decide)]
    simp only [↓lt_y]
    rw [ifn (by rw [wI_same]; decide)]
    refine ⟨_, rfl, hfin _ _, ⟨by obtain ⟨ee, x, y⟩ := f2; exact ⟨ee, x, y⟩, f52⟩, fun _ => ⟨by rw [wI_ne _ _ _ _ (by omega), wI_same]; rfl, by rw [wI_same]; rfl⟩, fun z => by omega⟩
/-! what is asked of the paths -/
theorem isIn_L (p : Int32) (n : Nat) (hn : n < 2147483648) : F_isIn p 0 (n32 n - 1) = some (b32 (ixo p n ≠ none)) := by
  unfold F_isIn ixo b32
  by_cases q : p < 0
  · have : ¬ 0 ≤ p := by
      rw [Int32.le_iff_toInt_le]
      have := Int32.lt_iff_toInt_lt.mp q
      have z : (0 : Int32).toInt = 0 := rfl
      omega
    rw [ifp q, ifn (c := 0 ≤ p ∧ p.toNatClampNeg < n) (fun z => this z.1)]
    rfl
  · have h0 : 0 ≤ p := by
      rw [Int32.le_iff_toInt_le]
      have z : (0 : Int32).toInt = 0 := rfl
      apply Classical.byContradiction
      intro y
      exact q (Int32.lt_iff_toInt_lt.mpr (by omega))
    have h1 : 0 ≤ p.toInt := by
      have := Int32.le_iff_toInt_le.mp h0
      simpa using this
    have h3 : p.toNatClampNeg = p.toInt.toNat := rfl
    have key : (n32 n - 1 < p) ↔ ¬ p.toNatClampNeg < n := by
      cases n with
      | zero =>
        rw [show n32 0 - (1 : Int32) = -1 from rfl, Int32.lt_iff_toInt_lt]
        have : (-1 : Int32).toInt = -1 := rfl
        omega
      | succ n =>
        rw [show (1 : Int32) = n32 1 from rfl, n32_sub (by omega), Nat.add_sub_cancel, Int32.lt_iff_toInt_lt, n32_toInt (by omega)]
        omega
    rw [ifn q]
    by_cases q2 : p.toNatClampNeg < n
    · rw [ifn (fun z => key.mp z q2), ifp (c := 0 ≤ p ∧ p.toNatClampNeg < n) ⟨h0, q2⟩]
      rfl
    · rw [ifp (key.mpr q2), ifn (c := 0 ≤ p ∧ p.toNatClampNeg < n) (fun z => q2 z.2)]
      rfl
theorem b32_none {α : Type} {o : Option α} (h : o = none) [DecidableEq α] : b32 (o ≠ none) = n32 0 := by unfold b32; rw [ifn (fun z => z h)]
theorem b32_some {α : Type} {o : Option α} {a : α} [DecidableEq α] (h : o = some a) : b32 (o ≠ none) = n32 1 := by unfold b32; rw [ifp (by rw [h]; exact fun z => by cases z)]
theorem isInput_L {σ : MS} {b N : Nat} (hB : MB σ b N) (i : Int32) : F_isInput σ i = some (b32 (ixo i N ≠ none)) := by
  have := hB.le
  unfold F_isInput
  rw [inputs_L hB]
  simp only [bd_y]
  rw [isIn_L i N (by omega)]
  simp only [bd_y]
  rw [gd_y (by unfold b32; split <;> decide)]
theorem isPath_L {σ : MS} {R : Rc} (hP : MPt σ R) (h : (pths R).length ≤ 200) (p : Int32) : F_isPath σ p = some (b32 (ixo p (pths R).length ≠ none)) := by
  unfold F_isPath
  rw [(hP.2 h).2.1, isIn_L p _ (by omega)]
  simp only [bd_y]
  rw [gd_y (by unfold b32; split <;> decide)]
theorem paths_L {σ : MS} {R : Rc} (hP : MPt σ R) : F_paths σ = some (p_paths R) := by
  unfold F_paths p_paths
  by_cases q : 200 < (pths R).length
  · rw [(hP.1 q).1, ifn (by decide), ifp q]
  · rw [(hP.2 (by omega)).1, ifp (by decide), ifn q, (hP.2 (by omega)).2.1]
theorem pths_get {R : Rc} {k : Nat} (h : k < (pths R).length) : (pths R)[k]? = some ((pths R).getD k default) := by
  rw [List.getD_eq_getElem?_getD, List.getElem?_eq_getElem h]; rfl
theorem look_L {σ : MS} {R : Rc} (hP : MPt σ R) (p i : Int32) : F_look σ p i = some (p_look R p i) := by
  unfold F_look p_look
  by_cases q : 200 < (pths R).length
  · rw [(hP.1 q).1, ifn (by decide), ifp q]
  obtain ⟨a1, a2, a3⟩ := hP.2 (by omega)
  rw [a1, ifp (by decide), ifn q, isPath_L hP (by omega)]
  simp only [bd_y]
  cases hp : ixo p (pths R).length with
  | none => rw [b32_none rfl, ifp (by decide)]
  | some k =>
    obtain ⟨rfl, hk⟩ := ixo_some hp
    obtain ⟨⟨b1, b2, -⟩, b3⟩ := a3 k _ (pths_get hk)
    rw [b32_some rfl, ifn (by decide), gd_y (n32_inb (by omega)), n32_nat (by omega), b1, isIn_L i _ (by omega)]
    simp only [bd_y]
    cases hi : ixo i (lfK ((pths R).getD k default)).length with
    | none => rw [b32_none rfl, ifp (by decide)]
    | some j =>
      obtain ⟨rfl, hj⟩ := ixo_some hi
      rw [b32_some rfl, ifn (by decide), show (6 : Int32) * n32 k + n32 j = n32 (6 * k + j) from by simp (disch := omega) only [↓reduceIte, ↓lt_y, leT, leF, ltT, ltF, eqT, eqF, n32_lit, n32_add, n32_mul, n32_sub, n32_le, n32_lt, n32_eq, n32_nat, gdn, gd_T, inbT, bd_y, bd2_y, ifp, ifn, not_true_eq_false, not_false_eq_true, and_self, true_and, and_true, false_and, and_false, or_self, true_or, or_true, false_or, or_false, wA_s, wL_s, sA_same, sL_same, sA_L, sL_A, sA_I, sL_I, wI_A, wI_L, wI_same, sA_sA, sL_sL, sA_ne, sL_ne, wI_ne], gd_y (n32_inb (by omega)), n32_nat (by omega), b2 j hj]
theorem e64_div {a b : Nat} (ha : a < 9223372036854775808) (hb : b < 9223372036854775808) : e64 a / e64 b = e64 (a / b) := by
  have h : a / b ≤ a := Nat.div_le_self a b
  have t : ∀ z : Nat, z < 9223372036854775808 → (e64 z).toInt = z := fun z hz => Int64.toInt_ofNat_of_lt (by simpa using hz)
  rw [← Int64.toInt_inj, Int64.toInt_div, t a ha, t b hb, t _ (by omega)]
  rw [Int.tdiv_eq_ediv_of_nonneg (by omega), Int.natCast_ediv]
  have h1 : (0 : Int) ≤ (a : Int) / b := Int.ediv_nonneg (by omega) (by omega)
  have h2 : (a : Int) / b ≤ a := by exact_mod_cast h
  apply Int.bmod_eq_of_le
  · simp; omega
  · simp; omega
theorem e64_sub {a b : Nat} (h : b ≤ a) : e64 a - e64 b = e64 (a - b) := by
  have : e64 a = e64 (a - b) + e64 b := by rw [← e64_add]; congr 1; omega
  rw [this, Int64.add_sub_cancel]
theorem lowest_L {up under d : Nat} (h1 : up < 9223372036854775808) (h2 : under < 9223372036854775808) (h3 : 0 < under) (hd : d < 2) : F_lowest (e64 up) (e64 under) (n32 d) = some (lowS up under d) := by
  have hMN := MN_gt
  unfold F_lowest
  have main : ∀ (q p fu : Nat), p < 9223372036854775808 → q < 9223372036854775808 → 0 < Nat.gcd p q → q < fu → F_lowest_L6 fu (e64 up) (e64 under) (n32 d) (e64 p) (e64 q) = F_lowest_b31 (e64 up) (e64 under) (n32 d) (e64 (Nat.gcd p q)) := by
    intro q
    induction q using Nat.strongRecOn with
    | _ q ih =>
      intro p fu hp hq hg hfu
      obtain ⟨fu, rfl⟩ : ∃ f, fu = f + 1 := ⟨fu - 1, by omega⟩
      rw [F_lowest_L6]
      by_cases z : q = 0
      · subst z
        rw [ifp ((cmpZ (e64 0)).mpr rfl), Nat.gcd_zero_right]
      · have hz : ¬ e64 q = 0 := fun y => z ((e64_ne hq).mp y)
        have hm := Nat.mod_lt p (show 0 < q by omega)
        have hdm := Nat.div_mul_le_self p q
        have hmod : p - p / q * q = p % q := by
          have := Nat.mod_add_div p q
          rw [Nat.mul_comm] at this
          omega
        rw [ifn (fun y => hz ((cmpZ _).mp y)), gd_y hz]
        simp only [↓lt_y]
        rw [e64_div hp hq, ← e64_mul, e64_sub hdm, hmod]
        have hgg : Nat.gcd q (p % q) = Nat.gcd p q := by rw [Nat.gcd_comm p q, Nat.gcd_rec q p, Nat.gcd_comm]
        rw [ih (p % q) hm q fu hq (by omega) (by rw [hgg]; exact hg) (by omega), hgg]
  have hg : 0 < Nat.gcd up under := Nat.gcd_pos_of_pos_right _ h3
  rw [main under up MN h1 h2 hg (by omega)]
  have hgl : Nat.gcd up under ≤ under := Nat.gcd_le_right _ h3
  have hgz : ¬ e64 (Nat.gcd up under) = 0 := fun y => by
    have := (e64_ne (by omega)).mp y
    omega
  unfold F_lowest_b31 lowS
  by_cases q : d = 0
  · subst q
    rw [ifp (by decide), gd_y hgz, e64_div h1 (by omega), ifp rfl]
  · rw [ifn (by simp (disch := omega) only [↓reduceIte, ↓lt_y, leT, leF, ltT, ltF, eqT, eqF, n32_lit, n32_add, n32_mul, n32_sub, n32_le, n32_lt, n32_eq, n32_nat, gdn, gd_T, inbT, bd_y, bd2_y, ifp, ifn, not_true_eq_false, not_false_eq_true, and_self, true_and, and_true, false_and, and_false, or_self, true_or, or_true, false_or, or_false, wA_s, wL_s, sA_same, sL_same, sA_L, sL_A, sA_I, sL_I, wI_A, wI_L, wI_same, sA_sA, sL_sL, sA_ne, sL_ne, wI_ne]), gd_y hgz, e64_div h2 (by omega), ifn q]
