set_option maxRecDepth 100000
/-! THE REFERENCE: recipes -/
theorem n255 (v : Int32) : v &&& 255 = n32 (v.toBitVec.toNat % 256) := by
  apply n32_ext
  rw [Int32.toBitVec_and]
  apply BitVec.eq_of_toNat_eq
  rw [BitVec.toNat_and, n32_bv, BitVec.toNat_ofNat]
  have e : (255 : Int32).toBitVec.toNat = 2 ^ 8 - 1 := by decide
  rw [e, Nat.and_two_pow_sub_one_eq_mod]
  omega
theorem byt_n (v : Int32) : n32 (byt v) = v &&& 255 ∧ byt v < 256 := by
  have h : v.toBitVec.toNat % 256 < 256 := Nat.mod_lt _ (by omega)
  unfold byt
  rw [n255, n32_nat (by omega)]
  exact ⟨rfl, h⟩
theorem i8_255 (v : Int32) : v.toInt8.toInt32 &&& 255 = v &&& 255 := by
  rw [n255, n255]
  congr 1
  have e1 : v.toInt8.toInt32.toBitVec = (v.toBitVec.setWidth 8).signExtend 32 := by
    simp only [Int8.toBitVec_toInt32, Int32.toBitVec_toInt8, BitVec.signExtend_eq_setWidth_of_le v.toBitVec (show 8 ≤ 32 by decide)]
  rw [e1]
  have e2 : ∀ w : BitVec 8, (w.signExtend 32).toNat % 256 = w.toNat := by decide
  rw [e2, BitVec.toNat_setWidth]
theorem MSq.stp {σ : MS} {k : Nat} {x : Stq} (h : MSq σ k x) (h9 : sT x ≠ 9) : MStp σ k x := ⟨h.1, h.2.1, h.2.2.1, fun z => h.2.2.2.1 (z.resolve_right h9), h.2.2.2.2.1⟩
theorem clearBank_L {σ : MS} {b : Nat} (hb : b < 2) (h36 : mI σ 36 = n32 b) : ∃ τ, F_clearBank σ = some τ ∧ FB b σ τ ∧ MPs τ b ps0 ∧ Fr [37, 40] [12, 13, 14, 15, 16, 17, 18, 19, 20, 21] [] σ τ := by
  have zb := n32_nat (a := b) (by omega)
  have ib : inb (n32 b) 2 := n32_inb (by omega)
  unfold F_clearBank
  have w36 : ∀ (τ : MS) (j i : Nat) (v : Int32), mI τ 36 = n32 b → mI (wA τ j i v) 36 = n32 b := fun _ _ _ _ h => h
  simp only [↓lt_y]
  have i0 := h36
  rw [h36]
  simp only [zb]
  rw [gd_y ib]
  have i1 := w36 σ 12 b 2 h36
  simp only [i1, zb]
  rw [gd_y ib]
  have i2 := w36 _ 13 b 0 i1
  simp only [i2, zb]
  rw [gd_y ib]
  have i3 := w36 _ 14 b 0 i2
  simp only [i3, zb]
  rw [gd_y ib]
  have i4 := w36 _ 15 b 0 i3
  simp only [i4, zb]
  rw [gd_y ib]
  have i5 := w36 _ 16 b 0 i4
  simp only [i5, zb]
  rw [gd_y ib]
  have i6 := w36 _ 17 b 0 i5
  simp only [i6, zb]
  rw [gd_y ib]
  have i7 := w36 _ 18 b 0 i6
  simp only [i7, zb]
  rw [gd_y ib]
  have i8 := w36 _ 20 b 0 i7
  simp only [i8, zb]
  rw [gd_y ib]
  have i9 := w36 _ 21 b 0 i8
  generalize hτ : wA (wA (wA (wA (wA (wA (wA (wA (wA σ 12 b 2) 13 b 0) 14 b 0) 15 b 0) 16 b 0) 17 b 0) 18 b 0) 20 b 0) 21 b 0 = τ at i9 ⊢
  have e36 : mI (wI τ 40 0) 36 = n32 b := by rw [wI_ne _ _ _ _ (by omega)]; exact i9
  rw [e36]
  have e400 : (400 : Int32) * n32 b = n32 (400 * b) := by simp (disch := omega) only [↓reduceIte, ↓lt_y, leT, leF, ltT, ltF, eqT, eqF, n32_lit, n32_add, n32_mul, n32_sub, n32_le, n32_lt, n32_eq, n32_nat, gdn, gd_T, inbT, bd_y, bd2_y, ifp, ifn, not_true_eq_false, not_false_eq_true, and_self, true_and, and_true, false_and, and_false, or_self, true_or, or_true, false_or, or_false, wA_s, wL_s, sA_same, sL_same, sA_L, sL_A, sA_I, sL_I, wI_A, wI_L, wI_same, sA_sA, sL_sL, sA_ne, sL_ne, wI_ne]
  have e36b : mI (wI (wI τ 40 0) 37 ((400 : Int32) * n32 b)) 36 = n32 b := by rw [wI_ne _ _ _ _ (by omega)]; exact e36
  have e37 : mI (wI (wI τ 40 0) 37 ((400 : Int32) * n32 b)) 37 = n32 (400 * b) := by rw [wI_same]; exact e400
  rw [e36b, e37]
  simp only [zb]
  rw [gd_y ib]
  have fτ : Fr [] [12, 13, 14, 15, 16, 17, 18, 20, 21] [] σ τ := by
    rw [← hτ]
    exact ((((((((Fr.any.wA1 12 _ _ (by simp)).wA1 13 _ _ (by simp)).wA1 14 _ _ (by simp)).wA1 15 _ _ (by simp)).wA1 16 _ _ (by simp)).wA1 17 _ _ (by simp)).wA1 18 _ _ (by simp)).wA1 20 _ _ (by simp)).wA1 21 _ _ (by simp)
  have bτ : FB b σ τ := by
    rw [← hτ]
    exact (FB.wA _ hb (by omega)).tr ((FB.wA _ hb (by omega)).tr ((FB.wA _ hb (by omega)).tr ((FB.wA _ hb (by omega)).tr ((FB.wA _ hb (by omega)).tr ((FB.wA _ hb (by omega)).tr ((FB.wA _ hb (by omega)).tr ((FB.wA _ hb (by omega)).tr (FB.wA _ hb (by omega)))))))))
  have v : mA τ 12 b = 2 ∧ mA τ 13 b = 0 ∧ mA τ 14 b = 0 ∧ mA τ 15 b = 0 ∧ mA τ 16 b = 0 ∧ mA τ 17 b = 0 ∧ mA τ 18 b = 0 ∧ mA τ 20 b = 0 ∧ mA τ 21 b = 0 := by
    rw [← hτ]
    simp (disch := omega) only [wA_ne, wA_at, and_self]
  clear hτ
  obtain ⟨v12, v13, v14, v15, v16, v17, v18, v20, v21⟩ := v
  have f2 : Fr [37, 40] [] [] τ (wI (wI τ 40 0) 37 ((400 : Int32) * n32 b)) := (Fr.any.w1 40 _ (by simp)).w1 37 _ (by simp)
  have m40 : mI (wI (wI τ 40 0) 37 ((400 : Int32) * n32 b)) 40 = 0 := by rw [wI_ne _ _ _ _ (by omega), wI_same]
  generalize wI (wI τ 40 0) 37 ((400 : Int32) * n32 b) = υ at f2 e36b e37 m40
  refine ⟨_, rfl, bτ.tr ((FB.of f2 (by simp) (by simp)).tr (FB.wA _ hb (by omega))), ?_, Fr.tr (Fr.tr (js := [37, 40]) (bs := [12, 13, 14, 15, 16, 17, 18, 20, 21]) (ms := []) fτ f2 (by simp) (by simp) (by simp)) (Fr.any.wA1 (is := []) (as := [19]) (ls := []) 19 b _ (by simp)) (by simp) (by simp) (by simp)⟩
  have g : ∀ j v, mA τ j b = v → j ≠ 19 → mA (wA υ 19 b (n32 (400 * b))) j b = v := fun j v h hj => by rw [wA_ne _ _ _ _ _ _ (fun z => hj z.1), f2.2.1 j (by simp)]; exact h
  refine ⟨e36b, g 12 _ v12 (by omega), g 20 _ v20 (by omega), m40, g 13 _ v13 (by omega), (fun j x hj => by simp [ps0, jX] at hj), g 14 _ v14 (by omega), (fun j x hj => by simp [ps0, jY] at hj), g 15 _ v15 (by omega), (fun j x hj => by simp [ps0, jO] at hj), g 16 _ v16 (by omega), g 17 _ v17 (by omega), g 18 _ v18 (by omega), ⟨g 21 _ v21 (by omega), wA_at _ _ _ _⟩, fun _ => e37⟩
theorem lines_L {b : Nat} {t : List Nat} (hb : b < 2) : ∀ (f : Nat) (s : Ps) (l : List Tk) (σ : MS) (fu : Nat), l.length < f → f < fu → PS σ t (.inr l) → MPs σ b s → okPs s → tkO l → ∃ τ, F_recipe_L74 fu σ = F_recipe_b95 τ ∧ FB b σ τ ∧ match pTxt f s l with
    | .inl e => PS τ t (.inl e)
    | .inr s' => ∃ l', PS τ t (.inr l') ∧ MPs τ b s' := by
  intro f
  induction f with
  | zero => intro s l σ fu h; omega
  | succ f ih =>
    intro s l σ fu hl hfu hS hM hok htk
    obtain ⟨fu, rfl⟩ : ∃ f, fu = f + 1 := ⟨fu - 1, by omega⟩
    have hc := hS.2.2.cur
    rw [F_recipe_L74, isGood_y hS, bd_y, ifn g1N, hc.2.1, pTxt]
    by_cases q : kS (cur l) = 0
    · rw [ifp (by rw [q]; rfl), ifp q]
      exact ⟨σ, rfl, FB.rf, l, hS, hM⟩
    · rw [ifn (c := n32 (kS (cur l)) = 0) (fun z => q ((n32_eq (b := 0) ⟨by omega, by omega⟩).mp z)), ifn q]
      obtain ⟨χ, e1, f1, g1⟩ := readLine_L hb hS hM hok
      rw [e1, bd_y]
      cases hp : pLin s l with
      | inl e =>
        rw [hp] at g1
        have g1' : PS χ t (.inl e) := g1
        obtain ⟨fu, rfl⟩ : ∃ f, fu = f + 1 := ⟨fu - 1, by omega⟩
        rw [F_recipe_L74, isGood_n g1', bd_y, ifp rfl]
        exact ⟨χ, rfl, f1, g1'⟩
      | inr a =>
        rw [hp] at g1
        obtain ⟨i1, i2, i3⟩ := pLin_i hok htk hp
        obtain ⟨τ, e2, f2, g2⟩ := ih a.1 a.2 χ fu (by have := i3.1; omega) (by omega) g1.1 g1.2 i1 i2
        exact ⟨τ, e2, f1.tr f2, g2⟩
theorem MRc.obk {σ τ : MS} {b : Nat} {R : Rc} (h : MRc σ b R) (hq : okQ R) (h35 : mI τ 35 = mI σ 35) (f : OBk b σ τ) : MRc τ b R := by
  obtain ⟨a1, a2, a3, ⟨a4, a4'⟩, a5, ⟨a6, a6'⟩, ⟨a7, a7'⟩, a8, a9⟩ := h
  obtain ⟨f1, f2, f3, f4⟩ := f
  have st : ∀ k x, k < 52 → okS x → MStp σ (52 * b + k) x → MStp τ (52 * b + k) x := by
    intro k x hk ho hm
    obtain ⟨m1, m2, m3, m4, m5⟩ := hm
    refine ⟨by rw [f2 22 _ (by omega) (by omega) (by omega) (by omega)]; exact m1, fun z => by rw [f2 23 _ (by omega) (by omega) (by omega) (by omega)]; exact m2 z, fun z => by rw [f2 24 _ (by omega) (by omega) (by omega) (by omega)]; exact m3 z, fun z => by rw [f2 25 _ (by omega) (by omega) (by omega) (by omega)]; exact m4 z, fun z => ⟨by rw [f2 26 _ (by omega) (by omega) (by omega) (by omega)]; exact (m5 z).1, fun j hj => ?_⟩⟩
    have hl : (sl x).length ≤ 8 := by
      rcases z with z | z
      · exact (ho.o4 z).2.1
      · exact (ho.o9 z).2.1
    rw [f3 _ (by omega) (by omega)]; exact (m5 z).2 j hj
  obtain ⟨o1, o2, ⟨o3, -⟩, o5, o6, o7, o8, o9, o10, -⟩ := hq
  refine ⟨by rw [h35]; exact a1, a2, by rw [f1 12 (by omega) (by omega)]; exact a3, ⟨by rw [f1 13 (by omega) (by omega)]; exact a4, fun k x hk => ?_⟩, ?_, ⟨by rw [f1 14 (by omega) (by omega)]; exact a6, fun k x hk => ?_⟩, ⟨by rw [f1 15 (by omega) (by omega)]; exact a7, fun k x hk => ?_⟩, by rw [f1 17 (by omega) (by omega)]; exact a8, by rw [f1 18 (by omega) (by omega)]; exact a9⟩
  · have : k < (rX R).length := (List.getElem?_eq_some_iff.mp hk).1
    have := o3.1
    exact st k x (by omega) (o3.2 k x hk).1 (a4' k x hk)
  · unfold MAsk at a5 ⊢
    cases hA : rA R with
    | none => rw [hA] at a5; exact ⟨by rw [f1 21 (by omega) (by omega)]; exact a5.1, by rw [f1 19 (by omega) (by omega)]; exact a5.2⟩
    | some c =>
      rw [hA] at a5
      have hc := (o9 c hA).2.1
      refine ⟨by rw [f1 21 (by omega) (by omega)]; exact a5.1, by rw [f1 19 (by omega) (by omega)]; exact a5.2.1, fun j q hj => ?_⟩
      have : j < c.length := (List.getElem?_eq_some_iff.mp hj).1
      obtain ⟨x1, x2⟩ := f4 (400 * b + j) (by omega) (by omega)
      rw [x1, x2]; exact a5.2.2 j q hj
  · have : k < (rY R).length := (List.getElem?_eq_some_iff.mp hk).1
    have := st (40 + k) x (by omega) (o6 x (List.mem_of_getElem? hk)).1 (by rw [← Nat.add_assoc]; exact a6' k x hk)
    rw [← Nat.add_assoc] at this; exact this
  · have : k < (rO R).length := (List.getElem?_eq_some_iff.mp hk).1
    have := st (48 + k) x (by omega) (o8 x (List.mem_of_getElem? hk)).1 (by rw [← Nat.add_assoc]; exact a7' k x hk)
    rw [← Nat.add_assoc] at this; exact this
