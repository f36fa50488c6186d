set_option maxRecDepth 100000
/-! THE REFERENCE: lines -/
abbrev qI : List Nat := [4, 5, 6, 7, 8, 9, 11, 37, 38, 39, 40]
abbrev qA : List Nat := [12, 13, 14, 15, 16, 17, 18, 19, 20, 21, 22, 23, 24, 25, 26, 27, 28, 30, 31, 32, 33]
abbrev qL : List Nat := [10, 29]
/-- a bank is left as it is -/
def OBk (c : Nat) (σ τ : MS) : Prop := (∀ j, 12 ≤ j → j ≤ 21 → mA τ j c = mA σ j c) ∧ (∀ j k, 22 ≤ j → j ≤ 26 → 52 * c ≤ k → k < 52 * c + 52 → mA τ j k = mA σ j k) ∧ (∀ k, 416 * c ≤ k → k < 416 * c + 416 → mA τ 27 k = mA σ 27 k) ∧ ∀ k, 400 * c ≤ k → k < 400 * c + 400 → mA τ 30 k = mA σ 30 k ∧ mA τ 31 k = mA σ 31 k
def FB (b : Nat) (σ τ : MS) : Prop := Fr qI qA qL σ τ ∧ OBk (1 - b) σ τ
theorem FB.rf {b : Nat} {σ : MS} : FB b σ σ := ⟨Fr.any, fun _ _ _ => rfl, fun _ _ _ _ _ _ => rfl, fun _ _ _ => rfl, fun _ _ _ => ⟨rfl, rfl⟩⟩
theorem FB.tr {b : Nat} {σ τ υ : MS} (h : FB b σ τ) (h' : FB b τ υ) : FB b σ υ := by
  obtain ⟨a1, a2, a3, a4, a5⟩ := h
  obtain ⟨b1, b2, b3, b4, b5⟩ := h'
  exact ⟨Fr.tr a1 b1 (fun k hk => (List.mem_append.mp hk).elim id id) (fun k hk => (List.mem_append.mp hk).elim id id) (fun k hk => (List.mem_append.mp hk).elim id id), fun j x y => (b2 j x y).trans (a2 j x y), fun j k x y z w => (b3 j k x y z w).trans (a3 j k x y z w), fun k x y => (b4 k x y).trans (a4 k x y), fun k x y => ⟨(b5 k x y).1.trans (a5 k x y).1, (b5 k x y).2.trans (a5 k x y).2⟩⟩
theorem FB.of {b : Nat} {is ls : List Nat} {σ τ : MS} (f : Fr is [] ls σ τ) (h1 : ∀ k, k ∈ is → k ∈ qI) (h2 : ∀ k, k ∈ ls → k ∈ qL) : FB b σ τ :=
  ⟨Fr.mono f h1 (by simp) h2, fun j _ _ => by rw [f.2.1 j (by simp)], fun j k _ _ _ _ => by rw [f.2.1 j (by simp)], fun k _ _ => by rw [f.2.1 27 (by simp)], fun k _ _ => ⟨by rw [f.2.1 30 (by simp)], by rw [f.2.1 31 (by simp)]⟩⟩
theorem FB.bs {b s : Nat} {σ τ : MS} (hb : b < 2) (hs : 52 * b ≤ s ∧ s < 52 * b + 52) (h : BS s σ τ) : FB b σ τ :=
  ⟨Fr.mono h.1 (by simp) (by simp) (by simp), fun j x y => by rw [h.1.2.1 j (by simp; omega)], fun j k x y z w => h.2.1 j k (by omega) (by omega), fun k x y => h.2.2.1 k (by omega), fun k _ _ => ⟨by rw [h.1.2.1 30 (by simp)], by rw [h.1.2.1 31 (by simp)]⟩⟩
theorem FB.fe {b : Nat} {σ τ : MS} (hb : b < 2) (h : FE b σ τ) : FB b σ τ :=
  ⟨Fr.mono h.1 (by simp) (by simp) (by simp), fun j x y => by
    by_cases e : j = 18
    · rw [e]; exact h.2.1 _ (by omega)
    · rw [h.1.2.1 j (by simp; omega)], fun j k x y z w => by rw [h.1.2.1 j (by simp; omega)], fun k x y => by rw [h.1.2.1 27 (by simp)], fun k x y => h.2.2 k (by omega)⟩
theorem FB.wA {b j : Nat} {σ : MS} (v : Int32) (hb : b < 2) (hj : 12 ≤ j ∧ j ≤ 21) : FB b σ (wA σ j b v) :=
  ⟨Fr.any.wA1 j b v (by simp; omega), fun i x y => wA_ne _ _ _ _ _ _ (by omega), fun i k x y z w => wA_ne _ _ _ _ _ _ (by omega), fun k x y => wA_ne _ _ _ _ _ _ (by omega), fun k x y => ⟨wA_ne _ _ _ _ _ _ (by omega), wA_ne _ _ _ _ _ _ (by omega)⟩⟩
def MQs (σ : MS) (o : Nat) (xs : List Stq) : Prop := ∀ j x, xs[j]? = some x → MSq σ (o + j) x
theorem MQs.fr {is as ls : List Nat} {σ τ : MS} {o : Nat} {xs : List Stq} (h : MQs σ o xs) (f : Fr is as ls σ τ) (h1 : ∀ j, 22 ≤ j → j ≤ 28 → j ∉ as) (h2 : 29 ∉ ls) : MQs τ o xs := fun j x hj => MSqs.fr (h j x hj) f h1 h2
theorem MQs.bs {s o : Nat} {σ τ : MS} {xs : List Stq} (h : MQs σ o xs) (f : BS s σ τ) (hs : s < o ∨ o + xs.length ≤ s) (hok : ∀ x ∈ xs, okS x) : MQs τ o xs := fun j x hj => (h j x hj).bs f (by
    have : j < xs.length := (List.getElem?_eq_some_iff.mp hj).1
    omega) (fun z => by
      rcases z with z | z
      · exact ((hok x (List.mem_of_getElem? hj)).o4 z).2.1
      · exact ((hok x (List.mem_of_getElem? hj)).o9 z).2.1)
theorem MQs.snoc {σ : MS} {o : Nat} {xs : List Stq} {y : Stq} (h : MQs σ o xs) (hy : MSq σ (o + xs.length) y) : MQs σ o (xs ++ [y]) := by
  intro j x hj
  by_cases e : j < xs.length
  · rw [List.getElem?_append_left e] at hj; exact h j x hj
  · rw [List.getElem?_append_right (by omega)] at hj
    have ej : j = xs.length := by
      have : j - xs.length < 1 := (List.getElem?_eq_some_iff.mp hj).1
      omega
    subst ej
    rw [Nat.sub_self] at hj
    cases hj; exact hy
def MPs (σ : MS) (b : Nat) (s : Ps) : Prop := mI σ 36 = n32 b ∧ mA σ 12 b = n32 (jP s) ∧ mA σ 20 b = bi (jT s) ∧ mI σ 40 = bi (jL s) ∧ mA σ 13 b = n32 (jX s).length ∧ MQs σ (52 * b) (jX s) ∧ mA σ 14 b = n32 (jY s).length ∧ MQs σ (52 * b + 40) (jY s) ∧ mA σ 15 b = n32 (jO s).length ∧ MQs σ (52 * b + 48) (jO s) ∧ mA σ 16 b = n32 (cntO (jX s) (jX s).length) ∧ mA σ 17 b = n32 (mixNo (jX s) (jX s).length) ∧ mA σ 18 b = n32 (jU s) ∧ MAsk σ b (jA s) ∧ (jA s = none → mI σ 37 = n32 (400 * b))
theorem MAsk.fr {is as ls : List Nat} {σ τ : MS} {b : Nat} {A : Option Cd} (h : MAsk σ b A) (f : Fr is as ls σ τ) (h2 : 19 ∉ as ∧ 21 ∉ as ∧ 30 ∉ as ∧ 31 ∉ as) : MAsk τ b A := by
  unfold MAsk at h ⊢
  rw [f.2.1 19 h2.1, f.2.1 21 h2.2.1, f.2.1 30 h2.2.2.1, f.2.1 31 h2.2.2.2]
  exact h
theorem MPs.fr {is as ls : List Nat} {σ τ : MS} {b : Nat} {s : Ps} (h : MPs σ b s) (f : Fr is as ls σ τ) (h1 : 36 ∉ is ∧ 40 ∉ is ∧ 37 ∉ is) (h2 : ∀ j, 12 ≤ j → j ≤ 31 → j ∉ as) (h3 : 29 ∉ ls) : MPs τ b s := by
  obtain ⟨a1, a2, a3, a4, a5, a6, a7, a8, a9, a10, a11, a12, a13, a14, a15⟩ := h
  have g : ∀ j, 12 ≤ j → j ≤ 31 → mA τ j = mA σ j := fun j x y => f.2.1 j (h2 j x y)
  refine ⟨by rw [f.1 36 h1.1]; exact a1, by rw [g 12 (by omega) (by omega)]; exact a2, by rw [g 20 (by omega) (by omega)]; exact a3, by rw [f.1 40 h1.2.1]; exact a4, by rw [g 13 (by omega) (by omega)]; exact a5, a6.fr f (fun j x y => h2 j (by omega) (by omega)) h3, by rw [g 14 (by omega) (by omega)]; exact a7, a8.fr f (fun j x y => h2 j (by omega) (by omega)) h3, by rw [g 15 (by omega) (by omega)]; exact a9, a10.fr f (fun j x y => h2 j (by omega) (by omega)) h3, by rw [g 16 (by omega) (by omega)]; exact a11, by rw [g 17 (by omega) (by omega)]; exact a12, by rw [g 18 (by omega) (by omega)]; exact a13, a14.fr f ⟨h2 19 (by omega) (by omega), h2 21 (by omega) (by omega), h2 30 (by omega) (by omega), h2 31 (by omega) (by omega)⟩, fun z => by rw [f.1 37 h1.2.2]; exact a15 z⟩
def LQ (b : Nat) (t : List Nat) (τ : MS) (r : Rs (Ps × List Tk)) : Prop := match r with
  | .inl e => PS τ t (.inl e)
  | .inr a => PS τ t (.inr a.2) ∧ MPs τ b a.1
theorem readPeople_L {σ : MS} {b : Nat} {t : List Nat} {l : List Tk} {s : Ps} (hb : b < 2) (hS : PS σ t (.inr l)) (hM : MPs σ b s) (h2 : 2 ≤ kS (cur l)) : ∃ τ, F_readPeople σ = some τ ∧ FB b σ τ ∧ LQ b t τ (pPpl s l) := by
  obtain ⟨a1, a2, a3, a4, a5, a6, a7, a8, a9, a10, a11, a12, a13, a14, a15⟩ := id hM
  have zb := n32_nat (a := b) (by omega)
  have a21 : mA σ 21 b = bi (jA s).isSome := by
    unfold MAsk at a14
    cases hA : jA s with
    | none => rw [hA] at a14; exact a14.1
    | some c => rw [hA] at a14; exact a14.1
  unfold F_readPeople
  simp only [a1, zb, a3, a21, a4]
  rw [gd_y (n32_inb (by omega)), gd_y (n32_inb (by omega))]
  have bad : (jT s = true ∨ (jA s).isSome = true ∨ jL s = true) → ∃ τ, F_readPeople_b31 F_readPeople_b35 σ = some τ ∧ FB b σ τ ∧ LQ b t τ (pPpl s l) := by
    intro q
    unfold F_readPeople_b31 F_readPeople_b35
    obtain ⟨τ, e, f, g⟩ := misplaced_S hS
    have g' : PS τ t (.inl (errT l)) := g
    rw [e, bd_y, isGood_n g', bd_y, ifp rfl]
    refine ⟨τ, rfl, FB.of f (by simp) (by simp), ?_⟩
    unfold pPpl
    rw [ifp q]; exact g'
  have good : ¬ (jT s = true ∨ (jA s).isSome = true ∨ jL s = true) → ∃ τ, F_readPeople_b35 σ = some τ ∧ FB b σ τ ∧ LQ b t τ (pPpl s l) := by
    intro q
    unfold F_readPeople_b35
    obtain ⟨τ, e, f, g⟩ := goOn_S hS h2
    rw [isGood_y hS, bd_y, ifn g1N, e, bd_y]
    obtain ⟨x, τ2, e2, -, hx, f2, g2, v2, -⟩ := numeral_S g (lo := 1) (hi := 3) (by omega) (by omega)
    have e2' : F_numeral 1 3 τ = some (n32 x, τ2) := e2
    rw [e2', bd2_y]
    have i36 : mI τ 36 = n32 b := by rw [f.1 36 (by simp)]; exact a1
    have i362 : ∀ i v, mI (wA τ2 12 i v) 36 = n32 b := fun i v => by
      show mI τ2 36 = _
      rw [f2.1 36 (by simp)]; exact i36
    simp only [i36, zb]
    rw [gd_y (n32_inb (by omega)), lt_y]
    simp only [i362, zb]
    rw [gd_y (n32_inb (by omega)), lt_y]
    have fr2 : Fr [4, 5, 6, 7, 8, 9, 11] [] [10] σ τ2 := Fr.tr f f2 (by simp) (by simp) (by simp)
    have fB : FB b σ (wA (wA τ2 12 b (n32 x)) 20 b 1) := (FB.of fr2 (by simp) (by simp)).tr ((FB.wA (n32 x) hb (by omega)).tr (FB.wA 1 hb (by omega)))
    refine ⟨_, rfl, fB, ?_⟩
    have g2' : PS τ2 t (rl (pNum 1 3 l.tail)) := g2
    have g3 : PS (wA (wA τ2 12 b (n32 x)) 20 b 1) t (rl (pNum 1 3 l.tail)) := (g2'.bs (s := 0) 12 _ _ (by omega)).bs (s := 0) 20 _ _ (by omega)
    unfold pPpl
    rw [ifn q]
    cases hp : pNum 1 3 l.tail with
    | inl e => rw [hp] at g3; exact g3
    | inr a =>
      rw [hp] at g3
      have ex := v2 l.tail a rfl hp
      refine ⟨g3, ?_⟩
      have hM2 := hM.fr fr2 (by simp) (by simp) (by simp)
      obtain ⟨c1, c2, c3, c4, c5, c6, c7, c8, c9, c10, c11, c12, c13, c14, c15⟩ := hM2
      have fw : Fr [] [12, 20] [] τ2 (wA (wA τ2 12 b (n32 x)) 20 b 1) := (Fr.any.wA1 12 _ _ (by simp)).wA1 20 _ _ (by simp)
      refine ⟨c1, by rw [wA_ne _ _ _ _ _ _ (by omega), wA_at, ex]; rfl, wA_at _ _ _ _, c4, by rw [fw.2.1 13 (by simp)]; exact c5, c6.fr fw (by intro j x y; simp; omega) (by simp), by rw [fw.2.1 14 (by simp)]; exact c7, c8.fr fw (by intro j x y; simp; omega) (by simp), by rw [fw.2.1 15 (by simp)]; exact c9, c10.fr fw (by intro j x y; simp; omega) (by simp), by rw [fw.2.1 16 (by simp)]; exact c11, by rw [fw.2.1 17 (by simp)]; exact c12, by rw [fw.2.1 18 (by simp)]; exact c13, c14.fr fw (by simp), c15⟩
  cases hT : jT s with
  | true => rw [ifn gY]; exact bad (Or.inl hT)
  | false =>
    rw [ifp gN]
    cases hA : (jA s).isSome with
    | true => rw [ifn gY]; exact bad (Or.inr (Or.inl hA))
    | false =>
      rw [ifp gN]
      cases hL : jL s with
      | true => rw [ifn gY]; exact bad (Or.inr (Or.inr hL))
      | false => rw [ifp gN]; exact good (by rw [hT, hA, hL]; simp)
theorem readAsks_L {σ : MS} {b : Nat} {t : List Nat} {l : List Tk} {s : Ps} (hb : b < 2) (hS : PS σ t (.inr l)) (hM : MPs σ b s) (hok : okPs s) (h2 : 2 ≤ kS (cur l)) : ∃ τ, F_readAsks σ = some τ ∧ FB b σ τ ∧ (LQ b t τ (pAsk s l) ∨ ∃ a, pAsk s l = .inr a ∧ isC a.2 59 = false ∧ PS τ t (.inl (errT a.2))) := by
  obtain ⟨a1, a2, a3, a4, a5, a6, a7, a8, a9, a10, a11, a12, a13, a14, a15⟩ := id hM
  have zb := n32_nat (a := b) (by omega)
  have a21 : mA σ 21 b = bi (jA s).isSome := by
    unfold MAsk at a14
    cases hA : jA s with
    | none => rw [hA] at a14; exact a14.1
    | some c => rw [hA] at a14; exact a14.1
  unfold F_readAsks
  simp only [a1, zb, a21]
  rw [gd_y (n32_inb (by omega))]
  unfold F_readAsks_b16
  cases hA : (jA s).isSome with
  | true =>
    rw [ifn gY]
    obtain ⟨τ, e, f, g⟩ := misplaced_S hS
    have g' : PS τ t (.inl (errT l)) := g
    rw [e, bd_y, isGood_n g', bd_y, ifp rfl]
    refine ⟨τ, rfl, FB.of f (by simp) (by simp), Or.inl ?_⟩
    unfold pAsk
    rw [ifp hA]; exact g'
  | false =>
    have hnone : jA s = none := by
      cases h : jA s with
      | none => rfl
      | some c => rw [h] at hA; cases hA
    rw [ifp gN, isGood_y hS, bd_y, ifn g1N]
    obtain ⟨τ, e, f, g⟩ := goOn_S hS h2
    rw [e, bd_y]
    have i36 : mI τ 36 = n32 b := by rw [f.1 36 (by simp)]; exact a1
    simp only [i36, zb]
    rw [gd_y (n32_inb (by omega)), lt_y]
    have fw : Fr [] [21] [] τ (wA τ 21 b 1) := Fr.any.wA1 21 _ _ (by simp)
    have g1 := g.bs (s := 0) 21 b 1 (by omega)
    have w21 : mA (wA τ 21 b 1) 21 b = 1 := wA_at _ _ _ _
    have fB1 : FB b σ (wA τ 21 b 1) := (FB.of f (by simp) (by simp)).tr (FB.wA 1 hb (by omega))
    have fAll : Fr [6, 7, 8, 9] [21] [10] σ (wA τ 21 b 1) := Fr.tr f fw (by simp) (by simp) (by simp)
    generalize wA τ 21 b 1 = υ at g1 w21 fB1 fAll
    have hlen := hS.1.2.1
    have hll := MTk_len hS.2.2 h2
    have tl := tl_lt h2
    have htot := dx_tot (P := jP s) (dxF l) 0 0 [] (jU s) l.tail (by omega) (by unfold dxF; have : rkM 0 = 7 := rfl; omega)
    cases hd : dx (jP s) (dxF l) 0 0 [] (jU s) l.tail with
    | none => exact absurd hd htot
    | some R =>
      obtain ⟨τ2, e2, f2, g2⟩ := e_L hb hok.1.2 hok.2.2.2.2.2.2.2.2.2.1 (by rw [fAll.1 36 (by simp)]; exact a1) (by rw [fAll.2.1 12 (by simp)]; exact a2) (by rw [fAll.2.1 18 (by simp)]; exact a13) (by rw [fAll.1 37 (by simp)]; exact a15 hnone) g1 (by omega) hd
      rw [e2, bd_y]
      have j36 : mI τ2 36 = n32 b := by rw [f2.1.1 36 (by simp), fAll.1 36 (by simp)]; exact a1
      simp only [j36, zb]
      rw [gd_y (n32_inb (by omega)), lt_y]
      refine ⟨_, rfl, fB1.tr ((FB.fe hb f2).tr (FB.wA _ hb (by omega))), ?_⟩
      have hask : pAsk s l = match (some R : Option (Rs Xr)) with
          | none => .inl (0, 0)
          | some (.inl e) => .inl e
          | some (.inr x) => .inr ((jP s, jT s, jL s, jX s, jY s, jO s, some x.1, x.2.1), x.2.2) := by
        unfold pAsk
        rw [ifn (by rw [hA]; decide), hd]
        cases R <;> rfl
      rcases g2 with ⟨er, h3, h4⟩ | ⟨x, rfl, h4, h5, h6⟩
      · have h4' := h4.bs (s := 0) 19 b (mI τ2 37) (by omega)
        rcases h3 with rfl | ⟨x, rfl, hc, rfl⟩
        · rw [hask]; exact Or.inl h4'
        · exact Or.inr ⟨_, hask, (cmpC_x hc).2.2.2.2, h4'⟩
      · rw [hask]
        refine Or.inl ⟨h4.bs (s := 0) 19 b (mI τ2 37) (by omega), ?_⟩
        have k36 : Fr [4, 5, 6, 7, 8, 9, 37, 38, 39] [19, 18, 21, 30, 31, 32, 33] [10] σ (wA τ2 19 b (mI τ2 37)) := Fr.tr (Fr.tr (js := [4, 5, 6, 7, 8, 9, 37, 38, 39]) (bs := [18, 21, 30, 31, 32, 33]) (ms := [10]) fAll f2.1 (by simp) (by simp) (by simp)) (Fr.any.wA1 (is := []) (as := [19]) (ls := []) 19 b _ (by simp)) (by simp) (by simp) (by simp)
        refine ⟨by rw [k36.1 36 (by simp)]; exact a1, by rw [k36.2.1 12 (by simp)]; exact a2, by rw [k36.2.1 20 (by simp)]; exact a3, by rw [k36.1 40 (by simp)]; exact a4, by rw [k36.2.1 13 (by simp)]; exact a5, a6.fr k36 (by intro j x y; simp; omega) (by simp), by rw [k36.2.1 14 (by simp)]; exact a7, a8.fr k36 (by intro j x y; simp; omega) (by simp), by rw [k36.2.1 15 (by simp)]; exact a9, a10.fr k36 (by intro j x y; simp; omega) (by simp), by rw [k36.2.1 16 (by simp)]; exact a11, by rw [k36.2.1 17 (by simp)]; exact a12, by rw [wA_ne _ _ _ _ _ _ (by omega)]; exact h6, ?_, (fun z => by cases z)⟩
        refine ⟨?_, ?_, ?_⟩
        · rw [wA_ne _ _ _ _ _ _ (by omega), f2.1.2.1 21 (by simp)]; exact w21
        · rw [wA_at]; exact h5.1
        · intro j q hq
          rw [wA_ne _ _ _ _ _ _ (by omega), wA_ne _ _ _ _ _ _ (by omega)]
          exact h5.2 j q hq
