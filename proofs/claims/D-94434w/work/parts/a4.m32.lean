set_option maxRecDepth 100000
/-! THE REFERENCE: other steps -/
theorem isMarked_L {σ : MS} {t : List Nat} {l : List Tk} {b : Nat} {xs : List Stq} (hb : b < 2) (h36 : mI σ 36 = n32 b) (hx : xs.length ≤ 40) (hxs : ∀ j x, xs[j]? = some x → MSq σ (52 * b + j) x) (h : MTk σ t l) (hT12 : ∀ x ∈ xs, sT x ≤ 12) : F_isMarked σ (n32 (52 * b + xs.length)) = some (bi (decide (kS (cur l) = 2) && mrk xs (kV (cur l)))) := by
  have hMN := MN_gt
  obtain ⟨c1, c2, -, -, c5, -⟩ := h.cur
  unfold F_isMarked
  rw [lt_y, h36, show (52 : Int32) * n32 b = n32 (52 * b + 0) from by simp (disch := omega) only [↓reduceIte, ↓lt_y, leT, leF, ltT, ltF, eqT, eqF, n32_lit, n32_add, n32_mul, n32_sub, n32_le, n32_lt, n32_eq, n32_nat, gdn, gd_T, inbT, bd_y, bd2_y, ifp, ifn, not_true_eq_false, not_false_eq_true, and_self, true_and, and_true, false_and, and_false, or_self, true_or, or_true, false_or, or_false, wA_s, wL_s, sA_same, sL_same, sA_L, sL_A, sA_I, sL_I, wI_A, wI_L, wI_same, sA_sA, sL_sL, sA_ne, sL_ne, wI_ne]]
  refine upf (fun fu k (_ : Unit) => F_isMarked_L8 σ fu (n32 (52 * b + xs.length)) (n32 (52 * b + k))) 0 xs.length (fun k _ => kS (cur l) = 2 → ∀ j x, j < k → xs[j]? = some x → ¬ (sT x = 10 ∧ sn x = kV (cur l))) (fun o => o = some (bi (decide (kS (cur l) = 2) && mrk xs (kV (cur l))))) ?_ ?_ () MN (by omega) (by omega) (fun _ j x hj => by omega)
  · rintro fu k - - hk hI
    obtain ⟨x, hxk⟩ : ∃ x, xs[k]? = some x := ⟨_, List.getElem?_eq_getElem hk⟩
    have hm := hxs k x hxk
    have h12 := hT12 x (List.mem_of_getElem? hxk)
    try dsimp only
    have go : F_isMarked_b48 σ (F_isMarked_L8 σ fu) (n32 (52 * b + xs.length)) (n32 (52 * b + k)) = F_isMarked_L8 σ fu (n32 (52 * b + xs.length)) (n32 (52 * b + (k + 1))) := by
      unfold F_isMarked_b48
      rw [lt_y, show n32 (52 * b + k) + (1 : Int32) = n32 (52 * b + (k + 1)) from by simp (disch := omega) only [↓reduceIte, ↓lt_y, leT, leF, ltT, ltF, eqT, eqF, n32_lit, n32_add, n32_mul, n32_sub, n32_le, n32_lt, n32_eq, n32_nat, gdn, gd_T, inbT, bd_y, bd2_y, ifp, ifn, not_true_eq_false, not_false_eq_true, and_self, true_and, and_true, false_and, and_false, or_self, true_or, or_true, false_or, or_false, wA_s, wL_s, sA_same, sL_same, sA_L, sL_A, sA_I, sL_I, wI_A, wI_L, wI_same, sA_sA, sL_sL, sA_ne, sL_ne, wI_ne]]
    have zk := n32_nat (a := 52 * b + k) (by omega)
    rw [F_isMarked_L8, ifn (by rw [n32_le ⟨by omega, by omega⟩]; omega), c2, go]
    simp only [zk, hm.1]
    by_cases q : kS (cur l) = 2
    · rw [ifp (by rw [q]; rfl), gd_y (n32_inb (by omega)), gd_y (n32_inb (by omega)), (c5 (by omega)).1]
      by_cases q2 : sT x = 10
      · rw [ifp (by rw [q2]; rfl), (hm.2.2.2.2.2.1 (Or.inr q2)).1]
        have kc' := kc (hm.2.2.2.2.2.1 (Or.inr q2)).2 (c5 (by omega)).2
        by_cases q3 : sn x = kV (cur l)
        · rw [ifp (kc'.mpr q3)]
          right
          have : mrk xs (kV (cur l)) = true := by
            unfold mrk
            rw [List.any_eq_true]
            exact ⟨x, List.mem_of_getElem? hxk, by simp [q2, q3]⟩
          rw [this, q]; rfl
        · rw [ifn (fun z => q3 (kc'.mp z))]
          refine Or.inl ⟨(), rfl, fun _ j y hj hy => ?_⟩
          by_cases e : j = k
          · subst e; rw [hxk] at hy; cases hy; exact fun z => q3 z.2
          · exact hI q j y (by omega) hy
      · rw [ifn (fun z => by rw [show (10 : Int32) = n32 10 from rfl, n32_eq ⟨by omega, by omega⟩] at z; exact q2 z)]
        refine Or.inl ⟨(), rfl, fun _ j y hj hy => ?_⟩
        by_cases e : j = k
        · subst e; rw [hxk] at hy; cases hy; exact fun z => q2 z.1
        · exact hI q j y (by omega) hy
    · rw [ifn (fun z => by rw [show (2 : Int32) = n32 2 from rfl, n32_eq ⟨by omega, by omega⟩] at z; exact q z)]
      exact Or.inl ⟨(), rfl, fun z => absurd z q⟩
  · rintro fu - hI
    try dsimp only
    rw [F_isMarked_L8, ifp ((n32_le ⟨by omega, by omega⟩).mpr (Nat.le_refl _))]
    by_cases q : kS (cur l) = 2
    · have : mrk xs (kV (cur l)) = false := by
        unfold mrk
        rw [List.any_eq_false]
        intro x hx
        obtain ⟨j, hj, e⟩ := List.getElem_of_mem hx
        have := hI q j x hj (by rw [List.getElem?_eq_getElem hj, e])
        simpa using this
      rw [this, Bool.and_false]; rfl
    · rw [decide_eq_false q, Bool.false_and]; rfl
theorem okn {l : List Tk} {σ : MS} {t : List Nat} (h : MTk σ t l) : mI σ 8 = (2 : Int32) ↔ kS (cur l) = 2 := by
  obtain ⟨c1, c2, -⟩ := h.cur
  rw [c2]; exact n32_eq (b := 2) ⟨by omega, by omega⟩
/-- a name must stand there -/
theorem mustN_S {σ : MS} {t : List Nat} {st : Rs (List Tk)} (h : PS σ t st) : ∃ τ, (if mI σ 8 = (2 : Int32) then bd (F_must 1 σ) fun σ_2 => some σ_2 else bd (F_must 0 σ) fun σ_2 => some σ_2) = some τ ∧ Fr [4, 5, 6, 7, 8, 9] [] [10] σ τ ∧ PS τ t (rbd st fun l => pMust (decide (kS (cur l) = 2)) l) := by
  obtain ⟨l, hM, hs⟩ := h.tk
  obtain ⟨τ, e, f, g⟩ := must_S h (y := bi (decide (kS (cur l) = 2))) (b := fun l => decide (kS (cur l) = 2)) (fun l' z => by rw [hs l' z]) (fun l z => by have := of_decide_eq_true z; omega)
  refine ⟨τ, ?_, f, g⟩
  by_cases q : kS (cur l) = 2
  · rw [ifp ((okn hM).mpr q)]
    rw [decide_eq_true q] at e
    have e' : F_must 1 σ = some τ := e
    rw [e', bd_y]
  · rw [ifn (fun z => q ((okn hM).mp z))]
    rw [decide_eq_false q] at e
    have e' : F_must 0 σ = some τ := e
    rw [e', bd_y]
theorem MSqs.fr {is as ls : List Nat} {σ τ : MS} {k : Nat} {x : Stq} (h : MSq σ k x) (f : Fr is as ls σ τ) (h1 : ∀ j, 22 ≤ j → j ≤ 28 → j ∉ as) (h2 : 29 ∉ ls) : MSq τ k x := by
  obtain ⟨a1, a2, a3, a4, a5, a6, a7⟩ := h
  exact ⟨by rw [f.2.1 22 (h1 22 (by omega) (by omega))]; exact a1, fun z => by rw [f.2.1 23 (h1 23 (by omega) (by omega))]; exact a2 z, fun z => by rw [f.2.1 24 (h1 24 (by omega) (by omega))]; exact a3 z, fun z => by rw [f.2.1 25 (h1 25 (by omega) (by omega))]; exact a4 z, fun z => ⟨by rw [f.2.1 26 (h1 26 (by omega) (by omega))]; exact (a5 z).1, fun j hj => by rw [f.2.1 27 (h1 27 (by omega) (by omega))]; exact (a5 z).2 j hj⟩, fun z => by rw [f.2.2 29 h2]; exact a6 z, fun z => by rw [f.2.1 28 (h1 28 (by omega) (by omega))]; exact a7 z⟩
theorem bsW {s j : Nat} {σ : MS} (v : Int32) (hj : j = 22 ∨ j = 23 ∨ j = 24 ∨ j = 25 ∨ j = 26 ∨ j = 28) : BS s σ (wA σ j s v) := BS.wa j v (by omega)
theorem readOther_L {σ : MS} {t : List Nat} {k b P : Nat} {xs : List Stq} {l : List Tk} (hb : b < 2) (hx : xs.length < 40) (h36 : mI σ 36 = n32 b) (h12 : mA σ 12 b = n32 P) (hP : P ≤ 3) (hxs : ∀ j x, xs[j]? = some x → MSq σ (52 * b + j) x) (hok : ∀ x ∈ xs, okS x) (hk : k = 0 ∨ k = 1 ∨ k = 9 ∨ k = 10 ∨ k = 11 ∨ k = 12) (h : PS σ t (.inr l)) :
    ∃ τ, F_readOther (n32 (52 * b + xs.length)) (n32 k) σ = some (if k = 0 then wI τ 40 1 else τ) ∧ BS (52 * b + xs.length) σ τ ∧ PS τ t (rl (pOth k P xs l)) ∧ ∀ a, pOth k P xs l = .inr a → MSq τ (52 * b + xs.length) a.1 := by
  have hT12 : ∀ x ∈ xs, sT x ≤ 12 := fun x hx => (hok x hx).o12
  obtain ⟨s, hs'⟩ : ∃ s, s = 52 * b + xs.length := ⟨_, rfl⟩
  have hs : s < 104 := by omega
  have zs := n32_nat (a := s) (by omega)
  unfold F_readOther
  rw [← hs']
  simp only [zs]
  rw [gd_y (n32_inb (by omega)), lt_y]
  have h0 := h.bs (s := s) 22 s (n32 k) (by omega)
  have b0 : BS s σ (wA σ 22 s (n32 k)) := BS.wa 22 _ (by omega)
  have m0 : mA (wA σ 22 s (n32 k)) 22 s = n32 k := wA_at _ _ _ _
  have i36 : mI (wA σ 22 s (n32 k)) 36 = n32 b := h36
  have i12 : mA (wA σ 22 s (n32 k)) 12 b = n32 P := by rw [wA_ne _ _ _ _ _ _ (by omega)]; exact h12
  have ixs : ∀ j x, xs[j]? = some x → MSq (wA σ 22 s (n32 k)) (52 * b + j) x := fun j x hj => (hxs j x hj).bs b0 (by
    have : j < xs.length := (List.getElem?_eq_some_iff.mp hj).1
    omega) (fun z => by
      rcases z with z | z
      · exact ((hok x (List.mem_of_getElem? hj)).o4 z).2.1
      · exact ((hok x (List.mem_of_getElem? hj)).o9 z).2.1)
  generalize wA σ 22 s (n32 k) = υ at h0 b0 m0 i36 i12 ixs
  rcases hk with rfl | rfl | rfl | rfl | rfl | rfl
  · -- lay
    rw [ifp (by decide)]
    obtain ⟨v, τ, e, f, g, hv⟩ := who_S h0 hb i36 i12 hP
    rw [e, bd2_y, gd_y (n32_inb (by omega)), lt_y, lt_y]
    have hp : pOth 0 P xs l = rbd (pWho P l) fun a => .inr ((0, a.1, 0, 0, [], 0, 0), a.2) := by unfold pOth; rw [ifp rfl]
    refine ⟨wA τ 23 s v, by rw [ifp rfl], b0.tr (BS.tr (BS.of f (by simp) (by simp)) (BS.wa 23 _ (by omega))), ?_, ?_⟩
    · have : rl (pOth 0 P xs l) = rl (pWho P l) := by rw [hp]; unfold rl; cases pWho P l <;> rfl
      rw [this]; exact g.bs (s := s) 23 s v (by omega)
    · intro a ha
      rw [hp] at ha
      cases hw : pWho P l with
      | inl e => rw [hw] at ha; cases ha
      | inr a1 =>
        rw [hw] at ha
        cases ha
        refine ⟨by rw [wA_ne _ _ _ _ _ _ (by omega), f.2.1 22 (by simp)]; exact m0, fun _ => by rw [wA_at]; exact hv a1 hw, fun z => by simp [sT] at z, fun z => by simp [sT] at z, fun z => by simp [sT] at z, fun z => by simp [sT] at z, fun z => by simp [sT] at z⟩
  · -- put
    rw [ifn (by decide), ifp (by decide)]
    obtain ⟨v, τ, e, -, f, g, hv⟩ := colour_S h0
    rw [e, bd2_y, gd_y (n32_inb (by omega)), lt_y]
    have hp : pOth 1 P xs l = rbd (pCol l) fun a => .inr ((1, a.1, 0, 0, [], 0, 0), a.2) := by unfold pOth; rw [ifn (by omega), ifp rfl]
    refine ⟨wA τ 23 s (n32 v), by rw [ifn (by omega)], b0.tr (BS.tr (BS.of f (by simp) (by simp)) (BS.wa 23 _ (by omega))), ?_, ?_⟩
    · have : rl (pOth 1 P xs l) = rl (pCol l) := by rw [hp]; unfold rl; cases pCol l <;> rfl
      rw [this]; exact g.bs (s := s) 23 s _ (by omega)
    · intro a ha
      rw [hp] at ha
      cases hw : pCol l with
      | inl e => rw [hw] at ha; cases ha
      | inr a1 =>
        rw [hw] at ha
        cases ha
        refine ⟨by rw [wA_ne _ _ _ _ _ _ (by omega), f.2.1 22 (by simp)]; exact m0, fun _ => by rw [wA_at, hv l a1 rfl hw]; rfl, fun z => by simp [sT] at z, fun z => by simp [sT] at z, fun z => by simp [sT] at z, fun z => by simp [sT] at z, fun z => by simp [sT] at z⟩
  · -- if
    rw [ifn (by decide), ifn (by decide), ifp (by decide)]
    obtain ⟨x, τ1, e1, -, hx7, f1, g1, v1, -⟩ := numeral_S h0 (lo := 0) (hi := 7) (by omega) (by omega)
    have e1' : F_numeral 0 7 υ = some (n32 x, τ1) := e1
    rw [e1', bd2_y, gd_y (n32_inb (by omega)), lt_y]
    have g1w := g1.bs (s := s) 23 s (n32 x) (by omega)
    have b1 : BS s υ (wA τ1 23 s (n32 x)) := BS.tr (BS.of f1 (by simp) (by simp)) (BS.wa 23 _ (by omega))
    have m1 : mA (wA τ1 23 s (n32 x)) 23 s = n32 x ∧ mA (wA τ1 23 s (n32 x)) 22 s = n32 9 := ⟨wA_at _ _ _ _, by rw [wA_ne _ _ _ _ _ _ (by omega), f1.2.1 22 (by simp)]; exact m0⟩
    generalize wA τ1 23 s (n32 x) = υ1 at g1w b1 m1
    obtain ⟨c, τ2, e2, hc2, f2, g2, v2⟩ := colour_S g1w
    rw [e2, bd2_y, gd_y (n32_inb (by omega)), lt_y]
    have g2w := g2.bs (s := s) 24 s (n32 c) (by omega)
    have b2 : BS s υ (wA τ2 24 s (n32 c)) := b1.tr (BS.tr (BS.of f2 (by simp) (by simp)) (BS.wa 24 _ (by omega)))
    have m2 : mA (wA τ2 24 s (n32 c)) 23 s = n32 x ∧ mA (wA τ2 24 s (n32 c)) 22 s = n32 9 ∧ mA (wA τ2 24 s (n32 c)) 24 s = n32 c := ⟨by rw [wA_ne _ _ _ _ _ _ (by omega), f2.2.1 23 (by simp)]; exact m1.1, by rw [wA_ne _ _ _ _ _ _ (by omega), f2.2.1 22 (by simp)]; exact m1.2, wA_at _ _ _ _⟩
    generalize wA τ2 24 s (n32 c) = υ2 at g2w b2 m2
    obtain ⟨y, τ3, e3, e4, f3, g3⟩ := mustW_S g2w (w := 26479) (by decide)
    have e3' : F_isWord υ2 26479 = some y := e3
    rw [e3', bd_y, e4, bd_y, gd_y (n32_inb (by omega)), lt_y, gd_y (n32_inb (by omega)), lt_y]
    obtain ⟨st3, hst3⟩ : ∃ st3, st3 = (rbd (rbd (rbd (.inr l) fun l => rl (pNum 0 7 l)) fun l => rl (pCol l)) fun l => pMust (isW l 26479) l) := ⟨_, rfl⟩
    rw [← hst3] at g3
    obtain ⟨υ3, hυ3⟩ : ∃ υ3, υ3 = wL (wA τ3 28 s (mI τ3 6)) 29 s (mL (wA τ3 28 s (mI τ3 6)) 10 0) := ⟨_, rfl⟩
    rw [← hυ3]
    have b3 : BS s υ υ3 := by
      rw [hυ3]
      exact b2.tr (BS.tr (BS.of f3 (by simp) (by simp)) (BS.tr (bsW _ (by omega)) (BS.wl _)))
    have f33 : Fr [] [28] [29] τ3 υ3 := by rw [hυ3]; exact (Fr.any.wA1 28 s _ (by simp)).wL1 29 s _ (by simp)
    have g3w : PS υ3 t st3 := g3.fr f33 (by simp) (by simp) (by simp)
    have n28 : ∀ l', st3 = .inr l' → mA υ3 28 s = n32 (kP (cur l')) := fun l' z => by
      rw [z] at g3
      rw [hυ3]
      show mA (wA τ3 28 s (mI τ3 6)) 28 s = _
      rw [wA_at]; exact g3.2.2.cur.2.2.1
    have n29 : ∀ l', st3 = .inr l' → kS (cur l') = 2 → mL υ3 29 s = e64 (kV (cur l')) ∧ kV (cur l') < 9223372036854775808 := fun l' z q => by
      rw [z] at g3
      rw [hυ3, wL_at]
      exact g3.2.2.cur.2.2.2.2.1 (by omega)
    have m3 : mA υ3 23 s = n32 x ∧ mA υ3 22 s = n32 9 ∧ mA υ3 24 s = n32 c := by
      rw [f33.2.1 23 (by simp), f33.2.1 22 (by simp), f33.2.1 24 (by simp), f3.2.1 23 (by simp), f3.2.1 22 (by simp), f3.2.1 24 (by simp)]; exact m2
    have xs3 : ∀ j x, xs[j]? = some x → MSq υ3 (52 * b + j) x := fun j x hj => (ixs j x hj).bs b3 (by
      have : j < xs.length := (List.getElem?_eq_some_iff.mp hj).1
      omega) (fun z => by
        rcases z with z | z
        · exact ((hok x (List.mem_of_getElem? hj)).o4 z).2.1
        · exact ((hok x (List.mem_of_getElem? hj)).o9 z).2.1)
    have i363 : mI υ3 36 = n32 b := by rw [b3.1.1 36 (by simp)]; exact i36
    have hp : pOth 9 P xs l = rbd (pNum 0 7 l) fun a => rbd (pCol a.2) fun b => rbd (pMust (isW b.2 26479) b.2) fun l' => if kS (cur l') = 2 then (if mrk xs (kV (cur l')) then .inl (6, kP (cur l')) else .inr ((9, a.1, b.1, 0, [], kV (cur l'), kP (cur l')), l'.tail)) else .inl (errT l') := by unfold pOth; rw [ifn (by omega), ifn (by omega), ifp rfl]
    have hrl : rl (pOth 9 P xs l) = rbd st3 fun l' => if kS (cur l') = 2 then (if mrk xs (kV (cur l')) then .inl (6, kP (cur l')) else .inr l'.tail) else .inl (errT l') := by
      rw [hp, hst3]
      show _ = rbd (rbd (rbd (rl (pNum 0 7 l)) _) _) _
      unfold rl
      cases pNum 0 7 l with
      | inl e => rfl
      | inr a =>
        show rbd (rbd (pCol a.2) _) _ = rbd (rbd (rbd (pCol a.2) _) _) _
        cases pCol a.2 with
        | inl e => rfl
        | inr b =>
          show rbd (rbd (pMust (isW b.2 26479) b.2) _) _ = rbd (pMust (isW b.2 26479) b.2) _
          cases pMust (isW b.2 26479) b.2 with
          | inl e => rfl
          | inr l' =>
            show rbd (if kS (cur l') = 2 then _ else _) _ = if kS (cur l') = 2 then _ else _
            by_cases q : kS (cur l') = 2
            · rw [ifp q, ifp q]
              cases mrk xs (kV (cur l')) <;> rfl
            · rw [ifn q, ifn q]; rfl
    have hval : ∀ a, pOth 9 P xs l = .inr a → ∃ l', st3 = .inr l' ∧ kS (cur l') = 2 ∧ mrk xs (kV (cur l')) = false ∧ a = ((9, x, c, 0, [], kV (cur l'), kP (cur l')), l'.tail) := by
      intro a ha
      rw [hp] at ha
      cases p1 : pNum 0 7 l with
      | inl e => rw [p1] at ha; cases ha
      | inr a1 =>
        have ea := v1 l a1 rfl p1
        rw [p1] at ha
        have ha1 : rbd (pCol a1.2) (fun b => rbd (pMust (isW b.2 26479) b.2) fun l' => if kS (cur l') = 2 then (if mrk xs (kV (cur l')) then .inl (6, kP (cur l')) else .inr ((9, a1.1, b.1, 0, [], kV (cur l'), kP (cur l')), l'.tail)) else .inl (errT l')) = .inr a := ha
        cases p2 : pCol a1.2 with
        | inl e => rw [p2] at ha1; cases ha1
        | inr a2 =>
          have ec := v2 a1.2 a2 (by show rl (pNum 0 7 l) = _; rw [p1]; rfl) p2
          rw [p2] at ha1
          have ha2 : rbd (pMust (isW a2.2 26479) a2.2) (fun l' => if kS (cur l') = 2 then (if mrk xs (kV (cur l')) then .inl (6, kP (cur l')) else .inr ((9, a1.1, a2.1, 0, [], kV (cur l'), kP (cur l')), l'.tail)) else .inl (errT l')) = .inr a := ha1
          cases p3 : pMust (isW a2.2 26479) a2.2 with
          | inl e => rw [p3] at ha2; cases ha2
          | inr l' =>
            rw [p3] at ha2
            have ha3 : (if kS (cur l') = 2 then (if mrk xs (kV (cur l')) then .inl (6, kP (cur l')) else .inr ((9, a1.1, a2.1, 0, [], kV (cur l'), kP (cur l')), l'.tail)) else .inl (errT l')) = (.inr a : Rs (Stq × List Tk)) := ha2
            by_cases q : kS (cur l') = 2
            · rw [ifp q] at ha3
              cases hm : mrk xs (kV (cur l')) with
              | true => rw [hm] at ha3; cases ha3
              | false =>
                rw [hm] at ha3
                cases ha3
                refine ⟨l', ?_, q, hm, by rw [ea, ec]⟩
                rw [hst3]
                show rbd (rbd (rl (pNum 0 7 l)) _) _ = _
                rw [p1]
                show rbd (rl (pCol a1.2)) _ = _
                rw [p2]; exact p3
            · rw [ifn q] at ha3; cases ha3
    unfold F_readOther_b132 F_readOther_b146
    have fin : ∀ χ, Fr [4, 5] [] [] υ3 χ → PS χ t (rbd st3 fun l' => if kS (cur l') = 2 ∧ mrk xs (kV (cur l')) = true then .inl (6, kP (cur l')) else .inr l') → ∃ τ, (if mI χ 8 = (2 : Int32) then bd (F_must 1 χ) fun σ_2 => some σ_2 else bd (F_must 0 χ) fun σ_2 => some σ_2) = some (if 9 = 0 then wI τ 40 1 else τ) ∧ BS s σ τ ∧ PS τ t (rl (pOth 9 P xs l)) ∧ ∀ a, pOth 9 P xs l = .inr a → MSq τ s a.1 := by
      intro χ fχ gχ
      obtain ⟨τ, e5, f5, g5⟩ := mustN_S gχ
      refine ⟨τ, e5, b0.tr (b3.tr (BS.tr (BS.of fχ (by simp) (by simp)) (BS.of f5 (by simp) (by simp)))), ?_, ?_⟩
      · rw [hrl]
        have : (rbd st3 fun l' => if kS (cur l') = 2 then (if mrk xs (kV (cur l')) then .inl (6, kP (cur l')) else .inr l'.tail) else .inl (errT l')) = (rbd (rbd st3 fun l' => if kS (cur l') = 2 ∧ mrk xs (kV (cur l')) = true then .inl (6, kP (cur l')) else .inr l') fun l => pMust (decide (kS (cur l) = 2)) l : Rs (List Tk)) := by
          cases st3 with
          | inl e => rfl
          | inr l' =>
            show (if kS (cur l') = 2 then _ else _) = rbd (if kS (cur l') = 2 ∧ mrk xs (kV (cur l')) = true then _ else _) _
            by_cases q : kS (cur l') = 2
            · rw [ifp q]
              cases hm : mrk xs (kV (cur l')) with
              | true => rw [ifp (c := kS (cur l') = 2 ∧ true = true) ⟨q, rfl⟩]; rfl
              | false =>
                rw [ifn (c := kS (cur l') = 2 ∧ false = true) (by simp)]
                show _ = pMust (decide (kS (cur l') = 2)) l'
                unfold pMust
                rw [decide_eq_true q]; rfl
            · rw [ifn q, ifn (fun z => q z.1)]
              show _ = pMust (decide (kS (cur l') = 2)) l'
              unfold pMust
              rw [decide_eq_false q]; rfl
        rw [this]; exact g5
      · intro a ha
        obtain ⟨l', h1, h2, h3, rfl⟩ := hval a ha
        have fall : Fr [4, 5, 6, 7, 8, 9] [] [10] υ3 τ := Fr.tr fχ f5 (by simp) (by simp) (by simp)
        refine ⟨by rw [fall.2.1 22 (by simp)]; exact m3.2.1, fun _ => by rw [fall.2.1 23 (by simp)]; exact m3.1, fun _ => by rw [fall.2.1 24 (by simp)]; exact m3.2.2, fun z => by simp [sT] at z, fun z => by simp [sT] at z, fun _ => by rw [fall.2.2 29 (by simp)]; exact n29 l' h1 h2, fun _ => by rw [fall.2.1 28 (by simp)]; exact n28 l' h1⟩
    cases hs3 : st3 with
    | inl e =>
      rw [hs3] at g3w fin
      rw [isGood_n g3w, bd_y, ifp rfl]
      exact fin υ3 Fr.any g3w
    | inr l' =>
      rw [hs3] at g3w fin
      have him := isMarked_L hb i363 (by omega) xs3 g3w.2.2 hT12
      rw [← hs'] at him
      rw [isGood_y g3w, bd_y, ifn g1N, him, bd_y]
      by_cases q : kS (cur l') = 2 ∧ mrk xs (kV (cur l')) = true
      · rw [ifn (by rw [decide_eq_true q.1, q.2]; exact gY)]
        obtain ⟨χ, e6, f6, g6⟩ := fails_S g3w (k := 6) (p := kP (cur l')) (by omega)
        rw [g3w.2.2.cur.2.2.1, show (6 : Int32) = n32 6 from rfl, e6, bd_y]
        refine fin χ f6 ?_
        show PS χ t (if kS (cur l') = 2 ∧ mrk xs (kV (cur l')) = true then _ else _)
        rw [ifp q]; exact g6
      · have q' : (decide (kS (cur l') = 2) && mrk xs (kV (cur l'))) = false := by
          rw [Bool.eq_false_iff]; intro z; rw [Bool.and_eq_true] at z; exact q ⟨of_decide_eq_true z.1, z.2⟩
        rw [ifp (by rw [q']; exact gN)]
        refine fin υ3 Fr.any ?_
        show PS υ3 t (if kS (cur l') = 2 ∧ mrk xs (kV (cur l')) = true then _ else _)
        rw [ifn q]; exact g3w
  · -- mark
    rw [ifn (by decide), ifn (by decide), ifn (by decide), ifp (by decide)]
    have him := isMarked_L hb i36 (by omega) ixs h0.2.2 hT12
    rw [← hs'] at him
    rw [isGood_y h0, bd_y, ifn g1N, him, bd_y]
    have hp : pOth 10 P xs l = (if kS (cur l) = 2 then (if mrk xs (kV (cur l)) then .inl (3, kP (cur l)) else .inr ((10, 0, 0, 0, [], kV (cur l), 0), l.tail)) else .inl (errT l)) := by unfold pOth; rw [ifn (by omega), ifn (by omega), ifn (by omega), ifp rfl]
    have fin : ∀ χ, Fr [4, 5] [] [] υ χ → PS χ t (if kS (cur l) = 2 ∧ mrk xs (kV (cur l)) = true then .inl (3, kP (cur l)) else .inr l) → mL χ 10 0 = mL υ 10 0 → ∃ τ, F_readOther_b182 (n32 s) χ = some (if 10 = 0 then wI τ 40 1 else τ) ∧ BS s σ τ ∧ PS τ t (rl (pOth 10 P xs l)) ∧ ∀ a, pOth 10 P xs l = .inr a → MSq τ s a.1 := by
      intro χ fχ gχ m10
      unfold F_readOther_b182 F_readOther_b206
      simp only [zs]
      rw [gd_y (n32_inb (by omega)), lt_y]
      have f1 : Fr [] [] [29] χ (wL χ 29 s (mL χ 10 0)) := Fr.any.wL1 29 s _ (by simp)
      obtain ⟨τ, e5, f5, g5⟩ := mustN_S (gχ.fr f1 (by simp) (by simp) (by simp))
      refine ⟨τ, e5, b0.tr (BS.tr (BS.of fχ (by simp) (by simp)) (BS.tr (BS.wl _) (BS.of f5 (by simp) (by simp)))), ?_, ?_⟩
      · have : rl (pOth 10 P xs l) = (rbd (if kS (cur l) = 2 ∧ mrk xs (kV (cur l)) = true then .inl (3, kP (cur l)) else .inr l) fun l => pMust (decide (kS (cur l) = 2)) l : Rs (List Tk)) := by
          rw [hp]
          unfold rl
          by_cases q : kS (cur l) = 2
          · rw [ifp q]
            cases hm : mrk xs (kV (cur l)) with
            | true => rw [ifp (c := kS (cur l) = 2 ∧ true = true) ⟨q, rfl⟩]; rfl
            | false =>
              rw [ifn (c := kS (cur l) = 2 ∧ false = true) (by simp)]
              show _ = pMust (decide (kS (cur l) = 2)) l
              unfold pMust
              rw [decide_eq_true q]; rfl
          · rw [ifn q, ifn (fun z => q z.1)]
            show _ = pMust (decide (kS (cur l) = 2)) l
            unfold pMust
            rw [decide_eq_false q]; rfl
        rw [this]; exact g5
      · intro a ha
        rw [hp] at ha
        by_cases q : kS (cur l) = 2
        · rw [ifp q] at ha
          cases hm : mrk xs (kV (cur l)) with
          | true => rw [hm] at ha; cases ha
          | false =>
            rw [hm] at ha
            cases ha
            have c5 := h0.2.2.cur.2.2.2.2.1 (by omega)
            refine ⟨by rw [f5.2.1 22 (by simp), f1.2.1 22 (by simp), fχ.2.1 22 (by simp)]; exact m0, fun z => absurd rfl z.2.2, fun z => by simp [sT] at z, fun z => by simp [sT] at z, fun z => by simp [sT] at z, fun _ => by rw [f5.2.2 29 (by simp), wL_at, m10]; exact c5, fun z => by simp [sT] at z⟩
        · rw [ifn q] at ha; cases ha
    by_cases q : kS (cur l) = 2 ∧ mrk xs (kV (cur l)) = true
    · rw [ifn (by rw [decide_eq_true q.1, q.2]; exact gY)]
      obtain ⟨χ, e6, f6, g6⟩ := fails_S h0 (k := 3) (p := kP (cur l)) (by omega)
      rw [h0.2.2.cur.2.2.1, show (3 : Int32) = n32 3 from rfl, e6, bd_y]
      refine fin χ f6 ?_ (by rw [f6.2.2 10 (by simp)])
      rw [ifp q]; exact g6
    · have q' : (decide (kS (cur l) = 2) && mrk xs (kV (cur l))) = false := by
        rw [Bool.eq_false_iff]; intro z; rw [Bool.and_eq_true] at z; exact q ⟨of_decide_eq_true z.1, z.2⟩
      rw [ifp (by rw [q']; exact gN)]
      refine fin υ Fr.any ?_ rfl
      rw [ifn q]; exact h0
  · -- end
    rw [ifn (by decide), ifn (by decide), ifn (by decide), ifn (by decide), ifp (by decide)]
    obtain ⟨τ, e, bb, g, m, v⟩ := two_L hs h0
    simp only [zs] at e
    have hp : pOth 11 P xs l = rbd (pTwo l) fun a => .inr ((11, a.1.1, a.1.2, 0, [], 0, 0), a.2) := by unfold pOth; rw [ifn (by omega), ifn (by omega), ifn (by omega), ifn (by omega), ifp rfl]
    refine ⟨τ, e, b0.tr bb, ?_, ?_⟩
    · have : rl (pOth 11 P xs l) = rl (pTwo l) := by rw [hp]; unfold rl; cases pTwo l <;> rfl
      rw [this]; exact g
    · intro a ha
      rw [hp] at ha
      cases hl : pTwo l with
      | inl e => rw [hl] at ha; cases ha
      | inr a1 =>
        rw [hl] at ha
        cases ha
        obtain ⟨v1, v2⟩ := v a1 hl
        exact ⟨by rw [m, m0]; rfl, fun _ => v1, fun _ => v2, fun z => by simp [sT] at z, fun z => by simp [sT] at z, fun z => by simp [sT] at z, fun z => by simp [sT] at z⟩
  · -- says
    rw [ifn (by decide), ifn (by decide), ifn (by decide), ifn (by decide), ifn (by decide)]
    obtain ⟨x, τ, e, -, hx9, f, g, v, -⟩ := numeral_S h0 (lo := 0) (hi := 9999) (by omega) (by omega)
    have e' : F_numeral 0 9999 υ = some (n32 x, τ) := e
    rw [e', bd2_y, gd_y (n32_inb (by omega)), lt_y]
    have hp : pOth 12 P xs l = rbd (pNum 0 9999 l) fun a => .inr ((12, a.1, 0, 0, [], 0, 0), a.2) := by unfold pOth; rw [ifn (by omega), ifn (by omega), ifn (by omega), ifn (by omega), ifn (by omega)]
    refine ⟨wA τ 23 s (n32 x), rfl, b0.tr (BS.tr (BS.of f (by simp) (by simp)) (BS.wa 23 _ (by omega))), ?_, ?_⟩
    · have : rl (pOth 12 P xs l) = rl (pNum 0 9999 l) := by rw [hp]; unfold rl; cases pNum 0 9999 l <;> rfl
      rw [this]; exact PS.bs (s := s) (st := rl (pNum 0 9999 l)) g 23 s _ (by omega)
    · intro a ha
      rw [hp] at ha
      cases hw : pNum 0 9999 l with
      | inl e => rw [hw] at ha; cases ha
      | inr a1 =>
        rw [hw] at ha
        cases ha
        refine ⟨by rw [wA_ne _ _ _ _ _ _ (by omega), f.2.1 22 (by simp)]; exact m0, fun _ => by rw [wA_at, v l a1 rfl hw]; rfl, fun z => by simp [sT] at z, fun z => by simp [sT] at z, fun z => by simp [sT] at z, fun z => by simp [sT] at z, fun z => by simp [sT] at z⟩
