set_option maxRecDepth 100000
/-! THE REFERENCE: moves, other steps -/
theorem pMov_4 {k : Nat} (hk : 4 ≤ k ∧ k ≤ 7) (l : List Tk) : pMov k l = rbd (if k = 6 then rbd (pNum 1 4 l) fun a => rbd (pMust (isW a.2 28518) a.2) fun l' => .inr (a.1, l') else .inr (1, l)) fun z => rbd (b109R k z.1 z.2) fun a => .inr ((k, a.1.1, a.1.2, z.1, [], 0, 0), a.2) := by
  unfold pMov
  rw [ifn (by omega), ifn (by omega), ifn (by omega)]
  congr 1
  funext z
  unfold b109R
  cases pNum 0 7 z.2 with
  | inl e => rfl
  | inr a =>
    show rbd (pMust (isW a.2 29807) a.2) _ = rbd (rbd (pMust (isW a.2 29807) a.2) _) _
    cases pMust (isW a.2 29807) a.2 with
    | inl e => rfl
    | inr l' =>
      show rbd (pNum 0 7 l') _ = rbd (rbd (pNum 0 7 l') _) _
      cases pNum 0 7 l' with
      | inl e => rfl
      | inr b =>
        show (if _ then _ else _) = rbd (if _ then _ else _) _
        split <;> rfl
theorem two_L {σ : MS} {t : List Nat} {s : Nat} {l : List Tk} (hs : s < 104) (h : PS σ t (.inr l)) : ∃ τ, (bd2 (F_numeral (0 : Int32) (7 : Int32) σ) fun r_20 σ_19 =>
        gd (inb (n32 s) 104) <|
        lt (wA σ_19 23 (Int32.toNatClampNeg (n32 s)) r_20) fun σ_22 =>
        gd (inb (n32 s) 104) <|
        bd2 (F_another (mA σ_22 23 (Int32.toNatClampNeg (n32 s))) σ_22) fun r_26 σ_25 =>
        gd (inb (n32 s) 104) <|
        lt (wA σ_25 24 (Int32.toNatClampNeg (n32 s)) r_26) fun σ_28 =>
        some σ_28) = some τ ∧ BS s σ τ ∧ PS τ t (rl (pTwo l)) ∧ mA τ 22 s = mA σ 22 s ∧ ∀ a, pTwo l = .inr a → mA τ 23 s = n32 a.1.1 ∧ mA τ 24 s = n32 a.1.2 := by
  have zs := n32_nat (a := s) (by omega)
  obtain ⟨x, τ1, e1, -, hx, f1, g1, v1, -⟩ := numeral_S h (lo := 0) (hi := 7) (by omega) (by omega)
  have e1' : F_numeral 0 7 σ = some (n32 x, τ1) := e1
  simp only [zs]
  rw [e1', bd2_y, gd_y (n32_inb (by omega)), lt_y, gd_y (n32_inb (by omega)), wA_at]
  have g1w := g1.bs (s := s) 23 s (n32 x) (by omega)
  have b1 : BS s σ (wA τ1 23 s (n32 x)) := BS.tr (BS.of f1 (by simp) (by simp)) (BS.wa 23 _ (by omega))
  have m1 : mA (wA τ1 23 s (n32 x)) 23 s = n32 x := wA_at _ _ _ _
  have m2 : mA (wA τ1 23 s (n32 x)) 22 s = mA σ 22 s := by rw [wA_ne _ _ _ _ _ _ (by omega), f1.2.1 22 (by simp)]
  generalize wA τ1 23 s (n32 x) = υ1 at g1w b1 m1 m2
  obtain ⟨y, τ2, e2, hy, f2, g2, v2⟩ := another_S g1w (y := x) (by omega)
  rw [e2, bd2_y, gd_y (n32_inb (by omega)), lt_y]
  refine ⟨_, rfl, b1.tr (BS.tr (BS.of f2 (by simp) (by simp)) (BS.wa 24 _ (by omega))), ?_, by rw [wA_ne _ _ _ _ _ _ (by omega), f2.2.1 22 (by simp)]; exact m2, ?_⟩
  · have g2' := g2.bs (s := s) 24 s (n32 y) (by omega)
    have : (rl (pTwo l)) = (rbd (rbd (.inr l) fun l => rl (pNum 0 7 l)) fun l => rbd (pNum 0 7 l) fun b => if b.1 = x then .inl (4, kP (cur l)) else .inr b.2) := by
      show rl (pTwo l) = rbd (rl (pNum 0 7 l)) _
      unfold rl pTwo
      cases p1 : pNum 0 7 l with
      | inl e => rfl
      | inr a =>
        have ea := v1 l a rfl p1
        show rbd (rbd (pNum 0 7 a.2) _) _ = rbd (pNum 0 7 a.2) _
        cases pNum 0 7 a.2 with
        | inl e => rfl
        | inr b =>
          show rbd (if b.1 = a.1 then _ else _) _ = if b.1 = x then _ else _
          rw [ea]
          by_cases q : b.1 = a.1
          · rw [ifp q, ifp q]; rfl
          · rw [ifn q, ifn q]; rfl
    rw [this]; exact g2'
  · intro a ha
    rw [wA_at, wA_ne _ _ _ _ _ _ (by omega), f2.2.1 23 (by simp), m1]
    unfold pTwo at ha
    cases p1 : pNum 0 7 l with
    | inl e => rw [p1] at ha; cases ha
    | inr a1 =>
      have ea := v1 l a1 rfl p1
      rw [p1] at ha
      have ha' : rbd (pNum 0 7 a1.2) (fun b => if b.1 = a1.1 then .inl (4, kP (cur a1.2)) else .inr ((a1.1, b.1), b.2)) = .inr a := ha
      cases p2 : pNum 0 7 a1.2 with
      | inl e => rw [p2] at ha'; cases ha'
      | inr b =>
        have eb := v2 a1.2 b (by show rl (pNum 0 7 l) = _; rw [p1]; rfl) p2
        rw [p2] at ha'
        have ha2 : (if b.1 = a1.1 then .inl (4, kP (cur a1.2)) else .inr ((a1.1, b.1), b.2)) = (.inr a : Rs ((Nat × Nat) × List Tk)) := ha'
        by_cases q : b.1 = a1.1
        · rw [ifp q] at ha2; cases ha2
        · rw [ifn q] at ha2; cases ha2; rw [ea, eb]; exact ⟨rfl, rfl⟩
theorem readMove_L {σ : MS} {t : List Nat} {s k : Nat} {l : List Tk} (hs : s < 104) (hk : 2 ≤ k ∧ k ≤ 8) (h : PS σ t (.inr l)) : ∃ τ, F_readMove (n32 s) (n32 k) σ = some τ ∧ BS s σ τ ∧ PS τ t (rl (pMov k l)) ∧ ∀ a, pMov k l = .inr a → MSq τ s a.1 := by
  have zs := n32_nat (a := s) (by omega)
  have k2' : n32 k = (2 : Int32) ↔ k = 2 := n32_eq (b := 2) ⟨by omega, by omega⟩
  have k3' : n32 k = (3 : Int32) ↔ k = 3 := n32_eq (b := 3) ⟨by omega, by omega⟩
  have k6' : n32 k = (6 : Int32) ↔ k = 6 := n32_eq (b := 6) ⟨by omega, by omega⟩
  have k8' : n32 k = (8 : Int32) ↔ k = 8 := n32_eq (b := 8) ⟨by omega, by omega⟩
  unfold F_readMove
  simp only [zs]
  rw [gd_y (n32_inb (by omega)), lt_y]
  have h0 := h.bs (s := s) 22 s (n32 k) (by omega)
  have b0 : BS s σ (wA σ 22 s (n32 k)) := BS.wa 22 _ (by omega)
  have m0 : mA (wA σ 22 s (n32 k)) 22 s = n32 k := wA_at _ _ _ _
  generalize wA σ 22 s (n32 k) = υ at h0 b0 m0
  by_cases k3 : k = 3
  · rw [ifp (k3'.mpr k3)]
    unfold F_readMove_b18 F_readMove_b30
    rw [ifp (k3'.mpr k3)]
    obtain ⟨τ, e, b, m, g, v⟩ := readList_L (w := 1) hs (by omega) h0
    have e' : F_readList (n32 s) 1 υ = some τ := e
    rw [e', bd_y]
    have hp : pMov k l = rbd (pLst 8 [] l) fun a => if mx a.1.1 < a.1.1.length then .inr ((3, 0, 0, 0, a.1.1, 0, 0), a.2) else .inl (4, a.1.2) := by unfold pMov; rw [ifn (by omega), ifp k3]
    refine ⟨τ, rfl, b0.tr b, ?_, ?_⟩
    · have : rl (pMov k l) = (rbd (pLst 8 [] l) fun a => if 1 = 1 ∧ ¬ mx a.1.1 < a.1.1.length then .inl (4, a.1.2) else .inr a.2) := by
        rw [hp]
        unfold rl
        cases pLst 8 [] l with
        | inl e => rfl
        | inr a =>
          show rbd (if mx a.1.1 < a.1.1.length then _ else _) _ = if 1 = 1 ∧ ¬ mx a.1.1 < a.1.1.length then _ else _
          by_cases q : mx a.1.1 < a.1.1.length
          · rw [ifp q, ifn (fun z => z.2 q)]; rfl
          · rw [ifn q, ifp ⟨rfl, q⟩]; rfl
      rw [this]; exact g
    · intro a ha
      rw [hp] at ha
      cases hl : pLst 8 [] l with
      | inl e => rw [hl] at ha; cases ha
      | inr a1 =>
        rw [hl] at ha
        have ha' : (if mx a1.1.1 < a1.1.1.length then .inr ((3, 0, 0, 0, a1.1.1, 0, 0), a1.2) else .inl (4, a1.1.2)) = (.inr a : Rs (Stq × List Tk)) := ha
        by_cases q : mx a1.1.1 < a1.1.1.length
        · rw [ifp q] at ha'
          cases ha'
          have hv := (v a1 hl).1
          exact ⟨by rw [m, m0, k3]; rfl, fun z => absurd rfl z.1, fun z => by simp [sT] at z, fun z => by simp [sT] at z, fun _ => hv, fun z => by simp [sT] at z, fun z => by simp [sT] at z⟩
        · rw [ifn q] at ha'; cases ha'
  rw [ifn (fun z => k3 (k3'.mp z))]
  by_cases k8 : k = 8
  · rw [ifp (k8'.mpr k8)]
    unfold F_readMove_b18 F_readMove_b30
    rw [ifn (fun z => k3 (k3'.mp z))]
    obtain ⟨τ, e, b, m, g, v⟩ := readList_L (w := 0) hs (by omega) h0
    have e' : F_readList (n32 s) 0 υ = some τ := e
    rw [e', bd_y]
    have hp : pMov k l = rbd (pLst 8 [] l) fun a => .inr ((8, 0, 0, 0, a.1.1, 0, 0), a.2) := by unfold pMov; rw [ifn (by omega), ifn (by omega), ifp k8]
    refine ⟨τ, rfl, b0.tr b, ?_, ?_⟩
    · have : rl (pMov k l) = (rbd (pLst 8 [] l) fun a => if 0 = 1 ∧ ¬ mx a.1.1 < a.1.1.length then .inl (4, a.1.2) else .inr a.2) := by
        rw [hp]
        unfold rl
        cases pLst 8 [] l with
        | inl e => rfl
        | inr a =>
          show _ = if 0 = 1 ∧ ¬ mx a.1.1 < a.1.1.length then (.inl (4, a.1.2) : Rs (List Tk)) else .inr a.2
          rw [ifn (fun z => by have := z.1; omega)]; rfl
      rw [this]; exact g
    · intro a ha
      rw [hp] at ha
      cases hl : pLst 8 [] l with
      | inl e => rw [hl] at ha; cases ha
      | inr a1 =>
        rw [hl] at ha
        cases ha
        have hv := (v a1 hl).1
        exact ⟨by rw [m, m0, k8]; rfl, fun z => absurd rfl z.2.1, fun z => by simp [sT] at z, fun z => by simp [sT] at z, fun _ => hv, fun z => by simp [sT] at z, fun z => by simp [sT] at z⟩
  rw [ifn (fun z => k8 (k8'.mp z))]
  by_cases k2 : k = 2
  · rw [ifp (k2'.mpr k2)]
    obtain ⟨τ, e, b, g, m, v⟩ := two_L hs h0
    simp only [zs] at e
    have hp : pMov k l = rbd (pTwo l) fun a => .inr ((2, a.1.1, a.1.2, 0, [], 0, 0), a.2) := by unfold pMov; rw [ifp k2]
    refine ⟨τ, e, b0.tr b, ?_, ?_⟩
    · have : rl (pMov k l) = rl (pTwo l) := by rw [hp]; unfold rl; cases pTwo l <;> rfl
      rw [this]; exact g
    · intro a ha
      rw [hp] at ha
      cases hl : pTwo l with
      | inl e => rw [hl] at ha; cases ha
      | inr a1 =>
        rw [hl] at ha
        cases ha
        obtain ⟨v1, v2⟩ := v a1 hl
        exact ⟨by rw [m, m0, k2]; rfl, fun _ => v1, fun _ => v2, fun z => by simp [sT] at z, fun z => by simp [sT] at z, fun z => by simp [sT] at z, fun z => by simp [sT] at z⟩
  rw [ifn (fun z => k2 (k2'.mp z)), gd_y (n32_inb (by omega)), lt_y]
  have hk4 : 4 ≤ k ∧ k ≤ 7 := by omega
  have h1 := h0.bs (s := s) 25 s 1 (by omega)
  have b1 : BS s σ (wA υ 25 s 1) := b0.tr (BS.wa 25 _ (by omega))
  have m1 : mA (wA υ 25 s 1) 22 s = n32 k := by rw [wA_ne _ _ _ _ _ _ (by omega)]; exact m0
  have m25 : mA (wA υ 25 s 1) 25 s = n32 1 := wA_at _ _ _ _
  generalize wA υ 25 s 1 = χ at h1 b1 m1 m25
  have hp := pMov_4 hk4 l
  by_cases k6 : k = 6
  · rw [ifp (k6'.mpr k6)]
    rw [ifp k6] at hp
    obtain ⟨z, τ1, e1, hz1, hz2, f1, g1, v1, -⟩ := numeral_S h1 (lo := 1) (hi := 4) (by omega) (by omega)
    have e1' : F_numeral 1 4 χ = some (n32 z, τ1) := e1
    rw [e1', bd2_y, gd_y (n32_inb (by omega)), lt_y]
    have g2 := g1.bs (s := s) 25 s (n32 z) (by omega)
    have b2 : BS s σ (wA τ1 25 s (n32 z)) := b1.tr (BS.tr (BS.of f1 (by simp) (by simp)) (BS.wa 25 _ (by omega)))
    have m2 : mA (wA τ1 25 s (n32 z)) 22 s = n32 k := by rw [wA_ne _ _ _ _ _ _ (by omega), f1.2.1 22 (by simp)]; exact m1
    have n2 : mA (wA τ1 25 s (n32 z)) 25 s = n32 z := wA_at _ _ _ _
    generalize wA τ1 25 s (n32 z) = τ2 at g2 b2 m2 n2
    obtain ⟨y, τ3, e3, e4, f3, g3⟩ := mustW_S g2 (w := 28518) (by decide)
    have e3' : F_isWord τ2 28518 = some y := e3
    rw [e3', bd_y, e4, bd_y]
    obtain ⟨τ, e5, b5, g5, w25, w22, v5⟩ := b109_L (z := z) hs hk4 g3 ⟨by omega, by omega⟩ (by rw [f3.2.1 25 (by simp)]; exact n2)
    refine ⟨τ, e5, b2.tr (BS.tr (BS.of f3 (by simp) (by simp)) b5), ?_, ?_⟩
    · have : rl (pMov k l) = rbd (rbd (rbd (.inr l) fun l => rl (pNum 1 4 l)) fun l => pMust (isW l 28518) l) fun l => rl (b109R k z l) := by
        rw [hp]
        show _ = rbd (rbd (rl (pNum 1 4 l)) _) _
        unfold rl
        cases p1 : pNum 1 4 l with
        | inl e => rfl
        | inr a =>
          have ea := v1 l a rfl p1
          show rbd (rbd (rbd (pMust (isW a.2 28518) a.2) _) _) _ = rbd (pMust (isW a.2 28518) a.2) _
          cases pMust (isW a.2 28518) a.2 with
          | inl e => rfl
          | inr l' =>
            show rbd (rbd (b109R k a.1 l') _) _ = rbd (b109R k z l') _
            rw [ea]
            cases b109R k a.1 l' <;> rfl
      rw [this]; exact g5
    · intro a ha
      rw [hp] at ha
      cases p1 : pNum 1 4 l with
      | inl e => rw [p1] at ha; cases ha
      | inr a1 =>
        have ea := v1 l a1 rfl p1
        rw [p1] at ha
        have ha2 : rbd (rbd (pMust (isW a1.2 28518) a1.2) fun l' => .inr (a1.1, l')) (fun z => rbd (b109R k z.1 z.2) fun a => .inr ((k, a.1.1, a.1.2, z.1, [], 0, 0), a.2)) = .inr a := ha
        cases p2 : pMust (isW a1.2 28518) a1.2 with
        | inl e => rw [p2] at ha2; cases ha2
        | inr l' =>
          rw [p2] at ha2
          have ha3 : rbd (b109R k a1.1 l') (fun a => .inr ((k, a.1.1, a.1.2, a1.1, [], 0, 0), a.2)) = .inr a := ha2
          cases p3 : b109R k a1.1 l' with
          | inl e => rw [p3] at ha3; cases ha3
          | inr a3 =>
            rw [p3] at ha3
            cases ha3
            obtain ⟨v6, v7⟩ := v5 l' a3 (by show rbd (rl (pNum 1 4 l)) _ = _; rw [p1]; exact p2) (by rw [ea]; exact p3)
            have e22 : mA τ 22 s = n32 k := by rw [w22, f3.2.1 22 (by simp)]; exact m2
            exact ⟨e22, fun _ => v6, fun _ => v7, fun _ => by rw [w25, ea]; rfl, fun w => absurd w (by show ¬ (k = 3 ∨ k = 8); omega), fun w => absurd w (by show ¬ (k = 9 ∨ k = 10); omega), fun w => absurd w (by show ¬ k = 9; omega)⟩
  · rw [ifn (fun z => k6 (k6'.mp z))]
    rw [ifn k6] at hp
    have hp' : pMov k l = rbd (b109R k 1 l) fun a => .inr ((k, a.1.1, a.1.2, 1, [], 0, 0), a.2) := hp
    obtain ⟨τ, e5, b5, g5, w25, w22, v5⟩ := b109_L hs hk4 h1 ⟨by omega, by omega⟩ m25
    refine ⟨τ, e5, b1.tr b5, ?_, ?_⟩
    · have : rl (pMov k l) = rl (b109R k 1 l) := by rw [hp']; unfold rl; cases b109R k 1 l <;> rfl
      rw [this]; exact g5
    · intro a ha
      rw [hp'] at ha
      cases p3 : b109R k 1 l with
      | inl e => rw [p3] at ha; cases ha
      | inr a3 =>
        rw [p3] at ha
        cases ha
        obtain ⟨v6, v7⟩ := v5 l a3 rfl p3
        have e22 : mA τ 22 s = n32 k := by rw [w22]; exact m1
        exact ⟨e22, fun _ => v6, fun _ => v7, fun w => absurd w k6, fun w => absurd w (by show ¬ (k = 3 ∨ k = 8); omega), fun w => absurd w (by show ¬ (k = 9 ∨ k = 10); omega), fun w => absurd w (by show ¬ k = 9; omega)⟩
