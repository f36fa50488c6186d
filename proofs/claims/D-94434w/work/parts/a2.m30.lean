set_option maxRecDepth 100000
/-! THE REFERENCE: moves are read -/
abbrev canM (k x y z : Nat) : Prop := x < y ∧ (k = 5 → (y - x + 1) % 2 = 0) ∧ (k = 6 → (y - x + 1) % z = 0 ∧ 2 * z ≤ y - x + 1) ∧ (k = 7 → y - x + 1 ≤ 4)
theorem can_a : ∀ x, x < 8 → ∀ y, y < 8 → (n32 y - n32 x + 1 ≤ (1 : Int32) ↔ ¬ x < y) := by decide
theorem can_b : ∀ x, x < 8 → ∀ y, y < 8 → x < y → ((n32 y - n32 x + 1) - (n32 y - n32 x + 1) / (2 : Int32) * (2 : Int32) = 0 ↔ (y - x + 1) % 2 = 0) := by decide
def canX (x y z : Nat) : Bool := (decide ((n32 y - n32 x + 1) - (n32 y - n32 x + 1) / n32 z * n32 z = 0) && !decide ((n32 y - n32 x + 1) / n32 z ≤ (1 : Int32))) == (decide (x < y) && (decide ((y - x + 1) % z = 0) && decide (2 * z ≤ y - x + 1)))
theorem can_e : ∀ x, x < 8 → ∀ y, y < 8 → ∀ z, z < 4 → canX x y (z + 1) = true := by decide
theorem can_c (x : Nat) (hx : x < 8) (y : Nat) (hy : y < 8) (z : Nat) (hz : z < 5) (hz0 : 0 < z) : (((n32 y - n32 x + 1) - (n32 y - n32 x + 1) / n32 z * n32 z = 0 ∧ ¬ (n32 y - n32 x + 1) / n32 z ≤ (1 : Int32)) ↔ x < y ∧ (y - x + 1) % z = 0 ∧ 2 * z ≤ y - x + 1) := by
  obtain ⟨z, rfl⟩ : ∃ w, z = w + 1 := ⟨z - 1, by omega⟩
  have := can_e x hx y hy z (by omega)
  unfold canX at this
  have h2 := Bool.eq_iff_iff.mp (beq_iff_eq.mp this)
  simpa using h2
theorem can_d : ∀ x, x < 8 → ∀ y, y < 8 → x < y → ((5 : Int32) ≤ (n32 y - n32 x + 1) ↔ ¬ y - x + 1 ≤ 4) := by decide
theorem b256_S {σ : MS} {t : List Nat} {st : Rs (List Tk)} (h : PS σ t st) {p : Nat} {c : Bool} (h11 : ∀ l, st = .inr l → mI σ 11 = n32 p) : ∃ τ, F_readMove_b256 (bi c) σ = some τ ∧ Fr [4, 5] [] [] σ τ ∧ PS τ t (rbd st fun l => if c = true then .inr l else .inl (4, p)) := by
  unfold F_readMove_b256
  cases st with
  | inl e => rw [isGood_n h, bd_y, ifp rfl]; exact ⟨σ, rfl, Fr.any, h⟩
  | inr l =>
    rw [isGood_y h, bd_y, ifn g1N]
    show ∃ τ, _ ∧ _ ∧ PS τ t (if c = true then .inr l else .inl (4, p))
    cases c with
    | true => rw [ifn gY, ifp rfl]; exact ⟨σ, rfl, Fr.any, h⟩
    | false =>
      rw [ifp gN, ifn (by decide), h11 l rfl]
      obtain ⟨τ, e, f, g⟩ := fails_S h (k := 4) (p := p) (by omega)
      rw [show (4 : Int32) = n32 4 from rfl, e, bd_y]
      exact ⟨τ, rfl, f, g⟩
def b109R (k z : Nat) (l : List Tk) : Rs ((Nat × Nat) × List Tk) := rbd (pNum 0 7 l) fun a => rbd (pMust (isW a.2 29807) a.2) fun l' => rbd (pNum 0 7 l') fun b =>
  if a.1 < b.1 ∧ (k = 5 → (b.1 - a.1 + 1) % 2 = 0) ∧ (k = 6 → (b.1 - a.1 + 1) % z = 0 ∧ 2 * z ≤ b.1 - a.1 + 1) ∧ (k = 7 → b.1 - a.1 + 1 ≤ 4) then .inr ((a.1, b.1), b.2) else .inl (4, kP (cur l'))
theorem b109_L {σ : MS} {t : List Nat} {s k z : Nat} {st : Rs (List Tk)} (hs : s < 104) (hk : 4 ≤ k ∧ k ≤ 7) (h : PS σ t st) (hz : 0 < z ∧ z < 5) (h25 : mA σ 25 s = n32 z) : ∃ τ, F_readMove_b109 (n32 s) (n32 k) σ = some τ ∧ BS s σ τ ∧ PS τ t (rbd st fun l => rl (b109R k z l)) ∧ mA τ 25 s = n32 z ∧ mA τ 22 s = mA σ 22 s ∧ ∀ l a, st = .inr l → b109R k z l = .inr a → mA τ 23 s = n32 a.1.1 ∧ mA τ 24 s = n32 a.1.2 := by
  have zs := n32_nat (a := s) (by omega)
  unfold F_readMove_b109
  simp only [zs]
  obtain ⟨x, τ1, e1, -, hx, f1, g1, v1, -⟩ := numeral_S h (lo := 0) (hi := 7) (by omega) (by omega)
  have e1' : F_numeral 0 7 σ = some (n32 x, τ1) := e1
  rw [e1', bd2_y, gd_y (n32_inb (by omega)), lt_y]
  have g1w := g1.bs (s := s) 23 s (n32 x) (by omega)
  have b1 : BS s σ (wA τ1 23 s (n32 x)) := BS.tr (BS.of f1 (by simp) (by simp)) (BS.wa 23 _ (by omega))
  have m1 : mA (wA τ1 23 s (n32 x)) 23 s = n32 x := wA_at _ _ _ _
  have k1 : mA (wA τ1 23 s (n32 x)) 25 s = n32 z := by rw [wA_ne _ _ _ _ _ _ (by omega), f1.2.1 25 (by simp)]; exact h25
  have k2 : mA (wA τ1 23 s (n32 x)) 22 s = mA σ 22 s := by rw [wA_ne _ _ _ _ _ _ (by omega), f1.2.1 22 (by simp)]
  generalize wA τ1 23 s (n32 x) = υ1 at g1w b1 m1 k1 k2
  obtain ⟨y1, τ2, e2, e3, f2, g2⟩ := mustW_S g1w (w := 29807) (by decide)
  have e2' : F_isWord υ1 29807 = some y1 := e2
  rw [e2', bd_y, e3, bd_y]
  obtain ⟨y, τ3, e4, -, hy, f3, g3, v3, p3⟩ := numeral_S g2 (lo := 0) (hi := 7) (by omega) (by omega)
  have e4' : F_numeral 0 7 τ2 = some (n32 y, τ3) := e4
  rw [e4', bd2_y, gd_y (n32_inb (by omega)), lt_y]
  have g3w := g3.bs (s := s) 24 s (n32 y) (by omega)
  have f23 : Fr [4, 5, 6, 7, 8, 9, 11] [] [10] υ1 τ3 := Fr.tr f2 f3 (by simp) (by simp) (by simp)
  have b3 : BS s σ (wA τ3 24 s (n32 y)) := BS.tr b1 (BS.tr (BS.of f23 (by simp) (by simp)) (BS.wa 24 _ (by omega)))
  have n1 : mA (wA τ3 24 s (n32 y)) 23 s = n32 x := by rw [wA_ne _ _ _ _ _ _ (by omega), f23.2.1 23 (by simp)]; exact m1
  have n2 : mA (wA τ3 24 s (n32 y)) 24 s = n32 y := wA_at _ _ _ _
  have n3 : mA (wA τ3 24 s (n32 y)) 25 s = n32 z := by rw [wA_ne _ _ _ _ _ _ (by omega), f23.2.1 25 (by simp)]; exact k1
  have n4 : mA (wA τ3 24 s (n32 y)) 22 s = mA σ 22 s := by rw [wA_ne _ _ _ _ _ _ (by omega), f23.2.1 22 (by simp)]; exact k2
  have n5 : mI (wA τ3 24 s (n32 y)) 11 = mI τ3 11 := rfl
  generalize wA τ3 24 s (n32 y) = υ3 at g3w b3 n1 n2 n3 n4 n5
  simp only [n1, n2, n3]
  rw [gd_y (n32_inb (by omega)), gd_y (n32_inb (by omega)), lt_y]
  have ha := can_a x (by omega) y (by omega)
  have hb := can_b x (by omega) y (by omega)
  have hc := can_c x (by omega) y (by omega) z hz.2 hz.1
  have hd := can_d x (by omega) y (by omega)
  have hz0 : ¬ n32 z = 0 := fun q => by rw [show (0 : Int32) = n32 0 from rfl, n32_eq ⟨by omega, by omega⟩] at q; omega
  obtain ⟨c, hcan⟩ : ∃ c : Bool, c = true ↔ canM k x y z := by
    rcases Classical.em (canM k x y z) with q | q
    · exact ⟨true, fun _ => q, fun _ => rfl⟩
    · exact ⟨false, (fun z => by cases z), fun z => absurd z q⟩
  have tail : (if n32 k = (4 : Int32) then if n32 y - n32 x + 1 ≤ (1 : Int32) then F_readMove_b256 (0 : Int32) υ3 else F_readMove_b256 (1 : Int32) υ3
      else if n32 k = (5 : Int32) then if n32 y - n32 x + 1 ≤ (1 : Int32) then F_readMove_b200 F_readMove_b256 υ3 else if n32 y - n32 x + 1 - (n32 y - n32 x + 1) / (2 : Int32) * (2 : Int32) = 0 then F_readMove_b256 (1 : Int32) υ3 else F_readMove_b200 F_readMove_b256 υ3
      else if n32 k = (6 : Int32) then gd (inb (n32 s) 104) (gd (¬ n32 z = 0) (if n32 y - n32 x + 1 - (n32 y - n32 x + 1) / n32 z * n32 z = 0 then gd (inb (n32 s) 104) (gd (¬ n32 z = 0) (if (n32 y - n32 x + 1) / n32 z ≤ (1 : Int32) then F_readMove_b237 F_readMove_b256 υ3 else F_readMove_b256 (1 : Int32) υ3)) else F_readMove_b237 F_readMove_b256 υ3))
      else if n32 y - n32 x + 1 ≤ (1 : Int32) then F_readMove_b255 F_readMove_b256 υ3 else if (5 : Int32) ≤ n32 y - n32 x + 1 then F_readMove_b255 F_readMove_b256 υ3 else F_readMove_b256 (1 : Int32) υ3) = F_readMove_b256 (bi c) υ3 := by
    unfold F_readMove_b200 F_readMove_b237 F_readMove_b255
    have yes : canM k x y z → bi c = 1 := fun q => by rw [hcan.mpr q]; rfl
    have no : ¬ canM k x y z → bi c = 0 := fun q => by
      cases hcc : c with
      | true => exact absurd (hcan.mp hcc) q
      | false => rfl
    rw [show (4 : Int32) = n32 4 from rfl, show (6 : Int32) = n32 6 from rfl]
    by_cases k4 : k = 4
    · rw [ifp (by rw [k4])]
      by_cases q : x < y
      · rw [ifn (fun w => ha.mp w q), yes ⟨q, by omega, by omega, by omega⟩]
      · rw [ifp (ha.mpr q), no (fun w => q w.1)]
    · rw [ifn (fun w => k4 ((n32_eq ⟨by omega, by omega⟩).mp w))]
      by_cases k5 : k = 5
      · rw [ifp (by rw [k5]; rfl)]
        by_cases q : x < y
        · rw [ifn (fun w => ha.mp w q)]
          by_cases q2 : (y - x + 1) % 2 = 0
          · rw [ifp ((hb q).mpr q2), yes ⟨q, fun _ => q2, by omega, by omega⟩]
          · rw [ifn (fun w => q2 ((hb q).mp w)), no (fun w => q2 (w.2.1 k5))]
        · rw [ifp (ha.mpr q), no (fun w => q w.1)]
      · rw [ifn (c := n32 k = (5 : Int32)) (fun w => k5 ((n32_eq (b := 5) ⟨by omega, by omega⟩).mp w))]
        by_cases k6 : k = 6
        · rw [ifp (by rw [k6]), gd_y (n32_inb (by omega)), gd_y hz0]
          by_cases q1 : n32 y - n32 x + 1 - (n32 y - n32 x + 1) / n32 z * n32 z = 0
          · rw [ifp q1, gd_y (n32_inb (by omega)), gd_y hz0]
            by_cases q2 : (n32 y - n32 x + 1) / n32 z ≤ (1 : Int32)
            · rw [ifp q2, no (fun w => (hc.mpr ⟨w.1, w.2.2.1 k6⟩).2 q2)]
            · rw [ifn q2, yes ⟨(hc.mp ⟨q1, q2⟩).1, by omega, fun _ => (hc.mp ⟨q1, q2⟩).2, by omega⟩]
          · rw [ifn q1, no (fun w => q1 (hc.mpr ⟨w.1, w.2.2.1 k6⟩).1)]
        · rw [ifn (fun w => k6 ((n32_eq ⟨by omega, by omega⟩).mp w))]
          have k7 : k = 7 := by omega
          by_cases q : x < y
          · rw [ifn (fun w => ha.mp w q)]
            by_cases q2 : y - x + 1 ≤ 4
            · rw [ifn (fun w => (hd q).mp w q2), yes ⟨q, by omega, by omega, fun _ => q2⟩]
            · rw [ifp ((hd q).mpr q2), no (fun w => q2 (w.2.2.2 k7))]
          · rw [ifp (ha.mpr q), no (fun w => q w.1)]
  rw [tail]
  -- the state of before the last number
  cases st with
  | inl e =>
    have g3' : PS υ3 t (.inl e) := g3w
    obtain ⟨τ, e6, f6, g6⟩ := b256_S g3' (p := 0) (c := c) (fun l w => by cases w)
    refine ⟨τ, e6, b3.tr (BS.of f6 (by simp) (by simp)), g6, by rw [f6.2.1 25 (by simp)]; exact n3, by rw [f6.2.1 22 (by simp)]; exact n4, (fun l a w => by cases w)⟩
  | inr l =>
    show ∃ τ, _ ∧ _ ∧ PS τ t (rl (b109R k z l)) ∧ _
    cases p1 : pNum 0 7 l with
    | inl e =>
      have hR : b109R k z l = .inl e := by unfold b109R; rw [p1]; rfl
      have g3' : PS υ3 t (.inl e) := by
        have : (rbd (rbd (rbd (.inr l) fun l => rl (pNum 0 7 l)) fun l => pMust (isW l 29807) l) fun l => rl (pNum 0 7 l)) = (.inl e : Rs (List Tk)) := by show rbd (rbd (rl (pNum 0 7 l)) _) _ = _; rw [p1]; rfl
        rw [this] at g3w; exact g3w
      obtain ⟨τ, e6, f6, g6⟩ := b256_S g3' (p := 0) (c := c) (fun l w => by cases w)
      refine ⟨τ, e6, b3.tr (BS.of f6 (by simp) (by simp)), by rw [hR]; exact g6, by rw [f6.2.1 25 (by simp)]; exact n3, by rw [f6.2.1 22 (by simp)]; exact n4, (fun l' a w w2 => by cases w; rw [hR] at w2; cases w2)⟩
    | inr a =>
      have ea := v1 l a rfl p1
      cases p2 : pMust (isW a.2 29807) a.2 with
      | inl e =>
        have hR : b109R k z l = .inl e := by unfold b109R; rw [p1]; show rbd (pMust (isW a.2 29807) a.2) _ = _; rw [p2]; rfl
        have g3' : PS υ3 t (.inl e) := by
          have : (rbd (rbd (rbd (.inr l) fun l => rl (pNum 0 7 l)) fun l => pMust (isW l 29807) l) fun l => rl (pNum 0 7 l)) = (.inl e : Rs (List Tk)) := by show rbd (rbd (rl (pNum 0 7 l)) _) _ = _; rw [p1]; show rbd (pMust (isW a.2 29807) a.2) _ = _; rw [p2]; rfl
          rw [this] at g3w; exact g3w
        obtain ⟨τ, e6, f6, g6⟩ := b256_S g3' (p := 0) (c := c) (fun l w => by cases w)
        refine ⟨τ, e6, b3.tr (BS.of f6 (by simp) (by simp)), by rw [hR]; exact g6, by rw [f6.2.1 25 (by simp)]; exact n3, by rw [f6.2.1 22 (by simp)]; exact n4, (fun l' a w w2 => by cases w; rw [hR] at w2; cases w2)⟩
      | inr l' =>
        have hst2 : (rbd (rbd (.inr l) fun l => rl (pNum 0 7 l)) fun l => pMust (isW l 29807) l) = (.inr l' : Rs (List Tk)) := by show rbd (rl (pNum 0 7 l)) _ = _; rw [p1]; exact p2
        rw [hst2] at g3w
        have p11 := p3 l' hst2
        cases p4 : pNum 0 7 l' with
        | inl e =>
          have hR : b109R k z l = .inl e := by unfold b109R; rw [p1]; show rbd (pMust (isW a.2 29807) a.2) _ = _; rw [p2]; show rbd (pNum 0 7 l') _ = _; rw [p4]; rfl
          have g3' : PS υ3 t (.inl e) := by
            have : (rbd (.inr l') fun l => rl (pNum 0 7 l)) = (.inl e : Rs (List Tk)) := by show rl (pNum 0 7 l') = _; rw [p4]; rfl
            rw [this] at g3w; exact g3w
          obtain ⟨τ, e6, f6, g6⟩ := b256_S g3' (p := 0) (c := c) (fun l w => by cases w)
          refine ⟨τ, e6, b3.tr (BS.of f6 (by simp) (by simp)), by rw [hR]; exact g6, by rw [f6.2.1 25 (by simp)]; exact n3, by rw [f6.2.1 22 (by simp)]; exact n4, (fun l' a w w2 => by cases w; rw [hR] at w2; cases w2)⟩
        | inr b =>
          have eb := v3 l' b hst2 p4
          have g3' : PS υ3 t (.inr b.2) := by
            have : (rbd (.inr l') fun l => rl (pNum 0 7 l)) = (.inr b.2 : Rs (List Tk)) := by show rl (pNum 0 7 l') = _; rw [p4]; rfl
            rw [this] at g3w; exact g3w
          obtain ⟨τ, e6, f6, g6⟩ := b256_S g3' (p := kP (cur l')) (c := c) (fun l w => by rw [n5]; exact p11)
          have hR : b109R k z l = if canM k x y z then .inr ((x, y), b.2) else .inl (4, kP (cur l')) := by
            unfold b109R; rw [p1]; show rbd (pMust (isW a.2 29807) a.2) _ = _; rw [p2]; show rbd (pNum 0 7 l') _ = _; rw [p4, ea, eb]; rfl
          refine ⟨τ, e6, b3.tr (BS.of f6 (by simp) (by simp)), ?_, by rw [f6.2.1 25 (by simp)]; exact n3, by rw [f6.2.1 22 (by simp)]; exact n4, ?_⟩
          · have g6' : PS τ t (if c = true then .inr b.2 else .inl (4, kP (cur l'))) := g6
            rw [hR]
            by_cases q : canM k x y z
            · rw [ifp q]; rw [ifp (hcan.mpr q)] at g6'; exact g6'
            · rw [ifn q]; rw [ifn (fun w => q (hcan.mp w))] at g6'; exact g6'
          · intro l2 a2 w w2
            cases w
            rw [hR] at w2
            by_cases q : canM k x y z
            · rw [ifp q] at w2; cases w2
              exact ⟨by rw [f6.2.1 23 (by simp)]; exact n1, by rw [f6.2.1 24 (by simp)]; exact n2⟩
            · rw [ifn q] at w2; cases w2
