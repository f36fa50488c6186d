set_option maxRecDepth 100000
/-! THE REFERENCE: lists and moves are read -/
theorem mx_snoc (l : List Nat) (v : Nat) : mx (l ++ [v]) = max (mx l) v := by unfold mx; rw [List.foldl_append]; rfl
theorem BS.fr {s : Nat} {σ τ : MS} (h : BS s σ τ) : Fr [4, 5, 6, 7, 8, 9, 11] [22, 23, 24, 25, 26, 27, 28] [10, 29] σ τ := h.1
def lsR (σ : MS) (s : Nat) (had : List Nat) : Prop := mA σ 26 s = n32 had.length ∧ ∀ j, j < had.length → mA σ 27 (8 * s + j) = n32 (had.getD j 0)
theorem lsR.fr {is ls : List Nat} {σ τ : MS} {s : Nat} {had : List Nat} (h : lsR σ s had) (f : Fr is [] ls σ τ) : lsR τ s had := ⟨by rw [f.2.1 26 (by simp)]; exact h.1, fun j hj => by rw [f.2.1 27 (by simp)]; exact h.2 j hj⟩
/-- the numbers that were had are looked through -/
theorem readL60_L {t : List Nat} {s x p : Nat} {had : List Nat} (hs : s < 104) (hh : had.length ≤ 8) (h8 : ∀ v ∈ had, v < 8) (hx : x < 8) (k9 : Int32 → Int32 → Int32 → MS → Option MS) (x2 x3 : Int32) (σ : MS) (st : Rs (List Tk)) (h : PS σ t st) (hl : lsR σ s had) (h11 : ∀ l, st = .inr l → mI σ 11 = n32 p) :
    ∃ τ, F_readList_L60 k9 MN (n32 s) x2 x3 (n32 x) (n32 0) σ = F_readList_b110 k9 (n32 s) x2 x3 (n32 x) τ ∧ Fr [4, 5] [] [] σ τ ∧ PS τ t (rbd st fun l => if x ∈ had then .inl (4, p) else .inr l) := by
  have hMN := MN_gt
  have zs := n32_nat (a := s) (by omega)
  obtain ⟨fu, s2, ⟨i1, i2⟩, e⟩ := upe (fun fu k σ' => F_readList_L60 k9 fu (n32 s) x2 x3 (n32 x) (n32 k) σ') 0 had.length (fun k σ' => Fr [4, 5] [] [] σ σ' ∧ PS σ' t (rbd st fun l => if x ∈ had.take k then .inl (4, p) else .inr l))
    (by
      rintro fu k σ' - hk ⟨f1, g1⟩
      have hl1 := hl.fr f1
      have hv : had[k]? = some (had.getD k 0) := by rw [List.getD_eq_getElem?_getD, List.getElem?_eq_getElem hk]; rfl
      have hv8 : had.getD k 0 < 8 := h8 _ (List.mem_of_getElem? hv)
      have hmem : x ∈ had.take (k + 1) ↔ x ∈ had.take k ∨ x = had.getD k 0 := by rw [take_snoc hv, List.mem_append, List.mem_singleton]
      try dsimp only
      rw [F_readList_L60]
      simp only [zs]
      rw [hl1.1, gd_y (n32_inb (by omega)), ifn (by rw [n32_le ⟨by omega, by omega⟩]; omega)]
      unfold F_readList_b104
      simp only [↓lt_y]
      rw [show n32 k + (1 : Int32) = n32 (k + 1) from by simp (disch := omega) only [↓reduceIte, ↓lt_y, leT, leF, ltT, ltF, eqT, eqF, n32_lit, n32_add, n32_mul, n32_sub, n32_le, n32_lt, n32_eq, n32_nat, gdn, gd_T, inbT, bd_y, bd2_y, ifp, ifn, not_true_eq_false, not_false_eq_true, and_self, true_and, and_true, false_and, and_false, or_self, true_or, or_true, false_or, or_false, wA_s, wL_s, sA_same, sL_same, sA_L, sL_A, sA_I, sL_I, wI_A, wI_L, wI_same, sA_sA, sL_sL, sA_ne, sL_ne, wI_ne]]
      have skip : ∀ e, PS σ' t (.inl e) → (rbd st fun l => if x ∈ had.take (k + 1) then .inl (4, p) else .inr l) = (.inl e : Rs (List Tk)) → ∃ s', (bd (F_isGood σ') fun r_4 => if r_4 = 0 then F_readList_L60 k9 fu (n32 s) x2 x3 (n32 x) (n32 (k + 1)) σ' else gd (inb ((8 : Int32) * n32 s + n32 k) 832) (if mA σ' 27 (Int32.toNatClampNeg ((8 : Int32) * n32 s + n32 k)) = n32 x then bd (F_fails 4 (mI σ' 11) σ') fun σ_9 => F_readList_L60 k9 fu (n32 s) x2 x3 (n32 x) (n32 (k + 1)) σ_9 else F_readList_L60 k9 fu (n32 s) x2 x3 (n32 x) (n32 (k + 1)) σ')) = F_readList_L60 k9 fu (n32 s) x2 x3 (n32 x) (n32 (k + 1)) s' ∧ Fr [4, 5] [] [] σ s' ∧ PS s' t (rbd st fun l => if x ∈ had.take (k + 1) then .inl (4, p) else .inr l) := by
        intro e he hz
        rw [isGood_n he, bd_y, ifp rfl]
        exact ⟨σ', rfl, f1, by rw [hz]; exact he⟩
      cases st with
      | inl e => exact skip e g1 rfl
      | inr l =>
        by_cases q : x ∈ had.take k
        · have g1' : PS σ' t (.inl (4, p)) := by
            have : (rbd (.inr l) fun l => if x ∈ had.take k then .inl (4, p) else .inr l) = (.inl (4, p) : Rs (List Tk)) := by show (if x ∈ had.take k then _ else _) = _; rw [ifp q]
            rw [this] at g1; exact g1
          exact skip _ g1' (by show (if x ∈ had.take (k + 1) then _ else _) = _; rw [ifp (hmem.mpr (Or.inl q))])
        · have g1' : PS σ' t (.inr l) := by
            have : (rbd (.inr l) fun l => if x ∈ had.take k then .inl (4, p) else .inr l) = (.inr l : Rs (List Tk)) := by show (if x ∈ had.take k then _ else _) = _; rw [ifn q]
            rw [this] at g1; exact g1
          rw [isGood_y g1', bd_y, ifn g1N]
          have ek : (8 : Int32) * n32 s + n32 k = n32 (8 * s + k) := by simp (disch := omega) only [↓reduceIte, ↓lt_y, leT, leF, ltT, ltF, eqT, eqF, n32_lit, n32_add, n32_mul, n32_sub, n32_le, n32_lt, n32_eq, n32_nat, gdn, gd_T, inbT, bd_y, bd2_y, ifp, ifn, not_true_eq_false, not_false_eq_true, and_self, true_and, and_true, false_and, and_false, or_self, true_or, or_true, false_or, or_false, wA_s, wL_s, sA_same, sL_same, sA_L, sL_A, sA_I, sL_I, wI_A, wI_L, wI_same, sA_sA, sL_sL, sA_ne, sL_ne, wI_ne]
          rw [ek, gd_y (n32_inb (by omega)), n32_nat (by omega), hl1.2 k hk]
          by_cases q2 : x = had.getD k 0
          · rw [ifp (by rw [q2])]
            obtain ⟨τ, e1, f2, g2⟩ := fails_S g1' (k := 4) (p := p) (by omega)
            rw [f1.1 11 (by simp), h11 l rfl, show (4 : Int32) = n32 4 from rfl, e1, bd_y]
            refine ⟨τ, rfl, Fr.tr f1 f2 (by simp) (by simp) (by simp), ?_⟩
            show PS τ t (if x ∈ had.take (k + 1) then _ else _)
            rw [ifp (hmem.mpr (Or.inr q2))]; exact g2
          · rw [ifn (fun z => q2 ((n32_eq ⟨by omega, by omega⟩).mp z).symm)]
            refine ⟨σ', rfl, f1, ?_⟩
            show PS σ' t (if x ∈ had.take (k + 1) then _ else _)
            rw [ifn (fun z => (hmem.mp z).elim q q2)]; exact g1')
    σ MN (by omega) (by omega) ⟨Fr.any, by
      have : (rbd st fun l => if x ∈ had.take 0 then .inl (4, p) else .inr l) = st := by
        cases st with
        | inl e => rfl
        | inr l => show (if x ∈ had.take 0 then (.inl (4, p) : Rs (List Tk)) else .inr l) = .inr l; rw [ifn (by simp)]
      rw [this]; exact h⟩
  have e' : F_readList_L60 k9 MN (n32 s) x2 x3 (n32 x) (n32 0) σ = F_readList_L60 k9 (fu + 1) (n32 s) x2 x3 (n32 x) (n32 had.length) s2 := e
  rw [e', F_readList_L60]
  simp only [zs]
  rw [(hl.fr i1).1, gd_y (n32_inb (by omega)), ifp ((n32_le ⟨by omega, by omega⟩).mpr (Nat.le_refl _))]
  rw [List.take_length] at i2
  exact ⟨s2, rfl, i1, i2⟩
/-- numbers, none twice -/
theorem readL_L {t : List Nat} {s w : Nat} (hs : s < 104) (hw : w < 2) : ∀ (f : Nat) (had : List Nat) (l : List Tk) (σ : MS) (fu : Nat), f + had.length = 8 → (∀ v ∈ had, v < 8) → PS σ t (.inr l) → (had = [] ∨ kS (cur l) = 4) → lsR σ s had → f < fu →
    ∃ τ, F_readList_L9 fu (n32 s) (n32 w) (n32 (mx had)) σ = some τ ∧ BS s σ τ ∧ mA τ 22 = mA σ 22 ∧ PS τ t (rbd (pLst f had l) fun a => if w = 1 ∧ ¬ mx a.1.1 < a.1.1.length then .inl (4, a.1.2) else .inr a.2) ∧ ∀ a, pLst f had l = .inr a → lsR τ s a.1.1 ∧ a.1.1.length ≤ 8 := by
  have hMN := MN_gt
  have zs := n32_nat (a := s) (by omega)
  intro f
  induction f with
  | zero =>
    intro had l σ fu hf h8 h hc hl hfu
    obtain ⟨fu, rfl⟩ : ∃ g, fu = g + 1 := ⟨fu - 1, by omega⟩
    have hne : ¬ had = [] := fun z => by rw [z] at hf; simp at hf
    have h4 := hc.resolve_left hne
    rw [F_readList_L9, isGood_y h, bd_y, ifn g1N]
    simp only [zs]
    rw [gd_y (n32_inb (by omega)), hl.1, ifn (fun z => by rw [show (0 : Int32) = n32 0 from rfl, n32_eq ⟨by omega, by omega⟩] at z; omega), h.2.2.cur.2.1, h4, ifp (by decide)]
    unfold F_readList_b33 F_readList_b48
    simp only [zs]
    obtain ⟨τ, e1, f1, g1⟩ := misplaced_S h
    rw [gd_y (n32_inb (by omega)), hl.1, ifp (by rw [show had.length = 8 from by omega]; rfl), e1, bd_y]
    have g1' : PS τ t (.inl (errT l)) := g1
    obtain ⟨x, τ2, e2, -, hx, f2, g2, -, -⟩ := numeral_S g1' (lo := 0) (hi := 7) (by omega) (by omega)
    have e2' : F_numeral 0 7 τ = some (n32 x, τ2) := e2
    have g2' : PS τ2 t (.inl (errT l)) := g2
    have hl2 := (hl.fr f1).fr f2
    obtain ⟨τ3, e3, f3, g3⟩ := readL60_L (p := 0) hs (by omega) h8 (show x < 8 by omega) (F_readList_L9 fu) (n32 w) (n32 (mx had)) τ2 _ g2' hl2 (fun l z => by cases z)
    have g3' : PS τ3 t (.inl (errT l)) := g3
    rw [e2', bd2_y]
    have e3' : F_readList_L60 (F_readList_L9 fu) MN (n32 s) (n32 w) (n32 (mx had)) (n32 x) 0 τ2 = _ := e3
    rw [e3']
    unfold F_readList_b110
    rw [isGood_n g3', bd_y, ifp rfl]
    have fr : Fr [4, 5, 6, 7, 8, 9, 11] [] [10] σ τ3 := Fr.tr (Fr.tr (js := [4, 5, 6, 7, 8, 9, 11]) (bs := []) (ms := [10]) f1 f2 (by simp) (by simp) (by simp)) f3 (by simp) (by simp) (by simp)
    exact ⟨τ3, rfl, BS.of fr (by simp) (by simp), fr.2.1 22 (by simp), g3', fun a z => by cases z⟩
  | succ f ih =>
    intro had l σ fu hf h8 h hc hl hfu
    obtain ⟨fu, rfl⟩ : ∃ g, fu = g + 1 := ⟨fu - 1, by omega⟩
    have hb33 : F_readList_L9 (fu + 1) (n32 s) (n32 w) (n32 (mx had)) σ = F_readList_b33 (F_readList_L9 fu) (n32 s) (n32 w) (n32 (mx had)) σ := by
      rw [F_readList_L9, isGood_y h, bd_y, ifn g1N]
      simp only [zs]
      rw [gd_y (n32_inb (by omega)), hl.1]
      by_cases q : had = []
      · rw [ifp (by rw [q]; rfl)]
      · have h4 := hc.resolve_left q
        rw [ifn (fun z => by rw [show (0 : Int32) = n32 0 from rfl, n32_eq ⟨by omega, by omega⟩] at z; exact q (List.length_eq_zero_iff.mp z)), h.2.2.cur.2.1, h4, ifp (by decide)]
    rw [hb33]
    unfold F_readList_b33 F_readList_b48
    simp only [zs]
    rw [gd_y (n32_inb (by omega)), hl.1, ifn (fun z => by rw [show (8 : Int32) = n32 8 from rfl, n32_eq ⟨by omega, by omega⟩] at z; omega)]
    obtain ⟨x, τ2, e2, -, hx, f2, g2, g2x, g2p⟩ := numeral_S h (lo := 0) (hi := 7) (by omega) (by omega)
    have e2' : F_numeral 0 7 σ = some (n32 x, τ2) := e2
    have g2' : PS τ2 t (rl (pNum 0 7 l)) := g2
    have hl2 := hl.fr f2
    rw [e2', bd2_y]
    obtain ⟨τ3, e3, f3, g3⟩ := readL60_L (p := kP (cur l)) hs (by omega) h8 (show x < 8 by omega) (F_readList_L9 fu) (n32 w) (n32 (mx had)) τ2 _ g2' hl2 (fun l' z => g2p l rfl)
    have e3' : F_readList_L60 (F_readList_L9 fu) MN (n32 s) (n32 w) (n32 (mx had)) (n32 x) 0 τ2 = _ := e3
    rw [e3']
    have fr : Fr [4, 5, 6, 7, 8, 9, 11] [] [10] σ τ3 := Fr.tr f2 f3 (by simp) (by simp) (by simp)
    have hl3 := hl2.fr f3
    unfold F_readList_b110
    rw [pLst]
    cases hp : pNum 0 7 l with
    | inl e =>
      rw [hp] at g3
      have g3' : PS τ3 t (.inl e) := g3
      rw [isGood_n g3', bd_y, ifp rfl]
      exact ⟨τ3, rfl, BS.of fr (by simp) (by simp), fr.2.1 22 (by simp), g3', fun a z => by cases z⟩
    | inr a =>
      have hxa : x = a.1 := g2x l a rfl hp
      rw [hp] at g3
      have g3' : PS τ3 t (if x ∈ had then .inl (4, kP (cur l)) else .inr a.2) := g3
      show ∃ τ, _ ∧ _ ∧ _ ∧ PS τ t (rbd (if a.1 ∈ had then .inl (4, kP (cur l)) else if kS (cur a.2) = 4 then pLst f (had ++ [a.1]) a.2 else .inr ((had ++ [a.1], kP (cur l)), a.2)) _) ∧ ∀ a', (if a.1 ∈ had then .inl (4, kP (cur l)) else if kS (cur a.2) = 4 then pLst f (had ++ [a.1]) a.2 else .inr ((had ++ [a.1], kP (cur l)), a.2)) = (.inr a' : Rs ((List Nat × Nat) × List Tk)) → _
      rw [← hxa]
      by_cases q : x ∈ had
      · rw [ifp q] at g3'
        rw [isGood_n g3', bd_y, ifp rfl, ifp q]
        exact ⟨τ3, rfl, BS.of fr (by simp) (by simp), fr.2.1 22 (by simp), g3', fun a z => by cases z⟩
      · rw [ifn q] at g3'
        rw [isGood_y g3', bd_y, ifn g1N, ifn q]
        simp only [zs]
        have ek : (8 : Int32) * n32 s + n32 had.length = n32 (8 * s + had.length) := by simp (disch := omega) only [↓reduceIte, ↓lt_y, leT, leF, ltT, ltF, eqT, eqF, n32_lit, n32_add, n32_mul, n32_sub, n32_le, n32_lt, n32_eq, n32_nat, gdn, gd_T, inbT, bd_y, bd2_y, ifp, ifn, not_true_eq_false, not_false_eq_true, and_self, true_and, and_true, false_and, and_false, or_self, true_or, or_true, false_or, or_false, wA_s, wL_s, sA_same, sL_same, sA_L, sL_A, sA_I, sL_I, wI_A, wI_L, wI_same, sA_sA, sL_sL, sA_ne, sL_ne, wI_ne]
        rw [gd_y (n32_inb (by omega)), hl3.1, ek, gd_y (n32_inb (by omega)), n32_nat (by omega)]
        simp only [↓lt_y]
        rw [gd_y (n32_inb (by omega)), gd_y (n32_inb (by omega)), wA_ne _ _ _ _ _ _ (by omega), hl3.1, show n32 had.length + (1 : Int32) = n32 (had.length + 1) from by simp (disch := omega) only [↓reduceIte, ↓lt_y, leT, leF, ltT, ltF, eqT, eqF, n32_lit, n32_add, n32_mul, n32_sub, n32_le, n32_lt, n32_eq, n32_nat, gdn, gd_T, inbT, bd_y, bd2_y, ifp, ifn, not_true_eq_false, not_false_eq_true, and_self, true_and, and_true, false_and, and_false, or_self, true_or, or_true, false_or, or_false, wA_s, wL_s, sA_same, sL_same, sA_L, sL_A, sA_I, sL_I, wI_A, wI_L, wI_same, sA_sA, sL_sL, sA_ne, sL_ne, wI_ne]]
        unfold F_readList_b158
        obtain ⟨υ, hυ⟩ : ∃ υ, υ = wA (wA τ3 27 (8 * s + had.length) (n32 x)) 26 s (n32 (had.length + 1)) := ⟨_, rfl⟩
        rw [← hυ]
        have bυ : BS s τ3 υ := by rw [hυ]; exact BS.tr (BS.w27 (n32 x) (by omega)) (BS.wa 26 _ (by omega))
        have pυ : PS υ t (.inr a.2) := by rw [hυ]; exact (g3'.bs (s := s) 27 _ _ (by omega)).bs (s := s) 26 _ _ (by omega)
        have hlen : (had ++ [x]).length = had.length + 1 := by simp
        have lυ : lsR υ s (had ++ [x]) := by
          refine ⟨by rw [hυ, wA_at, hlen], fun j hj => ?_⟩
          rw [hlen] at hj
          rw [hυ, wA_ne _ _ _ _ _ _ (by omega), getD_app had x j hj]
          by_cases z : j = had.length
          · rw [ifp z, z, wA_at]
          · rw [ifn z, wA_ne _ _ _ _ _ _ (by omega)]; exact hl3.2 j (by omega)
        have p11 : mI υ 11 = n32 (kP (cur l)) := by
          rw [hυ]
          show mI τ3 11 = _
          rw [f3.1 11 (by simp)]; exact g2p l rfl
        have hv8 : ∀ v ∈ had ++ [x], v < 8 := fun v hv => by
          rcases List.mem_append.mp hv with z | z
          · exact h8 v z
          · rw [List.mem_singleton.mp z]; omega
        have m22 : mA υ 22 = mA σ 22 := by
          rw [hυ, wA_s, sA_ne _ _ _ _ (by omega), wA_s, sA_ne _ _ _ _ (by omega)]; exact fr.2.1 22 (by simp)
        have bb : BS s σ υ := BS.tr (BS.of fr (by simp) (by simp)) bυ
        have emx : (if n32 x ≤ n32 (mx had) then F_readList_L9 fu (n32 s) (n32 w) (n32 (mx had)) υ else F_readList_L9 fu (n32 s) (n32 w) (n32 x) υ) = F_readList_L9 fu (n32 s) (n32 w) (n32 (mx (had ++ [x]))) υ := by
          have hm : mx had < 8 := (mx_le had 8).mpr ⟨by omega, h8⟩
          rw [mx_snoc]
          by_cases z : x ≤ mx had
          · rw [ifp ((n32_le ⟨by omega, by omega⟩).mpr z)]; congr 2; omega
          · rw [ifn (fun y => z ((n32_le ⟨by omega, by omega⟩).mp y))]; congr 2; omega
        rw [emx]
        by_cases q4 : kS (cur a.2) = 4
        · rw [ifp q4]
          obtain ⟨τ, e5, b5, m5, g5, l5⟩ := ih (had ++ [x]) a.2 υ fu (by rw [hlen]; omega) hv8 pυ (Or.inr q4) lυ (by omega)
          exact ⟨τ, e5, bb.tr b5, m5.trans m22, g5, l5⟩
        · rw [ifn q4]
          obtain ⟨fu, rfl⟩ : ∃ g, fu = g + 1 := ⟨fu - 1, by omega⟩
          have hk5 := pυ.2.2.cur.1
          rw [F_readList_L9, isGood_y pυ, bd_y, ifn g1N]
          simp only [zs]
          rw [gd_y (n32_inb (by omega)), lυ.1, hlen, ifn (fun z => by rw [show (0 : Int32) = n32 0 from rfl, n32_eq ⟨by omega, by omega⟩] at z; omega), pυ.2.2.cur.2.1, ifn (fun z => by rw [show (4 : Int32) = n32 4 from rfl, n32_eq ⟨by omega, by omega⟩] at z; exact q4 z)]
          unfold F_readList_b162
          rw [isGood_y pυ, bd_y, ifn g1N]
          have fin : ∀ a', (Sum.inr ((had ++ [x], kP (cur l)), a.2) : Rs ((List Nat × Nat) × List Tk)) = .inr a' → lsR υ s a'.1.1 ∧ a'.1.1.length ≤ 8 := fun a' z => by cases z; exact ⟨lυ, by rw [hlen]; omega⟩
          show ∃ τ, _ ∧ _ ∧ _ ∧ PS τ t (if w = 1 ∧ ¬ mx (had ++ [x]) < (had ++ [x]).length then .inl (4, kP (cur l)) else .inr a.2) ∧ _
          by_cases qw : w = 1
          · have hm : mx (had ++ [x]) < 8 := (mx_le _ 8).mpr ⟨by omega, hv8⟩
            simp only [zs]
            rw [qw, ifn (by decide), gd_y (n32_inb (by omega)), lυ.1]
            by_cases qm : mx (had ++ [x]) < (had ++ [x]).length
            · rw [ifp ((n32_lt ⟨by omega, by omega⟩).mpr qm)]
              exact ⟨υ, rfl, bb, m22, by rw [ifn (fun z => z.2 qm)]; exact pυ, fin⟩
            · rw [ifn (fun z => qm ((n32_lt ⟨by omega, by omega⟩).mp z)), p11]
              obtain ⟨τ, e6, f6, g6⟩ := fails_S pυ (k := 4) (p := kP (cur l)) (by omega)
              rw [show (4 : Int32) = n32 4 from rfl, e6, bd_y]
              exact ⟨τ, rfl, bb.tr (BS.of f6 (by simp) (by simp)), (f6.2.1 22 (by simp)).trans m22, by rw [ifp ⟨rfl, qm⟩]; exact g6, fun a' z => ⟨(fin a' z).1.fr f6, (fin a' z).2⟩⟩
          · rw [ifp (by rw [show w = 0 from by omega]; rfl)]
            exact ⟨υ, rfl, bb, m22, by rw [ifn (fun z => qw z.1)]; exact pυ, fin⟩
theorem readList_L {t : List Nat} {s w : Nat} {l : List Tk} {σ : MS} (hs : s < 104) (hw : w < 2) (h : PS σ t (.inr l)) : ∃ τ, F_readList (n32 s) (n32 w) σ = some τ ∧ BS s σ τ ∧ mA τ 22 = mA σ 22 ∧ PS τ t (rbd (pLst 8 [] l) fun a => if w = 1 ∧ ¬ mx a.1.1 < a.1.1.length then .inl (4, a.1.2) else .inr a.2) ∧ ∀ a, pLst 8 [] l = .inr a → lsR τ s a.1.1 ∧ a.1.1.length ≤ 8 := by
  have hMN := MN_gt
  unfold F_readList
  rw [gd_y (n32_inb (by omega)), lt_y, n32_nat (by omega)]
  obtain ⟨τ, e, b, m, g, k⟩ := readL_L hs hw 8 [] l (wA σ 26 s 0) MN (by simp) (by simp) (h.bs (s := s) 26 _ _ (by omega)) (Or.inl rfl) ⟨by rw [wA_at]; rfl, fun j hj => by simp at hj⟩ (by omega)
  exact ⟨τ, e, BS.tr (BS.wa 26 _ (by omega)) b, by rw [m, wA_s, sA_ne _ _ _ _ (by omega)], g, k⟩
