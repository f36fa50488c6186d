set_option maxRecDepth 100000
/-! THE REFERENCE: rows of moves -/
def zS : Stq := (0, 0, 0, 0, [], 0, 0)
theorem rY_get {R : Rc} {d : Nat} (h : d < (rY R).length) : (rY R)[d]? = some ((rY R).getD d (0, 0, 0, 0, [], 0, 0)) := by
  rw [List.getD_eq_getElem?_getD, List.getElem?_eq_getElem h]; rfl
theorem rO_get {R : Rc} {d : Nat} (h : d < (rO R).length) : (rO R)[d]? = some ((rO R).getD d (0, 0, 0, 0, [], 0, 0)) := by
  rw [List.getD_eq_getElem?_getD, List.getElem?_eq_getElem h]; rfl
theorem rY_ok {R : Rc} (hq : okQ R) {d : Nat} (h : d < (rY R).length) : okS ((rY R).getD d (0, 0, 0, 0, [], 0, 0)) ∧ 2 ≤ sT ((rY R).getD d (0, 0, 0, 0, [], 0, 0)) ∧ sT ((rY R).getD d (0, 0, 0, 0, [], 0, 0)) ≤ 7 := hq.2.2.2.2.1 _ (List.mem_of_getElem? (rY_get h))
theorem rO_ok {R : Rc} (hq : okQ R) {d : Nat} (h : d < (rO R).length) : okS ((rO R).getD d (0, 0, 0, 0, [], 0, 0)) ∧ sT ((rO R).getD d (0, 0, 0, 0, [], 0, 0)) = 8 := hq.2.2.2.2.2.2.1 _ (List.mem_of_getElem? (rO_get h))
theorem mvA_zero {N : Nat} {x : Stq} {D : Dst} (h : ∀ i r, N ≤ i → D i r = 0) : ∀ i r, N ≤ i → mvA x D i r = 0 := by
  intro i r hi
  apply sm_zero
  intro w _
  apply sm_zero
  intro q _
  split
  · exact h i q hi
  · rfl
theorem digs_lt (m : Nat) (hm : 0 < m) : ∀ n r, r < m ^ n → ∀ d ∈ digs m n r, d < m := by
  intro n
  induction n with
  | zero => intro r _ d hd; cases hd
  | succ n ih =>
    intro r hr d hd
    rw [digs] at hd
    have hp : 0 < m ^ n := Nat.pow_pos hm
    rcases List.mem_cons.mp hd with rfl | hd
    · rw [Nat.div_lt_iff_lt_mul hp, Nat.mul_comm, ← Nat.pow_succ]; exact hr
    · exact ih _ (Nat.mod_lt _ hp) d hd
theorem digs_len (m : Nat) : ∀ n r, (digs m n r).length = n := by
  intro n
  induction n with
  | zero => intro r; rfl
  | succ n ih => intro r; rw [digs, List.length_cons, ih]
theorem movs_ok {R : Rc} {N : Nat} (hq : okQ R) : ∀ (l : List Nat) (D : Dst), (∀ d ∈ l, d < (rY R).length) → (∀ i r, N ≤ i → D i r = 0) → (∀ i r, N ≤ i → movs R l D i r = 0) ∧ ∀ i, sm 256 (movs R l D i) ≤ 24 ^ l.length * sm 256 (D i) := by
  intro l
  induction l with
  | nil => intro D _ h; exact ⟨h, fun i => by simp [movs]⟩
  | cons d l ih =>
    intro D hd h
    rw [movs]
    have h1 := rY_ok hq (hd d List.mem_cons_self)
    obtain ⟨a, b⟩ := ih (mvA ((rY R).getD d (0, 0, 0, 0, [], 0, 0)) D) (fun d' h' => hd d' (List.mem_cons_of_mem _ h')) (mvA_zero h)
    refine ⟨a, fun i => Nat.le_trans (b i) ?_⟩
    rw [mvA_sum, List.length_cons, Nat.pow_succ, ← Nat.mul_assoc]
    exact Nat.mul_le_mul_right _ (Nat.mul_le_mul_left _ (wys_b h1.1).2)
theorem pow_b {m n : Nat} (hm : m ≤ 8) (hn : n ≤ 3) : m ^ n ≤ 512 := by
  calc m ^ n ≤ 8 ^ n := Nat.pow_le_pow_left hm n
    _ ≤ 8 ^ 3 := Nat.pow_le_pow_right (by omega) hn
    _ = 512 := rfl
theorem isMovedL_L {b c M : Nat} {R : Rc} (hq : okQ R) (hM : M ≤ 3) (hc : c ≤ 8) : ∀ (n r : Nat) (D : Dst) (σ : MS) (fu : Nat), n ≤ M → r < (rY R).length ^ n → MRc σ b R → LD σ 0 D → (∀ i r, rN R ≤ i → D i r = 0) → mI σ 68 = n32 c → n < fu →
    ∃ a τ, F_isMoved_L42 fu (n32 M) (n32 ((rY R).length ^ (n - 1))) (n32 r) (n32 (M - n)) σ = some (a, τ) ∧ Fr [] [41, 42] [43] σ τ ∧ (∀ j, 34816 ≤ j → mL τ 43 j = mL σ 43 j) ∧ ((fitAll R c (digs (rY R).length n r) ∧ a = n32 1 ∧ LD τ 0 (movs R (digs (rY R).length n r) D)) ∨ (¬ fitAll R c (digs (rY R).length n r) ∧ a = n32 0)) := by
  intro n
  induction n with
  | zero =>
    intro r D σ fu hn hr hR hD hs h68 hfu
    obtain ⟨fu, rfl⟩ : ∃ f, fu = f + 1 := ⟨fu - 1, by omega⟩
    rw [F_isMoved_L42, Nat.sub_zero, ifp ((n32_le ⟨by omega, by omega⟩).mpr (Nat.le_refl _))]
    exact ⟨_, σ, rfl, Fr.mono Fr.rf (by simp) (by simp) (by simp), fun _ _ => rfl, Or.inl ⟨fun d hd => (by cases hd), rfl, hD⟩⟩
  | succ n ih =>
    intro r D σ fu hn hr hR hD hs h68 hfu
    obtain ⟨fu, rfl⟩ : ∃ f, fu = f + 1 := ⟨fu - 1, by omega⟩
    have hb := hR.2.1
    have zb := n32_nat (a := b) (by omega)
    have hm8 : (rY R).length ≤ 8 := hq.2.2.2.1
    have h14 : mA σ 14 b = n32 (rY R).length := hR.2.2.2.2.2.1.1
    have hm0 : 0 < (rY R).length := by
      rcases Nat.eq_zero_or_pos (rY R).length with z | z
      · rw [z, Nat.pow_succ, Nat.mul_zero] at hr; omega
      · exact z
    have hst := hR.2.2.2.2.2.1.2
    have hu0 : 0 < (rY R).length ^ n := Nat.pow_pos hm0
    have hu5 : (rY R).length ^ n ≤ 512 := pow_b hm8 (by omega)
    have hr5 : r < 5000 := by have := pow_b (n := n + 1) hm8 (by omega); omega
    have hd : r / (rY R).length ^ n < (rY R).length := by rw [Nat.div_lt_iff_lt_mul hu0, Nat.mul_comm, ← Nat.pow_succ]; exact hr
    have hmod : r % (rY R).length ^ n < (rY R).length ^ n := Nat.mod_lt _ hu0
    obtain ⟨hox, ht2, ht7⟩ := rY_ok hq hd
    have hx := hst _ _ (rY_get hd)
    rw [F_isMoved_L42, ifn (by rw [n32_le ⟨by omega, by omega⟩]; omega), Nat.add_sub_cancel]
    simp only [↓lt_y, hR.1, zb, h14]
    have hne : ¬ n32 ((rY R).length ^ n) = 0 := fun z => by
      rw [show (0 : Int32) = n32 0 from rfl, n32_eq ⟨by omega, by omega⟩] at z; omega
    have hne2 : ¬ n32 (rY R).length = 0 := fun z => by
      rw [show (0 : Int32) = n32 0 from rfl, n32_eq ⟨by omega, by omega⟩] at z; omega
    rw [gd_y hne, gd_y hne, gd_y (n32_inb (by omega)), gd_y hne2, gd_y (n32_inb (by omega)), gd_y hne2]
    rw [n32_mod _ _ hu0 (by omega) (by omega), n32_div _ _ hu0 (by omega) (by omega), n32_div _ _ hm0 (by omega) (by omega)]
    have hdiv : (if n32 ((rY R).length ^ n / (rY R).length) ≤ 0 then (1 : Int32) else n32 ((rY R).length ^ n / (rY R).length)) = n32 ((rY R).length ^ (n - 1)) := by
      cases n with
      | zero =>
        rw [Nat.pow_zero]
        by_cases q : (rY R).length = 1
        · rw [q]; rfl
        · rw [Nat.div_eq_of_lt (by omega)]; rfl
      | succ n =>
        have hu : 0 < (rY R).length ^ n := Nat.pow_pos hm0
        have hu1 : (rY R).length ^ n ≤ 512 := pow_b hm8 (by omega)
        rw [Nat.pow_succ, Nat.mul_div_cancel _ hm0, Nat.add_sub_cancel, ifn]
        rw [show (0 : Int32) = n32 0 from rfl, n32_le ⟨by omega, by omega⟩]; omega
    have ek : (52 : Int32) * n32 b + (40 : Int32) + n32 (r / (rY R).length ^ n) = n32 (52 * b + 40 + r / (rY R).length ^ n) := by simp (disch := omega) only [↓reduceIte, ↓lt_y, leT, leF, ltT, ltF, eqT, eqF, n32_lit, n32_add, n32_mul, n32_sub, n32_le, n32_lt, n32_eq, n32_nat, gdn, gd_T, inbT, bd_y, bd2_y, ifp, ifn, not_true_eq_false, not_false_eq_true, and_self, true_and, and_true, false_and, and_false, or_self, true_or, or_true, false_or, or_false, wA_s, wL_s, sA_same, sL_same, sA_L, sL_A, sA_I, sL_I, wI_A, wI_L, wI_same, sA_sA, sL_sL, sA_ne, sL_ne, wI_ne]
    rw [ek]
    have go : ∃ a τ, F_isMoved_b100 (F_isMoved_L42 fu) (n32 M) (n32 (r % (rY R).length ^ n)) (n32 (M - (n + 1))) (n32 (52 * b + 40 + r / (rY R).length ^ n)) (n32 ((rY R).length ^ (n - 1))) σ = some (a, τ) ∧ Fr [] [41, 42] [43] σ τ ∧ (∀ j, 34816 ≤ j → mL τ 43 j = mL σ 43 j) ∧ ((fitAll R c (digs (rY R).length (n + 1) r) ∧ a = n32 1 ∧ LD τ 0 (movs R (digs (rY R).length (n + 1) r) D)) ∨ (¬ fitAll R c (digs (rY R).length (n + 1) r) ∧ a = n32 0)) := by
      unfold F_isMoved_b100
      rw [h68, fits_L (by omega) hx hox (Or.inl ⟨ht2, by omega⟩) c hc, bd_y]
      rw [digs]
      by_cases q : need ((rY R).getD (r / (rY R).length ^ n) (0, 0, 0, 0, [], 0, 0)) ≤ c
      · unfold b32
        rw [ifp q, ifn (by decide)]
        obtain ⟨τ, e, f, g1, g2, -⟩ := moveAll_L (l := 0) (by omega) (hR.mb hq) (by omega) hx hox ⟨ht2, ht7⟩ hD hs
        rw [show (0 : Int32) = n32 0 from rfl, e, bd_y, lt_y]
        obtain ⟨a, υ, e2, f2, g3, g4⟩ := ih (r % (rY R).length ^ n) (mvA ((rY R).getD (r / (rY R).length ^ n) (0, 0, 0, 0, [], 0, 0)) D) τ fu (by omega) hmod (hR.fr f (by simp) (by intro j h1 h2; simp; omega)) g1 (mvA_zero hs) (by rw [f.1 68 (by simp)]; exact h68) (by omega)
        have es : n32 (M - (n + 1)) + (1 : Int32) = n32 (M - n) := by
          rw [show (1 : Int32) = n32 1 from rfl, n32_add]; congr 1; omega
        rw [es, e2]
        refine ⟨a, υ, rfl, Fr.tr f f2 (by simp) (by simp) (by simp), fun j hj => (g3 j hj).trans (g2 j ⟨by omega, by omega⟩), ?_⟩
        rcases g4 with ⟨g4, g5, g6⟩ | ⟨g4, g5⟩
        · refine Or.inl ⟨fun d hd => ?_, g5, g6⟩
          rcases List.mem_cons.mp hd with rfl | hd
          · exact q
          · exact g4 d hd
        · exact Or.inr ⟨fun z => g4 fun d hd => z d (List.mem_cons_of_mem _ hd), g5⟩
      · unfold b32
        rw [ifn q, ifp (by decide)]
        exact ⟨_, σ, rfl, Fr.mono Fr.rf (by simp) (by simp) (by simp), fun _ _ => rfl, Or.inr ⟨fun z => q (z _ List.mem_cons_self), rfl⟩⟩
    by_cases q : n32 ((rY R).length ^ n / (rY R).length) ≤ 0
    · rw [ifp q] at hdiv ⊢
      rw [hdiv]; exact go
    · rw [ifn q] at hdiv ⊢
      rw [hdiv]; exact go
/-- what stands while rows of moves are sought -/
def SkI (σ : MS) (b : Nat) (R : Rc) : Prop := MRc σ b R ∧ LD σ 17 (vD (strtR R)) ∧ mI σ 68 = n32 (vC (strtR R)) ∧ ∀ i, i < rN R → mA σ 56 i = askS (rA R) i
def SkR (R : Rc) : Prop := okV (rN R) (strtR R) ∧ ∀ i, sm 256 (vD (strtR R) i) ≤ 1
theorem SkI.fr {is as ls : List Nat} {σ τ : MS} {b : Nat} {R : Rc} (h : SkI σ b R) (f : Fr is as ls σ τ) (h1 : 35 ∉ is ∧ 68 ∉ is) (h2 : ∀ j, (12 ≤ j ∧ j ≤ 31) ∨ j = 56 → j ∉ as) (h3 : ∀ j, 34816 ≤ j → mL τ 43 j = mL σ 43 j) : SkI τ b R := by
  obtain ⟨a1, a2, a3, a4⟩ := h
  refine ⟨a1.fr f h1.1 (fun j x y => h2 j (Or.inl ⟨x, y⟩)), fun i q hi hq => ?_, by rw [f.1 68 h1.2]; exact a3, fun i hi => by rw [f.2.1 56 (h2 56 (Or.inr rfl))]; exact a4 i hi⟩
  rw [h3 _ (by omega)]; exact a2 i q hi hq
theorem isMoved_L {σ : MS} {b : Nat} {R : Rc} (hq : okQ R) (hI : SkI σ b R) (hK : SkR R) {M r : Nat} (hM : M ≤ 3) (hr : r < (rY R).length ^ M) :
    ∃ a τ, F_isMoved (n32 M) (n32 r) σ = some (a, τ) ∧ Fr [] [41, 42] [43] σ τ ∧ SkI τ b R ∧ ((fitAll R (vC (strtR R)) (digs (rY R).length M r) ∧ a = n32 1 ∧ LD τ 0 (movs R (digs (rY R).length M r) (vD (strtR R)))) ∨ (¬ fitAll R (vC (strtR R)) (digs (rY R).length M r) ∧ a = n32 0)) := by
  have hMN := MN_gt
  obtain ⟨hR, h17, h68, h56⟩ := id hI
  have hb := hR.2.1
  have zb := n32_nat (a := b) (by omega)
  have hm8 : (rY R).length ≤ 8 := hq.2.2.2.1
  have h14 : mA σ 14 b = n32 (rY R).length := hR.2.2.2.2.2.1.1
  unfold F_isMoved
  rw [show (17 : Int32) = n32 17 from rfl, show (0 : Int32) = n32 0 from rfl, bringBack_L σ 17 0 (by omega) (by omega) (by omega), bd_y]
  obtain ⟨υ, eυ⟩ : ∃ υ, υ = sL σ 43 (fun j => if 2048 * 0 ≤ j ∧ j < 2048 * 0 + 2048 then mL σ 43 (2048 * 17 + (j - 2048 * 0)) else mL σ 43 j) := ⟨_, rfl⟩
  rw [← eυ]
  have fυ : Fr [] [] [43] σ υ := by rw [eυ]; exact Fr.sL _ _ _
  have l0 : LD υ 0 (vD (strtR R)) := by
    intro i q hi hq'
    rw [eυ, sL_same]
    rw [ifp (by omega)]
    have := h17 i q hi hq'
    rw [← this]
    congr 1; omega
  have l17 : ∀ j, 34816 ≤ j → mL υ 43 j = mL σ 43 j := by
    intro j hj
    rw [eυ, sL_same]
    rw [ifn (by omega)]
  have hIυ : SkI υ b R := hI.fr fυ (by simp) (by intro j _; simp) l17
  obtain ⟨hR', -, h68', -⟩ := id hIυ
  have h14' : mA υ 14 b = n32 (rY R).length := hR'.2.2.2.2.2.1.1
  obtain ⟨fu, s, hs, e⟩ := upe (fun fu k (x : Int32) => F_isMoved_L12 fu (n32 M) (n32 r) x (n32 k) υ) 1 (max M 1) (fun k x => x = n32 ((rY R).length ^ (k - 1)))
    (by
      rintro fu k x hk1 hk rfl
      refine ⟨n32 ((rY R).length ^ k), ?_, by rw [Nat.add_sub_cancel]⟩
      try dsimp only
      rw [F_isMoved_L12, ifn (by rw [n32_le ⟨by omega, by omega⟩]; omega)]
      simp only [↓lt_y, hR'.1, zb, h14']
      rw [gd_y (n32_inb (by omega)), n32_mul, ← Nat.pow_succ, Nat.succ_eq_add_one, Nat.sub_add_cancel hk1, show (1 : Int32) = n32 1 from rfl, n32_add])
    (n32 1) MN (by omega) (by omega) (by rw [Nat.sub_self, Nat.pow_zero])
  have e1 : (1 : Int32) = n32 1 := rfl
  rw [e1]
  refine Eq.mp ?_ (?_ : ∃ a τ, F_isMoved_L12 (fu + 1) (n32 M) (n32 r) s (n32 (max M 1)) υ = some (a, τ) ∧ Fr [] [41, 42] [43] σ τ ∧ SkI τ b R ∧ ((fitAll R (vC (strtR R)) (digs (rY R).length M r) ∧ a = n32 1 ∧ LD τ 0 (movs R (digs (rY R).length M r) (vD (strtR R)))) ∨ (¬ fitAll R (vC (strtR R)) (digs (rY R).length M r) ∧ a = n32 0)))
  · rw [← e]
  · rw [F_isMoved_L12, ifp (by rw [n32_le ⟨by omega, by omega⟩]; omega), hs]
    unfold F_isMoved_b36
    have eM : max M 1 - 1 = M - 1 := by omega
    rw [eM]
    obtain ⟨a, τ, e2, f2, g2, g3⟩ := isMovedL_L (c := vC (strtR R)) hq hM hK.1.1 M r (vD (strtR R)) υ MN (Nat.le_refl _) hr hR' l0 (fun i q hi => by
        apply Classical.byContradiction
        intro z
        have := (hK.1.2.1 i q z).1
        omega) h68' (by omega)
    rw [Nat.sub_self] at e2
    rw [show (0 : Int32) = n32 0 from rfl, e2]
    exact ⟨a, τ, rfl, Fr.tr fυ f2 (by simp) (by simp) (by simp), hIυ.fr f2 (by simp) (by intro j _; simp; omega) g2, g3⟩
