set_option maxRecDepth 100000
/-! THE REFERENCE's LEVELS: moves of all, cards laid -/
/-- nothing but these scalars, arrays of ints, arrays of longs has changed -/
def Fr (is as ls : List Nat) (σ τ : MS) : Prop := (∀ k, k ∉ is → mI τ k = mI σ k) ∧ (∀ k, k ∉ as → mA τ k = mA σ k) ∧ ∀ k, k ∉ ls → mL τ k = mL σ k
theorem Fr.rf {σ : MS} : Fr [] [] [] σ σ := ⟨fun _ _ => rfl, fun _ _ => rfl, fun _ _ => rfl⟩
theorem Fr.tr {is as ls is' as' ls' js bs ms : List Nat} {σ τ υ : MS} (h : Fr is as ls σ τ) (h' : Fr is' as' ls' τ υ) (h1 : ∀ k, k ∈ is ++ is' → k ∈ js) (h2 : ∀ k, k ∈ as ++ as' → k ∈ bs) (h3 : ∀ k, k ∈ ls ++ ls' → k ∈ ms) : Fr js bs ms σ υ :=
  ⟨fun k hk => (h'.1 k fun q => hk (h1 k (List.mem_append.mpr (Or.inr q)))).trans (h.1 k fun q => hk (h1 k (List.mem_append.mpr (Or.inl q)))),
   fun k hk => (h'.2.1 k fun q => hk (h2 k (List.mem_append.mpr (Or.inr q)))).trans (h.2.1 k fun q => hk (h2 k (List.mem_append.mpr (Or.inl q)))),
   fun k hk => (h'.2.2 k fun q => hk (h3 k (List.mem_append.mpr (Or.inr q)))).trans (h.2.2 k fun q => hk (h3 k (List.mem_append.mpr (Or.inl q))))⟩
theorem Fr.sL (σ : MS) (k : Nat) (g : Nat → Int64) : Fr [] [] [k] σ (sL σ k g) := ⟨fun _ _ => rfl, fun _ _ => rfl, fun j hj => sL_ne σ k j g (by simpa using hj)⟩
theorem Fr.sA (σ : MS) (k : Nat) (g : Nat → Int32) : Fr [] [k] [] σ (sA σ k g) := ⟨fun _ _ => rfl, fun j hj => sA_ne σ k j g (by simpa using hj), fun _ _ => rfl⟩
theorem Fr.wI (σ : MS) (k : Nat) (v : Int32) : Fr [k] [] [] σ (wI σ k v) := ⟨fun j hj => wI_ne σ k j v (by simpa using hj), fun _ _ => rfl, fun _ _ => rfl⟩
theorem Fr.mono {is as ls js bs ms : List Nat} {σ τ : MS} (h : Fr is as ls σ τ) (h1 : ∀ k, k ∈ is → k ∈ js) (h2 : ∀ k, k ∈ as → k ∈ bs) (h3 : ∀ k, k ∈ ls → k ∈ ms) : Fr js bs ms σ τ :=
  ⟨fun k hk => h.1 k fun q => hk (h1 k q), fun k hk => h.2.1 k fun q => hk (h2 k q), fun k hk => h.2.2 k fun q => hk (h3 k q)⟩
theorem MStp.fr {is as ls : List Nat} {σ τ : MS} {k : Nat} {x : Stq} (h : MStp σ k x) (f : Fr is as ls σ τ) (h22 : ∀ j, 22 ≤ j → j ≤ 27 → j ∉ as) : MStp τ k x := by
  unfold MStp at h ⊢
  rw [f.2.1 22 (h22 22 (by omega) (by omega)), f.2.1 23 (h22 23 (by omega) (by omega)), f.2.1 24 (h22 24 (by omega) (by omega)), f.2.1 25 (h22 25 (by omega) (by omega)), f.2.1 26 (h22 26 (by omega) (by omega)), f.2.1 27 (h22 27 (by omega) (by omega))]
  exact h
theorem MB.fr {is as ls : List Nat} {σ τ : MS} {b N : Nat} (h : MB σ b N) (f : Fr is as ls σ τ) (h1 : 35 ∉ is) (h2 : 12 ∉ as) : MB τ b N := by
  unfold MB at h ⊢
  rw [f.1 35 h1, f.2.1 12 h2]
  exact h
theorem movedPlace_L {σ : MS} {x : Stq} (ho : okS x) {w : Nat} (hw : w < wys x) (hf : ∀ p, p < 8 → mA σ 41 p = n32 (sfr x w p)) (p : Nat) (hp : p < 8) (hn : need x ≤ 8) : F_movedPlace σ (n32 p) = some (n32 (sto x w p)) := by
  have hMN := MN_gt
  have h1 := sfr_ok ho hw p
  have ht := (h1.2.2 8 hn hp).2
  unfold F_movedPlace
  simp (disch := omega) only [↓reduceIte, ↓lt_y, leT, leF, ltT, ltF, eqT, eqF, n32_lit, n32_add, n32_mul, n32_sub, n32_le, n32_lt, n32_eq, n32_nat, gdn, gd_T, inbT, bd_y, bd2_y, ifp, ifn, not_true_eq_false, not_false_eq_true, and_self, true_and, and_true, false_and, and_false, or_self, true_or, or_true, false_or, or_false, wA_s, wL_s, sA_same, sL_same, sA_L, sL_A, sA_I, sL_I, wI_A, wI_L, wI_same, sA_sA, sL_sL, sA_ne, sL_ne, wI_ne]
  refine upf (fun fu k (_ : Unit) => F_movedPlace_L2 σ fu (n32 p) (n32 k)) 0 (sto x w p) (fun j _ => True) (fun o => o = some (n32 (sto x w p))) ?_ ?_ () MN (by omega) (by omega) trivial
  · rintro fu j - - hj -
    have h2 := sfr_ok ho hw j
    have h3 := (h2.2.2 8 hn (by omega)).1
    simp only [F_movedPlace_L2]
    simp (disch := omega) only [↓reduceIte, ↓lt_y, leT, leF, ltT, ltF, eqT, eqF, n32_lit, n32_add, n32_mul, n32_sub, n32_le, n32_lt, n32_eq, n32_nat, gdn, gd_T, inbT, bd_y, bd2_y, ifp, ifn, not_true_eq_false, not_false_eq_true, and_self, true_and, and_true, false_and, and_false, or_self, true_or, or_true, false_or, or_false, wA_s, wL_s, sA_same, sL_same, sA_L, sL_A, sA_I, sL_I, wI_A, wI_L, wI_same, sA_sA, sL_sL, sA_ne, sL_ne, wI_ne, hf j (by omega)]
    have : ¬ sfr x w j = p := fun q => by
      have h4 := h2.2.1
      rw [q] at h4
      omega
    rw [ifn this]
    exact Or.inl ⟨(), rfl⟩
  · rintro fu - -
    simp only [F_movedPlace_L2]
    simp (disch := omega) only [↓reduceIte, ↓lt_y, leT, leF, ltT, ltF, eqT, eqF, n32_lit, n32_add, n32_mul, n32_sub, n32_le, n32_lt, n32_eq, n32_nat, gdn, gd_T, inbT, bd_y, bd2_y, ifp, ifn, not_true_eq_false, not_false_eq_true, and_self, true_and, and_true, false_and, and_false, or_self, true_or, or_true, false_or, or_false, wA_s, wL_s, sA_same, sL_same, sA_L, sL_A, sA_I, sL_I, wI_A, wI_L, wI_same, sA_sA, sL_sL, sA_ne, sL_ne, wI_ne, hf _ ht, h1.1]
theorem need_le {x : Stq} (ho : okS x) : need x ≤ 8 := by
  have hT := ho.o12
  unfold need
  split
  · rename_i t; have := ho.o3 t; omega
  split
  · rename_i t
    have : mx (sl x) < 8 := by
      rw [mx_le]
      refine ⟨by omega, ?_⟩
      rcases t with t | t
      · have := ho.o4 t; exact fun y hy => Nat.lt_of_lt_of_le (this.2.2.2 y hy) this.2.1
      · exact (ho.o9 t).2.2.2
    omega
  split
  · rename_i t; have := ho.o5 t.1 t.2; omega
  · omega
/-- a level, and the place to work at -/
def outL (l j : Nat) : Prop := (j < 2048 * l ∨ 2048 * l + 2048 ≤ j) ∧ (j < 32768 ∨ 34816 ≤ j)
theorem moveAll_L {σ : MS} {l b N k : Nat} {x : Stq} {D : Dst} (hl : l < 16) (hB : MB σ b N) (hk : k < 104) (h : MStp σ k x) (ho : okS x) (ht : 2 ≤ sT x ∧ sT x ≤ 7) (hD : LD σ l D) (hs : ∀ i r, N ≤ i → D i r = 0) :
    ∃ τ, F_moveAll (n32 l) (n32 k) σ = some τ ∧ Fr [] [41, 42] [43] σ τ ∧ LD τ l (mvA x D) ∧ (∀ j, outL l j → mL τ 43 j = mL σ 43 j) ∧ ∀ p, p < 8 → mA τ 41 p = n32 (sfr x (wys x - 1) p) := by
  have hMN := MN_gt
  have hwy := wys_b ho
  unfold F_moveAll
  simp (disch := omega) only [↓reduceIte, ↓lt_y, leT, leF, ltT, ltF, eqT, eqF, n32_lit, n32_add, n32_mul, n32_sub, n32_le, n32_lt, n32_eq, n32_nat, gdn, gd_T, inbT, bd_y, bd2_y, ifp, ifn, not_true_eq_false, not_false_eq_true, and_self, true_and, and_true, false_and, and_false, or_self, true_or, or_true, false_or, or_false, wA_s, wL_s, sA_same, sL_same, sA_L, sL_A, sA_I, sL_I, wI_A, wI_L, wI_same, sA_sA, sL_sL, sA_ne, sL_ne, wI_ne]
  rw [show (16 : Nat) = 16 from rfl, clearDist_L σ 16 (by omega)]
  simp (disch := omega) only [↓reduceIte, ↓lt_y, leT, leF, ltT, ltF, eqT, eqF, n32_lit, n32_add, n32_mul, n32_sub, n32_le, n32_lt, n32_eq, n32_nat, gdn, gd_T, inbT, bd_y, bd2_y, ifp, ifn, not_true_eq_false, not_false_eq_true, and_self, true_and, and_true, false_and, and_false, or_self, true_or, or_true, false_or, or_false, wA_s, wL_s, sA_same, sL_same, sA_L, sL_A, sA_I, sL_I, wI_A, wI_L, wI_same, sA_sA, sL_sL, sA_ne, sL_ne, wI_ne]
  obtain ⟨fu, s, ⟨f1, f2, f3, f4, f5⟩, e⟩ := upe (fun fu k' s => F_moveAll_L8 fu (n32 l) (n32 k) (n32 k') s) 0 (wys x)
    (fun w s => Fr [] [41, 42] [43] σ s ∧ LD s l D ∧ (∀ i q, i < 8 → q < 256 → mL s 43 (32768 + 256 * i + q) = e64 (sm w fun w' => mvD (sfr x w') D i q)) ∧ (∀ j, (j < 32768 ∨ 34816 ≤ j) → mL s 43 j = mL σ 43 j) ∧ (0 < w → ∀ p, p < 8 → mA s 41 p = n32 (sfr x (w - 1) p)))
    (by
      rintro fu w s - hw ⟨f1, f2, f3, f4, -⟩
      have hs' := h.fr f1 (by intro j h1 h2; simp; omega)
      have hB' := hB.fr f1 (by simp) (by simp)
      have e1 := ways_L hk hs' ho
      obtain ⟨g, hh, e2, hg⟩ := layMove_L hk hs' ho ht w hw
      have fr2 : Fr [] [41, 42] [] s (sA (sA s 42 hh) 41 g) := (Fr.sA s 42 hh).tr (Fr.sA _ 41 g) (by simp) (by simp) (by simp)
      have hn := need_le ho
      obtain ⟨g2, e3, hg2, hg3⟩ := sendAll_L (sA (sA s 42 hh) 41 g) l 16 b N (by omega) (by omega) (by omega) (hB'.fr fr2 (by simp) (by simp)) (sfr x w) (fun p hp => ⟨by rw [sA_same]; exact hg p hp, ((sfr_ok ho hw p).2.2 8 hn hp).1⟩) D (by
        intro i q hi hq
        exact f2 i q hi hq)
      simp only [F_moveAll_L8]
      simp (disch := omega) only [↓reduceIte, ↓lt_y, leT, leF, ltT, ltF, eqT, eqF, n32_lit, n32_add, n32_mul, n32_sub, n32_le, n32_lt, n32_eq, n32_nat, gdn, gd_T, inbT, bd_y, bd2_y, ifp, ifn, not_true_eq_false, not_false_eq_true, and_self, true_and, and_true, false_and, and_false, or_self, true_or, or_true, false_or, or_false, wA_s, wL_s, sA_same, sL_same, sA_L, sL_A, sA_I, sL_I, wI_A, wI_L, wI_same, sA_sA, sL_sL, sA_ne, sL_ne, wI_ne, e1, e2, e3]
      refine ⟨_, rfl, ?_, ?_, ?_, ?_, ?_⟩
      · exact (f1.tr fr2 (ls' := []) (js := []) (bs := [41, 42]) (ms := [43]) (by simp) (by simp) (by simp)).tr (Fr.sL _ 43 g2) (by simp) (by simp) (by simp)
      · intro i q hi hq
        rw [sL_same, hg3 _ (by omega)]
        exact f2 i q hi hq
      · intro i q hi hq
        rw [sL_same]
        have e4 := hg2 i q hi hq
        rw [show 2048 * 16 = 32768 from rfl] at e4
        rw [e4, sm, e64_add]
        congr 1
        · exact f3 i q hi hq
        · congr 1
          by_cases z : i < N
          · rw [ifp z]
          · rw [ifn z]
            exact (sm_zero fun r hr => by rw [hs i r (by omega)]; split <;> rfl).symm
      · intro j hj
        rw [sL_same, hg3 j (by omega)]
        exact f4 j hj
      · intro _ p hp
        rw [sL_A, sA_same, hg p hp, Nat.add_sub_cancel])
    (sL σ 43 fun j => if 2048 * 16 ≤ j ∧ j < 2048 * 16 + 2048 then 0 else mL σ 43 j) MN (by omega) (by omega)
    ⟨(Fr.sL σ 43 _).mono (by simp) (by simp) (by simp), fun i q hi hq => by rw [sL_same, ifn (by omega)]; exact hD i q hi hq, fun i q hi hq => by rw [sL_same, ifp (by omega)]; rfl, fun j hj => by rw [sL_same, ifn (by omega)], fun z => by omega⟩
  rw [e]
  have hs' := h.fr f1 (by intro j h1 h2; simp; omega)
  have e1 := ways_L hk hs' ho
  simp only [F_moveAll_L8, F_moveAll_b36]
  simp (disch := omega) only [↓reduceIte, ↓lt_y, leT, leF, ltT, ltF, eqT, eqF, n32_lit, n32_add, n32_mul, n32_sub, n32_le, n32_lt, n32_eq, n32_nat, gdn, gd_T, inbT, bd_y, bd2_y, ifp, ifn, not_true_eq_false, not_false_eq_true, and_self, true_and, and_true, false_and, and_false, or_self, true_or, or_true, false_or, or_false, wA_s, wL_s, sA_same, sL_same, sA_L, sL_A, sA_I, sL_I, wI_A, wI_L, wI_same, sA_sA, sL_sL, sA_ne, sL_ne, wI_ne, e1]
  rw [bringBack_L s 16 l (by omega) (by omega) (by omega)]
  simp (disch := omega) only [↓reduceIte, ↓lt_y, leT, leF, ltT, ltF, eqT, eqF, n32_lit, n32_add, n32_mul, n32_sub, n32_le, n32_lt, n32_eq, n32_nat, gdn, gd_T, inbT, bd_y, bd2_y, ifp, ifn, not_true_eq_false, not_false_eq_true, and_self, true_and, and_true, false_and, and_false, or_self, true_or, or_true, false_or, or_false, wA_s, wL_s, sA_same, sL_same, sA_L, sL_A, sA_I, sL_I, wI_A, wI_L, wI_same, sA_sA, sL_sL, sA_ne, sL_ne, wI_ne]
  refine ⟨_, rfl, f1.tr (Fr.sL _ 43 _) (by simp) (by simp) (by simp), ?_, ?_, ?_⟩
  · intro i q hi hq
    rw [sL_same, ifp (by omega)]
    have := f3 i q hi hq
    rw [show 2048 * 16 + (2048 * l + 256 * i + q - 2048 * l) = 32768 + 256 * i + q by omega, this]
    rfl
  · intro j hj
    rw [sL_same, ifn (by have := hj.1; omega)]
    exact f4 j hj.2
  · intro p hp
    rw [sL_A]
    exact f5 (by omega) p hp
/-- a card comes behind the row -/
def adc (c red : Nat) (f : Nat → Nat) : Nat → Nat := fun q => sm 256 fun r => if r ||| (red <<< c) = q then f r else 0
theorem or_lt {r red c : Nat} (hr : r < 256) (hred : red < 2) (hc : c ≤ 7) : r ||| (red <<< c) < 256 := by
  apply Nat.or_lt_two_pow (n := 8) hr
  rw [Nat.shiftLeft_eq]
  have : 2 ^ c ≤ 2 ^ 7 := Nat.pow_le_pow_right (by omega) hc
  calc red * 2 ^ c ≤ 1 * 2 ^ 7 := Nat.mul_le_mul (by omega) this
    _ < 2 ^ 8 := by decide
theorem clearPart_L {σ : MS} {l i : Nat} (hl : l < 16) (hi : i < 8) : ∃ g, F_clearPart (n32 l) (n32 i) σ = some (sL σ 43 g) ∧ (∀ r, r < 256 → g (32768 + 256 * i + r) = mL σ 43 (2048 * l + 256 * i + r)) ∧ (∀ r, r < 256 → g (2048 * l + 256 * i + r) = 0) ∧ ∀ j, (j < 32768 + 256 * i ∨ 32768 + 256 * i + 256 ≤ j) → (j < 2048 * l + 256 * i ∨ 2048 * l + 256 * i + 256 ≤ j) → g j = mL σ 43 j := by
  have hMN := MN_gt
  unfold F_clearPart
  simp (disch := omega) only [↓reduceIte, ↓lt_y, leT, leF, ltT, ltF, eqT, eqF, n32_lit, n32_add, n32_mul, n32_sub, n32_le, n32_lt, n32_eq, n32_nat, gdn, gd_T, inbT, bd_y, bd2_y, ifp, ifn, not_true_eq_false, not_false_eq_true, and_self, true_and, and_true, false_and, and_false, or_self, true_or, or_true, false_or, or_false, wA_s, wL_s, sA_same, sL_same, sA_L, sL_A, sA_I, sL_I, wI_A, wI_L, wI_same, sA_sA, sL_sL, sA_ne, sL_ne, wI_ne]
  obtain ⟨fu, s, ⟨g, rfl, h1, h2, h3⟩, e⟩ := upe (fun fu k s => F_clearPart_L2 fu (n32 l) (n32 i) (n32 k) s) 0 256
    (fun k s => ∃ g, s = sL σ 43 g ∧ (∀ r, r < k → g (32768 + 256 * i + r) = mL σ 43 (2048 * l + 256 * i + r)) ∧ (∀ r, r < k → g (2048 * l + 256 * i + r) = 0) ∧ ∀ j, (j < 32768 + 256 * i ∨ 32768 + 256 * i + k ≤ j) → (j < 2048 * l + 256 * i ∨ 2048 * l + 256 * i + k ≤ j) → g j = mL σ 43 j)
    (by
      rintro fu k s - hk ⟨g, rfl, h1, h2, h3⟩
      simp only [F_clearPart_L2]
      simp (disch := omega) only [↓reduceIte, ↓lt_y, leT, leF, ltT, ltF, eqT, eqF, n32_lit, n32_add, n32_mul, n32_sub, n32_le, n32_lt, n32_eq, n32_nat, gdn, gd_T, inbT, bd_y, bd2_y, ifp, ifn, not_true_eq_false, not_false_eq_true, and_self, true_and, and_true, false_and, and_false, or_self, true_or, or_true, false_or, or_false, wA_s, wL_s, sA_same, sL_same, sA_L, sL_A, sA_I, sL_I, wI_A, wI_L, wI_same, sA_sA, sL_sL, sA_ne, sL_ne, wI_ne]
      refine ⟨_, rfl, _, rfl, fun r hr => ?_, fun r hr => ?_, fun j hj hj2 => ?_⟩
      · simp only [up0]
        rw [ifn (by omega)]
        by_cases q : r = k
        · subst q; rw [ifp rfl]; exact h3 _ (by omega) (by omega)
        · rw [ifn (by omega)]; exact h1 r (by omega)
      · simp only [up0]
        by_cases q : r = k
        · subst q; rw [ifp rfl]
        · rw [ifn (by omega), ifn (by omega)]; exact h2 r (by omega)
      · simp only [up0]
        rw [ifn (by omega), ifn (by omega)]
        exact h3 j (by omega) (by omega))
    σ MN (by omega) (by omega) ⟨mL σ 43, (sL_to fun j => rfl).symm, fun r hr => by omega, fun r hr => by omega, fun j _ _ => rfl⟩
  refine ⟨g, e.trans ?_, h1, h2, h3⟩
  simp only [F_clearPart_L2]
  simp (disch := omega) only [↓reduceIte, ↓lt_y, leT, leF, ltT, ltF, eqT, eqF, n32_lit, n32_add, n32_mul, n32_sub, n32_le, n32_lt, n32_eq, n32_nat, gdn, gd_T, inbT, bd_y, bd2_y, ifp, ifn, not_true_eq_false, not_false_eq_true, and_self, true_and, and_true, false_and, and_false, or_self, true_or, or_true, false_or, or_false, wA_s, wL_s, sA_same, sL_same, sA_L, sL_A, sA_I, sL_I, wI_A, wI_L, wI_same, sA_sA, sL_sL, sA_ne, sL_ne, wI_ne]
theorem addCard_L {σ : MS} {l i c red : Nat} {D : Dst} (hl : l < 16) (hi : i < 8) (hc : c ≤ 7) (hred : red < 2) (hcc : mA σ 46 l = n32 c) (hD : LD σ l D) :
    ∃ g, F_addCard (n32 l) (n32 i) (n32 red) σ = some (sL σ 43 g) ∧ (∀ i' q, i' < 8 → q < 256 → g (2048 * l + 256 * i' + q) = e64 (if i' = i then adc c red (D i) q else D i' q)) ∧ ∀ j, outL l j → g j = mL σ 43 j := by
  have hMN := MN_gt
  obtain ⟨g0, e0, a1, a2, a3⟩ := clearPart_L (σ := σ) hl hi
  unfold F_addCard
  simp (disch := omega) only [↓reduceIte, ↓lt_y, leT, leF, ltT, ltF, eqT, eqF, n32_lit, n32_add, n32_mul, n32_sub, n32_le, n32_lt, n32_eq, n32_nat, gdn, gd_T, inbT, bd_y, bd2_y, ifp, ifn, not_true_eq_false, not_false_eq_true, and_self, true_and, and_true, false_and, and_false, or_self, true_or, or_true, false_or, or_false, wA_s, wL_s, sA_same, sL_same, sA_L, sL_A, sA_I, sL_I, wI_A, wI_L, wI_same, sA_sA, sL_sL, sA_ne, sL_ne, wI_ne, e0]
  obtain ⟨fu, s, ⟨g, rfl, h1, h2, h3⟩, e⟩ := upe (fun fu k s => F_addCard_L9 fu (n32 l) (n32 i) (n32 red) (n32 k) s) 0 256
    (fun k s => ∃ g, s = sL σ 43 g ∧ (∀ q, q < 256 → g (2048 * l + 256 * i + q) = e64 (sm k fun r => if r ||| (red <<< c) = q then D i r else 0)) ∧ (∀ q, q < 256 → g (32768 + 256 * i + q) = e64 (D i q)) ∧ ∀ j, (j < 2048 * l + 256 * i ∨ 2048 * l + 256 * i + 256 ≤ j) → g j = g0 j)
    (by
      rintro fu k s - hk ⟨g, rfl, h1, h2, h3⟩
      have hsrc := h2 k hk
      have hor := or_lt hk hred hc
      simp only [F_addCard_L9, F_addCard_b76]
      simp (disch := omega) only [↓reduceIte, ↓lt_y, leT, leF, ltT, ltF, eqT, eqF, n32_lit, n32_add, n32_mul, n32_sub, n32_le, n32_lt, n32_eq, n32_nat, gdn, gd_T, inbT, bd_y, bd2_y, ifp, ifn, not_true_eq_false, not_false_eq_true, and_self, true_and, and_true, false_and, and_false, or_self, true_or, or_true, false_or, or_false, wA_s, wL_s, sA_same, sL_same, sA_L, sL_A, sA_I, sL_I, wI_A, wI_L, wI_same, sA_sA, sL_sL, sA_ne, sL_ne, wI_ne, hsrc]
      by_cases hz : e64 (D i k) = 0
      · rw [ifp ((cmp0 _).mpr hz)]
        refine ⟨_, rfl, g, rfl, fun q hq => ?_, h2, h3⟩
        rw [h1 q hq, sm, e64_add]
        split
        · rw [hz, Int64.add_zero]
        · rw [e64_0, Int64.add_zero]
      · rw [ifn (fun q => hz ((cmp0 _).mp q))]
        simp (disch := omega) only [↓reduceIte, ↓lt_y, leT, leF, ltT, ltF, eqT, eqF, n32_lit, n32_add, n32_mul, n32_sub, n32_le, n32_lt, n32_eq, n32_nat, gdn, gd_T, inbT, bd_y, bd2_y, ifp, ifn, not_true_eq_false, not_false_eq_true, and_self, true_and, and_true, false_and, and_false, or_self, true_or, or_true, false_or, or_false, wA_s, wL_s, sA_same, sL_same, sA_L, sL_A, sA_I, sL_I, wI_A, wI_L, wI_same, sA_sA, sL_sL, sA_ne, sL_ne, wI_ne, hcc, n32_shl, n32_or]
        refine ⟨_, rfl, _, rfl, fun q hq => ?_, fun q hq => ?_, fun j hj => ?_⟩
        · simp only [up0, sm, e64_add]
          by_cases z : k ||| red <<< c = q
          · subst z
            rw [ifp rfl, h1 _ hor, ifp rfl]
          · rw [ifn (by omega), h1 q hq, ifn z, e64_0, Int64.add_zero]
        · simp only [up0]
          rw [ifn (by omega)]
          exact h2 q hq
        · simp only [up0]
          rw [ifn (by omega)]
          exact h3 j hj)
    (sL σ 43 g0) MN (by omega) (by omega) ⟨g0, rfl, fun q hq => by rw [a2 q hq]; rfl, fun q hq => by rw [a1 q hq]; exact hD i q hi hq, fun j _ => rfl⟩
  refine ⟨g, e.trans ?_, fun i' q hi' hq => ?_, fun j hj => ?_⟩
  · simp only [F_addCard_L9]
    simp (disch := omega) only [↓reduceIte, ↓lt_y, leT, leF, ltT, ltF, eqT, eqF, n32_lit, n32_add, n32_mul, n32_sub, n32_le, n32_lt, n32_eq, n32_nat, gdn, gd_T, inbT, bd_y, bd2_y, ifp, ifn, not_true_eq_false, not_false_eq_true, and_self, true_and, and_true, false_and, and_false, or_self, true_or, or_true, false_or, or_false, wA_s, wL_s, sA_same, sL_same, sA_L, sL_A, sA_I, sL_I, wI_A, wI_L, wI_same, sA_sA, sL_sL, sA_ne, sL_ne, wI_ne]
  · by_cases z : i' = i
    · subst z
      rw [ifp rfl, h1 q hq]
      rfl
    · rw [ifn z, h3 _ (by omega), a3 _ (by omega) (by omega)]
      exact hD i' q hi' hq
  · have h4 := hj.1
    have h5 := hj.2
    rw [h3 _ (by omega), a3 _ (by omega) (by omega)]
/-- what is known besides looks: mode (0 nothing, 1 a bent card, 2 a counted move, 3 one who lays wrongly), which, a colour -/
abbrev Md : Type := Nat × Nat × Nat
def MMd (σ : MS) (md : Md) : Prop := mI σ 51 = n32 md.1 ∧ md.1 < 4 ∧ mI σ 52 = n32 md.2.1 ∧ md.2.1 < 100 ∧ (md.1 = 3 → mI σ 53 = n32 md.2.2 ∧ md.2.2 < 2)
/-- the colour of a card that is laid; of an input the bit -/
def redOf (md : Md) (x : Stq) (first i : Nat) : Nat := if sT x = 1 then s1 x else if md.1 = 3 ∧ s1 x = md.2.1 then md.2.2 else if first = 1 then (i >>> s1 x) &&& 1 else 1 - ((i >>> s1 x) &&& 1)
theorem redOf_lt {md : Md} {x : Stq} {first i : Nat} (ho : okS x) (hm : md.1 = 3 → md.2.2 < 2) : redOf md x first i < 2 := by
  have := and1_lt i (s1 x)
  unfold redOf
  split
  · rename_i t; exact ho.o2 t
  split
  · rename_i t; exact hm t.1
  split
  · exact this
  · omega
theorem MMd.fr {is as ls : List Nat} {σ τ : MS} {md : Md} (h : MMd σ md) (f : Fr is as ls σ τ) (h1 : 51 ∉ is) (h2 : 52 ∉ is) (h3 : 53 ∉ is) : MMd τ md := by
  unfold MMd at h ⊢
  rw [f.1 51 h1, f.1 52 h2, f.1 53 h3]
  exact h
def kn32 (k : Option Nat) : Int32 := match k with
  | none => -1
  | some p => n32 p
theorem lays_L {σ : MS} {l b N k c first : Nat} {x : Stq} {D : Dst} {md : Md} {kn : Option Nat} (hl : l < 16) (hB : MB σ b N) (hk : k < 104) (h : MStp σ k x) (ho : okS x) (ht : sT x = 0 ∨ sT x = 1) (hM : MMd σ md) (hf : first < 2) (hc : c ≤ 7) (hcc : mA σ 46 l = n32 c) (hkn : mA σ 47 l = kn32 kn) (hD : LD σ l D) :
    ∃ τ, F_lays (n32 l) (n32 k) (n32 first) σ = some τ ∧ Fr [] [46, 47] [43] σ τ ∧ LD τ l (fun i q => if i < N then adc c (redOf md x first i) (D i) q else D i q) ∧ (∀ j, outL l j → mL τ 43 j = mL σ 43 j) ∧
      mA τ 46 = up0 (mA σ 46) l (n32 (c + 1)) ∧ (∃ g, mA τ 47 = g ∧ g l = kn32 (if md.1 = 1 ∧ c = md.2.1 then some c else kn) ∧ ∀ j, j ≠ l → g j = mA σ 47 j) := by
  have hMN := MN_gt
  have hN := hB.le
  obtain ⟨m1, m2, m3, m4, m5⟩ := hM
  unfold F_lays
  simp (disch := omega) only [↓reduceIte, ↓lt_y, leT, leF, ltT, ltF, eqT, eqF, n32_lit, n32_add, n32_mul, n32_sub, n32_le, n32_lt, n32_eq, n32_nat, gdn, gd_T, inbT, bd_y, bd2_y, ifp, ifn, not_true_eq_false, not_false_eq_true, and_self, true_and, and_true, false_and, and_false, or_self, true_or, or_true, false_or, or_false, wA_s, wL_s, sA_same, sL_same, sA_L, sL_A, sA_I, sL_I, wI_A, wI_L, wI_same, sA_sA, sL_sL, sA_ne, sL_ne, wI_ne]
  obtain ⟨fu, s, ⟨g, rfl, h1, h3⟩, e⟩ := upe (fun fu i s => F_lays_L3 fu (n32 l) (n32 k) (n32 first) (n32 i) s) 0 N
    (fun i0 s => ∃ g, s = sL σ 43 g ∧ (∀ i q, i < 8 → q < 256 → g (2048 * l + 256 * i + q) = e64 (if i < i0 then adc c (redOf md x first i) (D i) q else D i q)) ∧ ∀ j, outL l j → g j = mL σ 43 j)
    (by
      rintro fu i0 s - hi0 ⟨g, rfl, h1, h3⟩
      have hred := redOf_lt (first := first) (i := i0) ho (fun q => (m5 q).2)
      have hs0 : MStp (sL σ 43 g) k x := h.fr (Fr.sL σ 43 g) (by simp)
      obtain ⟨g2, e2, b1, b2⟩ := addCard_L (σ := sL σ 43 g) (c := c) (red := redOf md x first i0) (D := fun i q => if i < i0 then adc c (redOf md x first i) (D i) q else D i q) hl (by omega : i0 < 8) hc hred hcc (by intro i q hi hq; rw [sL_same]; exact h1 i q hi hq)
      have t22 := h.h1
      have t23 := h.h2 (by omega)
      have hb1 : s1 x < 3 := by
        rcases ht with t | t
        · exact ho.o1 t
        · have := ho.o2 t; omega
      have key : F_lays_L3 (fu + 1) (n32 l) (n32 k) (n32 first) (n32 i0) (sL σ 43 g) = bd (F_addCard (n32 l) (n32 i0) (n32 (redOf md x first i0)) (sL σ 43 g)) fun s' => F_lays_L3 fu (n32 l) (n32 k) (n32 first) (n32 (i0 + 1)) s' := by
        have hbit := and1_lt i0 (s1 x)
        simp only [F_lays_L3, F_lays_b59, F_lays_b60, F_lays_b106]
        rw [inputs_L (σ := sL σ 43 g) (N := N) hB]
        simp (disch := omega) only [↓reduceIte, ↓lt_y, leT, leF, ltT, ltF, eqT, eqF, n32_lit, n32_add, n32_mul, n32_sub, n32_le, n32_lt, n32_eq, n32_nat, gdn, gd_T, inbT, bd_y, bd2_y, ifp, ifn, not_true_eq_false, not_false_eq_true, and_self, true_and, and_true, false_and, and_false, or_self, true_or, or_true, false_or, or_false, wA_s, wL_s, sA_same, sL_same, sA_L, sL_A, sA_I, sL_I, wI_A, wI_L, wI_same, sA_sA, sL_sL, sA_ne, sL_ne, wI_ne, t22, t23, m1, m3, n32_bit]
        unfold redOf
        rcases ht with t | t
        · by_cases q3 : md.1 = 3
          · by_cases q4 : s1 x = md.2.1
            · have := (m5 q3).1
              simp (disch := omega) only [↓reduceIte, ↓lt_y, leT, leF, ltT, ltF, eqT, eqF, n32_lit, n32_add, n32_mul, n32_sub, n32_le, n32_lt, n32_eq, n32_nat, gdn, gd_T, inbT, bd_y, bd2_y, ifp, ifn, not_true_eq_false, not_false_eq_true, and_self, true_and, and_true, false_and, and_false, or_self, true_or, or_true, false_or, or_false, wA_s, wL_s, sA_same, sL_same, sA_L, sL_A, sA_I, sL_I, wI_A, wI_L, wI_same, sA_sA, sL_sL, sA_ne, sL_ne, wI_ne, t, q3, q4, this]
            · by_cases q5 : first = 1
              · simp (disch := omega) only [↓reduceIte, ↓lt_y, leT, leF, ltT, ltF, eqT, eqF, n32_lit, n32_add, n32_mul, n32_sub, n32_le, n32_lt, n32_eq, n32_nat, gdn, gd_T, inbT, bd_y, bd2_y, ifp, ifn, not_true_eq_false, not_false_eq_true, and_self, true_and, and_true, false_and, and_false, or_self, true_or, or_true, false_or, or_false, wA_s, wL_s, sA_same, sL_same, sA_L, sL_A, sA_I, sL_I, wI_A, wI_L, wI_same, sA_sA, sL_sL, sA_ne, sL_ne, wI_ne, t, q3, q4, q5]
              · have : first = 0 := by omega
                simp (disch := omega) only [↓reduceIte, ↓lt_y, leT, leF, ltT, ltF, eqT, eqF, n32_lit, n32_add, n32_mul, n32_sub, n32_le, n32_lt, n32_eq, n32_nat, gdn, gd_T, inbT, bd_y, bd2_y, ifp, ifn, not_true_eq_false, not_false_eq_true, and_self, true_and, and_true, false_and, and_false, or_self, true_or, or_true, false_or, or_false, wA_s, wL_s, sA_same, sL_same, sA_L, sL_A, sA_I, sL_I, wI_A, wI_L, wI_same, sA_sA, sL_sL, sA_ne, sL_ne, wI_ne, t, q3, q4, this]
          · by_cases q5 : first = 1
            · simp (disch := omega) only [↓reduceIte, ↓lt_y, leT, leF, ltT, ltF, eqT, eqF, n32_lit, n32_add, n32_mul, n32_sub, n32_le, n32_lt, n32_eq, n32_nat, gdn, gd_T, inbT, bd_y, bd2_y, ifp, ifn, not_true_eq_false, not_false_eq_true, and_self, true_and, and_true, false_and, and_false, or_self, true_or, or_true, false_or, or_false, wA_s, wL_s, sA_same, sL_same, sA_L, sL_A, sA_I, sL_I, wI_A, wI_L, wI_same, sA_sA, sL_sL, sA_ne, sL_ne, wI_ne, t, q3, q5]
            · have : first = 0 := by omega
              simp (disch := omega) only [↓reduceIte, ↓lt_y, leT, leF, ltT, ltF, eqT, eqF, n32_lit, n32_add, n32_mul, n32_sub, n32_le, n32_lt, n32_eq, n32_nat, gdn, gd_T, inbT, bd_y, bd2_y, ifp, ifn, not_true_eq_false, not_false_eq_true, and_self, true_and, and_true, false_and, and_false, or_self, true_or, or_true, false_or, or_false, wA_s, wL_s, sA_same, sL_same, sA_L, sL_A, sA_I, sL_I, wI_A, wI_L, wI_same, sA_sA, sL_sL, sA_ne, sL_ne, wI_ne, t, q3, this]
        · by_cases q3 : md.1 = 3
          · simp (disch := omega) only [↓reduceIte, ↓lt_y, leT, leF, ltT, ltF, eqT, eqF, n32_lit, n32_add, n32_mul, n32_sub, n32_le, n32_lt, n32_eq, n32_nat, gdn, gd_T, inbT, bd_y, bd2_y, ifp, ifn, not_true_eq_false, not_false_eq_true, and_self, true_and, and_true, false_and, and_false, or_self, true_or, or_true, false_or, or_false, wA_s, wL_s, sA_same, sL_same, sA_L, sL_A, sA_I, sL_I, wI_A, wI_L, wI_same, sA_sA, sL_sL, sA_ne, sL_ne, wI_ne, t, q3]
          · simp (disch := omega) only [↓reduceIte, ↓lt_y, leT, leF, ltT, ltF, eqT, eqF, n32_lit, n32_add, n32_mul, n32_sub, n32_le, n32_lt, n32_eq, n32_nat, gdn, gd_T, inbT, bd_y, bd2_y, ifp, ifn, not_true_eq_false, not_false_eq_true, and_self, true_and, and_true, false_and, and_false, or_self, true_or, or_true, false_or, or_false, wA_s, wL_s, sA_same, sL_same, sA_L, sL_A, sA_I, sL_I, wI_A, wI_L, wI_same, sA_sA, sL_sL, sA_ne, sL_ne, wI_ne, t, q3]
      rw [key, e2]
      simp (disch := omega) only [↓reduceIte, ↓lt_y, leT, leF, ltT, ltF, eqT, eqF, n32_lit, n32_add, n32_mul, n32_sub, n32_le, n32_lt, n32_eq, n32_nat, gdn, gd_T, inbT, bd_y, bd2_y, ifp, ifn, not_true_eq_false, not_false_eq_true, and_self, true_and, and_true, false_and, and_false, or_self, true_or, or_true, false_or, or_false, wA_s, wL_s, sA_same, sL_same, sA_L, sL_A, sA_I, sL_I, wI_A, wI_L, wI_same, sA_sA, sL_sL, sA_ne, sL_ne, wI_ne]
      refine ⟨_, rfl, g2, rfl, fun i q hi hq => ?_, fun j hj => ?_⟩
      · rw [b1 i q hi hq]
        congr 1
        by_cases z : i = i0
        · subst z
          simp only [Nat.lt_irrefl, if_false, if_true]
          rw [ifp (by omega)]
        · rw [ifn z]
          by_cases z2 : i < i0
          · rw [ifp z2, ifp (by omega)]
          · rw [ifn z2, ifn (by omega)]
      · rw [b2 j hj, sL_same]
        exact h3 j hj)
    σ MN (by omega) (by omega) ⟨mL σ 43, (sL_to fun j => rfl).symm, fun i q hi hq => by rw [ifn (by omega)]; exact hD i q hi hq, fun j _ => rfl⟩
  rw [e]
  simp only [F_lays_L3, F_lays_b123, F_lays_b156]
  rw [inputs_L (σ := sL σ 43 g) (N := N) hB]
  simp (disch := omega) only [↓reduceIte, ↓lt_y, leT, leF, ltT, ltF, eqT, eqF, n32_lit, n32_add, n32_mul, n32_sub, n32_le, n32_lt, n32_eq, n32_nat, gdn, gd_T, inbT, bd_y, bd2_y, ifp, ifn, not_true_eq_false, not_false_eq_true, and_self, true_and, and_true, false_and, and_false, or_self, true_or, or_true, false_or, or_false, wA_s, wL_s, sA_same, sL_same, sA_L, sL_A, sA_I, sL_I, wI_A, wI_L, wI_same, sA_sA, sL_sL, sA_ne, sL_ne, wI_ne, m1, m3, hcc]
  by_cases q1 : md.1 = 1
  · by_cases q2 : c = md.2.1
    · simp (disch := omega) only [↓reduceIte, ↓lt_y, leT, leF, ltT, ltF, eqT, eqF, n32_lit, n32_add, n32_mul, n32_sub, n32_le, n32_lt, n32_eq, n32_nat, gdn, gd_T, inbT, bd_y, bd2_y, ifp, ifn, not_true_eq_false, not_false_eq_true, and_self, true_and, and_true, false_and, and_false, or_self, true_or, or_true, false_or, or_false, wA_s, wL_s, sA_same, sL_same, sA_L, sL_A, sA_I, sL_I, wI_A, wI_L, wI_same, sA_sA, sL_sL, sA_ne, sL_ne, wI_ne, q1]
      refine ⟨_, rfl, ?_, ?_, ?_, ?_, ?_⟩
      · exact (((Fr.sL σ 43 g).tr (Fr.sA _ 47 _) (js := []) (bs := [47]) (ms := [43]) (by simp) (by simp) (by simp))).tr (Fr.sA _ 46 _) (by simp) (by simp) (by simp)
      · intro i q hi hq
        rw [sA_L, sA_L, sL_same]; exact h1 i q hi hq
      · intro j hj; rw [sA_L, sA_L, sL_same]; exact h3 j hj
      · rw [sA_same]
      · refine ⟨_, rfl, ?_, fun j hj => ?_⟩
        · rw [sA_ne _ _ _ _ (by omega), sA_same, up0, ifp rfl]; rfl
        · rw [sA_ne _ _ _ _ (by omega), sA_same, up0, ifn hj]
    · simp (disch := omega) only [↓reduceIte, ↓lt_y, leT, leF, ltT, ltF, eqT, eqF, n32_lit, n32_add, n32_mul, n32_sub, n32_le, n32_lt, n32_eq, n32_nat, gdn, gd_T, inbT, bd_y, bd2_y, ifp, ifn, not_true_eq_false, not_false_eq_true, and_self, true_and, and_true, false_and, and_false, or_self, true_or, or_true, false_or, or_false, wA_s, wL_s, sA_same, sL_same, sA_L, sL_A, sA_I, sL_I, wI_A, wI_L, wI_same, sA_sA, sL_sL, sA_ne, sL_ne, wI_ne, q1]
      refine ⟨_, rfl, ?_, ?_, ?_, ?_, ?_⟩
      · exact (Fr.sL σ 43 g).tr (Fr.sA _ 46 _) (by simp) (by simp) (by simp)
      · intro i q hi hq
        rw [sA_L, sL_same]; exact h1 i q hi hq
      · intro j hj; rw [sA_L, sL_same]; exact h3 j hj
      · rw [sA_same]
      · refine ⟨_, rfl, ?_, fun j hj => ?_⟩
        · rw [sA_ne _ _ _ _ (by omega), sL_A, hkn]
        · rw [sA_ne _ _ _ _ (by omega), sL_A]
  · simp (disch := omega) only [↓reduceIte, ↓lt_y, leT, leF, ltT, ltF, eqT, eqF, n32_lit, n32_add, n32_mul, n32_sub, n32_le, n32_lt, n32_eq, n32_nat, gdn, gd_T, inbT, bd_y, bd2_y, ifp, ifn, not_true_eq_false, not_false_eq_true, and_self, true_and, and_true, false_and, and_false, or_self, true_or, or_true, false_or, or_false, wA_s, wL_s, sA_same, sL_same, sA_L, sL_A, sA_I, sL_I, wI_A, wI_L, wI_same, sA_sA, sL_sL, sA_ne, sL_ne, wI_ne, q1]
    refine ⟨_, rfl, ?_, ?_, ?_, ?_, ?_⟩
    · exact (Fr.sL σ 43 g).tr (Fr.sA _ 46 _) (by simp) (by simp) (by simp)
    · intro i q hi hq
      rw [sA_L, sL_same]; exact h1 i q hi hq
    · intro j hj; rw [sA_L, sL_same]; exact h3 j hj
    · rw [sA_same]
    · refine ⟨_, rfl, ?_, fun j hj => ?_⟩
      · rw [sA_ne _ _ _ _ (by omega), sL_A, hkn]
      · rw [sA_ne _ _ _ _ (by omega), sL_A]
