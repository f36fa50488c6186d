set_option maxRecDepth 100000
/-! THE REFERENCE's LEVELS: how a level goes on -/
def MSteps (σ : MS) (b : Nat) (xs : List Stq) : Prop := mA σ 13 b = n32 xs.length ∧ ∀ k x, xs[k]? = some x → MStp σ (52 * b + k) x
theorem MSteps.fr {is as ls : List Nat} {σ τ : MS} {b : Nat} {xs : List Stq} (h : MSteps σ b xs) (f : Fr is as ls σ τ) (h13 : 13 ∉ as) (h22 : ∀ j, 22 ≤ j → j ≤ 27 → j ∉ as) : MSteps τ b xs :=
  ⟨by rw [f.2.1 13 h13]; exact h.1, fun k x hk => (h.2 k x hk).fr f h22⟩
theorem mixNo_le (xs : List Stq) (k : Nat) : mixNo xs k ≤ k := by
  induction k with
  | zero => exact Nat.le_refl 0
  | succ k ih =>
    rw [mixNo]
    split
    · split <;> omega
    · omega
theorem mixNumber_L {σ : MS} {b N : Nat} {xs : List Stq} (hB : MB σ b N) (hX : MSteps σ b xs) (ho : okX xs) {k : Nat} (hk : k ≤ xs.length) : F_mixNumber σ (n32 (52 * b + k)) = some (n32 (mixNo xs k)) := by
  have hMN := MN_gt
  have hb := hB.2.1
  have h40 := ho.1
  unfold F_mixNumber
  simp (disch := omega) only [↓reduceIte, ↓lt_y, leT, leF, ltT, ltF, eqT, eqF, n32_lit, n32_add, n32_mul, n32_sub, n32_le, n32_lt, n32_eq, n32_nat, gdn, gd_T, inbT, bd_y, bd2_y, ifp, ifn, not_true_eq_false, not_false_eq_true, and_self, true_and, and_true, false_and, and_false, or_self, true_or, or_true, false_or, or_false, wA_s, wL_s, sA_same, sL_same, sA_L, sL_A, sA_I, sL_I, wI_A, wI_L, wI_same, sA_sA, sL_sL, sA_ne, sL_ne, wI_ne, hB.1]
  obtain ⟨fu, s, rfl, e⟩ := upe (fun fu j (s : Nat) => F_mixNumber_L10 σ fu (n32 (52 * b + k)) (n32 s) (n32 (52 * b + j))) 0 k (fun j s => s = mixNo xs j)
    (by
      rintro fu j s - hj rfl
      obtain ⟨x, hx⟩ : ∃ x, xs[j]? = some x := ⟨_, List.getElem?_eq_getElem (by omega)⟩
      have h22 := (hX.2 j x hx).h1
      have hT := (ho.2 j x hx).1.o12
      have hle := mixNo_le xs j
      refine ⟨_, ?_, rfl⟩
      simp only [F_mixNumber_L10, F_mixNumber_b41, F_mixNumber_b42, mixNo, hx]
      simp (disch := omega) only [↓reduceIte, ↓lt_y, leT, leF, ltT, ltF, eqT, eqF, n32_lit, n32_add, n32_mul, n32_sub, n32_le, n32_lt, n32_eq, n32_nat, gdn, gd_T, inbT, bd_y, bd2_y, ifp, ifn, not_true_eq_false, not_false_eq_true, and_self, true_and, and_true, false_and, and_false, or_self, true_or, or_true, false_or, or_false, wA_s, wL_s, sA_same, sL_same, sA_L, sL_A, sA_I, sL_I, wI_A, wI_L, wI_same, sA_sA, sL_sL, sA_ne, sL_ne, wI_ne, h22]
      by_cases q1 : sT x < 4
      · rw [ifp q1, ifn (by omega)]; rfl
      · rw [ifn q1]
        by_cases q2 : 7 < sT x
        · rw [ifp q2, ifn (by omega)]; rfl
        · rw [ifn q2, ifp (by omega)]; rfl)
    0 MN (by omega) (by omega) rfl
  refine e.trans ?_
  simp only [F_mixNumber_L10]
  simp (disch := omega) only [↓reduceIte, ↓lt_y, leT, leF, ltT, ltF, eqT, eqF, n32_lit, n32_add, n32_mul, n32_sub, n32_le, n32_lt, n32_eq, n32_nat, gdn, gd_T, inbT, bd_y, bd2_y, ifp, ifn, not_true_eq_false, not_false_eq_true, and_self, true_and, and_true, false_and, and_false, or_self, true_or, or_true, false_or, or_false, wA_s, wL_s, sA_same, sL_same, sA_L, sL_A, sA_I, sL_I, wI_A, wI_L, wI_same, sA_sA, sL_sL, sA_ne, sL_ne, wI_ne]
theorem kn_neg (kn : Option Nat) (h : ∀ p, kn = some p → p < 8) : (kn32 kn < n32 0) ↔ kn = none := by
  cases kn with
  | none => simp [kn32]; decide
  | some p =>
    have := h p rfl
    simp only [kn32]
    simp (disch := omega) only [↓reduceIte, ↓lt_y, leT, leF, ltT, ltF, eqT, eqF, n32_lit, n32_add, n32_mul, n32_sub, n32_le, n32_lt, n32_eq, n32_nat, gdn, gd_T, inbT, bd_y, bd2_y, ifp, ifn, not_true_eq_false, not_false_eq_true, and_self, true_and, and_true, false_and, and_false, or_self, true_or, or_true, false_or, or_false, wA_s, wL_s, sA_same, sL_same, sA_L, sL_A, sA_I, sL_I, wI_A, wI_L, wI_same, sA_sA, sL_sL, sA_ne, sL_ne, wI_ne]
    simp
theorem isSeen_L {σ : MS} {b N l : Nat} {xs : List Stq} {md : Md} {v : Lv} {x : Stq} (hB : MB σ b N) (hX : MSteps σ b xs) (ho : okX xs) (hM : MMd σ md) (hl : l < 16) (hx : xs[vP v]? = some x) (hkn : mA σ 47 l = kn32 (vK v)) (hk8 : ∀ p, vK v = some p → p < 8) :
    F_isSeen σ (n32 l) (n32 (52 * b + vP v)) = some (b32 (seenS xs md x v)) := by
  have hlt : vP v < xs.length := (List.getElem?_eq_some_iff.mp hx).1
  have hb := hB.2.1
  have h40 := ho.1
  have hok := (ho.2 _ x hx).1
  have hwy := wys_b hok
  obtain ⟨m1, m2, m3, m4, -⟩ := hM
  have hle := mixNo_le xs (vP v)
  unfold F_isSeen
  rw [ways_L (by omega) (hX.2 _ x hx) hok]
  simp (disch := omega) only [↓reduceIte, ↓lt_y, leT, leF, ltT, ltF, eqT, eqF, n32_lit, n32_add, n32_mul, n32_sub, n32_le, n32_lt, n32_eq, n32_nat, gdn, gd_T, inbT, bd_y, bd2_y, ifp, ifn, not_true_eq_false, not_false_eq_true, and_self, true_and, and_true, false_and, and_false, or_self, true_or, or_true, false_or, or_false, wA_s, wL_s, sA_same, sL_same, sA_L, sL_A, sA_I, sL_I, wI_A, wI_L, wI_same, sA_sA, sL_sL, sA_ne, sL_ne, wI_ne, m1, m3]
  unfold b32
  by_cases q1 : wys x = 1
  · rw [ifp q1, ifn (fun z => z.1 q1)]
  rw [ifn q1]
  by_cases q2 : md.1 = 2
  · rw [ifp q2, mixNumber_L hB hX ho (by omega)]
    simp (disch := omega) only [↓reduceIte, ↓lt_y, leT, leF, ltT, ltF, eqT, eqF, n32_lit, n32_add, n32_mul, n32_sub, n32_le, n32_lt, n32_eq, n32_nat, gdn, gd_T, inbT, bd_y, bd2_y, ifp, ifn, not_true_eq_false, not_false_eq_true, and_self, true_and, and_true, false_and, and_false, or_self, true_or, or_true, false_or, or_false, wA_s, wL_s, sA_same, sL_same, sA_L, sL_A, sA_I, sL_I, wI_A, wI_L, wI_same, sA_sA, sL_sL, sA_ne, sL_ne, wI_ne]
    by_cases q3 : mixNo xs (vP v) = md.2.1
    · rw [ifp q3, ifp ⟨q1, Or.inl ⟨q2, q3⟩⟩]
    · rw [ifn q3, ifn (fun z => by
        rcases z.2 with z | z
        · exact q3 z.2
        · omega)]
  rw [ifn q2]
  by_cases q3 : md.1 = 1
  · rw [ifp q3]
    simp (disch := omega) only [↓reduceIte, ↓lt_y, leT, leF, ltT, ltF, eqT, eqF, n32_lit, n32_add, n32_mul, n32_sub, n32_le, n32_lt, n32_eq, n32_nat, gdn, gd_T, inbT, bd_y, bd2_y, ifp, ifn, not_true_eq_false, not_false_eq_true, and_self, true_and, and_true, false_and, and_false, or_self, true_or, or_true, false_or, or_false, wA_s, wL_s, sA_same, sL_same, sA_L, sL_A, sA_I, sL_I, wI_A, wI_L, wI_same, sA_sA, sL_sL, sA_ne, sL_ne, wI_ne, hkn]
    by_cases q4 : vK v = none
    · rw [ifp ((kn_neg _ hk8).mpr q4), ifn (fun z => by
        rcases z.2 with z | z
        · omega
        · exact z.2 q4)]
    · rw [ifn (fun z => q4 ((kn_neg _ hk8).mp z)), ifp ⟨q1, Or.inr ⟨q3, q4⟩⟩]
  · rw [ifn q3, ifn (fun z => by rcases z.2 with z | z <;> omega)]
def MSn (z : Int32) (s : Nat → Nat) : Prop := ∃ u, z = n32 u ∧ u < 65536 ∧ ∀ p, p < 8 → (u >>> (2 * p)) &&& 3 = s p
def LV (σ : MS) (l : Nat) (v : Lv) : Prop := LD σ l (vD v) ∧ mA σ 45 l = n32 (vP v) ∧ mA σ 46 l = n32 (vC v) ∧ mA σ 47 l = kn32 (vK v) ∧ MSn (mA σ 48 l) (vS v) ∧ mL σ 44 l = e64 (vW v)
/-- all other levels are as they were -/
def OL (l : Nat) (σ τ : MS) : Prop := (∀ j, outL l j → mL τ 43 j = mL σ 43 j) ∧ ∀ j, j ≠ l → mA τ 45 j = mA σ 45 j ∧ mA τ 46 j = mA σ 46 j ∧ mA τ 47 j = mA σ 47 j ∧ mA τ 48 j = mA σ 48 j ∧ mL τ 44 j = mL σ 44 j
theorem OL.rf {l : Nat} {σ : MS} : OL l σ σ := ⟨fun _ _ => rfl, fun _ _ => ⟨rfl, rfl, rfl, rfl, rfl⟩⟩
theorem OL.tr {l : Nat} {σ τ υ : MS} (h : OL l σ τ) (h' : OL l τ υ) : OL l σ υ :=
  ⟨fun j hj => (h'.1 j hj).trans (h.1 j hj), fun j hj => ⟨(h'.2 j hj).1.trans (h.2 j hj).1, (h'.2 j hj).2.1.trans (h.2 j hj).2.1, (h'.2 j hj).2.2.1.trans (h.2 j hj).2.2.1, (h'.2 j hj).2.2.2.1.trans (h.2 j hj).2.2.2.1, (h'.2 j hj).2.2.2.2.trans (h.2 j hj).2.2.2.2⟩⟩
theorem LV.ol {l m : Nat} {σ τ : MS} {v : Lv} (h : LV σ m v) (f : OL l σ τ) (hne : m ≠ l) (hm : m < 16) (hl : l < 16) : LV τ m v := by
  obtain ⟨h1, h2, h3, h4, h5, h6⟩ := h
  obtain ⟨f1, f2⟩ := f
  obtain ⟨g1, g2, g3, g4, g5⟩ := f2 m hne
  exact ⟨fun i q hi hq => by rw [f1 _ ⟨by omega, by omega⟩]; exact h1 i q hi hq, by rw [g1]; exact h2, by rw [g2]; exact h3, by rw [g3]; exact h4, by rw [g4]; exact h5, by rw [g5]; exact h6⟩
theorem lays_V {σ : MS} {l b N k first : Nat} {x : Stq} {md : Md} {v : Lv} (hl : l < 16) (hB : MB σ b N) (hk : k < 104) (h : MStp σ k x) (ho : okS x) (ht : sT x = 0 ∨ sT x = 1) (hM : MMd σ md) (hf : first < 2) (hc : vC v ≤ 7) (hv : LV σ l v) :
    ∃ τ, F_lays (n32 l) (n32 k) (n32 first) σ = some τ ∧ Fr [] [46, 47] [43] σ τ ∧ LV τ l (lay1 N md x first v) ∧ OL l σ τ := by
  obtain ⟨v1, v2, v3, v4, v5, v6⟩ := hv
  obtain ⟨τ, e, fr, a1, a2, a3, g, a4, a5, a6⟩ := lays_L hl hB hk h ho ht hM hf hc v3 v4 v1
  refine ⟨τ, e, fr, ⟨a1, ?_, ?_, ?_, ?_, ?_⟩, a2, fun j hj => ⟨?_, ?_, ?_, ?_, ?_⟩⟩
  · rw [fr.2.1 45 (by simp)]; exact v2
  · rw [a3, up0, ifp rfl]; rfl
  · rw [a4, a5]; rfl
  · rw [fr.2.1 48 (by simp)]; exact v5
  · rw [fr.2.2 44 (by simp)]; exact v6
  · rw [fr.2.1 45 (by simp)]
  · rw [a3, up0, ifn hj]
  · rw [a4, a6 j hj]
  · rw [fr.2.1 48 (by simp)]
  · rw [fr.2.2 44 (by simp)]
theorem okV.nxt {N : Nat} {v : Lv} (h : okV N v) : okV N (nxt v) := h
theorem okV.jmp {N p : Nat} {v : Lv} (h : okV N v) : okV N (jmp v p) := h
theorem LV.pc {σ : MS} {l p : Nat} {v : Lv} (h : LV σ l v) : LV (sA σ 45 (up0 (mA σ 45) l (n32 p))) l (jmp v p) := by
  obtain ⟨v1, v2, v3, v4, v5, v6⟩ := h
  refine ⟨v1, ?_, ?_, ?_, ?_, v6⟩
  · rw [sA_same, up0, ifp rfl]; rfl
  · rw [sA_ne _ _ _ _ (by omega)]; exact v3
  · rw [sA_ne _ _ _ _ (by omega)]; exact v4
  · rw [sA_ne _ _ _ _ (by omega)]; exact v5
theorem OL.pc {σ : MS} {l : Nat} {z : Int32} : OL l σ (sA σ 45 (up0 (mA σ 45) l z)) :=
  ⟨fun _ _ => rfl, fun j hj => ⟨by rw [sA_same, up0, ifn hj], by rw [sA_ne _ _ _ _ (by omega)], by rw [sA_ne _ _ _ _ (by omega)], by rw [sA_ne _ _ _ _ (by omega)], rfl⟩⟩
theorem LV.wI {σ : MS} {l k : Nat} {z : Int32} {v : Lv} (h : LV σ l v) : LV (wI σ k z) l v := h
theorem OL.wI {σ : MS} {l k : Nat} {z : Int32} : OL l σ (wI σ k z) := OL.rf
def advP (b N l : Nat) (xs : List Stq) (σ : MS) (v : Lv) (r : Nat × Lv) (o : Int32 × MS) : Prop :=
  o.1 = n32 r.1 ∧ r.1 < 4 ∧ LV o.2 l r.2 ∧ okV N r.2 ∧ Fr [54] [41, 42, 45, 46, 47] [43, 44] σ o.2 ∧ OL l σ o.2 ∧ vP v ≤ vP r.2 ∧ vP r.2 ≤ xs.length ∧ ∃ e, e < 104 ∧ mI o.2 54 = n32 e ∧ (r.1 ≠ 0 → e = 52 * b + vP r.2)
theorem advP.from {b N l : Nat} {xs : List Stq} {σ τ : MS} {v u : Lv} {r : Nat × Lv} {o : Int32 × MS} (h : advP b N l xs τ u r o) (f : Fr [54] [41, 42, 45, 46, 47] [43, 44] σ τ) (g : OL l σ τ) (hp : vP v ≤ vP u) : advP b N l xs σ v r o := by
  obtain ⟨h1, h2, h3, h4, h5, h6, h7, h8, h9⟩ := h
  exact ⟨h1, h2, h3, h4, f.tr h5 (by simp) (by simp) (by simp), g.tr h6, by omega, h8, h9⟩
theorem b271_L {k0 : Int32 → MS → Option (Int32 × MS)} {P : Int32 × MS → Prop} {σ : MS} {l : Nat} {v : Lv} (hl : l < 16) (hv : LV σ l v) (hp : vP v < 1000) (h : Ok (k0 (n32 l) (sA σ 45 (up0 (mA σ 45) l (n32 (vP v + 1))))) P) : Ok (F_advance_b271 k0 (n32 l) σ) P := by
  unfold F_advance_b271
  have := hv.2.1
  simp (disch := omega) only [↓reduceIte, ↓lt_y, leT, leF, ltT, ltF, eqT, eqF, n32_lit, n32_add, n32_mul, n32_sub, n32_le, n32_lt, n32_eq, n32_nat, gdn, gd_T, inbT, bd_y, bd2_y, ifp, ifn, not_true_eq_false, not_false_eq_true, and_self, true_and, and_true, false_and, and_false, or_self, true_or, or_true, false_or, or_false, wA_s, wL_s, sA_same, sL_same, sA_L, sL_A, sA_I, sL_I, wI_A, wI_L, wI_same, sA_sA, sL_sL, sA_ne, sL_ne, wI_ne, this]
  exact h
theorem n32_e64 {k : Nat} (h : k < 2147483648) : (n32 k).toInt64 = e64 k := by
  rw [← Int64.toInt_inj, Int32.toInt_toInt64, n32_toInt h]
  exact (Int64.toInt_ofNat_of_lt (by omega)).symm
theorem advance_L {b N l : Nat} {xs : List Stq} {md : Md} (hl : l < 16) (ho : okX xs) :
    ∀ (f : Nat) (σ : MS) (v : Lv) (fu : Nat), xs.length < f + vP v → vP v ≤ xs.length → f ≤ fu → MB σ b N → MSteps σ b xs → MMd σ md → LV σ l v → okV N v → (∃ e, e < 104 ∧ mI σ 54 = n32 e) →
    Ok (F_advance_L0 fu (n32 l) σ) (advP b N l xs σ v (adv N xs md f v)) := by
  intro f
  induction f with
  | zero => intro σ v fu h1 h2; omega
  | succ f ih =>
    intro σ v fu h1 h2 h3 hB hX hM hv hok he
    obtain ⟨fu, rfl⟩ : ∃ g, fu = g + 1 := ⟨fu - 1, by omega⟩
    have hb := hB.2.1
    have h40 := ho.1
    obtain ⟨v1, v2, v3, v4, v5, v6⟩ := id hv
    have hc8 := hok.1
    rw [F_advance_L0]
    refine Ok.gd (n32_inb (by omega)) (Ok.gd (by simp (disch := omega) only [↓reduceIte, ↓lt_y, leT, leF, ltT, ltF, eqT, eqF, n32_lit, n32_add, n32_mul, n32_sub, n32_le, n32_lt, n32_eq, n32_nat, gdn, gd_T, inbT, bd_y, bd2_y, ifp, ifn, not_true_eq_false, not_false_eq_true, and_self, true_and, and_true, false_and, and_false, or_self, true_or, or_true, false_or, or_false, wA_s, wL_s, sA_same, sL_same, sA_L, sL_A, sA_I, sL_I, wI_A, wI_L, wI_same, sA_sA, sL_sL, sA_ne, sL_ne, wI_ne, hB.1]) ?_)
    have z1 := hB.1
    have z2 := hX.1
    have zl := n32_nat (a := l) (by omega)
    have zb := n32_nat (a := b) (by omega)
    simp only [z1, zl, zb, v2, z2]
    by_cases hend : xs.length ≤ vP v
    · refine Ok.tt (by simp (disch := omega) only [↓reduceIte, ↓lt_y, leT, leF, ltT, ltF, eqT, eqF, n32_lit, n32_add, n32_mul, n32_sub, n32_le, n32_lt, n32_eq, n32_nat, gdn, gd_T, inbT, bd_y, bd2_y, ifp, ifn, not_true_eq_false, not_false_eq_true, and_self, true_and, and_true, false_and, and_false, or_self, true_or, or_true, false_or, or_false, wA_s, wL_s, sA_same, sL_same, sA_L, sL_A, sA_I, sL_I, wI_A, wI_L, wI_same, sA_sA, sL_sL, sA_ne, sL_ne, wI_ne]) (Ok.done ?_)
      have hx : xs[vP v]? = none := List.getElem?_eq_none hend
      simp only [adv, hx]
      obtain ⟨e, he1, he2⟩ := he
      exact ⟨rfl, by omega, hv, hok, Fr.rf.mono (by simp) (by simp) (by simp), OL.rf, Nat.le_refl _, h2, e, he1, he2, fun z => absurd rfl z⟩
    refine Ok.ff (by simp (disch := omega) only [↓reduceIte, ↓lt_y, leT, leF, ltT, ltF, eqT, eqF, n32_lit, n32_add, n32_mul, n32_sub, n32_le, n32_lt, n32_eq, n32_nat, gdn, gd_T, inbT, bd_y, bd2_y, ifp, ifn, not_true_eq_false, not_false_eq_true, and_self, true_and, and_true, false_and, and_false, or_self, true_or, or_true, false_or, or_false, wA_s, wL_s, sA_same, sL_same, sA_L, sL_A, sA_I, sL_I, wI_A, wI_L, wI_same, sA_sA, sL_sL, sA_ne, sL_ne, wI_ne]) (Ok.gd (n32_inb (by omega)) ?_)
    obtain ⟨x, hx⟩ : ∃ x, xs[vP v]? = some x := ⟨_, List.getElem?_eq_getElem (by omega)⟩
    have hs := hX.2 _ x hx
    have hox := (ho.2 _ x hx).1
    have t22 := hs.h1
    have hT := hox.o12
    have hwb := wys_b hox
    have hm3 : md.1 = 3 → md.2.2 < 2 := fun q => (hM.2.2.2.2 q).2
    have hk104 : 52 * b + vP v < 104 := by omega
    refine Ok.lt (n32 (52 * b + vP v)) (by simp (disch := omega) only [↓reduceIte, ↓lt_y, leT, leF, ltT, ltF, eqT, eqF, n32_lit, n32_add, n32_mul, n32_sub, n32_le, n32_lt, n32_eq, n32_nat, gdn, gd_T, inbT, bd_y, bd2_y, ifp, ifn, not_true_eq_false, not_false_eq_true, and_self, true_and, and_true, false_and, and_false, or_self, true_or, or_true, false_or, or_false, wA_s, wL_s, sA_same, sL_same, sA_L, sL_A, sA_I, sL_I, wI_A, wI_L, wI_same, sA_sA, sL_sL, sA_ne, sL_ne, wI_ne]) (Ok.gd (n32_inb (by omega)) (Ok.lt (n32 (sT x)) (by simp (disch := omega) only [↓reduceIte, ↓lt_y, leT, leF, ltT, ltF, eqT, eqF, n32_lit, n32_add, n32_mul, n32_sub, n32_le, n32_lt, n32_eq, n32_nat, gdn, gd_T, inbT, bd_y, bd2_y, ifp, ifn, not_true_eq_false, not_false_eq_true, and_self, true_and, and_true, false_and, and_false, or_self, true_or, or_true, false_or, or_false, wA_s, wL_s, sA_same, sL_same, sA_L, sL_A, sA_I, sL_I, wI_A, wI_L, wI_same, sA_sA, sL_sL, sA_ne, sL_ne, wI_ne, t22]) (Ok.lt _ rfl ?_)))
    generalize hσ' : wI σ 54 (n32 (52 * b + vP v)) = σ'
    have w54 : Fr [54] [] [] σ σ' := hσ' ▸ Fr.wI σ 54 _
    have hB' : MB σ' b N := hσ' ▸ hB
    have hX' : MSteps σ' b xs := hσ' ▸ hX
    have hM' : MMd σ' md := hM.fr w54 (by simp) (by simp) (by simp)
    have hv' : LV σ' l v := hσ' ▸ hv
    have e54 : mI σ' 54 = n32 (52 * b + vP v) := hσ' ▸ wI_same σ 54 _
    have hO' : OL l σ σ' := hσ' ▸ OL.wI
    have hs' := hX'.2 _ x hx
    have v3' := hv'.2.2.1
    have v4' := hv'.2.2.2.1
    have fr5 : Fr [54] [41, 42, 45, 46, 47] [43, 44] σ σ' := w54.mono (by simp) (by simp) (by simp)
    have stop : ∀ r : Nat, r < 4 → advP b N l xs σ v (r, v) (n32 r, σ') := fun r hr => ⟨rfl, hr, hv', hok, fr5, hO', Nat.le_refl _, h2, _, hk104, e54, fun _ => rfl⟩
    have goon : ∀ (τ : MS) (u : Lv), Fr [] [41, 42, 45, 46, 47] [43, 44] σ' τ → OL l σ' τ → LV τ l u → okV N u → vP u = vP v → Ok (F_advance_b271 (F_advance_L0 fu) (n32 l) τ) (advP b N l xs σ v (adv N xs md f (nxt u))) := by
      intro τ u f1 f2 f3 f4 f5
      refine b271_L hl f3 (by omega) ?_
      have f6 : Fr [] [41, 42, 45, 46, 47] [43, 44] σ' (sA τ 45 (up0 (mA τ 45) l (n32 (vP u + 1)))) := f1.tr (Fr.sA τ 45 _) (by simp) (by simp <;> omega) (by simp)
      have f7 : OL l σ' (sA τ 45 (up0 (mA τ 45) l (n32 (vP u + 1)))) := f2.tr OL.pc
      have hi := ih (sA τ 45 (up0 (mA τ 45) l (n32 (vP u + 1)))) (nxt u) fu (by show xs.length < f + (vP u + 1); omega) (by show vP u + 1 ≤ xs.length; omega) (by omega) (hB'.fr f6 (by simp) (by simp)) (hX'.fr f6 (by simp) (by intro j h1 h2; simp; omega)) (hM'.fr f6 (by simp) (by simp) (by simp)) f3.pc f4 ⟨_, hk104, by rw [f6.1 54 (by simp)]; exact e54⟩
      exact hi.mono fun o ho => ho.from (fr5.tr f6 (by simp) (by simp <;> omega) (by simp <;> omega)) (hO'.tr f7) (by show vP v ≤ vP u + 1; omega)
    have F0 : ∀ τ, Fr [] [] [] τ τ := fun τ => Fr.rf
    simp only [adv, hx]
    by_cases t01 : sT x ≤ 1
    · rw [ifp t01]
      have lay : Ok (F_advance_b54 (F_advance_b271 (F_advance_L0 fu)) (n32 l) (n32 (52 * b + vP v)) (n32 (sT x)) σ') (advP b N l xs σ v (if vC v + layN x ≤ 8 then adv N xs md f (nxt (layS N md x v)) else (0, v))) := by
        unfold F_advance_b54
        refine Ok.gd (n32_inb (by omega)) ?_
        have big : Ok (F_advance_b69 (F_advance_b271 (F_advance_L0 fu)) (n32 l) (n32 (52 * b + vP v)) (n32 (sT x)) (n32 (layN x)) (n32 (vC v)) σ') (advP b N l xs σ v (if vC v + layN x ≤ 8 then adv N xs md f (nxt (layS N md x v)) else (0, v))) := by
          unfold F_advance_b69
          have hln : layN x ≤ 2 ∧ 1 ≤ layN x := by unfold layN; split <;> omega
          by_cases q : vC v + layN x ≤ 8
          · rw [ifp q]
            refine Ok.tt (by simp (disch := omega) only [↓reduceIte, ↓lt_y, leT, leF, ltT, ltF, eqT, eqF, n32_lit, n32_add, n32_mul, n32_sub, n32_le, n32_lt, n32_eq, n32_nat, gdn, gd_T, inbT, bd_y, bd2_y, ifp, ifn, not_true_eq_false, not_false_eq_true, and_self, true_and, and_true, false_and, and_false, or_self, true_or, or_true, false_or, or_false, wA_s, wL_s, sA_same, sL_same, sA_L, sL_A, sA_I, sL_I, wI_A, wI_L, wI_same, sA_sA, sL_sL, sA_ne, sL_ne, wI_ne]) ?_
            obtain ⟨τ, e1, f1, f2, f3⟩ := lays_V (N := N) (first := 1) hl hB' hk104 hs' hox (by omega) hM' (by omega) (by omega) hv'
            refine Ok.bd e1 ?_
            by_cases t0 : sT x = 0
            · have hl2 : layN x = 2 := by unfold layN; rw [ifp t0]
              refine Ok.tt (by simp (disch := omega) only [↓reduceIte, ↓lt_y, leT, leF, ltT, ltF, eqT, eqF, n32_lit, n32_add, n32_mul, n32_sub, n32_le, n32_lt, n32_eq, n32_nat, gdn, gd_T, inbT, bd_y, bd2_y, ifp, ifn, not_true_eq_false, not_false_eq_true, and_self, true_and, and_true, false_and, and_false, or_self, true_or, or_true, false_or, or_false, wA_s, wL_s, sA_same, sL_same, sA_L, sL_A, sA_I, sL_I, wI_A, wI_L, wI_same, sA_sA, sL_sL, sA_ne, sL_ne, wI_ne]) ?_
              obtain ⟨τ2, e2, g1, g2, g3⟩ := lays_V (N := N) (first := 0) hl (hB'.fr f1 (by simp) (by simp)) hk104 (hs'.fr f1 (by intro j h1 h2; simp; omega)) hox (by omega) (hM'.fr f1 (by simp) (by simp) (by simp)) (by omega) (by show vC v + 1 ≤ 7; omega) f2
              refine Ok.bd e2 ?_
              have el : layS N md x v = lay1 N md x 0 (lay1 N md x 1 v) := by unfold layS; rw [ifp t0]
              rw [el]
              exact goon τ2 _ (f1.tr g1 (by simp) (by simp <;> omega) (by simp <;> omega)) (f3.tr g3) g2 (el ▸ okV_layS hox hm3 hok q) rfl
            · refine Ok.ff (by simp (disch := omega) only [↓reduceIte, ↓lt_y, leT, leF, ltT, ltF, eqT, eqF, n32_lit, n32_add, n32_mul, n32_sub, n32_le, n32_lt, n32_eq, n32_nat, gdn, gd_T, inbT, bd_y, bd2_y, ifp, ifn, not_true_eq_false, not_false_eq_true, and_self, true_and, and_true, false_and, and_false, or_self, true_or, or_true, false_or, or_false, wA_s, wL_s, sA_same, sL_same, sA_L, sL_A, sA_I, sL_I, wI_A, wI_L, wI_same, sA_sA, sL_sL, sA_ne, sL_ne, wI_ne]) ?_
              have el : layS N md x v = lay1 N md x 1 v := by unfold layS; rw [ifn t0]
              rw [el]
              exact goon τ _ (f1.mono (by simp) (by simp <;> omega) (by simp <;> omega)) f3 f2 (el ▸ okV_layS hox hm3 hok q) rfl
          · rw [ifn q]
            exact Ok.ff (by simp (disch := omega) only [↓reduceIte, ↓lt_y, leT, leF, ltT, ltF, eqT, eqF, n32_lit, n32_add, n32_mul, n32_sub, n32_le, n32_lt, n32_eq, n32_nat, gdn, gd_T, inbT, bd_y, bd2_y, ifp, ifn, not_true_eq_false, not_false_eq_true, and_self, true_and, and_true, false_and, and_false, or_self, true_or, or_true, false_or, or_false, wA_s, wL_s, sA_same, sL_same, sA_L, sL_A, sA_I, sL_I, wI_A, wI_L, wI_same, sA_sA, sL_sL, sA_ne, sL_ne, wI_ne]) (Ok.done (stop 0 (by omega)))
        simp only [zl, v3']
        by_cases t0 : sT x = 0
        · refine Ok.tt (by simp (disch := omega) only [↓reduceIte, ↓lt_y, leT, leF, ltT, ltF, eqT, eqF, n32_lit, n32_add, n32_mul, n32_sub, n32_le, n32_lt, n32_eq, n32_nat, gdn, gd_T, inbT, bd_y, bd2_y, ifp, ifn, not_true_eq_false, not_false_eq_true, and_self, true_and, and_true, false_and, and_false, or_self, true_or, or_true, false_or, or_false, wA_s, wL_s, sA_same, sL_same, sA_L, sL_A, sA_I, sL_I, wI_A, wI_L, wI_same, sA_sA, sL_sL, sA_ne, sL_ne, wI_ne]) ?_
          have hl2 : layN x = 2 := by unfold layN; rw [ifp t0]
          rw [hl2] at big
          rw [hl2]
          exact big
        · refine Ok.ff (by simp (disch := omega) only [↓reduceIte, ↓lt_y, leT, leF, ltT, ltF, eqT, eqF, n32_lit, n32_add, n32_mul, n32_sub, n32_le, n32_lt, n32_eq, n32_nat, gdn, gd_T, inbT, bd_y, bd2_y, ifp, ifn, not_true_eq_false, not_false_eq_true, and_self, true_and, and_true, false_and, and_false, or_self, true_or, or_true, false_or, or_false, wA_s, wL_s, sA_same, sL_same, sA_L, sL_A, sA_I, sL_I, wI_A, wI_L, wI_same, sA_sA, sL_sL, sA_ne, sL_ne, wI_ne]) ?_
          have hl2 : layN x = 1 := by unfold layN; rw [ifn t0]
          rw [hl2] at big
          rw [hl2]
          exact big
      by_cases t0 : sT x = 0
      · exact Ok.tt (by simp (disch := omega) only [↓reduceIte, ↓lt_y, leT, leF, ltT, ltF, eqT, eqF, n32_lit, n32_add, n32_mul, n32_sub, n32_le, n32_lt, n32_eq, n32_nat, gdn, gd_T, inbT, bd_y, bd2_y, ifp, ifn, not_true_eq_false, not_false_eq_true, and_self, true_and, and_true, false_and, and_false, or_self, true_or, or_true, false_or, or_false, wA_s, wL_s, sA_same, sL_same, sA_L, sL_A, sA_I, sL_I, wI_A, wI_L, wI_same, sA_sA, sL_sL, sA_ne, sL_ne, wI_ne]) lay
      · exact Ok.ff (by simp (disch := omega) only [↓reduceIte, ↓lt_y, leT, leF, ltT, ltF, eqT, eqF, n32_lit, n32_add, n32_mul, n32_sub, n32_le, n32_lt, n32_eq, n32_nat, gdn, gd_T, inbT, bd_y, bd2_y, ifp, ifn, not_true_eq_false, not_false_eq_true, and_self, true_and, and_true, false_and, and_false, or_self, true_or, or_true, false_or, or_false, wA_s, wL_s, sA_same, sL_same, sA_L, sL_A, sA_I, sL_I, wI_A, wI_L, wI_same, sA_sA, sL_sL, sA_ne, sL_ne, wI_ne]) (Ok.tt (by simp (disch := omega) only [↓reduceIte, ↓lt_y, leT, leF, ltT, ltF, eqT, eqF, n32_lit, n32_add, n32_mul, n32_sub, n32_le, n32_lt, n32_eq, n32_nat, gdn, gd_T, inbT, bd_y, bd2_y, ifp, ifn, not_true_eq_false, not_false_eq_true, and_self, true_and, and_true, false_and, and_false, or_self, true_or, or_true, false_or, or_false, wA_s, wL_s, sA_same, sL_same, sA_L, sL_A, sA_I, sL_I, wI_A, wI_L, wI_same, sA_sA, sL_sL, sA_ne, sL_ne, wI_ne]) lay)
    rw [ifn t01]
    refine Ok.ff (by simp (disch := omega) only [↓reduceIte, ↓lt_y, leT, leF, ltT, ltF, eqT, eqF, n32_lit, n32_add, n32_mul, n32_sub, n32_le, n32_lt, n32_eq, n32_nat, gdn, gd_T, inbT, bd_y, bd2_y, ifp, ifn, not_true_eq_false, not_false_eq_true, and_self, true_and, and_true, false_and, and_false, or_self, true_or, or_true, false_or, or_false, wA_s, wL_s, sA_same, sL_same, sA_L, sL_A, sA_I, sL_I, wI_A, wI_L, wI_same, sA_sA, sL_sL, sA_ne, sL_ne, wI_ne]) (Ok.ff (by simp (disch := omega) only [↓reduceIte, ↓lt_y, leT, leF, ltT, ltF, eqT, eqF, n32_lit, n32_add, n32_mul, n32_sub, n32_le, n32_lt, n32_eq, n32_nat, gdn, gd_T, inbT, bd_y, bd2_y, ifp, ifn, not_true_eq_false, not_false_eq_true, and_self, true_and, and_true, false_and, and_false, or_self, true_or, or_true, false_or, or_false, wA_s, wL_s, sA_same, sL_same, sA_L, sL_A, sA_I, sL_I, wI_A, wI_L, wI_same, sA_sA, sL_sL, sA_ne, sL_ne, wI_ne]) (Ok.ff (by simp (disch := omega) only [↓reduceIte, ↓lt_y, leT, leF, ltT, ltF, eqT, eqF, n32_lit, n32_add, n32_mul, n32_sub, n32_le, n32_lt, n32_eq, n32_nat, gdn, gd_T, inbT, bd_y, bd2_y, ifp, ifn, not_true_eq_false, not_false_eq_true, and_self, true_and, and_true, false_and, and_false, or_self, true_or, or_true, false_or, or_false, wA_s, wL_s, sA_same, sL_same, sA_L, sL_A, sA_I, sL_I, wI_A, wI_L, wI_same, sA_sA, sL_sL, sA_ne, sL_ne, wI_ne]) ?_))
    by_cases t8 : sT x ≤ 8
    · rw [ifp t8]
      refine Ok.ff (by simp (disch := omega) only [↓reduceIte, ↓lt_y, leT, leF, ltT, ltF, eqT, eqF, n32_lit, n32_add, n32_mul, n32_sub, n32_le, n32_lt, n32_eq, n32_nat, gdn, gd_T, inbT, bd_y, bd2_y, ifp, ifn, not_true_eq_false, not_false_eq_true, and_self, true_and, and_true, false_and, and_false, or_self, true_or, or_true, false_or, or_false, wA_s, wL_s, sA_same, sL_same, sA_L, sL_A, sA_I, sL_I, wI_A, wI_L, wI_same, sA_sA, sL_sL, sA_ne, sL_ne, wI_ne]) (Ok.gd (n32_inb (by omega)) ?_)
      rw [v3']
      refine Ok.bd (fits_L hk104 hs' hox (by omega) (vC v) hc8) ?_
      by_cases q : need x ≤ vC v
      · rw [ifp q, b32, ifp q]
        refine Ok.ff (by simp (disch := omega) only [↓reduceIte, ↓lt_y, leT, leF, ltT, ltF, eqT, eqF, n32_lit, n32_add, n32_mul, n32_sub, n32_le, n32_lt, n32_eq, n32_nat, gdn, gd_T, inbT, bd_y, bd2_y, ifp, ifn, not_true_eq_false, not_false_eq_true, and_self, true_and, and_true, false_and, and_false, or_self, true_or, or_true, false_or, or_false, wA_s, wL_s, sA_same, sL_same, sA_L, sL_A, sA_I, sL_I, wI_A, wI_L, wI_same, sA_sA, sL_sL, sA_ne, sL_ne, wI_ne]) ?_
        by_cases q8 : sT x = 8
        · rw [ifp (Or.inl q8)]
          exact Ok.tt (by simp (disch := omega) only [↓reduceIte, ↓lt_y, leT, leF, ltT, ltF, eqT, eqF, n32_lit, n32_add, n32_mul, n32_sub, n32_le, n32_lt, n32_eq, n32_nat, gdn, gd_T, inbT, bd_y, bd2_y, ifp, ifn, not_true_eq_false, not_false_eq_true, and_self, true_and, and_true, false_and, and_false, or_self, true_or, or_true, false_or, or_false, wA_s, wL_s, sA_same, sL_same, sA_L, sL_A, sA_I, sL_I, wI_A, wI_L, wI_same, sA_sA, sL_sL, sA_ne, sL_ne, wI_ne]) (Ok.done (stop 3 (by omega)))
        refine Ok.ff (by simp (disch := omega) only [↓reduceIte, ↓lt_y, leT, leF, ltT, ltF, eqT, eqF, n32_lit, n32_add, n32_mul, n32_sub, n32_le, n32_lt, n32_eq, n32_nat, gdn, gd_T, inbT, bd_y, bd2_y, ifp, ifn, not_true_eq_false, not_false_eq_true, and_self, true_and, and_true, false_and, and_false, or_self, true_or, or_true, false_or, or_false, wA_s, wL_s, sA_same, sL_same, sA_L, sL_A, sA_I, sL_I, wI_A, wI_L, wI_same, sA_sA, sL_sL, sA_ne, sL_ne, wI_ne]) ?_
        refine Ok.bd (isSeen_L hB' hX' ho hM' hl hx v4' (fun p hp => by have := hok.2.2.1 p hp; omega)) ?_
        by_cases qs : seenS xs md x v
        · rw [ifp (Or.inr qs), b32, ifp qs]
          exact Ok.ff (by simp (disch := omega) only [↓reduceIte, ↓lt_y, leT, leF, ltT, ltF, eqT, eqF, n32_lit, n32_add, n32_mul, n32_sub, n32_le, n32_lt, n32_eq, n32_nat, gdn, gd_T, inbT, bd_y, bd2_y, ifp, ifn, not_true_eq_false, not_false_eq_true, and_self, true_and, and_true, false_and, and_false, or_self, true_or, or_true, false_or, or_false, wA_s, wL_s, sA_same, sL_same, sA_L, sL_A, sA_I, sL_I, wI_A, wI_L, wI_same, sA_sA, sL_sL, sA_ne, sL_ne, wI_ne]) (Ok.done (stop 3 (by omega)))
        rw [ifn (c := sT x = 8 ∨ seenS xs md x v) (fun z => z.elim q8 qs), b32, ifn qs]
        refine Ok.tt (by simp (disch := omega) only [↓reduceIte, ↓lt_y, leT, leF, ltT, ltF, eqT, eqF, n32_lit, n32_add, n32_mul, n32_sub, n32_le, n32_lt, n32_eq, n32_nat, gdn, gd_T, inbT, bd_y, bd2_y, ifp, ifn, not_true_eq_false, not_false_eq_true, and_self, true_and, and_true, false_and, and_false, or_self, true_or, or_true, false_or, or_false, wA_s, wL_s, sA_same, sL_same, sA_L, sL_A, sA_I, sL_I, wI_A, wI_L, wI_same, sA_sA, sL_sL, sA_ne, sL_ne, wI_ne]) ?_
        obtain ⟨τ, e1, f1, f2, f3, f4⟩ := moveAll_L hl hB' hk104 hs' hox (by omega) hv'.1 (fun i r hi => Classical.byContradiction fun z => by have := (hok.2.1 i r z).1; omega)
        refine Ok.bd e1 (Ok.gd (n32_inb (by omega)) (Ok.bd (ways_L hk104 (hs'.fr f1 (by intro j h1 h2; simp; omega)) hox) (Ok.gd (n32_inb (by omega)) (Ok.lt _ rfl (Ok.gd (n32_inb (by omega)) ?_)))))
        have e44 : mL τ 44 l = e64 (vW v) := by rw [f1.2.2 44 (by simp)]; exact hv'.2.2.2.2.2
        rw [n32_e64 (by omega), e44, ← e64_mul, wL_s]
        generalize hu : sL τ 44 (up0 (mL τ 44) l (e64 (vW v * wys x))) = υ
        have g1 : Fr [] [41, 42] [43, 44] σ' υ := hu ▸ f1.tr (Fr.sL τ 44 _) (by simp) (by simp <;> omega) (by simp <;> omega)
        have g47 : mA υ 47 = mA σ' 47 := g1.2.1 47 (by simp)
        have hLV : ∀ kn : Option Nat, LV (sA υ 47 (up0 (mA υ 47) l (kn32 kn))) l (mvA x (vD v), vP v, vC v, kn, vS v, vW v * wys x) := by
          intro kn
          refine ⟨?_, ?_, ?_, ?_, ?_, ?_⟩
          · intro i q hi hq
            rw [sA_L, ← hu, sL_ne _ _ _ _ (by omega)]
            exact f2 i q hi hq
          · rw [sA_ne _ _ _ _ (by omega), g1.2.1 45 (by simp)]; exact hv'.2.1
          · rw [sA_ne _ _ _ _ (by omega), g1.2.1 46 (by simp)]; exact v3'
          · rw [sA_same, up0, ifp rfl]; rfl
          · rw [sA_ne _ _ _ _ (by omega), g1.2.1 48 (by simp)]; exact hv'.2.2.2.2.1
          · rw [sA_L, ← hu, sL_same, up0, ifp rfl]; rfl
        have hOL : ∀ z : Int32, OL l σ' (sA υ 47 (up0 (mA υ 47) l z)) := by
          intro z
          refine ⟨fun j hj => ?_, fun j hj => ⟨?_, ?_, ?_, ?_, ?_⟩⟩
          · rw [sA_L, ← hu, sL_ne _ _ _ _ (by omega)]; exact f3 j hj
          · rw [sA_ne _ _ _ _ (by omega), g1.2.1 45 (by simp)]
          · rw [sA_ne _ _ _ _ (by omega), g1.2.1 46 (by simp)]
          · rw [sA_same, up0, ifn hj, g47]
          · rw [sA_ne _ _ _ _ (by omega), g1.2.1 48 (by simp)]
          · rw [sA_L, ← hu, sL_same, up0, ifn hj, f1.2.2 44 (by simp)]
        have hok' := okV_movS hox hok q
        have h47l : mA υ 47 l = kn32 (vK v) := by rw [g47]; exact v4'
        rw [h47l]
        cases hk : vK v with
        | none =>
          refine Ok.tt (by decide) ?_
          have e5 : υ = sA υ 47 (up0 (mA υ 47) l (kn32 none)) := by
            rw [← hk, ← h47l]
            exact (sA_to fun j => by simp only [up0]; split <;> simp_all).symm
          have e6 : movS x v = (mvA x (vD v), vP v, vC v, none, vS v, vW v * wys x) := by unfold movS; rw [hk]; rfl
          rw [e5, e6]
          exact goon _ _ (e5 ▸ g1.mono (by simp) (by simp <;> omega) (by simp)) (hOL _) (hLV none) (e6 ▸ hok') rfl
        | some p =>
          have hp := hok.2.2.1 p hk
          have hp2 := ((sfr_ok hox (w := wys x - 1) (by omega) p).2.2 8 (need_le hox) (by omega)).2
          refine Ok.ff (by simp only [kn32]; simp (disch := omega) only [↓reduceIte, ↓lt_y, leT, leF, ltT, ltF, eqT, eqF, n32_lit, n32_add, n32_mul, n32_sub, n32_le, n32_lt, n32_eq, n32_nat, gdn, gd_T, inbT, bd_y, bd2_y, ifp, ifn, not_true_eq_false, not_false_eq_true, and_self, true_and, and_true, false_and, and_false, or_self, true_or, or_true, false_or, or_false, wA_s, wL_s, sA_same, sL_same, sA_L, sL_A, sA_I, sL_I, wI_A, wI_L, wI_same, sA_sA, sL_sL, sA_ne, sL_ne, wI_ne]) (Ok.gd (n32_inb (by omega)) ?_)
          refine Ok.bd (movedPlace_L hox (w := wys x - 1) (by omega) (fun p hp => by rw [← hu, sL_A]; exact f4 p hp) p (by omega) (need_le hox)) (Ok.gd (n32_inb (by omega)) (Ok.lt _ rfl ?_))
          have e6 : movS x v = (mvA x (vD v), vP v, vC v, some (sto x (wys x - 1) p), vS v, vW v * wys x) := by unfold movS; rw [hk]; rfl
          rw [wA_s, e6]
          exact goon _ _ (g1.tr (Fr.sA υ 47 _) (by simp) (by simp <;> omega) (by simp <;> omega)) (hOL _) (hLV (some _)) (e6 ▸ hok') rfl
      · rw [ifn q, b32, ifn q]
        exact Ok.tt (by simp (disch := omega) only [↓reduceIte, ↓lt_y, leT, leF, ltT, ltF, eqT, eqF, n32_lit, n32_add, n32_mul, n32_sub, n32_le, n32_lt, n32_eq, n32_nat, gdn, gd_T, inbT, bd_y, bd2_y, ifp, ifn, not_true_eq_false, not_false_eq_true, and_self, true_and, and_true, false_and, and_false, or_self, true_or, or_true, false_or, or_false, wA_s, wL_s, sA_same, sL_same, sA_L, sL_A, sA_I, sL_I, wI_A, wI_L, wI_same, sA_sA, sL_sL, sA_ne, sL_ne, wI_ne]) (Ok.done (stop 0 (by omega)))
    rw [ifn t8]
    refine Ok.tt (by simp (disch := omega) only [↓reduceIte, ↓lt_y, leT, leF, ltT, ltF, eqT, eqF, n32_lit, n32_add, n32_mul, n32_sub, n32_le, n32_lt, n32_eq, n32_nat, gdn, gd_T, inbT, bd_y, bd2_y, ifp, ifn, not_true_eq_false, not_false_eq_true, and_self, true_and, and_true, false_and, and_false, or_self, true_or, or_true, false_or, or_false, wA_s, wL_s, sA_same, sL_same, sA_L, sL_A, sA_I, sL_I, wI_A, wI_L, wI_same, sA_sA, sL_sL, sA_ne, sL_ne, wI_ne]) ?_
    unfold F_advance_b191
    by_cases t11 : sT x = 11
    · rw [ifp t11]
      refine Ok.tt (by simp (disch := omega) only [↓reduceIte, ↓lt_y, leT, leF, ltT, ltF, eqT, eqF, n32_lit, n32_add, n32_mul, n32_sub, n32_le, n32_lt, n32_eq, n32_nat, gdn, gd_T, inbT, bd_y, bd2_y, ifp, ifn, not_true_eq_false, not_false_eq_true, and_self, true_and, and_true, false_and, and_false, or_self, true_or, or_true, false_or, or_false, wA_s, wL_s, sA_same, sL_same, sA_L, sL_A, sA_I, sL_I, wI_A, wI_L, wI_same, sA_sA, sL_sL, sA_ne, sL_ne, wI_ne]) ?_
      unfold F_advance_b197
      refine Ok.gd (n32_inb (by omega)) ?_
      simp only [zl, v3']
      refine Ok.bd (fits_L hk104 hs' hox (by omega) (vC v) hc8) ?_
      by_cases q : need x ≤ vC v
      · rw [ifp q, b32, ifp q]
        exact Ok.ff (by simp (disch := omega) only [↓reduceIte, ↓lt_y, leT, leF, ltT, ltF, eqT, eqF, n32_lit, n32_add, n32_mul, n32_sub, n32_le, n32_lt, n32_eq, n32_nat, gdn, gd_T, inbT, bd_y, bd2_y, ifp, ifn, not_true_eq_false, not_false_eq_true, and_self, true_and, and_true, false_and, and_false, or_self, true_or, or_true, false_or, or_false, wA_s, wL_s, sA_same, sL_same, sA_L, sL_A, sA_I, sL_I, wI_A, wI_L, wI_same, sA_sA, sL_sL, sA_ne, sL_ne, wI_ne]) (Ok.done (stop 1 (by omega)))
      · rw [ifn q, b32, ifn q]
        exact Ok.tt (by simp (disch := omega) only [↓reduceIte, ↓lt_y, leT, leF, ltT, ltF, eqT, eqF, n32_lit, n32_add, n32_mul, n32_sub, n32_le, n32_lt, n32_eq, n32_nat, gdn, gd_T, inbT, bd_y, bd2_y, ifp, ifn, not_true_eq_false, not_false_eq_true, and_self, true_and, and_true, false_and, and_false, or_self, true_or, or_true, false_or, or_false, wA_s, wL_s, sA_same, sL_same, sA_L, sL_A, sA_I, sL_I, wI_A, wI_L, wI_same, sA_sA, sL_sL, sA_ne, sL_ne, wI_ne]) (Ok.done (stop 0 (by omega)))
    rw [ifn t11]
    refine Ok.ff (by simp (disch := omega) only [↓reduceIte, ↓lt_y, leT, leF, ltT, ltF, eqT, eqF, n32_lit, n32_add, n32_mul, n32_sub, n32_le, n32_lt, n32_eq, n32_nat, gdn, gd_T, inbT, bd_y, bd2_y, ifp, ifn, not_true_eq_false, not_false_eq_true, and_self, true_and, and_true, false_and, and_false, or_self, true_or, or_true, false_or, or_false, wA_s, wL_s, sA_same, sL_same, sA_L, sL_A, sA_I, sL_I, wI_A, wI_L, wI_same, sA_sA, sL_sL, sA_ne, sL_ne, wI_ne]) ?_
    by_cases t12 : sT x = 12
    · rw [ifp t12]
      exact Ok.tt (by simp (disch := omega) only [↓reduceIte, ↓lt_y, leT, leF, ltT, ltF, eqT, eqF, n32_lit, n32_add, n32_mul, n32_sub, n32_le, n32_lt, n32_eq, n32_nat, gdn, gd_T, inbT, bd_y, bd2_y, ifp, ifn, not_true_eq_false, not_false_eq_true, and_self, true_and, and_true, false_and, and_false, or_self, true_or, or_true, false_or, or_false, wA_s, wL_s, sA_same, sL_same, sA_L, sL_A, sA_I, sL_I, wI_A, wI_L, wI_same, sA_sA, sL_sL, sA_ne, sL_ne, wI_ne]) (Ok.done (stop 2 (by omega)))
    rw [ifn t12]
    refine Ok.ff (by simp (disch := omega) only [↓reduceIte, ↓lt_y, leT, leF, ltT, ltF, eqT, eqF, n32_lit, n32_add, n32_mul, n32_sub, n32_le, n32_lt, n32_eq, n32_nat, gdn, gd_T, inbT, bd_y, bd2_y, ifp, ifn, not_true_eq_false, not_false_eq_true, and_self, true_and, and_true, false_and, and_false, or_self, true_or, or_true, false_or, or_false, wA_s, wL_s, sA_same, sL_same, sA_L, sL_A, sA_I, sL_I, wI_A, wI_L, wI_same, sA_sA, sL_sL, sA_ne, sL_ne, wI_ne]) ?_
    by_cases t9 : sT x = 9
    · have o10 := hox.o10 t9
      refine Ok.tt (by simp (disch := omega) only [↓reduceIte, ↓lt_y, leT, leF, ltT, ltF, eqT, eqF, n32_lit, n32_add, n32_mul, n32_sub, n32_le, n32_lt, n32_eq, n32_nat, gdn, gd_T, inbT, bd_y, bd2_y, ifp, ifn, not_true_eq_false, not_false_eq_true, and_self, true_and, and_true, false_and, and_false, or_self, true_or, or_true, false_or, or_false, wA_s, wL_s, sA_same, sL_same, sA_L, sL_A, sA_I, sL_I, wI_A, wI_L, wI_same, sA_sA, sL_sL, sA_ne, sL_ne, wI_ne]) (Ok.gd (n32_inb (by omega)) (Ok.gd (n32_inb (by omega)) (Ok.gd (n32_inb (by omega)) ?_)))
      obtain ⟨u, u1, u2, u3⟩ := hv'.2.2.2.2.1
      have zk := n32_nat (a := 52 * b + vP v) (by omega)
      simp only [zl, zk, hs'.h2 (by omega), hs'.h3 (by omega), u1]
      have ecnd : (n32 u >>> (2 * n32 (s1 x) &&& 31)) &&& 3 = n32 (vS v (s1 x)) := by
        rw [show (2 : Int32) * n32 (s1 x) = n32 (2 * s1 x) from by simp (disch := omega) only [↓reduceIte, ↓lt_y, leT, leF, ltT, ltF, eqT, eqF, n32_lit, n32_add, n32_mul, n32_sub, n32_le, n32_lt, n32_eq, n32_nat, gdn, gd_T, inbT, bd_y, bd2_y, ifp, ifn, not_true_eq_false, not_false_eq_true, and_self, true_and, and_true, false_and, and_false, or_self, true_or, or_true, false_or, or_false, wA_s, wL_s, sA_same, sL_same, sA_L, sL_A, sA_I, sL_I, wI_A, wI_L, wI_same, sA_sA, sL_sL, sA_ne, sL_ne, wI_ne], show (31 : Int32) = n32 31 from rfl, n32_shr _ _ (by omega) (by omega), show (3 : Int32) = n32 3 from rfl, n32_and, u3 _ o10.1]
      have hs2 := hok.2.2.2 (s1 x)
      rw [ecnd]
      by_cases q : vS v (s1 x) = s2 x + 1
      · rw [ifp (c := sT x = 9 ∧ vS v (s1 x) = s2 x + 1) ⟨t9, q⟩]
        have hg := (ho.2 _ x hx).2 t9
        refine Ok.tt (by simp (disch := omega) only [↓reduceIte, ↓lt_y, leT, leF, ltT, ltF, eqT, eqF, n32_lit, n32_add, n32_mul, n32_sub, n32_le, n32_lt, n32_eq, n32_nat, gdn, gd_T, inbT, bd_y, bd2_y, ifp, ifn, not_true_eq_false, not_false_eq_true, and_self, true_and, and_true, false_and, and_false, or_self, true_or, or_true, false_or, or_false, wA_s, wL_s, sA_same, sL_same, sA_L, sL_A, sA_I, sL_I, wI_A, wI_L, wI_same, sA_sA, sL_sL, sA_ne, sL_ne, wI_ne]) (Ok.gd (n32_inb (by omega)) (Ok.gd (n32_inb (by omega)) (Ok.lt (sA σ' 45 (up0 (mA σ' 45) l (n32 (s3 x)))) (by rw [wA_s, hs'.h4 (by omega)]) ?_)))
        refine b271_L hl (hv'.pc (p := s3 x)) (by show s3 x < 1000; omega) ?_
        have e7 : sA (sA σ' 45 (up0 (mA σ' 45) l (n32 (s3 x)))) 45 (up0 (mA (sA σ' 45 (up0 (mA σ' 45) l (n32 (s3 x)))) 45) l (n32 (vP (jmp v (s3 x)) + 1))) = sA σ' 45 (up0 (mA σ' 45) l (n32 (s3 x + 1))) := by
          rw [sA_sA, sA_same]
          congr 1
          funext j
          simp only [up0]
          split <;> rfl
        rw [e7]
        have f6 : Fr [] [41, 42, 45, 46, 47] [43, 44] σ' (sA σ' 45 (up0 (mA σ' 45) l (n32 (s3 x + 1)))) := (Fr.sA σ' 45 _).mono (by simp) (by simp <;> omega) (by simp)
        have hi := ih (sA σ' 45 (up0 (mA σ' 45) l (n32 (s3 x + 1)))) (jmp v (s3 x + 1)) fu (by show xs.length < f + (s3 x + 1); omega) (by show s3 x + 1 ≤ xs.length; omega) (by omega) (hB'.fr f6 (by simp) (by simp)) (hX'.fr f6 (by simp) (by intro j h1 h2; simp; omega)) (hM'.fr f6 (by simp) (by simp) (by simp)) hv'.pc hok ⟨_, hk104, e54⟩
        exact hi.mono fun o ho => ho.from (fr5.tr f6 (by simp) (by simp <;> omega) (by simp <;> omega)) (hO'.tr OL.pc) (by show vP v ≤ s3 x + 1; omega)
      · rw [ifn (c := sT x = 9 ∧ vS v (s1 x) = s2 x + 1) (fun z => q z.2)]
        refine Ok.ff (by simp (disch := omega) only [↓reduceIte, ↓lt_y, leT, leF, ltT, ltF, eqT, eqF, n32_lit, n32_add, n32_mul, n32_sub, n32_le, n32_lt, n32_eq, n32_nat, gdn, gd_T, inbT, bd_y, bd2_y, ifp, ifn, not_true_eq_false, not_false_eq_true, and_self, true_and, and_true, false_and, and_false, or_self, true_or, or_true, false_or, or_false, wA_s, wL_s, sA_same, sL_same, sA_L, sL_A, sA_I, sL_I, wI_A, wI_L, wI_same, sA_sA, sL_sL, sA_ne, sL_ne, wI_ne]) ?_
        exact goon σ' v (Fr.rf.mono (by simp) (by simp) (by simp)) OL.rf hv' hok rfl
    · rw [ifn (c := sT x = 9 ∧ vS v (s1 x) = s2 x + 1) (fun z => t9 z.1)]
      refine Ok.ff (by simp (disch := omega) only [↓reduceIte, ↓lt_y, leT, leF, ltT, ltF, eqT, eqF, n32_lit, n32_add, n32_mul, n32_sub, n32_le, n32_lt, n32_eq, n32_nat, gdn, gd_T, inbT, bd_y, bd2_y, ifp, ifn, not_true_eq_false, not_false_eq_true, and_self, true_and, and_true, false_and, and_false, or_self, true_or, or_true, false_or, or_false, wA_s, wL_s, sA_same, sL_same, sA_L, sL_A, sA_I, sL_I, wI_A, wI_L, wI_same, sA_sA, sL_sL, sA_ne, sL_ne, wI_ne]) ?_
      exact goon σ' v (Fr.rf.mono (by simp) (by simp) (by simp)) OL.rf hv' hok rfl
