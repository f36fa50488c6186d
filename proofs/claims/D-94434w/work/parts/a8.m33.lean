set_option maxRecDepth 100000
/-! THE REFERENCE: what is asked is read -/
def FE (b : Nat) (σ τ : MS) : Prop := Fr [4, 5, 6, 7, 8, 9, 37, 38, 39] [18, 30, 31, 32, 33] [10] σ τ ∧ (∀ k, k ≠ b → mA τ 18 k = mA σ 18 k) ∧ ∀ k, (k < 400 * b ∨ 400 * b + 400 ≤ k) → mA τ 30 k = mA σ 30 k ∧ mA τ 31 k = mA σ 31 k
theorem FE.rf {b : Nat} {σ : MS} : FE b σ σ := ⟨Fr.any, fun _ _ => rfl, fun _ _ => ⟨rfl, rfl⟩⟩
theorem FE.tr {b : Nat} {σ τ υ : MS} (h : FE b σ τ) (h' : FE b τ υ) : FE b σ υ := ⟨Fr.tr h.1 h'.1 (by simp) (by simp) (by simp), fun k x => (h'.2.1 k x).trans (h.2.1 k x), fun k x => ⟨(h'.2.2 k x).1.trans (h.2.2 k x).1, (h'.2.2 k x).2.trans (h.2.2 k x).2⟩⟩
theorem FE.of {b : Nat} {is ls : List Nat} {σ τ : MS} (f : Fr is [] ls σ τ) (h1 : ∀ k, k ∈ is → k ∈ [4, 5, 6, 7, 8, 9, 37, 38, 39]) (h2 : ∀ k, k ∈ ls → k ∈ [10]) : FE b σ τ := ⟨Fr.mono f h1 (by simp) h2, fun k _ => by rw [f.2.1 18 (by simp)], fun k _ => ⟨by rw [f.2.1 30 (by simp)], by rw [f.2.1 31 (by simp)]⟩⟩
/-- piles as they may be -/
def wfS : List (Nat × Nat) → Prop
  | [] => True
  | a :: s => (1 ≤ a.1 ∧ a.1 ≤ 8 ∧ a.2 < 127) ∧ (a.1 ≤ 7 → s ≠ []) ∧ (a.1 = 8 → s = []) ∧ (a.1 ≤ 6 → topS s < a.1 ∨ 7 ≤ topS s ∨ (a.1 = 3 ∧ topS s = 3)) ∧ wfS s
def nbS : List (Nat × Nat) → Nat
  | [] => 0
  | a :: s => nbS s + if a.1 = 3 ∨ a.1 = 7 then 1 else 0
def opS : List (Nat × Nat) → Nat
  | [] => 0
  | a :: s => opS s + if a.1 ≤ 6 then 1 else 0
theorem wf_len : ∀ (st : List (Nat × Nat)), wfS st → st ≠ [] → st.length ≤ 7 * nbS st + if topS st ≤ 6 then topS st + 1 else 1 := by
  intro st
  induction st with
  | nil => intro _ h; exact absurd rfl h
  | cons a s ih =>
    rintro ⟨⟨h1, h2, -⟩, h3, h4, h5, h6⟩ -
    have et : topS (a :: s) = a.1 := rfl
    rw [et, nbS, List.length_cons]
    by_cases q : s = []
    · subst q
      have : ¬ a.1 ≤ 7 := fun z => h3 z rfl
      rw [List.length_nil, ifn (c := a.1 ≤ 6) (by omega)]; omega
    · have i := ih h6 q
      have hh : (if topS s ≤ 6 then topS s + 1 else 1) ≤ 7 := by split <;> omega
      by_cases q8 : a.1 = 8
      · exact absurd (h4 q8) q
      · by_cases q3 : a.1 = 3 ∨ a.1 = 7
        · rw [ifp q3]
          have : 1 ≤ (if a.1 ≤ 6 then a.1 + 1 else 1) := by split <;> omega
          omega
        · rw [ifn q3, ifp (c := a.1 ≤ 6) (by omega)]
          rcases h5 (by omega) with z | z | z
          · rw [ifp (by omega)] at i; omega
          · rw [ifn (by omega)] at i; omega
          · omega
/-- configurations as they may be -/
def okCf (b : Bool) (cf : Cf) : Prop := wfS cf.1 ∧ nbS cf.1 = cf.2.2.2.1 ∧ cf.2.2.2.1 ≤ 7 ∧ cf.2.2.1 ≤ 40 ∧ (b = true → cf.2.1.length + opS cf.1 ≤ 9 * cf.2.2.1 + cf.2.2.2.1) ∧ (b = false → cf.2.1.length + opS cf.1 + 1 ≤ 9 * cf.2.2.1)
theorem okCf.len {b : Bool} {cf : Cf} (h : okCf b cf) : cf.1.length ≤ 60 ∧ cf.2.1.length + opS cf.1 ≤ 367 := by
  obtain ⟨h1, h2, h3, h4, h5, h6⟩ := h
  constructor
  · by_cases q : cf.1 = []
    · rw [q]; simp
    · have := wf_len _ h1 q
      have hh : (if topS cf.1 ≤ 6 then topS cf.1 + 1 else 1) ≤ 7 := by split <;> omega
      omega
  · cases b with
    | true => have := h5 rfl; omega
    | false => have := h6 rfl; omega
/-- the reference's pile, code, units -/
def MPl (σ : MS) (st : List (Nat × Nat)) : Prop := mI σ 39 = n32 st.length ∧ ∀ k a, st[k]? = some a → mA σ 32 (st.length - 1 - k) = n32 a.1 ∧ mA σ 33 (st.length - 1 - k) = n32 a.2
def MCd (σ : MS) (b : Nat) (c : Cd) : Prop := mI σ 37 = n32 (400 * b + c.length) ∧ ∀ j q, c[j]? = some q → mA σ 30 (400 * b + j) = n32 q.1 ∧ (q.1 = 110 ∨ (97 ≤ q.1 ∧ q.1 ≤ 122 ∧ q.1 ≠ 97) → mA σ 31 (400 * b + j) = n32 q.2)
def MCf (σ : MS) (b : Nat) (t : List Nat) (P : Nat) (cf : Cf) : Prop := MPl σ cf.1 ∧ MCd σ b cf.2.1 ∧ mA σ 18 b = n32 cf.2.2.1 ∧ mI σ 38 = n32 cf.2.2.2.1 ∧ mI σ 36 = n32 b ∧ mA σ 12 b = n32 P ∧ PS σ t (.inr cf.2.2.2.2)
theorem MPl.fr {is as ls : List Nat} {σ τ : MS} {st : List (Nat × Nat)} (h : MPl σ st) (f : Fr is as ls σ τ) (h1 : 39 ∉ is) (h2 : 32 ∉ as) (h3 : 33 ∉ as) : MPl τ st := ⟨by rw [f.1 39 h1]; exact h.1, fun k a hk => by rw [f.2.1 32 h2, f.2.1 33 h3]; exact h.2 k a hk⟩
theorem MCd.fr {is as ls : List Nat} {σ τ : MS} {b : Nat} {c : Cd} (h : MCd σ b c) (f : Fr is as ls σ τ) (h1 : 37 ∉ is) (h2 : 30 ∉ as) (h3 : 31 ∉ as) : MCd τ b c := ⟨by rw [f.1 37 h1]; exact h.1, fun k a hk => by rw [f.2.1 30 h2, f.2.1 31 h3]; exact h.2 k a hk⟩
theorem MCf.go {σ τ : MS} {b : Nat} {t : List Nat} {P : Nat} {st : List (Nat × Nat)} {c : Cd} {u w : Nat} {l l' : List Tk} {is ls : List Nat} (h : MCf σ b t P (st, c, u, w, l)) (f : Fr is [] ls σ τ) (h1 : 39 ∉ is ∧ 37 ∉ is ∧ 38 ∉ is ∧ 36 ∉ is) (g : PS τ t (.inr l')) : MCf τ b t P (st, c, u, w, l') := by
  obtain ⟨a1, a2, a3, a4, a5, a6, -⟩ := h
  exact ⟨a1.fr f h1.1 (by simp) (by simp), a2.fr f h1.2.1 (by simp) (by simp), by rw [f.2.1 18 (by simp)]; exact a3, by rw [f.1 38 h1.2.2.1]; exact a4, by rw [f.1 36 h1.2.2.2]; exact a5, by rw [f.2.1 12 (by simp)]; exact a6, g⟩
theorem pushE_L {σ : MS} {st : List (Nat × Nat)} (h : MPl σ st) (hl : st.length ≤ 80) (a : Nat × Nat) : ∃ τ, F_pushE (n32 a.1) (n32 a.2) σ = some τ ∧ Fr [39] [32, 33] [] σ τ ∧ MPl τ (a :: st) := by
  unfold F_pushE
  have z := n32_nat (a := st.length) (by omega)
  simp only [↓lt_y]
  have e : ∀ i v, mI (wA σ 32 i v) 39 = n32 st.length := fun i v => h.1
  have e2 : ∀ i v j w, mI (wA (wA σ 32 i v) 33 j w) 39 = n32 st.length := fun i v j w => h.1
  rw [e, e2, h.1, gd_y (n32_inb (by omega)), gd_y (n32_inb (by omega)), z]
  refine ⟨_, rfl, ((Fr.any.wA1 32 _ _ (by simp)).wA1 33 _ _ (by simp)).w1 39 _ (by simp), ?_, ?_⟩
  · rw [wI_same, List.length_cons]; simp (disch := omega) only [↓reduceIte, ↓lt_y, leT, leF, ltT, ltF, eqT, eqF, n32_lit, n32_add, n32_mul, n32_sub, n32_le, n32_lt, n32_eq, n32_nat, gdn, gd_T, inbT, bd_y, bd2_y, ifp, ifn, not_true_eq_false, not_false_eq_true, and_self, true_and, and_true, false_and, and_false, or_self, true_or, or_true, false_or, or_false, wA_s, wL_s, sA_same, sL_same, sA_L, sL_A, sA_I, sL_I, wI_A, wI_L, wI_same, sA_sA, sL_sL, sA_ne, sL_ne, wI_ne]
  · intro k x hk
    rw [wI_A, wI_A, List.length_cons]
    cases k with
    | zero =>
      cases hk
      rw [show st.length + 1 - 1 - 0 = st.length from by omega, wA_at, wA_ne _ _ _ _ _ _ (by omega), wA_at]
      exact ⟨rfl, rfl⟩
    | succ k =>
      have hk' : st[k]? = some x := hk
      have hlt : k < st.length := (List.getElem?_eq_some_iff.mp hk').1
      rw [show st.length + 1 - 1 - (k + 1) = st.length - 1 - k from by omega, wA_ne _ _ _ _ _ _ (by omega), wA_ne _ _ _ _ _ _ (by omega), wA_ne _ _ _ _ _ _ (by omega)]
      exact h.2 k x hk'
theorem emit_L {σ : MS} {b : Nat} {c : Cd} (hb : b < 2) (h : MCd σ b c) (hl : c.length < 400) (q : Nat × Nat) (v : Int32) (hv : q.1 = 110 ∨ (97 ≤ q.1 ∧ q.1 ≤ 122 ∧ q.1 ≠ 97) → v = n32 q.2) : ∃ τ, F_emit (n32 q.1) v σ = some τ ∧ Fr [37] [30, 31] [] σ τ ∧ MCd τ b (c ++ [q]) ∧ ∀ k, (k < 400 * b ∨ 400 * b + 400 ≤ k) → mA τ 30 k = mA σ 30 k ∧ mA τ 31 k = mA σ 31 k := by
  unfold F_emit
  have z := n32_nat (a := 400 * b + c.length) (by omega)
  simp only [↓lt_y]
  have e : ∀ i v, mI (wA σ 30 i v) 37 = n32 (400 * b + c.length) := fun i v => h.1
  have e2 : ∀ i v j w, mI (wA (wA σ 30 i v) 31 j w) 37 = n32 (400 * b + c.length) := fun i v j w => h.1
  rw [e, e2, h.1, gd_y (n32_inb (by omega)), gd_y (n32_inb (by omega)), z]
  refine ⟨_, rfl, ((Fr.any.wA1 30 _ _ (by simp)).wA1 31 _ _ (by simp)).w1 37 _ (by simp), ⟨?_, ?_⟩, ?_⟩
  · rw [wI_same, List.length_append, List.length_singleton, show (1 : Int32) = n32 1 from rfl, n32_add, Nat.add_assoc]
  · intro k x hk
    rw [wI_A, wI_A]
    by_cases e : k < c.length
    · rw [List.getElem?_append_left e] at hk
      rw [wA_ne _ _ _ _ _ _ (by omega), wA_ne _ _ _ _ _ _ (by omega), wA_ne _ _ _ _ _ _ (by omega), wA_ne _ _ _ _ _ _ (by omega)]
      exact h.2 k x hk
    · rw [List.getElem?_append_right (by omega)] at hk
      have hk0 : k = c.length := by
        have : k - c.length < 1 := (List.getElem?_eq_some_iff.mp hk).1
        omega
      rw [hk0] at hk ⊢
      rw [Nat.sub_self] at hk
      cases hk
      rw [wA_ne _ _ _ _ _ _ (by omega), wA_at, wA_at]
      exact ⟨rfl, hv⟩
  · intro k hk
    rw [wI_A, wI_A, wA_ne _ _ _ _ _ _ (by omega), wA_ne _ _ _ _ _ _ (by omega), wA_ne _ _ _ _ _ _ (by omega), wA_ne _ _ _ _ _ _ (by omega)]
    exact ⟨rfl, rfl⟩
theorem rank_L {σ : MS} {t : List Nat} {l : List Tk} (hT : MTx σ t) (hM : MTk σ t l) : F_rankHere σ = some (n32 (rnk l)) := by
  have e1 : F_isWord σ 6385252 = some (bi (isW l 6385252)) := isWord_L hM (w := 6385252) (by decide)
  have e2 : F_isWord σ 28530 = some (bi (isW l 28530)) := isWord_L hM (w := 28530) (by decide)
  have e3 : F_stands σ 60 = some (bi (isC l 60)) := stands_L hT hM (c := 60) (by decide)
  have e4 : F_stands σ 62 = some (bi (isC l 62)) := stands_L hT hM (c := 62) (by decide)
  have e5 : F_stands σ 61 = some (bi (isC l 61)) := stands_L hT hM (c := 61) (by decide)
  have e6 : F_stands σ 43 = some (bi (isC l 43)) := stands_L hT hM (c := 43) (by decide)
  have e7 : F_stands σ 45 = some (bi (isC l 45)) := stands_L hT hM (c := 45) (by decide)
  have e8 : F_stands σ 42 = some (bi (isC l 42)) := stands_L hT hM (c := 42) (by decide)
  unfold F_rankHere rnk cmpC addC
  rw [e1, e2, e3, e4, e5, e6, e7, e8, bd_y, bd_y, bd_y, bd_y, bd_y, bd_y, bd_y, bd_y]
  cases isW l 6385252
  · cases isW l 28530
    · cases isC l 60
      · cases isC l 62
        · cases isC l 61
          · cases isC l 43
            · cases isC l 45
              · cases isC l 42 <;> rfl
              · rfl
            · rfl
          · rfl
        · rfl
      · rfl
    · rfl
  · rfl
theorem isCompared_L {σ : MS} : ∀ (st : List (Nat × Nat)) (n fu : Nat), wfS st → st ≠ [] → n = st.length → n ≤ 80 → (∀ k a, st[k]? = some a → mA σ 32 (n - 1 - k) = n32 a.1) → n < fu → F_isCompared_L7 σ fu (n32 (n - 1)) = some (bi (isCm st)) := by
  intro st
  induction st with
  | nil => intro n fu _ h; exact absurd rfl h
  | cons a s ih =>
    rintro n fu ⟨⟨h1, h2, -⟩, h3, h4, h5, h6⟩ - hn h80 hm hfu
    obtain ⟨fu, rfl⟩ : ∃ f, fu = f + 1 := ⟨fu - 1, by omega⟩
    rw [List.length_cons] at hn
    have z := n32_nat (a := n - 1) (by omega)
    have e := hm 0 a rfl
    rw [Nat.sub_zero] at e
    have k5 : n32 a.1 = (5 : Int32) ↔ a.1 = 5 := n32_eq (b := 5) ⟨by omega, by omega⟩
    have k6 : n32 a.1 = (6 : Int32) ↔ a.1 = 6 := n32_eq (b := 6) ⟨by omega, by omega⟩
    have k4 : n32 a.1 = (4 : Int32) ↔ a.1 = 4 := n32_eq (b := 4) ⟨by omega, by omega⟩
    have next : (a.1 = 5 ∨ a.1 = 6) → F_isCompared_b28 σ (F_isCompared_L7 σ fu) (n32 (n - 1)) = some (bi (isCm (a :: s))) := by
      intro q
      unfold F_isCompared_b28
      have hs : s ≠ [] := h3 (by omega)
      have hsl : 0 < s.length := List.length_pos_iff.mpr hs
      rw [lt_y, show n32 (n - 1) = n32 ((n - 2) + 1) from by congr 1; omega, n32_neg1, isCm, ifp q]
      have := ih (n - 1) fu h6 hs (by omega) (by omega) (fun k a' hk => by
        have := hm (k + 1) a' hk
        rw [show n - 1 - (k + 1) = n - 1 - 1 - k from by omega] at this; exact this) (by omega)
      rw [show n - 1 - 1 = n - 2 from by omega] at this
      exact this
    rw [F_isCompared_L7]
    simp only [z, e]
    rw [gd_y (n32_inb (by omega)), gd_y (n32_inb (by omega))]
    by_cases q5 : a.1 = 5
    · rw [ifp (k5.mpr q5)]; exact next (Or.inl q5)
    · rw [ifn (fun y => q5 (k5.mp y))]
      by_cases q6 : a.1 = 6
      · rw [ifp (k6.mpr q6)]; exact next (Or.inr q6)
      · rw [ifn (fun y => q6 (k6.mp y))]
        unfold F_isCompared_b34
        simp only [z, e]
        rw [gd_y (n32_inb (by omega)), isCm, ifn (c := a.1 = 5 ∨ a.1 = 6) (by omega)]
        by_cases q4 : a.1 = 4
        · rw [ifp (k4.mpr q4), decide_eq_true q4]; rfl
        · rw [ifn (fun y => q4 (k4.mp y)), decide_eq_false q4]; rfl
def eQ (σ : MS) (b : Nat) (t : List Nat) (P : Nat) (r : Rs (Bool × Cf)) (o : Option (Int32 × MS)) : Prop := ∃ y τ, o = some (y, τ) ∧ FE b σ τ ∧ match r with
  | .inl e => PS τ t (.inl e)
  | .inr q => y = bi q.1 ∧ MCf τ b t P q.2 ∧ okCf q.1 q.2
theorem eQ.from {σ τ : MS} {b : Nat} {t : List Nat} {P : Nat} {r : Rs (Bool × Cf)} {o : Option (Int32 × MS)} (h : eQ τ b t P r o) (f : FE b σ τ) : eQ σ b t P r o := by
  obtain ⟨y, υ, e, f2, g⟩ := h
  exact ⟨y, υ, e, f.tr f2, g⟩
/-- behind a unit, signs are taken off no more -/
theorem b104_L {σ : MS} {b : Nat} {t : List Nat} {P : Nat} {st : List (Nat × Nat)} {c : Cd} {u w : Nat} {l : List Tk} (h : MCf σ b t P (st, c, u, w, l)) (hok : okCf false (st, c, u, w, l)) (hn : st ≠ []) (ht : 6 < topS st ∨ topS st < rnk l) : eQ σ b t P (bh2 st c u w l) (F_behindUnit_b104 (n32 (rnk l)) σ) := by
  obtain ⟨(hp : MPl σ st), (hc : MCd σ b c), (hu : mA σ 18 b = n32 u), (hw : mI σ 38 = n32 w), h36, h12, (hS : PS σ t (.inr l))⟩ := id h
  obtain ⟨(o1 : wfS st), (o2 : nbS st = w), (o3 : w ≤ 7), (o4 : u ≤ 40), -, o6⟩ := id hok
  have o6' : c.length + opS st + 1 ≤ 9 * u := o6 rfl
  have hl60 : st.length ≤ 60 := hok.len.1
  have hM := hS.2.2
  have hk5 : kS (cur l) ≤ 5 := hM.cur.1
  have hr6 := (rnk_le (l := l)).1
  unfold F_behindUnit_b104 bh2
  by_cases q0 : 0 < rnk l
  · rw [ifp q0, ifn (c := n32 (rnk l) ≤ 0) (by rw [show (0 : Int32) = n32 0 from rfl, n32_le ⟨by omega, by omega⟩]; omega)]
    have h2 : 2 ≤ kS (cur l) := by
      apply Classical.byContradiction
      intro z
      have hW : ∀ w, isW l w = false := fun w => decide_eq_false fun y => by omega
      have hC : ∀ w, isC l w = false := fun w => decide_eq_false fun y => by omega
      have : rnk l = 0 := by unfold rnk cmpC addC; rw [hW, hW, hC, hC, hC, hC, hC, hC]; rfl
      omega
    have hs127 : sgn l < 127 := by
      unfold sgn
      split
      · omega
      · split
        · omega
        · rename_i q2 q1
          have : kS (cur l) = 5 := by
            apply Classical.byContradiction
            intro z
            have hC : ∀ w, isC l w = false := fun w => decide_eq_false fun y => z y.1
            have : rnk l = 2 ∨ rnk l = 1 ∨ rnk l = 0 := by
              unfold rnk cmpC addC
              rw [hC, hC, hC, hC, hC, hC]
              cases isW l 6385252
              · cases isW l 28530
                · exact Or.inr (Or.inr rfl)
                · exact Or.inr (Or.inl rfl)
              · exact Or.inl rfl
            omega
          unfold rnk at q0
          have ex : cmpC l = true ∨ addC l = true ∨ isC l 42 = true := by
            cases h1 : cmpC l
            · cases h2 : addC l
              · cases h3 : isC l 42
                · exfalso
                  have : rnk l = 2 ∨ rnk l = 1 ∨ rnk l = 0 := by
                    unfold rnk
                    rw [h1, h2, h3]
                    cases isW l 6385252
                    · cases isW l 28530
                      · exact Or.inr (Or.inr rfl)
                      · exact Or.inr (Or.inl rfl)
                    · exact Or.inl rfl
                  rcases this with z | z | z
                  · exact q2 z
                  · exact q1 z
                  · unfold rnk at z; omega
                · exact Or.inr (Or.inr rfl)
              · exact Or.inr (Or.inl rfl)
            · exact Or.inl rfl
          rcases ex with z | z | z
          · have := sg_lt.1 z; omega
          · have := sg_lt.2 z; omega
          · have := (of_decide_eq_true z).2; omega
    have push : ∀ v, v = n32 (sgn l) → eQ σ b t P (.inr (true, ((rnk l, sgn l) :: st, c, u, w, l.tail))) (F_behindUnit_b138 v (n32 (rnk l)) σ) := by
      rintro v rfl
      unfold F_behindUnit_b138
      obtain ⟨τ, e1, f1, p1⟩ := pushE_L hp (by omega) (rnk l, sgn l)
      have e1' : F_pushE (n32 (rnk l)) (n32 (sgn l)) σ = some τ := e1
      rw [e1', bd_y]
      have g1 := hS.fr f1 (by intro j hj; simp; omega) (by simp) (by simp)
      obtain ⟨υ, e2, f2, g2⟩ := goOn_S g1 h2
      rw [e2, bd_y]
      refine ⟨1, υ, rfl, ⟨Fr.tr f1 f2 (by simp) (by simp) (by simp), fun k _ => by rw [f2.2.1 18 (by simp), f1.2.1 18 (by simp)], fun k _ => ⟨by rw [f2.2.1 30 (by simp), f1.2.1 30 (by simp)], by rw [f2.2.1 31 (by simp), f1.2.1 31 (by simp)]⟩⟩, rfl, ⟨p1.fr f2 (by simp) (by simp) (by simp), (hc.fr f1 (by simp) (by simp) (by simp)).fr f2 (by simp) (by simp) (by simp), by rw [f2.2.1 18 (by simp), f1.2.1 18 (by simp)]; exact hu, by rw [f2.1 38 (by simp), f1.1 38 (by simp)]; exact hw, by rw [f2.1 36 (by simp), f1.1 36 (by simp)]; exact h36, by rw [f2.2.1 12 (by simp), f1.2.1 12 (by simp)]; exact h12, g2⟩, ?_⟩
      have hr3 : rnk l ≠ 3 := by
        unfold rnk
        repeat' split
        all_goals omega
      refine ⟨⟨⟨by show 1 ≤ rnk l; omega, by show rnk l ≤ 8; omega, hs127⟩, fun _ => hn, (fun z => by have : rnk l = 8 := z; omega), fun _ => ?_, o1⟩, ?_, o3, o4, fun _ => ?_, (fun z => by cases z)⟩
      · show topS st < rnk l ∨ _
        rcases ht with z | z
        · exact Or.inr (Or.inl (by omega))
        · exact Or.inl z
      · show nbS st + (if rnk l = 3 ∨ rnk l = 7 then 1 else 0) = w
        rw [ifn (by omega)]; exact o2
      · show c.length + (opS st + (if rnk l ≤ 6 then 1 else 0)) ≤ 9 * u + w
        rw [ifp hr6]; omega
    by_cases q2 : rnk l = 2
    · rw [ifp (by rw [q2]; rfl)]
      exact push _ (by unfold sgn; rw [ifp q2]; rfl)
    · rw [ifn (c := n32 (rnk l) = (2 : Int32)) (fun z => q2 ((n32_eq (b := 2) ⟨by omega, by omega⟩).mp z))]
      by_cases q1 : rnk l = 1
      · rw [ifp (by rw [q1]; rfl)]
        exact push _ (by unfold sgn; rw [ifn q2, ifp q1]; rfl)
      · rw [ifn (c := n32 (rnk l) = (1 : Int32)) (fun z => q1 ((n32_eq (b := 1) ⟨by omega, by omega⟩).mp z))]
        have hc3 := hM.cur
        have hlen := hS.1.2.1
        have hk2 : kS (cur l) = 5 := by
          apply Classical.byContradiction
          intro z
          have hC : ∀ w, isC l w = false := fun w => decide_eq_false fun y => z y.1
          have : rnk l = 2 ∨ rnk l = 1 ∨ rnk l = 0 := by
            unfold rnk cmpC addC
            rw [hC, hC, hC, hC, hC, hC]
            cases isW l 6385252
            · cases isW l 28530
              · exact Or.inr (Or.inr rfl)
              · exact Or.inr (Or.inl rfl)
            · exact Or.inl rfl
          omega
        rw [hc3.2.2.1, sign_L hS.1 (by have := hc3.2.2.2.1; omega), bd_y]
        have e : t.getD (kP (cur l)) 0 = kV (cur l) := by rw [List.getD_eq_getElem?_getD, hc3.2.2.2.2.2.2.1 hk2]; rfl
        exact push _ (by rw [e]; unfold sgn; rw [ifn q2, ifn q1])
  · have r0 : rnk l = 0 := by omega
    rw [ifn q0, ifp (c := n32 (rnk l) ≤ 0) (by rw [r0]; decide), lt_y]
    cases st with
    | nil => exact absurd rfl hn
    | cons a s =>
      obtain ⟨⟨x1, x2, x3⟩, x4, x5, x6, x7⟩ := o1
      have h7 : 7 ≤ a.1 := by
        rcases ht with z | z
        · exact z
        · omega
      rw [List.length_cons] at hl60
      have e39 : mI σ 39 = n32 (s.length + 1) := hp.1
      have f1 : Fr [39] [] [] σ (wI σ 39 (n32 s.length)) := Fr.wI _ _ _
      rw [e39, show n32 (s.length + 1) - (1 : Int32) = n32 s.length from by rw [show (1 : Int32) = n32 1 from rfl, n32_sub (by omega)]; rfl]
      simp only [wI_same, wI_A]
      have z := n32_nat (a := s.length) (by omega)
      have e32 : mA σ 32 s.length = n32 a.1 := by
        have := (hp.2 0 a rfl).1
        rw [List.length_cons, Nat.add_sub_cancel, Nat.sub_zero] at this; exact this
      have p1 : MPl (wI σ 39 (n32 s.length)) s := ⟨wI_same _ _ _, fun k x hk => by
        have hlt : k < s.length := (List.getElem?_eq_some_iff.mp hk).1
        have := hp.2 (k + 1) x hk
        rw [List.length_cons, show s.length + 1 - 1 - (k + 1) = s.length - 1 - k from by omega] at this
        exact this⟩
      simp only [z, e32]
      rw [gd_y (n32_inb (by omega))]
      have g1 := hS.fr f1 (by intro j hj; simp; omega) (by simp) (by simp)
      have o2' : nbS s + (if a.1 = 3 ∨ a.1 = 7 then 1 else 0) = w := o2
      have op' : opS s + (if a.1 ≤ 6 then 1 else 0) = opS (a :: s) := rfl
      rw [ifn (by omega)] at op'
      have k7 : n32 a.1 = (7 : Int32) ↔ a.1 = 7 := n32_eq (b := 7) ⟨by omega, by omega⟩
      show eQ σ b t P (if a.1 = 7 then rbd (pMust (isC l 41) l) fun l' => .inr (false, (s, c, u, w - 1, l')) else .inr (false, (s, c, u, w, l))) _
      by_cases q7 : a.1 = 7
      · rw [ifp (k7.mpr q7), ifp q7, lt_y, wI_ne _ _ _ _ (by omega), hw]
        rw [ifp (by omega)] at o2'
        rw [show n32 w - (1 : Int32) = n32 (w - 1) from by rw [show (1 : Int32) = n32 1 from rfl, n32_sub (by omega)]]
        have f2 : Fr [38, 39] [] [] σ (wI (wI σ 39 (n32 s.length)) 38 (n32 (w - 1))) := (Fr.mono f1 (by simp) (by simp) (by simp)).w1 38 _ (by simp)
        have g2 := hS.fr f2 (by intro j hj; simp; omega) (by simp) (by simp)
        have p2 : MPl (wI (wI σ 39 (n32 s.length)) 38 (n32 (w - 1))) s := p1.fr (Fr.wI _ 38 _) (by simp) (by simp) (by simp)
        have w2 : mI (wI (wI σ 39 (n32 s.length)) 38 (n32 (w - 1))) 38 = n32 (w - 1) := wI_same _ _ _
        generalize wI (wI σ 39 (n32 s.length)) 38 (n32 (w - 1)) = σ2 at f2 g2 p2 w2
        obtain ⟨y, τ, e3, e4, f3, g3⟩ := mustC_S g2 (c := 41) (by omega)
        have e3' : F_stands σ2 41 = some y := e3
        rw [e3', bd_y, e4, bd_y]
        have g3' : PS τ t (pMust (isC l 41) l) := g3
        have fF : FE b σ τ := FE.of (Fr.tr (js := [4, 5, 6, 7, 8, 9, 38, 39]) (bs := []) (ms := [10]) f2 f3 (by simp) (by simp) (by simp)) (by simp) (by simp)
        refine ⟨0, τ, rfl, fF, ?_⟩
        cases hm : pMust (isC l 41) l with
        | inl e => rw [hm] at g3'; exact g3'
        | inr l' =>
          rw [hm] at g3'
          refine ⟨rfl, ⟨p2.fr f3 (by simp) (by simp) (by simp), (hc.fr f2 (by simp) (by simp) (by simp)).fr f3 (by simp) (by simp) (by simp), by rw [f3.2.1 18 (by simp), f2.2.1 18 (by simp)]; exact hu, by rw [f3.1 38 (by simp)]; exact w2, by rw [f3.1 36 (by simp), f2.1 36 (by simp)]; exact h36, by rw [f3.2.1 12 (by simp), f2.2.1 12 (by simp)]; exact h12, g3'⟩, x7, by show nbS s = w - 1; omega, by show w - 1 ≤ 7; omega, o4, (fun z => by cases z), fun _ => by show c.length + opS s + 1 ≤ 9 * u; omega⟩
      · rw [ifn (fun z => q7 (k7.mp z)), ifn q7]
        rw [ifn (by omega)] at o2'
        refine ⟨0, _, rfl, FE.of f1 (by simp) (by simp), rfl, ⟨p1, hc.fr f1 (by simp) (by simp) (by simp), hu, by rw [wI_ne _ _ _ _ (by omega)]; exact hw, by rw [wI_ne _ _ _ _ (by omega)]; exact h36, h12, g1⟩, x7, by show nbS s = w; omega, o3, o4, (fun z => by cases z), fun _ => by show c.length + opS s + 1 ≤ 9 * u; omega⟩
