set_option maxRecDepth 100000
/-! THE REFERENCE: what is read, good or not -/
def MEr (σ : MS) (e : Er) : Prop := mI σ 4 = n32 e.1 ∧ 0 < e.1 ∧ e.1 < 10 ∧ mI σ 5 = n32 e.2
def PS (σ : MS) (t : List Nat) (s : Rs (List Tk)) : Prop := MTx σ t ∧ match s with
  | .inl e => MEr σ e ∧ ∃ l, MTk σ t l
  | .inr l => (mI σ 4 = 0 ∧ mI σ 5 = -1) ∧ MTk σ t l
theorem PS.fr {is as ls : List Nat} {σ τ : MS} {t : List Nat} {s : Rs (List Tk)} (h : PS σ t s) (f : Fr is as ls σ τ) (h1 : ∀ j, (3 ≤ j ∧ j ≤ 9) → j ∉ is) (h2 : 1 ∉ as) (h3 : 10 ∉ ls) : PS τ t s := by
  obtain ⟨a, b⟩ := h
  refine ⟨a.fr f (h1 3 (by omega)) h2, ?_⟩
  cases s with
  | inl e =>
    obtain ⟨⟨b1, b2, b3, b4⟩, l, b5⟩ := b
    exact ⟨⟨by rw [f.1 4 (h1 4 (by omega))]; exact b1, b2, b3, by rw [f.1 5 (h1 5 (by omega))]; exact b4⟩, l, b5.fr f ⟨h1 6 (by omega), h1 7 (by omega), h1 8 (by omega), h1 9 (by omega)⟩ h3⟩
  | inr l => exact ⟨⟨by rw [f.1 4 (h1 4 (by omega))]; exact b.1.1, by rw [f.1 5 (h1 5 (by omega))]; exact b.1.2⟩, b.2.fr f ⟨h1 6 (by omega), h1 7 (by omega), h1 8 (by omega), h1 9 (by omega)⟩ h3⟩
theorem PS.tk {σ : MS} {t : List Nat} {s : Rs (List Tk)} (h : PS σ t s) : ∃ l, MTk σ t l ∧ ∀ l', s = .inr l' → l = l' := by
  obtain ⟨a, b⟩ := h
  cases s with
  | inl e => obtain ⟨l, b5⟩ := b.2; exact ⟨l, b5, fun l' z => by cases z⟩
  | inr l => exact ⟨l, b.2, fun l' z => by cases z; rfl⟩
def bi (b : Bool) : Int32 := if b = true then n32 1 else n32 0
theorem gN : bi false = 0 := by decide
theorem gY : ¬ bi true = 0 := by decide
theorem bi_0 {b : Bool} : bi b = 0 ↔ b = false := by cases b <;> decide
theorem isGood_S {σ : MS} {t : List Nat} {s : Rs (List Tk)} (h : PS σ t s) : F_isGood σ = some (bi s.isRight) := by
  unfold F_isGood
  cases s with
  | inl e =>
    obtain ⟨-, ⟨b1, b2, b3, -⟩, -⟩ := h
    rw [b1, ifn (fun z => by rw [show (0 : Int32) = n32 0 from rfl, n32_eq ⟨by omega, by omega⟩] at z; omega)]
    rfl
  | inr l =>
    obtain ⟨-, b, -⟩ := h
    rw [b.1, ifp rfl]; rfl
theorem isGood_y {σ : MS} {t : List Nat} {l : List Tk} (h : PS σ t (.inr l)) : F_isGood σ = some 1 := isGood_S h
theorem isGood_n {σ : MS} {t : List Nat} {e : Er} (h : PS σ t (.inl e)) : F_isGood σ = some 0 := isGood_S h
theorem g1N : ¬ (1 : Int32) = 0 := by decide
theorem MTk.cur {σ : MS} {t : List Nat} {l : List Tk} (h : MTk σ t l) : kS (cur l) ≤ 5 ∧ mI σ 8 = n32 (kS (cur l)) ∧ mI σ 6 = n32 (kP (cur l)) ∧ kP (cur l) ≤ t.length ∧ (2 ≤ kS (cur l) ∧ kS (cur l) ≤ 3 → mL σ 10 0 = e64 (kV (cur l)) ∧ kV (cur l) < 9223372036854775808) ∧ (kS (cur l) = 4 → mI σ 9 = n32 (kV (cur l)) ∧ kV (cur l) ≤ 9999) ∧ (kS (cur l) = 5 → t[kP (cur l)]? = some (kV (cur l))) ∧ (2 ≤ kS (cur l) → ∃ e, mI σ 7 = n32 e ∧ TkA t e l.tail) := by
  obtain ⟨k, l', rfl, h⟩ := h
  exact h
theorem fails_S {σ : MS} {t : List Nat} {s : Rs (List Tk)} (h : PS σ t s) {k p : Nat} (hk : 0 < k ∧ k < 10) : ∃ τ, F_fails (n32 k) (n32 p) σ = some τ ∧ Fr [4, 5] [] [] σ τ ∧ PS τ t (rbd s fun _ => .inl (k, p)) := by
  unfold F_fails
  cases s with
  | inl e =>
    obtain ⟨b1, b2, b3, b4⟩ := h.2.1
    rw [b1, ifn (fun z => by rw [show (0 : Int32) = n32 0 from rfl, n32_le ⟨by omega, by omega⟩] at z; omega)]
    exact ⟨σ, rfl, Fr.any, h⟩
  | inr l =>
    obtain ⟨hT, b, hM⟩ := h
    rw [b.1, ifp (by decide)]
    simp only [↓lt_y]
    have f : Fr [4, 5] [] [] σ (wI (wI σ 4 (n32 k)) 5 (n32 p)) := (Fr.any.w1 4 _ (by simp)).w1 5 _ (by simp)
    exact ⟨_, rfl, f, hT.fr f (by simp) (by simp), ⟨by rw [wI_ne _ _ _ _ (by omega), wI_same], hk.1, hk.2, by rw [wI_same]⟩, l, hM.fr f (by simp) (by simp)⟩
theorem isWord_L {σ : MS} {t : List Nat} {l : List Tk} (h : MTk σ t l) {w : Nat} (hw : w < 9223372036854775808) : F_isWord σ (e64 w) = some (bi (isW l w)) := by
  obtain ⟨c1, c2, -, -, c5, -⟩ := h.cur
  unfold F_isWord isW bi
  rw [c2, show (3 : Int32) = n32 3 from rfl]
  by_cases q : kS (cur l) = 3
  · rw [ifp (by rw [q]), (c5 (by omega)).1]
    by_cases q2 : kV (cur l) = w
    · rw [ifp ((kc (c5 (by omega)).2 hw).mpr q2), ifp (by simp [q, q2])]; rfl
    · rw [ifn (fun z => q2 ((kc (c5 (by omega)).2 hw).mp z)), ifn (by simp [q2])]; rfl
  · rw [ifn (fun z => q ((n32_eq ⟨by omega, by omega⟩).mp z)), ifn (by simp [q])]; rfl
theorem stands_L {σ : MS} {t : List Nat} {l : List Tk} (hT : MTx σ t) (h : MTk σ t l) {c : Nat} (hc : c < 256) : F_stands σ (n32 c) = some (bi (isC l c)) := by
  obtain ⟨c1, c2, c3, c4, -, -, c7, -⟩ := h.cur
  have hl := hT.2.1
  unfold F_stands isC bi
  rw [c2, show (5 : Int32) = n32 5 from rfl]
  by_cases q : kS (cur l) = 5
  · rw [ifp (by rw [q]), c3, sign_L hT (by omega), bd_y]
    have e : t.getD (kP (cur l)) 0 = kV (cur l) := by rw [List.getD_eq_getElem?_getD, c7 q]; rfl
    have hlt := hT.lt (kP (cur l))
    rw [e] at hlt ⊢
    by_cases q2 : kV (cur l) = c
    · rw [ifp (by rw [q2]), ifp (by simp [q, q2])]; rfl
    · rw [ifn (fun z => q2 ((n32_eq ⟨by omega, by omega⟩).mp z)), ifn (by simp [q2])]; rfl
  · rw [ifn (fun z => q ((n32_eq ⟨by omega, by omega⟩).mp z)), ifn (by simp [q])]; rfl
theorem misplaced_S {σ : MS} {t : List Nat} {s : Rs (List Tk)} (h : PS σ t s) : ∃ τ, F_misplaced σ = some τ ∧ Fr [4, 5] [] [] σ τ ∧ PS τ t (rbd s fun l => .inl (errT l)) := by
  obtain ⟨l, hM, hs⟩ := h.tk
  obtain ⟨c1, c2, c3, c4, -⟩ := hM.cur
  unfold F_misplaced F_misplaced_b14
  rw [c2, c3]
  have h1 : ∀ k, 0 < k ∧ k < 10 → k = (if kS (cur l) = 1 then 1 else 2) → ∃ τ, (bd (F_fails (n32 k) (n32 (kP (cur l))) σ) fun σ_2 => some σ_2) = some τ ∧ Fr [4, 5] [] [] σ τ ∧ PS τ t (rbd s fun l => .inl (errT l)) := by
    intro k hk e
    obtain ⟨τ, e1, f, g⟩ := fails_S h (p := kP (cur l)) hk
    refine ⟨τ, by rw [e1, bd_y], f, ?_⟩
    cases s with
    | inl _ => exact g
    | inr l' =>
      have := hs l' rfl
      subst this
      have e2 : errT l = (k, kP (cur l)) := by rw [e]; rfl
      show PS τ t (.inl (errT l))
      rw [e2]; exact g
  by_cases q : kS (cur l) = 1
  · rw [ifp (by rw [q]; rfl)]
    exact h1 1 (by omega) (by rw [ifp q])
  · rw [show (1 : Int32) = n32 1 from rfl, ifn (fun z => q ((n32_eq ⟨by omega, by omega⟩).mp z))]
    exact h1 2 (by omega) (by rw [ifn q])
/-- the next token -/
theorem goOn_S {σ : MS} {t : List Nat} {l : List Tk} (h : PS σ t (.inr l)) (h2 : 2 ≤ kS (cur l)) : ∃ τ, F_goOn σ = some τ ∧ Fr [6, 7, 8, 9] [] [10] σ τ ∧ PS τ t (.inr l.tail) := by
  obtain ⟨hT, b, hM⟩ := h
  obtain ⟨e, h7, hA⟩ := hM.cur.2.2.2.2.2.2.2 h2
  obtain ⟨τ, e1, f, g⟩ := goOn_L hT h7 hA
  exact ⟨τ, e1, f, hT.fr f (by simp) (by simp), ⟨by rw [f.1 4 (by simp)]; exact b.1, by rw [f.1 5 (by simp)]; exact b.2⟩, g⟩
theorem must_S {σ : MS} {t : List Nat} {s : Rs (List Tk)} (h : PS σ t s) {y : Int32} {b : List Tk → Bool} (hy : ∀ l, s = .inr l → y = bi (b l)) (hb : ∀ l, b l = true → 2 ≤ kS (cur l)) : ∃ τ, F_must y σ = some τ ∧ Fr [4, 5, 6, 7, 8, 9] [] [10] σ τ ∧ PS τ t (rbd s fun l => pMust (b l) l) := by
  unfold F_must
  cases s with
  | inl e => rw [isGood_n h, bd_y, ifp rfl]; exact ⟨σ, rfl, Fr.any, h⟩
  | inr l =>
    rw [isGood_y h, bd_y, ifn g1N, hy l rfl]
    show ∃ τ, _ ∧ _ ∧ PS τ t (pMust (b l) l)
    unfold pMust
    cases hbl : b l with
    | false =>
      rw [ifp (by decide), ifn (by decide)]
      obtain ⟨τ, e, f, g⟩ := misplaced_S h
      exact ⟨τ, by rw [e, bd_y], Fr.mono f (by simp) (by simp) (by simp), g⟩
    | true =>
      rw [ifn (by decide), ifp rfl]
      obtain ⟨τ, e, f, g⟩ := goOn_S h (hb l hbl)
      exact ⟨τ, by rw [e, bd_y], Fr.mono f (by simp) (by simp) (by simp), g⟩
theorem isW_2 {l : List Tk} {w : Nat} (h : isW l w = true) : 2 ≤ kS (cur l) := by
  have : kS (cur l) = 3 ∧ _ := of_decide_eq_true h
  omega
theorem isC_2 {l : List Tk} {w : Nat} (h : isC l w = true) : 2 ≤ kS (cur l) := by
  have : kS (cur l) = 5 ∧ _ := of_decide_eq_true h
  omega
/-- must a word, must a sign -/
theorem mustW_S {σ : MS} {t : List Nat} {s : Rs (List Tk)} (h : PS σ t s) {w : Nat} (hw : w < 9223372036854775808) : ∃ y τ, F_isWord σ (e64 w) = some y ∧ F_must y σ = some τ ∧ Fr [4, 5, 6, 7, 8, 9] [] [10] σ τ ∧ PS τ t (rbd s fun l => pMust (isW l w) l) := by
  obtain ⟨l, hM, hs⟩ := h.tk
  obtain ⟨τ, e, f, g⟩ := must_S h (y := bi (isW l w)) (b := fun l => isW l w) (fun l' z => by rw [hs l' z]) (fun l z => isW_2 z)
  exact ⟨_, τ, isWord_L hM hw, e, f, g⟩
theorem mustC_S {σ : MS} {t : List Nat} {s : Rs (List Tk)} (h : PS σ t s) {c : Nat} (hc : c < 256) : ∃ y τ, F_stands σ (n32 c) = some y ∧ F_must y σ = some τ ∧ Fr [4, 5, 6, 7, 8, 9] [] [10] σ τ ∧ PS τ t (rbd s fun l => pMust (isC l c) l) := by
  obtain ⟨l, hM, hs⟩ := h.tk
  obtain ⟨τ, e, f, g⟩ := must_S h (y := bi (isC l c)) (b := fun l => isC l c) (fun l' z => by rw [hs l' z]) (fun l z => isC_2 z)
  exact ⟨_, τ, stands_L h.1 hM hc, e, f, g⟩
def rl {α : Type} (s : Rs (α × List Tk)) : Rs (List Tk) := rbd s fun a => .inr a.2
theorem numeral_S {σ : MS} {t : List Nat} {s : Rs (List Tk)} (h : PS σ t s) {lo hi : Nat} (hlo : lo ≤ hi) (hhi : hi ≤ 9999) : ∃ x τ, F_numeral (n32 lo) (n32 hi) σ = some (n32 x, τ) ∧ lo ≤ x ∧ x ≤ hi ∧ Fr [4, 5, 6, 7, 8, 9, 11] [] [10] σ τ ∧ PS τ t (rbd s fun l => rl (pNum lo hi l)) ∧ (∀ l a, s = .inr l → pNum lo hi l = .inr a → x = a.1) ∧ ∀ l, s = .inr l → mI τ 11 = n32 (kP (cur l)) := by
  unfold F_numeral
  cases s with
  | inl e =>
    rw [isGood_n h, bd_y, ifp rfl]
    exact ⟨lo, σ, rfl, Nat.le_refl _, hlo, Fr.any, h, (fun l a z => by cases z), (fun l z => by cases z)⟩
  | inr l =>
    rw [isGood_y h, bd_y, ifn g1N, lt_y]
    obtain ⟨c1, c2, c3, c4, c5, c6, c7, c8⟩ := h.2.2.cur
    have f0 : Fr [11] [] [] σ (wI σ 11 (mI σ 6)) := Fr.wI _ _ _
    have g11 : mI (wI σ 11 (mI σ 6)) 11 = n32 (kP (cur l)) := by rw [wI_same]; exact c3
    have h0 := h.fr f0 (by intro j hj; simp; omega) (by simp) (by simp)
    rw [wI_ne _ _ _ _ (by omega), c2, show (4 : Int32) = n32 4 from rfl]
    generalize wI σ 11 (mI σ 6) = s0 at f0 g11 h0
    show ∃ x τ, _ ∧ lo ≤ x ∧ x ≤ hi ∧ Fr [4, 5, 6, 7, 8, 9, 11] [] [10] σ τ ∧ PS τ t (rl (pNum lo hi l)) ∧ _
    -- an error: what is behind it
    have bad : ∀ τ e, Fr [4, 5] [] [] s0 τ → PS τ t (.inl e) → pNum lo hi l = .inl e → ∃ x υ, F_numeral_b61 (n32 lo) τ = some (n32 x, υ) ∧ lo ≤ x ∧ x ≤ hi ∧ Fr [4, 5, 6, 7, 8, 9, 11] [] [10] σ υ ∧ PS υ t (rl (pNum lo hi l)) ∧ (∀ l' a, Sum.inr l = (.inr l' : Rs (List Tk)) → pNum lo hi l' = .inr a → x = a.1) ∧ ∀ l', Sum.inr l = (.inr l' : Rs (List Tk)) → mI υ 11 = n32 (kP (cur l')) := by
      intro τ e f g hp
      unfold F_numeral_b61 F_numeral_b77
      rw [lt_y, isGood_n g, bd_y, ifp rfl, bd_y, ifp rfl]
      refine ⟨lo, τ, rfl, Nat.le_refl _, hlo, Fr.tr f0 f (by simp) (by simp) (by simp), by rw [hp]; exact g, ?_, ?_⟩
      · intro l' a z hz; cases z; rw [hp] at hz; cases hz
      · intro l' z; cases z; rw [f.1 11 (by simp)]; exact g11
    by_cases q : kS (cur l) = 4
    · rw [ifp (by rw [q])]
      obtain ⟨c6a, c6b⟩ := c6 q
      have e9 : mI s0 9 = n32 (kV (cur l)) := by rw [f0.1 9 (by simp)]; exact c6a
      unfold F_numeral_b29
      rw [isGood_y h0, bd_y, ifn g1N, e9]
      have hbad : kV (cur l) < lo ∨ hi < kV (cur l) → ∃ x υ, F_numeral_b52 F_numeral_b61 (n32 lo) s0 = some (n32 x, υ) ∧ lo ≤ x ∧ x ≤ hi ∧ Fr [4, 5, 6, 7, 8, 9, 11] [] [10] σ υ ∧ PS υ t (rl (pNum lo hi l)) ∧ (∀ l' a, Sum.inr l = (.inr l' : Rs (List Tk)) → pNum lo hi l' = .inr a → x = a.1) ∧ ∀ l', Sum.inr l = (.inr l' : Rs (List Tk)) → mI υ 11 = n32 (kP (cur l')) := by
        intro z
        unfold F_numeral_b52
        obtain ⟨τ, e1, f1, g1⟩ := fails_S h0 (k := 4) (p := kP (cur l)) (by omega)
        rw [f0.1 6 (by simp), c3, show (4 : Int32) = n32 4 from rfl, e1, bd_y]
        exact bad τ _ f1 g1 (by unfold pNum; rw [ifp q, ifp z])
      by_cases q1 : kV (cur l) < lo
      · rw [ifp ((n32_lt ⟨by omega, by omega⟩).mpr q1)]
        exact hbad (Or.inl q1)
      · rw [ifn (fun z => q1 ((n32_lt ⟨by omega, by omega⟩).mp z))]
        by_cases q2 : kV (cur l) ≤ hi
        · rw [ifp ((n32_le ⟨by omega, by omega⟩).mpr q2)]
          unfold F_numeral_b61 F_numeral_b77
          obtain ⟨τ, e1, f1, g1⟩ := goOn_S h0 (by omega)
          rw [lt_y, isGood_y h0, bd_y, ifn g1N, e1, bd_y, isGood_y g1, bd_y, ifn g1N, e9]
          have hp : pNum lo hi l = .inr (kV (cur l), l.tail) := by unfold pNum; rw [ifp q, ifn (by omega)]
          refine ⟨_, τ, rfl, by omega, q2, Fr.tr f0 f1 (by simp) (by simp) (by simp), by rw [hp]; exact g1, ?_, ?_⟩
          · intro l' a z hz; cases z; rw [hp] at hz; cases hz; rfl
          · intro l' z; cases z; rw [f1.1 11 (by simp)]; exact g11
        · rw [ifn (fun z => q2 ((n32_le ⟨by omega, by omega⟩).mp z))]
          exact hbad (Or.inr (by omega))
    · rw [ifn (fun z => q ((n32_eq ⟨by omega, by omega⟩).mp z))]
      obtain ⟨τ, e1, f1, g1⟩ := misplaced_S h0
      rw [e1, bd_y]
      unfold F_numeral_b29
      rw [isGood_n (e := errT l) g1, bd_y, ifp rfl]
      exact bad τ _ f1 g1 (by unfold pNum; rw [ifn q])
