set_option maxRecDepth 100000
/-! THE REFERENCE: a step is read -/
def BS (s : Nat) (σ τ : MS) : Prop := Fr [4, 5, 6, 7, 8, 9, 11] [22, 23, 24, 25, 26, 27, 28] [10, 29] σ τ ∧ (∀ j k, k ≠ s → ((22 ≤ j ∧ j ≤ 26) ∨ j = 28) → mA τ j k = mA σ j k) ∧ (∀ k, (k < 8 * s ∨ 8 * s + 8 ≤ k) → mA τ 27 k = mA σ 27 k) ∧ ∀ k, k ≠ s → mL τ 29 k = mL σ 29 k
theorem BS.rf {s : Nat} {σ : MS} : BS s σ σ := ⟨Fr.any, fun _ _ _ _ => rfl, fun _ _ => rfl, fun _ _ => rfl⟩
theorem BS.tr {s : Nat} {σ τ υ : MS} (h : BS s σ τ) (h' : BS s τ υ) : BS s σ υ := ⟨Fr.tr h.1 h'.1 (by simp) (by simp) (by simp), fun j k x y => (h'.2.1 j k x y).trans (h.2.1 j k x y), fun k x => (h'.2.2.1 k x).trans (h.2.2.1 k x), fun k x => (h'.2.2.2 k x).trans (h.2.2.2 k x)⟩
theorem BS.of {s : Nat} {is ls : List Nat} {σ τ : MS} (f : Fr is [] ls σ τ) (h1 : ∀ k, k ∈ is → k ∈ [4, 5, 6, 7, 8, 9, 11]) (h2 : ∀ k, k ∈ ls → k ∈ [10]) : BS s σ τ := by
  refine ⟨Fr.mono f h1 (by simp) (fun k hk => by have := h2 k hk; simp at this; simp [this]), fun j k _ _ => by rw [f.2.1 j (by simp)], fun k _ => by rw [f.2.1 27 (by simp)], fun k _ => ?_⟩
  rw [f.2.2 29 (fun z => by have := h2 29 z; simp at this)]
theorem wA_ne (σ : MS) (k i j m : Nat) (v : Int32) (h : ¬ (j = k ∧ m = i)) : mA (wA σ k i v) j m = mA σ j m := by
  rw [wA_s]
  by_cases e : j = k
  · subst e
    rw [sA_same]; unfold up0; rw [ifn (fun z => h ⟨rfl, z⟩)]
  · rw [sA_ne _ _ _ _ e]
theorem wA_at (σ : MS) (k i : Nat) (v : Int32) : mA (wA σ k i v) k i = v := by rw [wA_s, sA_same]; unfold up0; rw [ifp rfl]
theorem wL_ne (σ : MS) (k i j m : Nat) (v : Int64) (h : ¬ (j = k ∧ m = i)) : mL (wL σ k i v) j m = mL σ j m := by
  rw [wL_s]
  by_cases e : j = k
  · subst e
    rw [sL_same]; unfold up0; rw [ifn (fun z => h ⟨rfl, z⟩)]
  · rw [sL_ne _ _ _ _ e]
theorem BS.wa {s : Nat} {σ : MS} (j : Nat) (v : Int32) (hj : (22 ≤ j ∧ j ≤ 26) ∨ j = 28) : BS s σ (wA σ j s v) := by
  refine ⟨Fr.any.wA1 j s v (by simp; omega), fun j' k x y => wA_ne _ _ _ _ _ _ (fun z => x z.2), fun k _ => wA_ne _ _ _ _ _ _ (fun z => by omega), fun k _ => rfl⟩
theorem BS.w27 {s i : Nat} {σ : MS} (v : Int32) (hi : 8 * s ≤ i ∧ i < 8 * s + 8) : BS s σ (wA σ 27 i v) := by
  refine ⟨Fr.any.wA1 27 i v (by simp), fun j' k x y => wA_ne _ _ _ _ _ _ (fun z => by omega), fun k x => wA_ne _ _ _ _ _ _ (fun z => by omega), fun k _ => rfl⟩
theorem BS.wl {s : Nat} {σ : MS} (v : Int64) : BS s σ (wL σ 29 s v) := by
  refine ⟨Fr.any.wL1 29 s v (by simp), fun j' k x y => rfl, fun k x => rfl, fun k x => wL_ne _ _ _ _ _ _ (fun z => x z.2)⟩
theorem PS.bs {s : Nat} {σ : MS} {t : List Nat} {st : Rs (List Tk)} (h : PS σ t st) (j i : Nat) (v : Int32) (hj : 12 ≤ j) : PS (wA σ j i v) t st := h.fr (as := [j]) (is := []) (ls := []) (Fr.any.wA1 j i v (by simp)) (by simp) (by simp; omega) (by simp)
/-- a step as it was read, marks not yet settled -/
def MSq (σ : MS) (k : Nat) (x : Stq) : Prop :=
  mA σ 22 k = n32 (sT x) ∧ (sT x ≠ 3 ∧ sT x ≠ 8 ∧ sT x ≠ 10 → mA σ 23 k = n32 (s1 x)) ∧ (sT x = 2 ∨ (4 ≤ sT x ∧ sT x ≤ 7) ∨ sT x = 9 ∨ sT x = 11 → mA σ 24 k = n32 (s2 x)) ∧
  (sT x = 6 → mA σ 25 k = n32 (s3 x)) ∧ (sT x = 3 ∨ sT x = 8 → mA σ 26 k = n32 (sl x).length ∧ ∀ j, j < (sl x).length → mA σ 27 (8 * k + j) = n32 ((sl x).getD j 0)) ∧
  (sT x = 9 ∨ sT x = 10 → mL σ 29 k = e64 (sn x) ∧ sn x < 9223372036854775808) ∧ (sT x = 9 → mA σ 28 k = n32 (sg x))
theorem MSq.bs {s k : Nat} {σ τ : MS} {x : Stq} (h : MSq σ k x) (f : BS s σ τ) (hk : k ≠ s) (hl : sT x = 3 ∨ sT x = 8 → (sl x).length ≤ 8) : MSq τ k x := by
  obtain ⟨a1, a2, a3, a4, a5, a6, a7⟩ := h
  refine ⟨by rw [f.2.1 22 k hk (by omega)]; exact a1, fun z => by rw [f.2.1 23 k hk (by omega)]; exact a2 z, fun z => by rw [f.2.1 24 k hk (by omega)]; exact a3 z, fun z => by rw [f.2.1 25 k hk (by omega)]; exact a4 z, fun z => ⟨by rw [f.2.1 26 k hk (by omega)]; exact (a5 z).1, fun j hj => ?_⟩, fun z => by rw [f.2.2.2 k hk]; exact a6 z, fun z => by rw [f.2.1 28 k hk (by omega)]; exact a7 z⟩
  have := hl z
  rw [f.2.2.1 _ (by omega)]; exact (a5 z).2 j hj
theorem colour_S {σ : MS} {t : List Nat} {s : Rs (List Tk)} (h : PS σ t s) : ∃ c τ, F_colour σ = some (n32 c, τ) ∧ c < 2 ∧ Fr [4, 5, 6, 7, 8, 9, 11] [] [10] σ τ ∧ PS τ t (rbd s fun l => rl (pCol l)) ∧ ∀ l a, s = .inr l → pCol l = .inr a → c = a.1 := by
  unfold F_colour
  cases s with
  | inl e =>
    rw [isGood_n h, bd_y, ifp rfl]
    exact ⟨0, σ, rfl, by omega, Fr.any, h, (fun l a z => by cases z)⟩
  | inr l =>
    have hM := h.2.2
    have e1 : F_isWord σ 7497060 = some (bi (isW l 7497060)) := isWord_L hM (w := 7497060) (by decide)
    have e2 : F_isWord σ 422725116779 = some (bi (isW l 422725116779)) := isWord_L hM (w := 422725116779) (by decide)
    rw [isGood_y h, bd_y, ifn g1N, e1, bd_y]
    have key : ∀ c b, c < 2 → b = (isW l 7497060 || isW l 422725116779) → (b = true → c = if isW l 7497060 then 1 else 0) → ∃ c' τ, F_colour_b51 (n32 c) (bi b) σ = some (n32 c', τ) ∧ c' < 2 ∧ Fr [4, 5, 6, 7, 8, 9, 11] [] [10] σ τ ∧ PS τ t (rl (pCol l)) ∧ ∀ l' a, Sum.inr l = (.inr l' : Rs (List Tk)) → pCol l' = .inr a → c' = a.1 := by
      intro c b hc hb hcb
      unfold F_colour_b51
      obtain ⟨τ, e3, f3, g3⟩ := must_S h (y := bi b) (b := fun l => isW l 7497060 || isW l 422725116779) (fun l' z => by cases z; rw [hb]) (fun l' z => by
        rcases (Bool.or_eq_true _ _).mp z with z | z
        · exact isW_2 z
        · exact isW_2 z)
      rw [e3, bd_y]
      refine ⟨c, τ, rfl, hc, Fr.mono f3 (by simp) (by simp) (by simp), ?_, ?_⟩
      · have g3' : PS τ t (pMust (isW l 7497060 || isW l 422725116779) l) := g3
        have : rl (pCol l) = pMust (isW l 7497060 || isW l 422725116779) l := by
          unfold rl pCol pMust
          cases isW l 7497060 <;> cases isW l 422725116779 <;> rfl
        rw [this]; exact g3'
      · intro l' a z hp
        cases z
        unfold pCol at hp
        rw [hb] at hcb
        cases h1 : isW l 7497060 with
        | true => rw [h1] at hp hcb; cases hp; exact hcb rfl
        | false =>
          rw [h1] at hp hcb
          cases h2 : isW l 422725116779 with
          | true => rw [h2] at hp hcb; cases hp; exact hcb rfl
          | false => rw [h2] at hp; cases hp
    have b24 : ∀ c, c < 2 → (c = if isW l 7497060 then 1 else 0) → ∃ c' τ, F_colour_b24 (n32 c) σ = some (n32 c', τ) ∧ c' < 2 ∧ Fr [4, 5, 6, 7, 8, 9, 11] [] [10] σ τ ∧ PS τ t (rl (pCol l)) ∧ ∀ l' a, Sum.inr l = (.inr l' : Rs (List Tk)) → pCol l' = .inr a → c' = a.1 := by
      intro c hc hcc
      unfold F_colour_b24 F_colour_b46
      rw [e1, bd_y, e2]
      cases h1 : isW l 7497060 with
      | true => rw [ifn gY]; exact key c true hc (by rw [h1]; rfl) (fun _ => hcc)
      | false =>
        rw [ifp gN, bd_y]
        cases h2 : isW l 422725116779 with
        | true => rw [ifn gY]; exact key c true hc (by rw [h1, h2]; rfl) (fun _ => hcc)
        | false => rw [ifp gN]; exact key c false hc (by rw [h1, h2]; rfl) (fun z => by cases z)
    cases h1 : isW l 7497060 with
    | true => rw [ifn gY]; exact b24 1 (by omega) (by rw [h1]; rfl)
    | false => rw [ifp gN]; exact b24 0 (by omega) (by rw [h1]; rfl)
theorem whoHere_L {σ : MS} {t : List Nat} {l : List Tk} (hM : MTk σ t l) : F_whoHere σ = some (kn32 (whoK l)) := by
  have e1 : F_isWord σ 6385262 = some (bi (isW l 6385262)) := isWord_L hM (w := 6385262) (by decide)
  have e2 : F_isWord σ 6451042 = some (bi (isW l 6451042)) := isWord_L hM (w := 6451042) (by decide)
  have e3 : F_isWord σ 6519140 = some (bi (isW l 6519140)) := isWord_L hM (w := 6519140) (by decide)
  unfold F_whoHere whoK
  rw [e1, e2, e3, bd_y, bd_y, bd_y]
  cases isW l 6385262 <;> cases isW l 6451042 <;> cases isW l 6519140 <;> rfl
theorem moveHere_L {σ : MS} {t : List Nat} {l : List Tk} (hM : MTk σ t l) : F_moveHere σ = some (kn32 (movK l)) := by
  have e1 : F_isWord σ 1937203568 = some (bi (isW l 1937203568)) := isWord_L hM (w := 1937203568) (by decide)
  have e2 : F_isWord σ 7499639 = some (bi (isW l 7499639)) := isWord_L hM (w := 7499639) (by decide)
  have e3 : F_isWord σ 6518132 = some (bi (isW l 6518132)) := isWord_L hM (w := 6518132) (by decide)
  have e4 : F_isWord σ 114767640814963 = some (bi (isW l 114767640814963)) := isWord_L hM (w := 114767640814963) (by decide)
  have e5 : F_isWord σ 482805048691 = some (bi (isW l 482805048691)) := isWord_L hM (w := 482805048691) (by decide)
  have e6 : F_isWord σ 7170424 = some (bi (isW l 7170424)) := isWord_L hM (w := 7170424) (by decide)
  unfold F_moveHere movK
  rw [e1, e2, e3, e4, e5, e6, bd_y, bd_y, bd_y, bd_y, bd_y, bd_y]
  cases isW l 1937203568
  · cases isW l 7499639
    · cases isW l 6518132
      · cases isW l 114767640814963
        · cases isW l 482805048691
          · cases isW l 7170424 <;> rfl
          · rfl
        · rfl
      · rfl
    · rfl
  · rfl
theorem stepHere_L {σ : MS} {t : List Nat} {l : List Tk} (hM : MTk σ t l) : F_stepHere σ = some (kn32 (stpK l)) := by
  have e1 : F_isWord σ 7102841 = some (bi (isW l 7102841)) := isWord_L hM (w := 7102841) (by decide)
  have e2 : F_isWord σ 7370100 = some (bi (isW l 7370100)) := isWord_L hM (w := 7370100) (by decide)
  have e3 : F_isWord σ 1869636974 = some (bi (isW l 1869636974)) := isWord_L hM (w := 1869636974) (by decide)
  have e4 : F_isWord σ 26982 = some (bi (isW l 26982)) := isWord_L hM (w := 26982) (by decide)
  have e5 : F_isWord σ 1835102827 = some (bi (isW l 1835102827)) := isWord_L hM (w := 1835102827) (by decide)
  have e6 : F_isWord σ 6647396 = some (bi (isW l 6647396)) := isWord_L hM (w := 6647396) (by decide)
  have e7 : F_isWord σ 1935767923 = some (bi (isW l 1935767923)) := isWord_L hM (w := 1935767923) (by decide)
  unfold F_stepHere stpK
  rw [moveHere_L hM, bd_y]
  have hmv : ∀ k, movK l = some k → k ≤ 7 := by
    intro k hk
    unfold movK at hk
    repeat' split at hk
    all_goals cases hk
    all_goals omega
  cases hm : movK l with
  | some k =>
    have := hmv k hm
    rw [ifn (by
      show ¬ n32 k < 0
      rw [show (0 : Int32) = n32 0 from rfl, n32_lt ⟨by omega, by omega⟩]; omega), bd_y]
  | none =>
    rw [ifp (by show (-1 : Int32) < 0; decide), e1, e2, e3, e4, e5, e6, e7, bd_y, bd_y, bd_y, bd_y, bd_y, bd_y, bd_y]
    simp only
    cases isW l 7102841
    · cases isW l 7370100
      · cases isW l 1869636974
        · cases isW l 26982
          · cases isW l 1835102827
            · cases isW l 6647396
              · cases isW l 1935767923 <;> rfl
              · rfl
            · rfl
          · rfl
        · rfl
      · rfl
    · rfl
theorem whoK_lt {l : List Tk} {p : Nat} (h : whoK l = some p) : p < 3 ∧ 2 ≤ kS (cur l) := by
  unfold whoK at h
  split at h
  · rename_i z; cases h; exact ⟨by omega, isW_2 z⟩
  · split at h
    · rename_i z; cases h; exact ⟨by omega, isW_2 z⟩
    · split at h
      · rename_i z; cases h; exact ⟨by omega, isW_2 z⟩
      · cases h
theorem who_S {σ : MS} {t : List Nat} {l : List Tk} {b P : Nat} (h : PS σ t (.inr l)) (hb : b < 2) (h36 : mI σ 36 = n32 b) (hP : mA σ 12 b = n32 P) (hP3 : P ≤ 3) : ∃ v τ, F_who σ = some (v, τ) ∧ Fr [4, 5, 6, 7, 8, 9, 11] [] [10] σ τ ∧ PS τ t (rl (pWho P l)) ∧ ∀ a, pWho P l = .inr a → v = n32 a.1 := by
  unfold F_who
  rw [whoHere_L h.2.2, bd_y]
  unfold F_who_b38
  cases hw : whoK l with
  | none =>
    rw [ifn (by show ¬ (0 : Int32) ≤ -1; decide)]
    obtain ⟨τ, e, f, g⟩ := misplaced_S h
    have hp : pWho P l = .inl (errT l) := by unfold pWho; rw [hw]
    rw [e, bd_y, isGood_n (e := errT l) g, bd_y, ifp rfl]
    exact ⟨_, τ, rfl, Fr.mono f (by simp) (by simp) (by simp), by rw [hp]; exact g, fun a z => by rw [hp] at z; cases z⟩
  | some p =>
    obtain ⟨hp3, h2⟩ := whoK_lt hw
    have e0 : kn32 (some p) = n32 p := rfl
    rw [e0, ifp (n32_ge p (by omega)), h36, gd_y (n32_inb (by omega)), n32_nat (by omega), hP]
    by_cases q : p < P
    · rw [ifp ((n32_lt ⟨by omega, by omega⟩).mpr q), isGood_y h, bd_y, ifn g1N]
      obtain ⟨τ, e, f, g⟩ := goOn_S h h2
      have hp : pWho P l = .inr (p, l.tail) := by unfold pWho; rw [hw]; simp only; rw [ifp q]
      rw [e, bd_y]
      exact ⟨_, τ, rfl, Fr.mono f (by simp) (by simp) (by simp), by rw [hp]; exact g, fun a z => by rw [hp] at z; cases z; rfl⟩
    · rw [ifn (fun z => q ((n32_lt ⟨by omega, by omega⟩).mp z)), h.2.2.cur.2.2.1]
      obtain ⟨τ, e, f, g⟩ := fails_S h (k := 4) (p := kP (cur l)) (by omega)
      have hp : pWho P l = .inl (4, kP (cur l)) := by unfold pWho; rw [hw]; simp only; rw [ifn q]
      rw [show (4 : Int32) = n32 4 from rfl, e, bd_y, isGood_n (e := (4, kP (cur l))) g, bd_y, ifp rfl]
      exact ⟨_, τ, rfl, Fr.mono f (by simp) (by simp) (by simp), by rw [hp]; exact g, fun a z => by rw [hp] at z; cases z⟩
theorem another_S {σ : MS} {t : List Nat} {s : Rs (List Tk)} (h : PS σ t s) {y : Nat} (hy : y < 10) : ∃ x τ, F_another (n32 y) σ = some (n32 x, τ) ∧ x ≤ 7 ∧ Fr [4, 5, 6, 7, 8, 9, 11] [] [10] σ τ ∧ PS τ t (rbd s fun l => rbd (pNum 0 7 l) fun b => if b.1 = y then .inl (4, kP (cur l)) else .inr b.2) ∧ ∀ l a, s = .inr l → pNum 0 7 l = .inr a → x = a.1 := by
  unfold F_another
  obtain ⟨x, τ, e, -, hx, f, g, g2, g3⟩ := numeral_S h (lo := 0) (hi := 7) (by omega) (by omega)
  have e0 : F_numeral 0 7 σ = some (n32 x, τ) := e
  rw [e0, bd2_y]
  cases s with
  | inl e' =>
    rw [isGood_n (e := e') g, bd_y, ifp rfl]
    exact ⟨x, τ, rfl, hx, f, g, g2⟩
  | inr l =>
    cases hp : pNum 0 7 l with
    | inl e' =>
      have g' : PS τ t (.inl e') := by have : rbd (.inr l) (fun l => rl (pNum 0 7 l)) = (.inl e' : Rs (List Tk)) := by show rl (pNum 0 7 l) = _; rw [hp]; rfl
                                       rw [this] at g; exact g
      rw [isGood_n g', bd_y, ifp rfl]
      refine ⟨x, τ, rfl, hx, f, ?_, g2⟩
      show PS τ t (rbd (pNum 0 7 l) _)
      rw [hp]; exact g'
    | inr a =>
      have g' : PS τ t (.inr a.2) := by have : rbd (.inr l) (fun l => rl (pNum 0 7 l)) = (.inr a.2 : Rs (List Tk)) := by show rl (pNum 0 7 l) = _; rw [hp]; rfl
                                        rw [this] at g; exact g
      rw [isGood_y g', bd_y, ifn g1N]
      have ex := g2 l a rfl hp
      by_cases q : a.1 = y
      · rw [ifp (by rw [ex, q]), g3 l rfl]
        obtain ⟨υ, e2, f2, g4⟩ := fails_S g' (k := 4) (p := kP (cur l)) (by omega)
        rw [show (4 : Int32) = n32 4 from rfl, e2, bd_y]
        refine ⟨x, υ, rfl, hx, Fr.tr f f2 (by simp) (by simp) (by simp), ?_, g2⟩
        show PS υ t (rbd (pNum 0 7 l) _)
        rw [hp]
        show PS υ t (if a.1 = y then .inl (4, kP (cur l)) else .inr a.2)
        rw [ifp q]; exact g4
      · rw [ifn (fun z => q (by rw [← ex]; exact (n32_eq ⟨by omega, by omega⟩).mp z))]
        refine ⟨x, τ, rfl, hx, f, ?_, g2⟩
        show PS τ t (rbd (pNum 0 7 l) _)
        rw [hp]
        show PS τ t (if a.1 = y then .inl (4, kP (cur l)) else .inr a.2)
        rw [ifn q]; exact g'
