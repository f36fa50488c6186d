set_option maxRecDepth 100000
/-! what is asked: how many steps the pile takes -/
theorem shr_mono {P : Nat} : ∀ (f : Nat) (b : Bool) (cf : Cf) (r : Rs Cf), shr P f b cf = some r → shr P (f + 1) b cf = some r := by
  intro f
  induction f with
  | zero => intro b cf r h; cases h
  | succ f ih =>
    intro b cf r h
    rw [shr] at h ⊢
    by_cases q : cf.1 = []
    · rw [ifp q] at h ⊢; exact h
    · rw [ifn q] at h ⊢
      cases hs : stpE P b cf with
      | inl e => rw [hs] at h; exact h
      | inr y => rw [hs] at h; exact ih _ _ _ h
theorem shr_le {P f g : Nat} {b : Bool} {cf : Cf} {r : Rs Cf} (hfg : f ≤ g) (h : shr P f b cf = some r) : shr P g b cf = some r := by
  induction g with
  | zero => have : f = 0 := by omega
            rw [this] at h; exact h
  | succ g ih =>
    by_cases e : f = g + 1
    · rw [← e]; exact h
    · exact shr_mono _ _ _ _ (ih (by omega))
theorem rdc_len (r : Nat) : ∀ (st : List (Nat × Nat)) (c : Cd) (w : Nat), (rdc r st c w).1.length ≤ st.length := by
  intro st
  induction st with
  | nil => intro c w; exact Nat.le_refl _
  | cons a s ih =>
    intro c w
    rw [rdc]
    by_cases q : a.1 ≤ 6 ∧ r ≤ a.1
    · rw [ifp q]; have := ih (c ++ [(a.2, 0)]) (if a.1 = 3 then w - 1 else w); rw [List.length_cons]; omega
    · rw [ifn q]; exact Nat.le_refl _
def cfM (cf : Cf) : Nat := 2 * cf.2.2.2.2.length + cf.1.length
theorem rnk_2 {l : List Tk} (h : 0 < rnk l) : 2 ≤ kS (cur l) := by
  apply Classical.byContradiction
  intro z
  have hW : ∀ w, isW l w = false := fun w => decide_eq_false fun y => by omega
  have hC : ∀ w, isC l w = false := fun w => decide_eq_false fun y => by omega
  have : rnk l = 0 := by unfold rnk cmpC addC; rw [hW, hW, hC, hC, hC, hC, hC, hC]; rfl
  omega
theorem stp_lt {P : Nat} {b : Bool} {cf : Cf} {q : Bool × Cf} (hn : cf.1 ≠ []) (h : stpE P b cf = .inr q) : cfM q.2 < cfM cf := by
  obtain ⟨st, c, u, w, l⟩ := cf
  unfold stpE at h
  cases b with
  | true =>
    rw [ifp rfl] at h
    have h' : unt P st c u w l = .inr q := h
    unfold unt at h'
    by_cases e1 : (notS st l = false ∧ ((kS (cur l) ≠ 4 ∧ isC l 40 = false ∧ whoK l = none ∧ isW l 6384748 = false) ∨ 40 ≤ u)) ∨ ((notS st l = true ∨ isC l 40 = true) ∧ 7 ≤ w)
    · rw [ifp e1] at h'; cases h'
    · rw [ifn e1] at h'
      have h2 : 2 ≤ kS (cur l) := by
        apply Classical.byContradiction
        intro y
        have hW : ∀ w, isW l w = false := fun w => decide_eq_false fun y => by omega
        have hC : ∀ w, isC l w = false := fun w => decide_eq_false fun y => by omega
        apply e1
        refine Or.inl ⟨by unfold notS; rw [hW, Bool.and_false], Or.inl ⟨by omega, hC _, ?_, hW _⟩⟩
        cases hwk : whoK l with
        | none => rfl
        | some p => exact absurd (whoK_lt hwk).2 y
      have tl := tl_lt h2
      by_cases e2 : ∃ p, whoK l = some p ∧ P ≤ p
      · rw [ifp e2] at h'; cases h'
      · rw [ifn e2] at h'
        by_cases e3 : notS st l = true
        · rw [ifp e3] at h'; cases h'
          show 2 * l.tail.length + ((3, 126) :: st).length < 2 * l.length + st.length
          rw [List.length_cons]; omega
        · rw [ifn e3] at h'
          by_cases e4 : isC l 40 = true
          · rw [ifp e4] at h'; cases h'
            show 2 * l.tail.length + ((7, 126) :: st).length < 2 * l.length + st.length
            rw [List.length_cons]; omega
          · rw [ifn e4] at h'; cases h'
            show 2 * l.tail.length + st.length < 2 * l.length + st.length
            omega
  | false =>
    rw [ifn (by decide)] at h
    have h' : bhu st c u w l = .inr q := h
    unfold bhu at h'
    by_cases e1 : rnk l = 4 ∧ isCm st = true
    · rw [ifp e1] at h'; cases h'
    · rw [ifn e1] at h'
      have hr := rdc_len (rnk l) st c w
      generalize (rdc (rnk l) st c w).1 = st1 at h' hr
      generalize (rdc (rnk l) st c w).2.1 = c1 at h'
      generalize (rdc (rnk l) st c w).2.2 = w1 at h'
      unfold bh2 at h'
      by_cases e2 : 0 < rnk l
      · rw [ifp e2] at h'; cases h'
        have tl := tl_lt (rnk_2 e2)
        show 2 * l.tail.length + ((rnk l, sgn l) :: st1).length < 2 * l.length + st.length
        rw [List.length_cons]; omega
      · rw [ifn e2] at h'
        cases st1 with
        | nil =>
          cases h'
          have : 0 < st.length := List.length_pos_iff.mpr hn
          show 2 * l.length + 0 < 2 * l.length + st.length
          omega
        | cons a s =>
          have h2 : (if a.1 = 7 then rbd (pMust (isC l 41) l) fun l' => .inr (false, (s, c1, u, w1 - 1, l')) else .inr (false, (s, c1, u, w1, l))) = (.inr q : Rs (Bool × Cf)) := h'
          rw [List.length_cons] at hr
          by_cases e3 : a.1 = 7
          · rw [ifp e3] at h2
            unfold pMust at h2
            cases hcl : isC l 41 with
            | true =>
              rw [hcl] at h2; cases h2
              have tl := tl_lt (isC_2 hcl)
              show 2 * l.tail.length + s.length < 2 * l.length + st.length
              omega
            | false => rw [hcl] at h2; cases h2
          · rw [ifn e3] at h2; cases h2
            show 2 * l.length + s.length < 2 * l.length + st.length
            omega
theorem shr_tot {P : Nat} : ∀ (f : Nat) (b : Bool) (cf : Cf), cfM cf < f → ∃ r, shr P f b cf = some r := by
  intro f
  induction f with
  | zero => intro b cf h; omega
  | succ f ih =>
    intro b cf h
    rw [shr]
    by_cases q : cf.1 = []
    · rw [ifp q]; exact ⟨_, rfl⟩
    · rw [ifn q]
      cases hs : stpE P b cf with
      | inl e => exact ⟨_, rfl⟩
      | inr y => exact ih y.1 y.2 (by have := stp_lt q hs; omega)
theorem SH.bd {P : Nat} {b : Bool} {cf : Cf} {r : Rs Cf} (h : SH P b cf r) : shr P (cfM cf + 1) b cf = some r := by
  obtain ⟨g, e⟩ := h
  obtain ⟨r', e'⟩ := shr_tot (P := P) (cfM cf + 1) b cf (by omega)
  have h1 := shr_le (Nat.le_max_left g (cfM cf + 1)) e
  have h2 := shr_le (Nat.le_max_right g (cfM cf + 1)) e'
  rw [h1] at h2
  cases h2
  exact e'
/-! THE REFERENCE: what is asked is read -/
def eR (τ : MS) (b : Nat) (t : List Nat) (P : Nat) (r : Rs Cf) : Prop := match r with
  | .inl e => PS τ t (.inl e)
  | .inr cf' => MCf τ b t P cf' ∧ cf'.2.1.length ≤ 400
theorem eL19_L {b : Nat} {t : List Nat} {P : Nat} (hb : b < 2) (hP : P ≤ 3) : ∀ (g : Nat) (wb : Bool) (cf : Cf) (r : Rs Cf) (σ : MS) (fu : Nat), shr P g wb cf = some r → MCf σ b t P cf → okCf wb cf → g < fu → ∃ τ, F_e_L19 fu (bi wb) σ = some τ ∧ FE b σ τ ∧ eR τ b t P r := by
  intro g
  induction g with
  | zero => intro wb cf r σ fu h; cases h
  | succ g ih =>
    intro wb cf r σ fu h hm hok hfu
    obtain ⟨fu, rfl⟩ : ∃ f, fu = f + 1 := ⟨fu - 1, by omega⟩
    rw [shr] at h
    rw [F_e_L19, isGood_y hm.2.2.2.2.2.2, bd_y, ifn g1N]
    have hl60 := hok.len.1
    by_cases q : cf.1 = []
    · rw [ifp q] at h
      cases h
      rw [hm.1.1, q, ifp (by decide)]
      exact ⟨σ, rfl, FE.rf, hm, by have := hok.len.2; omega⟩
    · rw [ifn q] at h
      have hl0 : 0 < cf.1.length := List.length_pos_iff.mpr q
      rw [hm.1.1, ifn (by rw [show (0 : Int32) = n32 0 from rfl, n32_le ⟨by omega, by omega⟩]; omega)]
      have step : ∀ o : Option (Int32 × MS), eQ σ b t P (stpE P wb cf) o → ∃ τ, (bd2 o fun r_8 σ_7 => F_e_b48 (F_e_L19 fu) r_8 σ_7) = some τ ∧ FE b σ τ ∧ eR τ b t P r := by
        rintro o ⟨y, τ, rfl, f1, g1⟩
        rw [bd2_y]
        unfold F_e_b48
        cases hs : stpE P wb cf with
        | inl e =>
          rw [hs] at h g1
          cases h
          obtain ⟨fu, rfl⟩ : ∃ f, fu = f + 1 := ⟨fu - 1, by omega⟩
          have g1' : PS τ t (.inl e) := g1
          rw [F_e_L19, isGood_n g1', bd_y, ifp rfl]
          exact ⟨τ, rfl, f1, g1'⟩
        | inr z =>
          rw [hs] at h g1
          obtain ⟨rfl, g2, g3⟩ := g1
          obtain ⟨τ2, e2, f2, g4⟩ := ih z.1 z.2 r τ fu h g2 g3 (by omega)
          exact ⟨τ2, e2, f1.tr f2, g4⟩
      cases wb with
      | true =>
        rw [ifn gY]
        exact step _ (unit_L hb hP hm hok q)
      | false =>
        rw [ifp gN]
        exact step _ (behindUnit_L hb hm hok q)
theorem tks_len : ∀ (f p : Nat) (u : List Nat), (tks f p u).length ≤ u.length + 1 := by
  intro f
  induction f with
  | zero => intro p u; simp [tks]
  | succ f ih =>
    intro p u
    rw [tks]
    by_cases q : kS (lex1 (p + (u.takeWhile isBl).length) (u.dropWhile isBl)) ≤ 1
    · rw [ifp q, List.length_singleton]; omega
    · rw [ifn q, List.length_cons]
      have h1 := ih (p + (u.takeWhile isBl).length + lexN (u.dropWhile isBl)) ((u.dropWhile isBl).drop (lexN (u.dropWhile isBl)))
      have h2 := lexN_pos _ (u.dropWhile isBl) (by omega : 2 ≤ kS (lex1 (p + (u.takeWhile isBl).length) (u.dropWhile isBl)))
      have h3 : (u.dropWhile isBl).length ≤ u.length := by rw [dw_drop, List.length_drop]; omega
      have h4 := lexN_le (u.dropWhile isBl)
      rw [List.length_drop] at h1
      omega
theorem MTk_len {σ : MS} {t : List Nat} {l : List Tk} (h : MTk σ t l) (hk : 2 ≤ kS (cur l)) : l.length ≤ t.length + 2 := by
  obtain ⟨e, -, he, f, -, e2⟩ := h.cur.2.2.2.2.2.2.2 hk
  have h1 := tks_len f e (t.drop e)
  rw [← e2, List.length_drop] at h1
  have := tl_lt hk
  omega
/-- the whole of what is asked -/
theorem e_L {σ : MS} {b : Nat} {t : List Nat} {P u : Nat} {l : List Tk} {R : Rs Xr} {f : Nat} (hb : b < 2) (hP : P ≤ 3) (hu40 : u ≤ 40) (h36 : mI σ 36 = n32 b) (h12 : mA σ 12 b = n32 P) (h18 : mA σ 18 b = n32 u) (h37 : mI σ 37 = n32 (400 * b)) (hS : PS σ t (.inr l)) (hll : l.length ≤ 2000) (hd : dx P f 0 0 [] u l = some R) :
    ∃ τ, F_e σ = some τ ∧ FE b σ τ ∧ ((∃ e, (R = .inl e ∨ ∃ x, R = .inr x ∧ cmpC x.2.2 = true ∧ e = errT x.2.2) ∧ PS τ t (.inl e)) ∨ ∃ x, R = .inr x ∧ PS τ t (.inr x.2.2) ∧ MCd τ b x.1 ∧ mA τ 18 b = n32 x.2.1) := by
  have hMN := MN_gt
  unfold F_e
  simp only [↓lt_y]
  have f0 : Fr [38, 39] [] [] σ (wI (wI σ 39 0) 38 0) := (Fr.any.w1 39 _ (by simp)).w1 38 _ (by simp)
  have p0 : MPl (wI (wI σ 39 0) 38 0) [] := ⟨by rw [wI_ne _ _ _ _ (by omega), wI_same]; rfl, fun k a hk => by simp at hk⟩
  have w0 : mI (wI (wI σ 39 0) 38 0) 38 = n32 0 := wI_same _ _ _
  generalize wI (wI σ 39 0) 38 0 = σ0 at f0 p0 w0
  obtain ⟨σ1, e1, f1, p1⟩ := pushE_L p0 (by simp) (8, 0)
  have e1' : F_pushE 8 0 σ0 = some σ1 := e1
  rw [e1', bd_y]
  have g0 := hS.fr f0 (by intro j hj; simp; omega) (by simp) (by simp)
  have g1 := g0.fr f1 (by intro j hj; simp; omega) (by simp) (by simp)
  have hcf : MCf σ1 b t P ([(8, 0)], [], u, 0, l) := ⟨p1, ⟨by rw [f1.1 37 (by simp), f0.1 37 (by simp)]; exact h37, fun j q hq => by simp at hq⟩, by rw [f1.2.1 18 (by simp), f0.2.1 18 (by simp)]; exact h18, by rw [f1.1 38 (by simp)]; exact w0, by rw [f1.1 36 (by simp), f0.1 36 (by simp)]; exact h36, by rw [f1.2.1 12 (by simp), f0.2.1 12 (by simp)]; exact h12, g1⟩
  have hok : okCf true ([(8, 0)], [], u, 0, l) := ⟨⟨⟨by show 1 ≤ 8; omega, by show 8 ≤ 8; omega, by show 0 < 127; omega⟩, (fun y => by have : (8 : Nat) ≤ 7 := y; omega), fun _ => rfl, (fun y => by have : (8 : Nat) ≤ 6 := y; omega), trivial⟩, rfl, by show 0 ≤ 7; omega, hu40, fun _ => by show 0 + (0 + if (8 : Nat) ≤ 6 then 1 else 0) ≤ 9 * u + 0; rw [ifn (by omega)]; omega, (fun y => by cases y)⟩
  have FE0 : FE b σ σ1 := ⟨Fr.tr f0 f1 (by simp) (by simp) (by simp), fun k _ => by rw [f1.2.1 18 (by simp), f0.2.1 18 (by simp)], fun k _ => ⟨by rw [f1.2.1 30 (by simp), f0.2.1 30 (by simp)], by rw [f1.2.1 31 (by simp), f0.2.1 31 (by simp)]⟩⟩
  have run : ∀ r, SH P true ([(8, 0)], [], u, 0, l) r → ∃ τ, F_e_L19 MN 1 σ1 = some τ ∧ FE b σ τ ∧ eR τ b t P r := by
    intro r hr
    have hb' := hr.bd
    have hcm : cfM ([(8, 0)], [], u, 0, l) = 2 * l.length + 1 := rfl
    obtain ⟨τ, e2, f2, g2⟩ := eL19_L hb hP _ true _ r σ1 MN hb' hcf hok (by rw [hcm]; omega)
    exact ⟨τ, e2, FE0.tr f2, g2⟩
  rcases dx_top hP hd with ⟨e, rfl, h⟩ | ⟨x, rfl, ⟨hc, h⟩ | h⟩
  · obtain ⟨τ, e2, f2, g2⟩ := run _ h
    exact ⟨τ, e2, f2, Or.inl ⟨e, Or.inl rfl, g2⟩⟩
  · obtain ⟨τ, e2, f2, g2⟩ := run _ h
    exact ⟨τ, e2, f2, Or.inl ⟨_, Or.inr ⟨x, rfl, hc, rfl⟩, g2⟩⟩
  · obtain ⟨τ, e2, f2, g2, -⟩ := run _ h
    exact ⟨τ, e2, f2, Or.inr ⟨x, rfl, g2.2.2.2.2.2.2, g2.2.1, g2.2.2.1⟩⟩
