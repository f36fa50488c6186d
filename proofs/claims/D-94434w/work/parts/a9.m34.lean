set_option maxRecDepth 100000
/-! THE REFERENCE: what is asked is read -/
theorem L23_L {b : Nat} {t : List Nat} {P u : Nat} {l : List Tk} (hb : b < 2) : ∀ (st : List (Nat × Nat)) (c : Cd) (w : Nat) (σ : MS) (fu : Nat), MCf σ b t P (st, c, u, w, l) → okCf false (st, c, u, w, l) → st ≠ [] → st.length < fu → eQ σ b t P (bh2 (rdc (rnk l) st c w).1 (rdc (rnk l) st c w).2.1 u (rdc (rnk l) st c w).2.2 l) (F_behindUnit_L23 fu (n32 (rnk l)) σ) := by
  intro st
  induction st with
  | nil => intro c w σ fu _ _ h; exact absurd rfl h
  | cons a s ih =>
    intro c w σ fu h hok hn hfu
    obtain ⟨fu, rfl⟩ : ∃ f, fu = f + 1 := ⟨fu - 1, by omega⟩
    obtain ⟨(hp : MPl σ (a :: s)), (hc : MCd σ b c), (hu : mA σ 18 b = n32 u), (hw : mI σ 38 = n32 w), h36, h12, (hS : PS σ t (.inr l))⟩ := id h
    obtain ⟨(o1 : wfS (a :: s)), (o2 : nbS (a :: s) = w), (o3 : w ≤ 7), (o4 : u ≤ 40), -, o6⟩ := id hok
    have o6' : c.length + opS (a :: s) + 1 ≤ 9 * u := o6 rfl
    obtain ⟨⟨x1, x2, x3⟩, x4, x5, x6, x7⟩ := o1
    have hl60 : s.length + 1 ≤ 60 := hok.len.1
    have hl367 : c.length + opS (a :: s) ≤ 367 := hok.len.2
    have hr6 := (rnk_le (l := l)).1
    have e39 : mI σ 39 = n32 (s.length + 1) := hp.1
    have z := n32_nat (a := s.length) (by omega)
    have e32 : mA σ 32 s.length = n32 a.1 ∧ mA σ 33 s.length = n32 a.2 := by
      have := hp.2 0 a rfl
      rw [List.length_cons, Nat.add_sub_cancel, Nat.sub_zero] at this; exact this
    have es : n32 (s.length + 1) - (1 : Int32) = n32 s.length := by rw [show (1 : Int32) = n32 1 from rfl, n32_sub (by omega)]; rfl
    rw [F_behindUnit_L23, e39, es]
    simp only [z, e32.1]
    rw [gd_y (n32_inb (by omega)), gd_y (n32_inb (by omega))]
    have stay : 6 < a.1 ∨ a.1 < rnk l → eQ σ b t P (bh2 (rdc (rnk l) (a :: s) c w).1 (rdc (rnk l) (a :: s) c w).2.1 u (rdc (rnk l) (a :: s) c w).2.2 l) (F_behindUnit_b104 (n32 (rnk l)) σ) := by
      intro q
      have hred : rdc (rnk l) (a :: s) c w = (a :: s, c, w) := by rw [rdc, ifn (by omega)]
      rw [hred]
      exact b104_L h hok hn q
    by_cases q6 : 6 < a.1
    · rw [ifp (c := (6 : Int32) < n32 a.1) ((n32_lt (a := 6) ⟨by omega, by omega⟩).mpr q6)]
      exact stay (Or.inl q6)
    · rw [ifn (c := (6 : Int32) < n32 a.1) (fun y => q6 ((n32_lt (a := 6) ⟨by omega, by omega⟩).mp y))]
      by_cases qr : a.1 < rnk l
      · rw [ifp ((n32_lt ⟨by omega, by omega⟩).mpr qr)]
        exact stay (Or.inr qr)
      · rw [ifn (fun y => qr ((n32_lt ⟨by omega, by omega⟩).mp y)), lt_y]
        have hred : rdc (rnk l) (a :: s) c w = rdc (rnk l) s (c ++ [(a.2, 0)]) (if a.1 = 3 then w - 1 else w) := by rw [rdc, ifp (by omega)]
        rw [hred]
        have hs : s ≠ [] := x4 (by omega)
        simp only [wI_same, wI_A, z, e32.1]
        rw [gd_y (n32_inb (by omega))]
        have o2' : nbS s + (if a.1 = 3 ∨ a.1 = 7 then 1 else 0) = w := o2
        have op' : opS s + (if a.1 ≤ 6 then 1 else 0) = opS (a :: s) := rfl
        rw [ifp (c := a.1 ≤ 6) (by omega)] at op'
        have k3 : n32 a.1 = (3 : Int32) ↔ a.1 = 3 := n32_eq (b := 3) ⟨by omega, by omega⟩
        have f1 : Fr [39] [] [] σ (wI σ 39 (n32 s.length)) := Fr.wI _ _ _
        have p1 : MPl (wI σ 39 (n32 s.length)) s := ⟨wI_same _ _ _, fun k x hk => by
          have hlt : k < s.length := (List.getElem?_eq_some_iff.mp hk).1
          have := hp.2 (k + 1) x hk
          rw [List.length_cons, show s.length + 1 - 1 - (k + 1) = s.length - 1 - k from by omega] at this
          exact this⟩
        have rest : ∀ χ w', Fr [38, 39] [] [] σ χ → MPl χ s → mI χ 38 = n32 w' → nbS s = w' → w' ≤ 7 → eQ σ b t P (bh2 (rdc (rnk l) s (c ++ [(a.2, 0)]) w').1 (rdc (rnk l) s (c ++ [(a.2, 0)]) w').2.1 u (rdc (rnk l) s (c ++ [(a.2, 0)]) w').2.2 l) (F_behindUnit_b87 (F_behindUnit_L23 fu) (n32 (rnk l)) χ) := by
          intro χ w' fχ pχ wχ nχ hw7
          unfold F_behindUnit_b87
          have e33 : mA χ 33 s.length = n32 a.2 := by rw [fχ.2.1 33 (by simp)]; exact e32.2
          rw [pχ.1, gd_y (n32_inb (by omega)), z, e33]
          obtain ⟨τ, e1, f2, c2, c3⟩ := emit_L hb (hc.fr fχ (by simp) (by simp) (by simp)) (by omega) (a.2, 0) 0 (fun y => rfl)
          have e1' : F_emit (n32 a.2) 0 χ = some τ := e1
          rw [e1', bd_y]
          have hcf : MCf τ b t P (s, c ++ [(a.2, 0)], u, w', l) := ⟨pχ.fr f2 (by simp) (by simp) (by simp), c2, by rw [f2.2.1 18 (by simp), fχ.2.1 18 (by simp)]; exact hu, by rw [f2.1 38 (by simp)]; exact wχ, by rw [f2.1 36 (by simp), fχ.1 36 (by simp)]; exact h36, by rw [f2.2.1 12 (by simp), fχ.2.1 12 (by simp)]; exact h12, (hS.fr fχ (by intro j hj; simp; omega) (by simp) (by simp)).fr f2 (by intro j hj; simp; omega) (by simp) (by simp)⟩
          have hok2 : okCf false (s, c ++ [(a.2, 0)], u, w', l) := ⟨x7, nχ, hw7, o4, (fun y => by cases y), fun _ => by
            show (c ++ [(a.2, 0)]).length + opS s + 1 ≤ 9 * u
            rw [List.length_append, List.length_singleton]; omega⟩
          refine (ih (c ++ [(a.2, 0)]) w' τ fu hcf hok2 hs (by rw [List.length_cons] at hfu; omega)).from ?_
          refine (FE.of fχ (by simp) (by simp)).tr ⟨Fr.mono f2 (by simp) (by simp) (by simp), fun k _ => by rw [f2.2.1 18 (by simp)], c3⟩
        by_cases q3 : a.1 = 3
        · rw [ifp (k3.mpr q3), lt_y, wI_ne _ _ _ _ (by omega), hw, ifp q3]
          rw [ifp (Or.inl q3)] at o2'
          rw [show n32 w - (1 : Int32) = n32 (w - 1) from by rw [show (1 : Int32) = n32 1 from rfl, n32_sub (by omega)]]
          exact rest _ (w - 1) ((Fr.mono f1 (by simp) (by simp) (by simp)).w1 38 _ (by simp)) (p1.fr (Fr.wI _ 38 _) (by simp) (by simp) (by simp)) (wI_same _ _ _) (by omega) (by omega)
        · rw [ifn (fun y => q3 (k3.mp y)), ifn q3]
          rw [ifn (by omega)] at o2'
          exact rest _ w (Fr.mono f1 (by simp) (by simp) (by simp)) p1 (by rw [wI_ne _ _ _ _ (by omega)]; exact hw) (by omega) o3
theorem behindUnit_L {σ : MS} {b : Nat} {t : List Nat} {P u w : Nat} {st : List (Nat × Nat)} {c : Cd} {l : List Tk} (hb : b < 2) (h : MCf σ b t P (st, c, u, w, l)) (hok : okCf false (st, c, u, w, l)) (hn : st ≠ []) : eQ σ b t P (bhu st c u w l) (F_behindUnit σ) := by
  have hMN := MN_gt
  obtain ⟨(hp : MPl σ st), (hc : MCd σ b c), (hu : mA σ 18 b = n32 u), (hw : mI σ 38 = n32 w), h36, h12, (hS : PS σ t (.inr l))⟩ := id h
  have o1 : wfS st := hok.1
  have hl60 : st.length ≤ 60 := hok.len.1
  have hl0 : 0 < st.length := List.length_pos_iff.mpr hn
  have hr6 := (rnk_le (l := l)).1
  unfold F_behindUnit bhu
  rw [rank_L hS.1 hS.2.2, bd_y]
  have main := L23_L hb st c w σ MN h hok hn (by omega)
  by_cases q : rnk l = 4
  · rw [ifp (c := n32 (rnk l) = (4 : Int32)) (by rw [q]; rfl)]
    unfold F_isCompared
    rw [lt_y, hp.1, show n32 st.length - (1 : Int32) = n32 (st.length - 1) from by rw [show (1 : Int32) = n32 1 from rfl, n32_sub (by omega)], isCompared_L st st.length MN o1 hn rfl (by omega) (fun k a hk => (hp.2 k a hk).1) (by omega), bd_y]
    cases hcm : isCm st with
    | true =>
      rw [ifn gY, ifp ⟨q, rfl⟩]
      obtain ⟨τ, e, f, g⟩ := misplaced_S hS
      rw [e, bd_y]
      exact ⟨1, τ, rfl, FE.of f (by simp) (by simp), g⟩
    | false =>
      rw [ifp gN, ifn (c := rnk l = 4 ∧ false = true) (by simp)]
      exact main
  · rw [ifn (c := n32 (rnk l) = (4 : Int32)) (fun y => q ((n32_eq (b := 4) ⟨by omega, by omega⟩).mp y)), ifn (fun y => q y.1)]
    exact main
theorem unit_b56_L {σ : MS} {st : List (Nat × Nat)} {t : List Nat} {l : List Tk} (hp : MPl σ st) (hn : st ≠ []) (hwf : wfS st) (hl : st.length ≤ 60) (hM : MTk σ t l) : F_unit σ = F_unit_b56 (bi (notS st l)) σ := by
  cases st with
  | nil => exact absurd rfl hn
  | cons a s =>
    obtain ⟨⟨x1, x2, -⟩, -⟩ := hwf
    rw [List.length_cons] at hl
    have e39 : mI σ 39 = n32 (s.length + 1) := hp.1
    have z := n32_nat (a := s.length) (by omega)
    have e32 : mA σ 32 s.length = n32 a.1 := by
      have := (hp.2 0 a rfl).1
      rw [List.length_cons, Nat.add_sub_cancel, Nat.sub_zero] at this; exact this
    have es : n32 (s.length + 1) - (1 : Int32) = n32 s.length := by rw [show (1 : Int32) = n32 1 from rfl, n32_sub (by omega)]; rfl
    have en : F_isWord σ 7237492 = some (bi (isW l 7237492)) := isWord_L hM (w := 7237492) (by decide)
    unfold F_unit
    rw [e39, es]
    simp only [z, e32]
    rw [gd_y (n32_inb (by omega)), gd_y (n32_inb (by omega))]
    unfold F_unit_b31 F_unit_b36 F_unit_b55
    rw [en]
    have et : topS (a :: s) = a.1 := rfl
    unfold notS
    rw [et]
    have yes : ∀ o : Option (Int32 × MS), (if (1 : Int32) = 0 then F_unit_b56 (0 : Int32) σ else bd (some (bi (isW l 7237492))) fun r_3 => if r_3 = 0 then F_unit_b56 (0 : Int32) σ else F_unit_b56 (1 : Int32) σ) = F_unit_b56 (bi (isW l 7237492)) σ := by
      intro _
      rw [ifn g1N, bd_y]
      cases isW l 7237492
      · rw [ifp gN]; rfl
      · rw [ifn gY]; rfl
    by_cases q3 : a.1 ≤ 3
    · rw [ifp (c := n32 a.1 ≤ (3 : Int32)) ((n32_le (b := 3) ⟨by omega, by omega⟩).mpr q3), decide_eq_true (Or.inl q3), Bool.true_and]
      exact yes none
    · rw [ifn (c := n32 a.1 ≤ (3 : Int32)) (fun y => q3 ((n32_le (b := 3) ⟨by omega, by omega⟩).mp y))]
      by_cases q7 : a.1 < 7
      · rw [ifp (c := n32 a.1 < (7 : Int32)) ((n32_lt (b := 7) ⟨by omega, by omega⟩).mpr q7), decide_eq_false (by omega), Bool.false_and, ifp rfl]; rfl
      · rw [ifn (c := n32 a.1 < (7 : Int32)) (fun y => q7 ((n32_lt (b := 7) ⟨by omega, by omega⟩).mp y)), decide_eq_true (Or.inr (by omega)), Bool.true_and]
        exact yes none
def ccS (l : List Tk) : Nat := if isW l 6384748 = true then 97 else if whoK l = none then 0 else 112
theorem unit_L {σ : MS} {b : Nat} {t : List Nat} {P u w : Nat} {st : List (Nat × Nat)} {c : Cd} {l : List Tk} (hb : b < 2) (hP : P ≤ 3) (h : MCf σ b t P (st, c, u, w, l)) (hok : okCf true (st, c, u, w, l)) (hn : st ≠ []) : eQ σ b t P (unt P st c u w l) (F_unit σ) := by
  obtain ⟨(hp : MPl σ st), (hc : MCd σ b c), (hu : mA σ 18 b = n32 u), (hw : mI σ 38 = n32 w), h36, h12, (hS : PS σ t (.inr l))⟩ := id h
  obtain ⟨(o1 : wfS st), (o2 : nbS st = w), (o3 : w ≤ 7), (o4 : u ≤ 40), o5, -⟩ := id hok
  have o5' : c.length + opS st ≤ 9 * u + w := o5 rfl
  have hl60 : st.length ≤ 60 := hok.len.1
  have hl367 : c.length + opS st ≤ 367 := hok.len.2
  have hM := hS.2.2
  obtain ⟨c1, c2, c3, c4, c5, c6, c7, c8⟩ := hM.cur
  have zb := n32_nat (a := b) (by omega)
  rw [unit_b56_L hp hn o1 hl60 hM]
  unfold F_unit_b56
  have e1 : F_stands σ 40 = some (bi (isC l 40)) := stands_L hS.1 hM (c := 40) (by decide)
  have e2 : F_isWord σ 6384748 = some (bi (isW l 6384748)) := isWord_L hM (w := 6384748) (by decide)
  rw [e1, bd_y, whoHere_L hM, bd_y, e2, bd_y]
  have hb96 : (if bi (isW l 6384748) = 0 then if kn32 (whoK l) < 0 then F_unit_b96 (bi (notS st l)) (bi (isC l 40)) (kn32 (whoK l)) (0 : Int32) σ else F_unit_b96 (bi (notS st l)) (bi (isC l 40)) (kn32 (whoK l)) (112 : Int32) σ else F_unit_b96 (bi (notS st l)) (bi (isC l 40)) (kn32 (whoK l)) (97 : Int32) σ) = F_unit_b96 (bi (notS st l)) (bi (isC l 40)) (kn32 (whoK l)) (n32 (ccS l)) σ := by
    unfold ccS
    cases isW l 6384748
    · rw [ifp gN, ifn (c := false = true) (by decide)]
      cases hwk : whoK l with
      | none => rw [ifp (by show (-1 : Int32) < 0; decide), ifp rfl]; rfl
      | some p =>
        have := (whoK_lt hwk).1
        rw [ifn (by show ¬ n32 p < 0; rw [show (0 : Int32) = n32 0 from rfl, n32_lt ⟨by omega, by omega⟩]; omega), ifn (fun y => by cases y)]; rfl
    · rw [ifn gY, ifp rfl]; rfl
  rw [hb96]
  -- what is wrong with it
  obtain ⟨E, hE⟩ : ∃ E : Prop, E = ((notS st l = false ∧ ((kS (cur l) ≠ 4 ∧ isC l 40 = false ∧ whoK l = none ∧ isW l 6384748 = false) ∨ 40 ≤ u)) ∨ ((notS st l = true ∨ isC l 40 = true) ∧ 7 ≤ w)) := ⟨_, rfl⟩
  have cc0 : n32 (ccS l) = 0 ↔ whoK l = none ∧ isW l 6384748 = false := by
    unfold ccS
    cases isW l 6384748
    · rw [ifn (by decide)]
      cases whoK l
      · simp; rfl
      · simp; decide
    · simp; decide
  have hu40 : n32 u = (40 : Int32) ↔ 40 ≤ u := by rw [show (40 : Int32) = n32 40 from rfl, n32_eq ⟨by omega, by omega⟩]; omega
  have hw7 : n32 w = (7 : Int32) ↔ 7 ≤ w := by rw [show (7 : Int32) = n32 7 from rfl, n32_eq ⟨by omega, by omega⟩]; omega
  have hk4 : n32 (kS (cur l)) = (4 : Int32) ↔ kS (cur l) = 4 := n32_eq (b := 4) ⟨by omega, by omega⟩
  have split : (E ∧ F_unit_b96 (bi (notS st l)) (bi (isC l 40)) (kn32 (whoK l)) (n32 (ccS l)) σ = F_unit_b150 F_unit_b180 (bi (notS st l)) (bi (isC l 40)) (kn32 (whoK l)) (n32 (ccS l)) σ) ∨ (¬ E ∧ F_unit_b96 (bi (notS st l)) (bi (isC l 40)) (kn32 (whoK l)) (n32 (ccS l)) σ = F_unit_b157 F_unit_b180 (bi (notS st l)) (bi (isC l 40)) (kn32 (whoK l)) (n32 (ccS l)) σ) := by
    unfold F_unit_b96 F_unit_b119 F_unit_b133 F_unit_b141
    simp only [h36, zb, hu, hw, c2]
    rw [gd_y (n32_inb (by omega))]
    cases hnt : notS st l with
    | true =>
      rw [ifn gY, ifn gY]
      by_cases q7 : 7 ≤ w
      · exact Or.inl ⟨by rw [hE]; exact Or.inr ⟨Or.inl hnt, q7⟩, by rw [ifp (hw7.mpr q7)]⟩
      · refine Or.inr ⟨?_, by rw [ifn (fun y => q7 (hw7.mp y))]⟩
        rw [hE]
        rintro (⟨y, -⟩ | ⟨-, y⟩)
        · rw [hnt] at y; cases y
        · exact q7 y
    | false =>
      rw [ifp gN, ifp gN]
      by_cases qn : kS (cur l) ≠ 4 ∧ isC l 40 = false ∧ whoK l = none ∧ isW l 6384748 = false
      · refine Or.inl ⟨by rw [hE]; exact Or.inl ⟨hnt, Or.inl qn⟩, ?_⟩
        rw [ifp (cc0.mpr qn.2.2), ifn (fun y => qn.1 (hk4.mp y)), qn.2.1, ifp gN]
      · -- it is a unit
        have same : ∀ X Y : Option (Int32 × MS), (if n32 (ccS l) = 0 then (if n32 (kS (cur l)) = (4 : Int32) then X else if bi (isC l 40) = 0 then Y else X) else X) = X := by
          intro X Y
          by_cases y0 : n32 (ccS l) = 0
          · rw [ifp y0]
            by_cases y1 : n32 (kS (cur l)) = (4 : Int32)
            · rw [ifp y1]
            · rw [ifn y1]
              have y2 := cc0.mp y0
              cases y3 : isC l 40 with
              | true => rw [ifn gY]
              | false => exact absurd ⟨fun y => y1 (hk4.mpr y), y3, y2⟩ qn
          · rw [ifn y0]
        rw [same]
        by_cases qu : 40 ≤ u
        · exact Or.inl ⟨by rw [hE]; exact Or.inl ⟨hnt, Or.inr qu⟩, by rw [ifp (hu40.mpr qu)]⟩
        · rw [ifn (fun y => qu (hu40.mp y))]
          cases hbr : isC l 40 with
          | false =>
            refine Or.inr ⟨?_, by rw [ifp gN]⟩
            rw [hE]
            rintro (⟨-, y | y⟩ | ⟨y | y, -⟩)
            · exact qn y
            · exact qu y
            · rw [hnt] at y; cases y
            · rw [hbr] at y; cases y
          | true =>
            rw [ifn gY]
            by_cases q7 : 7 ≤ w
            · exact Or.inl ⟨by rw [hE]; exact Or.inr ⟨Or.inr hbr, q7⟩, by rw [ifp (hw7.mpr q7)]⟩
            · refine Or.inr ⟨?_, by rw [ifn (fun y => q7 (hw7.mp y))]⟩
              rw [hE]
              rintro (⟨-, y | y⟩ | ⟨-, y⟩)
              · exact qn y
              · exact qu y
              · exact q7 y
  unfold unt
  rcases split with ⟨hEy, e⟩ | ⟨hEn, e⟩
  · rw [hE] at hEy
    rw [ifp hEy, e]
    unfold F_unit_b150 F_unit_b180
    obtain ⟨τ, e3, f3, g3⟩ := misplaced_S hS
    have g3' : PS τ t (.inl (errT l)) := g3
    rw [e3, bd_y, isGood_n g3', bd_y, ifp rfl]
    exact ⟨1, τ, rfl, FE.of f3 (by simp) (by simp), g3'⟩
  · rw [hE] at hEn
    rw [ifn hEn, e]
    unfold F_unit_b157
    simp only [h36, zb, h12]
    rw [gd_y (n32_inb (by omega))]
    have hwl : kn32 (whoK l) < n32 P ↔ ¬ ∃ p, whoK l = some p ∧ P ≤ p := by
      cases hwk : whoK l with
      | none =>
        refine ⟨(fun _ => by rintro ⟨p, y, -⟩; cases y), fun _ => ?_⟩
        show (-1 : Int32) < n32 P
        have : P = 0 ∨ P = 1 ∨ P = 2 ∨ P = 3 := by omega
        rcases this with rfl | rfl | rfl | rfl <;> decide
      | some p =>
        have h3 := (whoK_lt hwk).1
        show n32 p < n32 P ↔ _
        rw [n32_lt ⟨by omega, by omega⟩]
        constructor
        · rintro y ⟨p', y1, y2⟩; cases y1; omega
        · intro y
          apply Classical.byContradiction
          intro y2
          exact y ⟨p, rfl, by omega⟩
    by_cases qw : ∃ p, whoK l = some p ∧ P ≤ p
    · rw [ifn (fun y => hwl.mp y qw), ifp qw]
      obtain ⟨τ, e3, f3, g3⟩ := fails_S hS (k := 4) (p := kP (cur l)) (by omega)
      have g3' : PS τ t (.inl (4, kP (cur l))) := g3
      rw [c3, show (4 : Int32) = n32 4 from rfl, e3, bd_y]
      unfold F_unit_b180
      rw [isGood_n g3', bd_y, ifp rfl]
      exact ⟨1, τ, rfl, FE.of f3 (by simp) (by simp), g3'⟩
    · rw [ifp (hwl.mpr qw), ifn qw]
      unfold F_unit_b180
      rw [isGood_y hS, bd_y, ifn g1N]
      simp only [h36, zb, hu]
      rw [gd_y (n32_inb (by omega))]
      have h2 : 2 ≤ kS (cur l) := by
        apply Classical.byContradiction
        intro y
        have hW : ∀ w, isW l w = false := fun w => decide_eq_false fun y => by omega
        have hC : ∀ w, isC l w = false := fun w => decide_eq_false fun y => by omega
        apply hEn
        refine Or.inl ⟨by unfold notS; rw [hW, Bool.and_false], Or.inl ⟨by omega, hC _, ?_, hW _⟩⟩
        cases hwk : whoK l with
        | none => rfl
        | some p => exact absurd (whoK_lt hwk).2 y
      -- units, the next token
      have rest : ∀ (n : Nat), n = (if notS st l = true then 0 else 1) → eQ σ b t P (if notS st l = true then .inr (true, ((3, 126) :: st, c, u, w + 1, l.tail)) else if isC l 40 = true then .inr (true, ((7, 126) :: st, c, u + 1, w + 1, l.tail)) else .inr (false, (st, c ++ [leafS l], u + 1, w, l.tail))) (F_unit_b208 (bi (notS st l)) (bi (isC l 40)) (kn32 (whoK l)) (n32 (ccS l)) (n32 n) (n32 u) (n32 b) σ) := by
        intro n hn1
        unfold F_unit_b208
        simp only [zb]
        rw [gd_y (n32_inb (by omega)), lt_y, n32_add]
        have f1 : Fr [] [18] [] σ (wA σ 18 b (n32 (u + n))) := Fr.any.wA1 18 _ _ (by simp)
        have g1 := hS.fr f1 (by simp) (by simp) (by simp)
        have hcf1 : MCf (wA σ 18 b (n32 (u + n))) b t P (st, c, u + n, w, l) := ⟨hp.fr f1 (by simp) (by simp) (by simp), hc.fr f1 (by simp) (by simp) (by simp), wA_at _ _ _ _, hw, h36, by rw [wA_ne _ _ _ _ _ _ (by omega)]; exact h12, g1⟩
        have m9 : mI (wA σ 18 b (n32 (u + n))) 9 = mI σ 9 := rfl
        have FE1 : FE b σ (wA σ 18 b (n32 (u + n))) := ⟨Fr.mono f1 (by simp) (by simp) (by simp), fun k hk => wA_ne _ _ _ _ _ _ (fun y => hk y.2), fun k _ => ⟨wA_ne _ _ _ _ _ _ (by omega), wA_ne _ _ _ _ _ _ (by omega)⟩⟩
        rw [m9]
        generalize wA σ 18 b (n32 (u + n)) = υ at f1 g1 hcf1 FE1
        obtain ⟨τ, e4, f4, g4⟩ := goOn_S g1 h2
        have hcf2 := hcf1.go f4 (by simp) g4
        have FE2 : FE b σ τ := FE1.tr (FE.of f4 (by simp) (by simp))
        obtain ⟨(p2 : MPl τ st), (c2' : MCd τ b c), (u2 : mA τ 18 b = n32 (u + n)), (w2 : mI τ 38 = n32 w), q36, q12, (s2 : PS τ t (.inr l.tail))⟩ := hcf2
        have b224 : ∀ v, (ccS l = 0 → v = mI σ 9) → (ccS l ≠ 0 → v = kn32 (whoK l)) → eQ σ b t P (if notS st l = true then .inr (true, ((3, 126) :: st, c, u, w + 1, l.tail)) else if isC l 40 = true then .inr (true, ((7, 126) :: st, c, u + 1, w + 1, l.tail)) else .inr (false, (st, c ++ [leafS l], u + 1, w, l.tail))) (F_unit_b224 (bi (notS st l)) (bi (isC l 40)) (n32 (ccS l)) v υ) := by
          intro v hv1 hv2
          unfold F_unit_b224 F_unit_b238 F_unit_b249
          rw [e4, bd_y]
          have psh : ∀ (k : Nat) (u' : Nat), (k = 3 ∨ k = 7) → (w < 7) → u' = u + n → (k = 3 → u' = u) → (k = 7 → u' = u + 1) → (u' ≤ 40) → (k = 3 → topS st ≤ 3 ∨ 7 ≤ topS st) → eQ σ b t P (.inr (true, ((k, 126) :: st, c, u', w + 1, l.tail))) (bd (F_pushE (n32 k) (126 : Int32) τ) fun σ_2 => lt (wI σ_2 38 (mI σ_2 38 + (1 : Int32))) fun σ_3 => some ((1 : Int32), σ_3)) := by
            intro k u' hk hw7' hu' hu3 hu7 hu40' ht3
            obtain ⟨τ2, e5, f5, p5⟩ := pushE_L p2 (by omega) (k, 126)
            have e5' : F_pushE (n32 k) (126 : Int32) τ = some τ2 := e5
            rw [e5', bd_y, lt_y, f5.1 38 (by simp), w2, show n32 w + (1 : Int32) = n32 (w + 1) from by rw [show (1 : Int32) = n32 1 from rfl, n32_add]]
            have f6 : Fr [38, 39] [32, 33] [] τ (wI τ2 38 (n32 (w + 1))) := (Fr.mono f5 (by simp) (by simp) (by simp)).w1 38 _ (by simp)
            refine ⟨1, _, rfl, FE2.tr ⟨Fr.mono f6 (by simp) (by simp) (by simp), fun j _ => by rw [f6.2.1 18 (by simp)], fun j _ => ⟨by rw [f6.2.1 30 (by simp)], by rw [f6.2.1 31 (by simp)]⟩⟩, rfl, ⟨p5.fr (Fr.wI _ 38 _) (by simp) (by simp) (by simp), c2'.fr f6 (by simp) (by simp) (by simp), by rw [f6.2.1 18 (by simp), u2, hu'], wI_same _ _ _, by rw [f6.1 36 (by simp)]; exact q36, by rw [f6.2.1 12 (by simp)]; exact q12, s2.fr f6 (by intro j hj; simp; omega) (by simp) (by simp)⟩, ?_⟩
            refine ⟨⟨⟨by show 1 ≤ k; omega, by show k ≤ 8; omega, by show 126 < 127; omega⟩, fun _ => hn, (fun y => by have : k = 8 := y; omega), fun y => ?_, o1⟩, ?_, by show w + 1 ≤ 7; omega, hu40', fun _ => ?_, (fun y => by cases y)⟩
            · have y' : k ≤ 6 := y
              have k3 : k = 3 := by omega
              show topS st < k ∨ 7 ≤ topS st ∨ (k = 3 ∧ topS st = 3)
              have := ht3 k3; omega
            · show nbS st + (if k = 3 ∨ k = 7 then 1 else 0) = w + 1
              rw [ifp hk]; omega
            · show c.length + (opS st + (if k ≤ 6 then 1 else 0)) ≤ 9 * u' + (w + 1)
              rcases hk with hk | hk
              · rw [ifp (by omega), hu3 hk]; omega
              · rw [ifn (by omega), hu7 hk]; omega
          cases hnt : notS st l with
          | true =>
            rw [hnt, ifp rfl] at hn1
            rw [ifn gY, ifp rfl, ifn gY]
            have hw7' : w < 7 := by
              apply Classical.byContradiction
              intro y
              exact hEn (Or.inr ⟨Or.inl hnt, by omega⟩)
            refine psh 3 u (Or.inl rfl) hw7' (by omega) (fun _ => rfl) (by omega) o4 (fun _ => ?_)
            unfold notS at hnt
            rw [Bool.and_eq_true] at hnt
            exact of_decide_eq_true hnt.1
          | false =>
            rw [hnt, ifn (by decide)] at hn1
            have hu39 : u + 1 ≤ 40 := by
              apply Classical.byContradiction
              intro y
              exact hEn (Or.inl ⟨hnt, Or.inr (by omega)⟩)
            rw [ifp gN, ifn (c := false = true) (by decide), ifp gN]
            cases hbr : isC l 40 with
            | true =>
              rw [ifn gY, ifp rfl]
              have hw7' : w < 7 := by
                apply Classical.byContradiction
                intro y
                exact hEn (Or.inr ⟨Or.inr hbr, by omega⟩)
              exact psh 7 (u + 1) (Or.inr rfl) hw7' (by omega) (by omega) (fun _ => rfl) hu39 (by omega)
            | false =>
              rw [ifp gN, ifn (c := false = true) (by decide)]
              unfold F_unit_b279
              have em : ∀ cc, n32 cc = n32 (leafS l).1 → (((leafS l).1 = 110 ∨ (97 ≤ (leafS l).1 ∧ (leafS l).1 ≤ 122 ∧ (leafS l).1 ≠ 97)) → v = n32 (leafS l).2) → eQ σ b t P (.inr (false, (st, c ++ [leafS l], u + 1, w, l.tail))) (bd (F_emit (n32 cc) v τ) fun σ_2 => some ((0 : Int32), σ_2)) := by
                intro cc hcc hvv
                obtain ⟨τ2, e5, f5, p5, p6⟩ := emit_L hb c2' (by omega) (leafS l) v hvv
                rw [hcc, e5, bd_y]
                refine ⟨0, τ2, rfl, FE2.tr ⟨Fr.mono f5 (by simp) (by simp) (by simp), fun j _ => by rw [f5.2.1 18 (by simp)], p6⟩, rfl, ⟨p2.fr f5 (by simp) (by simp) (by simp), p5, by rw [f5.2.1 18 (by simp), u2, hn1], by rw [f5.1 38 (by simp)]; exact w2, by rw [f5.1 36 (by simp)]; exact q36, by rw [f5.2.1 12 (by simp)]; exact q12, s2.fr f5 (by intro j hj; simp; omega) (by simp) (by simp)⟩, o1, o2, o3, hu39, (fun y => by cases y), fun _ => ?_⟩
                show (c ++ [leafS l]).length + opS st + 1 ≤ 9 * (u + 1)
                rw [List.length_append, List.length_singleton]; omega
              cases hwk : whoK l with
              | some p =>
                have hlf : leafS l = (112, p) := by unfold leafS; rw [hwk]
                have hna : isW l 6384748 = false := by
                  unfold whoK at hwk
                  split at hwk
                  · rename_i y; exact isW_un y (by decide)
                  · split at hwk
                    · rename_i y; exact isW_un y (by decide)
                    · split at hwk
                      · rename_i y; exact isW_un y (by decide)
                      · cases hwk
                have hcs : ccS l = 112 := by unfold ccS; rw [hna, hwk]; rfl
                rw [hcs, ifn (by decide)]
                refine em 112 (by rw [hlf]) (fun _ => ?_)
                rw [hv2 (by rw [hcs]; omega), hwk, hlf]; rfl
              | none =>
                cases ha : isW l 6384748 with
                | true =>
                  have hlf : leafS l = (97, 0) := by unfold leafS; rw [hwk]; simp only; rw [ifp ha]
                  have hcs : ccS l = 97 := by unfold ccS; rw [ha]; rfl
                  rw [hcs, ifn (by decide)]
                  refine em 97 (by rw [hlf]) (fun y => ?_)
                  rw [hlf] at y
                  rcases y with y | y
                  · cases y
                  · exact absurd rfl y.2.2
                | false =>
                  have hlf : leafS l = (110, kV (cur l)) := by unfold leafS; rw [hwk]; simp only; rw [ifn (by rw [ha]; decide)]
                  have hcs : ccS l = 0 := by unfold ccS; rw [ha, hwk]; rfl
                  rw [hcs, ifp (by decide)]
                  refine em 110 (by rw [hlf]) (fun _ => ?_)
                  have hk4' : kS (cur l) = 4 := by
                    apply Classical.byContradiction
                    intro y
                    exact hEn (Or.inl ⟨hnt, Or.inl ⟨y, hbr, hwk, ha⟩⟩)
                  rw [hv1 hcs, (c6 hk4').1, hlf]
        by_cases q0 : ccS l = 0
        · rw [ifp (c := n32 (ccS l) = 0) (by rw [q0]; rfl)]
          exact b224 _ (fun _ => rfl) (fun y => absurd q0 y)
        · rw [ifn (c := n32 (ccS l) = 0) (fun y => q0 (by
            have h112 : ccS l ≤ 112 := by
              unfold ccS
              repeat' split
              all_goals omega
            exact (n32_eq (b := 0) ⟨by omega, by omega⟩).mp y))]
          exact b224 _ (fun y => absurd y q0) (fun _ => rfl)
      cases hnt : notS st l with
      | true =>
        rw [ifn gY]
        have := rest 0 (by rw [hnt]; rfl)
        rw [hnt] at this; exact this
      | false =>
        rw [ifp gN]
        have := rest 1 (by rw [hnt]; rfl)
        rw [hnt] at this; exact this
