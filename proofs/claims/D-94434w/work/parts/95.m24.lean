set_option maxRecDepth 100000
/-! THE REFERENCE: rows of moves are sought -/
theorem clS_le (x : Stq) (D : Dst) (i c : Nat) : clS x D i c ≤ sm 256 (D i) := sm_le fun r _ => by split <;> omega
theorem SkI.mb {σ : MS} {b : Nat} {R : Rc} (h : SkI σ b R) (hq : okQ R) : MB σ b (rN R) := h.1.mb hq
def skP (σ : MS) (b M : Nat) (R : Rc) (o : Option (Int32 × MS)) : Prop := ∃ a τ, o = some (a, τ) ∧ Fr [69, 70] [41, 42] [43, 71] σ τ ∧ SkI τ b R ∧ ((∃ r o, skF R M r o ∧ a = n32 1 ∧ mI τ 69 = n32 r ∧ mI τ 70 = n32 o) ∨ (skN R M ∧ a = n32 0))
theorem skP.from {σ τ : MS} {b M : Nat} {R : Rc} {o : Option (Int32 × MS)} (h : skP τ b M R o) (f : Fr [69, 70] [41, 42] [43, 71] σ τ) : skP σ b M R o := by
  obtain ⟨a, υ, e, f2, g⟩ := h
  exact ⟨a, υ, e, Fr.tr f f2 (by simp) (by simp) (by simp), g⟩
theorem seeksO_L {b M r : Nat} {R : Rc} (hq : okQ R) (hK : SkR R) (hM : M ≤ 3) (hr : r < (rY R).length ^ M) {k : Int32 → Int32 → Int32 → MS → Option (Int32 × MS)} {x2 : Int32} (hfit : fitAll R (vC (strtR R)) (digs (rY R).length M r)) (hno : ∀ r', r' < r → ∀ o', ¬ skG R M r' o')
    {σ0 : MS} (hk : ∀ τ, Fr [69, 70] [41, 42] [43, 71] σ0 τ → SkI τ b R → (∀ o', ¬ skG R M r o') → skP σ0 b M R (k (n32 M) x2 (n32 r) τ)) :
    ∀ (fu n o : Nat) (σ : MS), o + n = (rO R).length → n < fu → Fr [69, 70] [41, 42] [43, 71] σ0 σ → SkI σ b R → LD σ 0 (movs R (digs (rY R).length M r) (vD (strtR R))) → (∀ o', o' < o → ¬ skG R M r o') → skP σ0 b M R (F_seeks_L49 k fu (n32 M) x2 (n32 r) (n32 o) σ) := by
  intro fu
  induction fu with
  | zero => intro n o σ h1 h2; omega
  | succ fu ih =>
    intro n o σ h1 h2 hf hI hD hpre
    obtain ⟨hR, h17, h68, h56⟩ := id hI
    have hb := hR.2.1
    have zb := n32_nat (a := b) (by omega)
    have hO4 : (rO R).length ≤ 4 := hq.2.2.2.2.2.1
    have h15 : mA σ 15 b = n32 (rO R).length := hR.2.2.2.2.2.2.1.1
    rw [F_seeks_L49]
    simp only [hR.1, zb, h15]
    rw [gd_y (n32_inb (by omega))]
    by_cases q : (rO R).length ≤ o
    · rw [ifp ((n32_le ⟨by omega, by omega⟩).mpr q)]
      exact hk σ hf hI fun o' z => by
        have := z.2.1
        exact hpre o' (by omega) z
    · rw [ifn (fun z => q ((n32_le ⟨by omega, by omega⟩).mp z)), lt_y]
      have ho : o < (rO R).length := by omega
      obtain ⟨hox, t8⟩ := rO_ok hq ho
      have hx := hR.2.2.2.2.2.2.1.2 _ _ (rO_get ho)
      have ek : (52 : Int32) * n32 b + (48 : Int32) + n32 o = n32 (52 * b + 48 + o) := by simp (disch := omega) only [↓reduceIte, ↓lt_y, leT, leF, ltT, ltF, eqT, eqF, n32_lit, n32_add, n32_mul, n32_sub, n32_le, n32_lt, n32_eq, n32_nat, gdn, gd_T, inbT, bd_y, bd2_y, ifp, ifn, not_true_eq_false, not_false_eq_true, and_self, true_and, and_true, false_and, and_false, or_self, true_or, or_true, false_or, or_false, wA_s, wL_s, sA_same, sL_same, sA_L, sL_A, sA_I, sL_I, wI_A, wI_L, wI_same, sA_sA, sL_sL, sA_ne, sL_ne, wI_ne]
      have es : n32 o + (1 : Int32) = n32 (o + 1) := by simp (disch := omega) only [↓reduceIte, ↓lt_y, leT, leF, ltT, ltF, eqT, eqF, n32_lit, n32_add, n32_mul, n32_sub, n32_le, n32_lt, n32_eq, n32_nat, gdn, gd_T, inbT, bd_y, bd2_y, ifp, ifn, not_true_eq_false, not_false_eq_true, and_self, true_and, and_true, false_and, and_false, or_self, true_or, or_true, false_or, or_false, wA_s, wL_s, sA_same, sL_same, sA_L, sL_A, sA_I, sL_I, wI_A, wI_L, wI_same, sA_sA, sL_sL, sA_ne, sL_ne, wI_ne]
      rw [ek, h68, fits_L (by omega) hx hox (Or.inl ⟨by omega, by omega⟩) _ hK.1.1, bd_y]
      by_cases qn : need ((rO R).getD o (0, 0, 0, 0, [], 0, 0)) ≤ vC (strtR R)
      · unfold b32
        rw [ifp qn, ifn (by decide)]
        have hdl : ∀ d ∈ digs (rY R).length M r, d < (rY R).length := by
          rcases Nat.eq_zero_or_pos (rY R).length with z | z
          · intro d hd
            cases M with
            | zero => cases hd
            | succ M => rw [z, Nat.pow_succ, Nat.mul_zero] at hr; omega
          · exact digs_lt _ z M r hr
        have hmo := movs_ok (N := rN R) hq (digs (rY R).length M r) (vD (strtR R)) hdl (fun i q hi => by
          apply Classical.byContradiction
          intro z
          have := (hK.1.2.1 i q z).1
          omega)
        have hb' : ∀ i c, clS ((rO R).getD o (0, 0, 0, 0, [], 0, 0)) (movs R (digs (rY R).length M r) (vD (strtR R))) i c < 9223372036854775808 := by
          intro i c
          have h3 := clS_le ((rO R).getD o (0, 0, 0, 0, [], 0, 0)) (movs R (digs (rY R).length M r) (vD (strtR R))) i c
          have h4 := hmo.2 i
          rw [digs_len] at h4
          have h5 : 24 ^ M * sm 256 (vD (strtR R) i) ≤ 24 ^ 3 * 1 := Nat.mul_le_mul (Nat.pow_le_pow_right (by omega) hM) (hK.2 i)
          have h6 : (24 : Nat) ^ 3 * 1 = 13824 := by decide
          omega
        obtain ⟨a, g, e, t1, t2⟩ := tells_L (hI.mb hq) (by omega) hx hox t8 hD h56 hb'
        rw [e, bd2_y]
        have fg : Fr [] [] [71] σ (sL σ 71 g) := Fr.sL _ _ _
        have hI2 : SkI (sL σ 71 g) b R := hI.fr fg (by simp) (by intro j _; simp) (fun j _ => by rw [fg.2.2 43 (by simp)])
        by_cases qt : telS (rN R) (askS (rA R)) ((rO R).getD o (0, 0, 0, 0, [], 0, 0)) (movs R (digs (rY R).length M r) (vD (strtR R)))
        · rw [t1 qt, ifn (by decide)]
          unfold F_seeks_b103
          simp only [↓lt_y]
          have f2 : Fr [69, 70] [] [] (sL σ 71 g) (wI (wI (sL σ 71 g) 69 (n32 r)) 70 (n32 o)) := Fr.tr (Fr.wI _ _ _) (Fr.wI _ _ _) (by simp) (by simp) (by simp)
          refine ⟨_, _, rfl, Fr.tr hf (Fr.tr (js := [69, 70]) (bs := []) (ms := [71]) fg f2 (by simp) (by simp) (by simp)) (by simp) (by simp) (by simp), hI2.fr f2 (by simp) (by intro j _; simp) (fun j _ => rfl), Or.inl ⟨r, o, ⟨hr, ⟨hfit, ho, qn, qt⟩, hpre, hno⟩, rfl, ?_, ?_⟩⟩
          · rw [wI_ne _ _ _ _ (by omega), wI_same]
          · rw [wI_same]
        · rw [t2 qt, ifp (by decide)]
          unfold F_seeks_b116
          rw [lt_y, es]
          refine ih (n - 1) (o + 1) _ (by omega) (by omega) (Fr.tr hf fg (by simp) (by simp) (by simp)) hI2 (fun i q hi hq' => by rw [fg.2.2 43 (by simp)]; exact hD i q hi hq') fun o' ho' => ?_
          by_cases w : o' = o
          · rw [w]; exact fun z => qt z.2.2.2
          · exact hpre o' (by omega)
      · unfold b32
        rw [ifn qn, ifp (by decide)]
        unfold F_seeks_b116
        rw [lt_y, es]
        refine ih (n - 1) (o + 1) σ (by omega) (by omega) hf hI hD fun o' ho' => ?_
        by_cases w : o' = o
        · rw [w]; exact fun z => qn z.2.2.1
        · exact hpre o' (by omega)
theorem seeksR_L {b M : Nat} {R : Rc} (hq : okQ R) (hK : SkR R) (hM : M ≤ 3) : ∀ (fu n r : Nat) (σ : MS), r + n = (rY R).length ^ M → n < fu → SkI σ b R → (∀ r', r' < r → ∀ o', ¬ skG R M r' o') → skP σ b M R (F_seeks_L29 fu (n32 M) (n32 ((rY R).length ^ M)) (n32 r) σ) := by
  have hMN := MN_gt
  have hall := pow_b (n := M) hq.2.2.2.1 hM
  intro fu
  induction fu with
  | zero => intro n r σ h1 h2; omega
  | succ fu ih =>
    intro n r σ h1 h2 hI hpre
    rw [F_seeks_L29]
    by_cases q : (rY R).length ^ M ≤ r
    · rw [ifp ((n32_le ⟨by omega, by omega⟩).mpr q)]
      exact ⟨_, σ, rfl, Fr.mono Fr.rf (by simp) (by simp) (by simp), hI, Or.inr ⟨fun r' o hr' z => hpre r' (by omega) o z, rfl⟩⟩
    · rw [ifn (fun z => q ((n32_le ⟨by omega, by omega⟩).mp z))]
      obtain ⟨a, τ, e, f, hI2, g⟩ := isMoved_L hq hI hK hM (r := r) (by omega)
      rw [e, bd2_y]
      have es : n32 r + (1 : Int32) = n32 (r + 1) := by simp (disch := omega) only [↓reduceIte, ↓lt_y, leT, leF, ltT, ltF, eqT, eqF, n32_lit, n32_add, n32_mul, n32_sub, n32_le, n32_lt, n32_eq, n32_nat, gdn, gd_T, inbT, bd_y, bd2_y, ifp, ifn, not_true_eq_false, not_false_eq_true, and_self, true_and, and_true, false_and, and_false, or_self, true_or, or_true, false_or, or_false, wA_s, wL_s, sA_same, sL_same, sA_L, sL_A, sA_I, sL_I, wI_A, wI_L, wI_same, sA_sA, sL_sL, sA_ne, sL_ne, wI_ne]
      have hf : Fr [69, 70] [41, 42] [43, 71] σ τ := Fr.mono f (by simp) (by simp) (by simp)
      have nx : ∀ υ, Fr [69, 70] [41, 42] [43, 71] σ υ → SkI υ b R → (∀ o', ¬ skG R M r o') → skP σ b M R (F_seeks_b122 (F_seeks_L29 fu) (n32 M) (n32 ((rY R).length ^ M)) (n32 r) υ) := by
        intro υ fυ hυ hno
        unfold F_seeks_b122
        rw [lt_y, es]
        refine (ih (n - 1) (r + 1) υ (by omega) (by omega) hυ fun r' hr' => ?_).from fυ
        by_cases w : r' = r
        · rw [w]; exact hno
        · exact hpre r' (by omega)
      rcases g with ⟨g1, rfl, g2⟩ | ⟨g1, rfl⟩
      · rw [ifn (by decide), show (0 : Int32) = n32 0 from rfl]
        have hO4 : (rO R).length ≤ 4 := hq.2.2.2.2.2.1
        exact seeksO_L hq hK hM (by omega) g1 hpre nx MN (rO R).length 0 τ (by omega) (by omega) hf hI2 g2 (fun o' h => by omega)
      · rw [ifp (by decide)]
        exact nx τ hf hI2 fun o' z => g1 z.1
theorem seeks_L {σ : MS} {b M : Nat} {R : Rc} (hq : okQ R) (hK : SkR R) (hM : M ≤ 3) (hI : SkI σ b R) : skP σ b M R (F_seeks (n32 M) σ) := by
  have hMN := MN_gt
  have hall := pow_b (n := M) hq.2.2.2.1 hM
  obtain ⟨hR, h17, h68, h56⟩ := id hI
  have hb := hR.2.1
  have zb := n32_nat (a := b) (by omega)
  have h14 : mA σ 14 b = n32 (rY R).length := hR.2.2.2.2.2.1.1
  unfold F_seeks
  obtain ⟨fu, s, hs, e⟩ := upe (fun fu k (x : Int32) => F_seeks_L4 fu (n32 M) x (n32 k) σ) 0 M (fun k x => x = n32 ((rY R).length ^ k))
    (by
      rintro fu k x hk1 hk rfl
      refine ⟨n32 ((rY R).length ^ (k + 1)), ?_, rfl⟩
      try dsimp only
      rw [F_seeks_L4, ifn (by rw [n32_le ⟨by omega, by omega⟩]; omega)]
      simp only [↓lt_y, hR.1, zb, h14]
      rw [gd_y (n32_inb (by omega)), n32_mul, ← Nat.pow_succ, show (1 : Int32) = n32 1 from rfl, n32_add])
    (n32 1) MN (by omega) (by omega) (by rw [Nat.pow_zero])
  have e' : F_seeks_L4 MN (n32 M) 1 0 σ = F_seeks_L4 (fu + 1) (n32 M) s (n32 M) σ := e
  rw [e', F_seeks_L4, ifp ((n32_le ⟨by omega, by omega⟩).mpr (Nat.le_refl _)), hs]
  unfold F_seeks_b27
  exact seeksR_L hq hK hM MN ((rY R).length ^ M) 0 σ (by omega) (by omega) hI (fun r' h => by omega)
/-! a row of moves as a number -/
def wrN (m : Nat) : Nat → Nat → Nat
  | 0, _ => 0
  | n + 1, r => (r % m + 1) + 10 * wrN m n (r / m)
theorem digs_snoc (m : Nat) (hm : 0 < m) : ∀ n r, r < m ^ (n + 1) → digs m (n + 1) r = digs m n (r / m) ++ [r % m] := by
  intro n
  induction n with
  | zero =>
    intro r hr
    rw [Nat.zero_add, Nat.pow_one] at hr
    simp [digs, Nat.mod_eq_of_lt hr]
  | succ n ih =>
    intro r hr
    rw [digs, ih _ (Nat.mod_lt _ (Nat.pow_pos hm)), digs]
    have e1 : r / m / m ^ n = r / m ^ (n + 1) := by rw [Nat.div_div_eq_div_mul, Nat.pow_succ, Nat.mul_comm]
    have e2 : r % m ^ (n + 1) / m = r / m % m ^ n := by rw [Nat.pow_succ, Nat.mul_comm, Nat.mod_mul_right_div_self]
    have e3 : r % m ^ (n + 1) % m = r % m := Nat.mod_mod_of_dvd r ⟨m ^ n, by rw [Nat.pow_succ, Nat.mul_comm]⟩
    rw [e1, e2, e3]
    rfl
theorem wrtS_snoc (l : List Nat) (d : Nat) : wrtS (l ++ [d]) = 10 * wrtS l + (d + 1) := by unfold wrtS; rw [List.foldl_append]; rfl
theorem wrtS_digs (m : Nat) (hm : 0 < m) : ∀ n r, r < m ^ n → wrtS (digs m n r) = wrN m n r := by
  intro n
  induction n with
  | zero => intro r _; rfl
  | succ n ih =>
    intro r hr
    rw [digs_snoc m hm n r hr, wrtS_snoc, ih, wrN]
    · omega
    · rw [Nat.div_lt_iff_lt_mul hm, ← Nat.pow_succ]; exact hr
theorem written_L {σ : MS} {b : Nat} {R : Rc} (hq : okQ R) (hR : MRc σ b R) {M : Nat} (hM : M ≤ 3) (hm : M ≠ 0 → 0 < (rY R).length) : ∀ (n : Nat) (v u r fu : Nat), n ≤ M → r < 5000 → n < fu → F_written_L13 σ fu (n32 M) (n32 v) (n32 u) (n32 r) (n32 (M - n)) = some (n32 (v + u * wrN (rY R).length n r)) := by
  intro n
  induction n with
  | zero =>
    intro v u r fu h1 h2 h3
    obtain ⟨fu, rfl⟩ : ∃ f, fu = f + 1 := ⟨fu - 1, by omega⟩
    rw [F_written_L13, Nat.sub_zero, ifp ((n32_le ⟨by omega, by omega⟩).mpr (Nat.le_refl _)), wrN, Nat.mul_zero, Nat.add_zero]
  | succ n ih =>
    intro v u r fu h1 h2 h3
    obtain ⟨fu, rfl⟩ : ∃ f, fu = f + 1 := ⟨fu - 1, by omega⟩
    have hb := hR.2.1
    have zb := n32_nat (a := b) (by omega)
    have hm0 := hm (by omega)
    have hm8 : (rY R).length ≤ 8 := hq.2.2.2.1
    have h14 : mA σ 14 b = n32 (rY R).length := hR.2.2.2.2.2.1.1
    have hne2 : ¬ n32 (rY R).length = 0 := fun z => by
      rw [show (0 : Int32) = n32 0 from rfl, n32_eq ⟨by omega, by omega⟩] at z; omega
    rw [F_written_L13, ifn (by rw [n32_le ⟨by omega, by omega⟩]; omega)]
    simp only [↓lt_y, hR.1, zb, h14]
    rw [gd_y (n32_inb (by omega)), gd_y hne2, gd_y (n32_inb (by omega)), gd_y hne2, n32_mod _ _ hm0 (by omega) (by omega), n32_div _ _ hm0 (by omega) (by omega)]
    have es : n32 (M - (n + 1)) + (1 : Int32) = n32 (M - n) := by
      rw [show (1 : Int32) = n32 1 from rfl, n32_add]; congr 1; omega
    have hr2 : r / (rY R).length < 5000 := Nat.lt_of_le_of_lt (Nat.div_le_self _ _) h2
    rw [es, show (1 : Int32) = n32 1 from rfl, show (10 : Int32) = n32 10 from rfl, n32_add, n32_mul, n32_add, n32_mul, ih _ _ _ fu (by omega) hr2 (by omega), wrN]
    congr 2
    rw [Nat.mul_add u (r % (rY R).length + 1), Nat.mul_assoc, Nat.add_assoc]
theorem seek_M {σ : MS} {S : St} (h : MR σ S) (ho : okSt S) (n w : Int32) : Ok (F_seek n w σ) fun o => q_seek n w (zR S) o.1 ∧ MR o.2 S := by
  have hMN := MN_gt
  obtain ⟨⟨b, hR⟩, hP, h54, h67, -⟩ := id h
  have hq := ho.2.1
  unfold F_seek q_seek
  have e1 : F_isIn n 0 3 = some (b32 (ixo n 4 ≠ none)) := isIn_L n 4 (by omega)
  have e2 : F_isIn w 0 2 = some (b32 (ixo w 3 ≠ none)) := isIn_L w 3 (by omega)
  rw [e1, e2, bd_y]
  cases hn : ixo n 4 with
  | none =>
    rw [b32_none rfl, ifp (by decide)]
    exact Ok.done ⟨rfl, h⟩
  | some n' =>
    rw [b32_some rfl, ifn (by decide), bd_y]
    cases hw : ixo w 3 with
    | none =>
      rw [b32_none rfl, ifp (by decide)]
      exact Ok.done ⟨rfl, h⟩
    | some w' =>
      rw [b32_some rfl, ifn (by decide)]
      obtain ⟨rfl, hn4⟩ := ixo_some hn
      obtain ⟨rfl, hw3⟩ := ixo_some hw
      obtain ⟨τ, e, f, l17, l0, f68, k1, k2, k3⟩ := layStart_L hR hq h67
      rw [e, bd_y]
      have hK : SkR (zR S) := ⟨k1, k2⟩
      have hI : SkI τ b (zR S) := ⟨hR.fr f (by simp) (by intro j x y; simp; omega), l17, f68, k3⟩
      have fin : ∀ υ, Fr [51, 68, 69, 70] [34, 41, 42, 45, 46, 47, 48, 56] [43, 44, 71] σ υ → MR υ S := by
        intro υ f
        refine h.fr f (by simp) (by simp) (by simp) ?_ ?_
        · obtain ⟨e, x, y⟩ := h54; exact ⟨e, x, by rw [f.1 54 (by simp)]; exact y⟩
        · obtain ⟨⟨s, x⟩, w', y, z⟩ := h67; exact ⟨⟨s, by rw [f.1 67 (by simp)]; exact x⟩, w', y, by rw [f.1 52 (by simp)]; exact z⟩
      have f0 : Fr [51, 68, 69, 70] [34, 41, 42, 45, 46, 47, 48, 56] [43, 44, 71] σ τ := Fr.mono f (by simp) (by simp) (by simp)
      have main : ∀ (fu d m : Nat) (υ : MS), m + d = n' + 1 → d < fu → Fr [51, 68, 69, 70] [34, 41, 42, 45, 46, 47, 48, 56] [43, 44, 71] σ υ → SkI υ b (zR S) → (∀ m', m' < m → skN (zR S) m') → Ok (F_seek_L26 fu (n32 n') (n32 w') (n32 m) υ) fun o => ((∃ m row o', m ≤ n' ∧ (∀ m', m' < m → skN (zR S) m') ∧ skF (zR S) m row o' ∧ o.1 = if w' = 0 then n32 m else if w' = 1 then n32 (wrtS (digs (rY (zR S)).length m row)) else n32 o') ∨ ((∀ m, m ≤ n' → skN (zR S) m) ∧ o.1 = -1)) ∧ MR o.2 S := by
        intro fu
        induction fu with
        | zero => intro d m υ h1 h2; omega
        | succ fu ih =>
          intro d m υ h1 h2 fυ hIυ hpre
          rw [F_seek_L26]
          by_cases q : n' < m
          · rw [ifp ((n32_lt ⟨by omega, by omega⟩).mpr q)]
            exact Ok.done ⟨Or.inr ⟨fun m' hm' => hpre m' (by omega), rfl⟩, fin υ fυ⟩
          · rw [ifn (fun z => q ((n32_lt ⟨by omega, by omega⟩).mp z))]
            obtain ⟨a, χ, e3, f3, hI3, g⟩ := seeks_L hq hK (M := m) (by omega) hIυ
            have fχ : Fr [51, 68, 69, 70] [34, 41, 42, 45, 46, 47, 48, 56] [43, 44, 71] σ χ := Fr.tr fυ f3 (by simp) (by simp) (by simp)
            rw [e3, bd2_y]
            rcases g with ⟨r, o', g1, rfl, g2, g3⟩ | ⟨g1, rfl⟩
            · rw [ifn (by decide)]
              unfold F_seek_b39
              refine Ok.mono (P := fun o => (o.1 = if w' = 0 then n32 m else if w' = 1 then n32 (wrtS (digs (rY (zR S)).length m r)) else n32 o') ∧ o.2 = χ) ?_ (fun x hx => ⟨Or.inl ⟨m, r, o', by omega, hpre, g1, hx.1⟩, by rw [hx.2]; exact fin χ fχ⟩)
              by_cases w0 : w' = 0
              · rw [ifp (by rw [w0]; rfl)]
                exact Ok.done ⟨by rw [ifp w0], rfl⟩
              · rw [show (0 : Int32) = n32 0 from rfl, ifn (fun z => w0 ((n32_eq (a := w') (b := 0) ⟨by omega, by omega⟩).mp z))]
                by_cases w1 : w' = 1
                · rw [show (1 : Int32) = n32 1 from rfl, ifp (by rw [w1])]
                  unfold F_written
                  rw [lt_y, g2]
                  have hall := pow_b (n := m) hq.2.2.2.1 (by omega)
                  have hr5 := g1.1
                  have hm0 : m ≠ 0 → 0 < (rY (zR S)).length := by
                    intro hm
                    rcases Nat.eq_zero_or_pos (rY (zR S)).length with z | z
                    · obtain ⟨m2, rfl⟩ : ∃ m2, m = m2 + 1 := ⟨m - 1, by omega⟩
                      rw [z, Nat.pow_succ, Nat.mul_zero] at hr5; omega
                    · exact z
                  have hwr := written_L (M := m) hq hI3.1 (by omega) hm0 m 0 1 r MN (Nat.le_refl _) (by omega) (by omega)
                  rw [Nat.sub_self, Nat.zero_add, Nat.one_mul] at hwr
                  rw [show (0 : Int32) = n32 0 from rfl, show (1 : Int32) = n32 1 from rfl, hwr, bd_y]
                  refine Ok.done ⟨?_, rfl⟩
                  rw [ifn w0, ifp w1]
                  by_cases hm : m = 0
                  · subst hm; rfl
                  · rw [wrtS_digs _ (hm0 hm) m r hr5]
                · rw [show (1 : Int32) = n32 1 from rfl, ifn (fun z => w1 ((n32_eq (a := w') (b := 1) ⟨by omega, by omega⟩).mp z))]
                  exact Ok.done ⟨by rw [ifn w0, ifn w1]; exact g3, rfl⟩
            · rw [ifp (by decide), lt_y, show n32 m + (1 : Int32) = n32 (m + 1) from by simp (disch := omega) only [↓reduceIte, ↓lt_y, leT, leF, ltT, ltF, eqT, eqF, n32_lit, n32_add, n32_mul, n32_sub, n32_le, n32_lt, n32_eq, n32_nat, gdn, gd_T, inbT, bd_y, bd2_y, ifp, ifn, not_true_eq_false, not_false_eq_true, and_self, true_and, and_true, false_and, and_false, or_self, true_or, or_true, false_or, or_false, wA_s, wL_s, sA_same, sL_same, sA_L, sL_A, sA_I, sL_I, wI_A, wI_L, wI_same, sA_sA, sL_sL, sA_ne, sL_ne, wI_ne]]
              refine ih (d - 1) (m + 1) χ (by omega) (by omega) fχ hI3 fun m' hm' => ?_
              by_cases z : m' = m
              · rw [z]; exact g1
              · exact hpre m' (by omega)
      exact main MN (n' + 1) 0 τ (by omega) (by omega) f0 hI (fun m' h => by omega)
