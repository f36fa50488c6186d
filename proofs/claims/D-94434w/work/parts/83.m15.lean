set_option maxRecDepth 100000
/-! THE REFERENCE's CALLS -/
theorem fault_M {σ : MS} {S : St} (h : MR σ S) (w : Int32) : F_fault σ w = some (o_fault w S) := by
  obtain ⟨-, -, -, -, -, ⟨a, c⟩, -⟩ := h
  unfold F_fault o_fault
  rw [a, c]
  by_cases q : w = 0
  · rw [ifp q, ifp q]
  · rw [ifn q, ifn q]
    by_cases q1 : w = 1
    · rw [ifp q1, ifp q1]
    · rw [ifn q1, ifn q1]
theorem paths_M {σ : MS} {S : St} (h : MR σ S) : F_paths σ = some (p_paths (zR S)) := paths_L h.2.1
theorem look_M {σ : MS} {S : St} (h : MR σ S) (p i : Int32) : F_look σ p i = some (p_look (zR S) p i) := look_L h.2.1 p i
theorem odds_M {σ : MS} {S : St} (h : MR σ S) (ho : okSt S) (p i d : Int32) : F_odds σ p i d = some (p_odds (zR S) p i d) := by
  obtain ⟨⟨b, hR⟩, hP, -⟩ := h; exact odds_L hR ho.2.1 hP p i d
theorem ends_M {σ : MS} {S : St} (h : MR σ S) (ho : okSt S) (p i : Int32) : F_ends σ p i = some (p_ends (zR S) p i) := by
  obtain ⟨⟨b, hR⟩, hP, -⟩ := h; exact ends_L hR ho.2.1 hP p i
theorem guess_M {σ : MS} {S : St} (h : MR σ S) (ho : okSt S) (p i d : Int32) : F_guess σ p i d = some (p_guess (zR S) p i d) := by
  obtain ⟨⟨b, hR⟩, hP, -⟩ := h; exact guess_L hR ho.2.1 hP p i d
theorem MR.ask {σ : MS} {S : St} (h : MR σ S) (g : Nat → Int32) : MR (sA σ 34 g) S := h.fr (Fr.sA σ 34 g) (by simp) (by simp) (by simp) h.2.2.1 h.2.2.2.1
theorem asked_M {σ : MS} {S : St} (h : MR σ S) (ho : okSt S) (i : Int32) : Ok (F_asked i σ) fun o => o.1 = p_asked (zR S) i ∧ MR o.2 S := by
  obtain ⟨⟨b, hR⟩, hP, -⟩ := id h
  obtain ⟨g, e⟩ := asked_L hR ho.2.1 i
  exact ⟨_, e, rfl, h.ask g⟩
theorem wrong_M {σ : MS} {S : St} (h : MR σ S) (ho : okSt S) : Ok (F_wrong σ) fun o => q_wrong (zR S) o.1 ∧ MR o.2 S := by
  obtain ⟨⟨b, hR⟩, hP, -⟩ := id h
  obtain ⟨r, g, e, hr⟩ := wrong_L hR ho.2.1 hP
  exact ⟨_, e, hr, h.ask g⟩
theorem leaks_M {σ : MS} {S : St} (h : MR σ S) (ho : okSt S) (sec : Bool) : Ok (F_leaks (if sec then 1 else 0) σ) fun o => q_leaks (zR S) sec o.1 ∧ MR o.2 S := by
  obtain ⟨⟨b, hR⟩, hP, -⟩ := id h
  obtain ⟨r, g, e, hr⟩ := leaks_L hR ho.2.1 hP sec
  exact ⟨_, e, hr, h.ask g⟩
theorem MR.tree {σ τ : MS} {S : St} (h : MR σ S) (f : Fr (53 :: 67 :: fI) fA [43, 44] σ τ) (h54 : E54 τ) (h67 : E67 τ) : MR τ S := h.fr f (by simp) (by simp) (by simp) h54 h67
theorem bent_M {σ : MS} {S : St} (h : MR σ S) (ho : okSt S) (c : Int32) (sec : Bool) : Ok (F_bent c (if sec then 1 else 0) σ) fun o => q_bent c sec (zR S) o.1 ∧ MR o.2 S := by
  obtain ⟨⟨b, hR⟩, hP, h54, -⟩ := id h
  unfold F_bent
  have e0 : F_isIn c 0 7 = some (b32 (ixo c 8 ≠ none)) := isIn_L c 8 (by omega)
  refine Ok.bd e0 ?_
  unfold q_bent
  cases hi : ixo c 8 with
  | none =>
    rw [b32_none rfl]
    exact Ok.tt (by decide) (Ok.done ⟨rfl, h⟩)
  | some k =>
    obtain ⟨rfl, hk⟩ := ixo_some hi
    rw [b32_some rfl]
    obtain ⟨r, τ, e, q, f, t54, t67, t52⟩ := closed_L hR ho.2.1 hP h54 (1, k, 0) (Or.inl rfl) (by show k < 100; omega) sec
    exact Ok.ff (by decide) (Ok.bd2 e (Ok.done ⟨q, h.tree (f.mono (by simp <;> omega) (by simp) (by simp)) t54 ⟨⟨sec, t67⟩, k, by omega, t52⟩⟩))
theorem counted_M {σ : MS} {S : St} (h : MR σ S) (ho : okSt S) (i : Int32) (sec : Bool) : Ok (F_counted i (if sec then 1 else 0) σ) fun o => q_counted i sec (zR S) o.1 ∧ MR o.2 S := by
  obtain ⟨⟨b, hR⟩, hP, h54, -⟩ := id h
  have hb := hR.2.1
  have zb := n32_nat (a := b) (by omega)
  have hmix := ho.2.1.2.2.1.2.2
  unfold F_counted
  rw [hR.1]
  simp only [zb]
  rw [hR.2.2.2.2.2.2.2.1]
  refine Ok.gd (n32_inb (by omega)) (Ok.bd (isIn_L i _ (by omega)) ?_)
  unfold q_counted
  cases hi : ixo i (mixNo (rX (zR S)) (rX (zR S)).length) with
  | none =>
    rw [b32_none rfl]
    exact Ok.tt (by decide) (Ok.done ⟨rfl, h⟩)
  | some k =>
    obtain ⟨rfl, hk⟩ := ixo_some hi
    rw [b32_some rfl]
    obtain ⟨r, τ, e, q, f, t54, t67, t52⟩ := closed_L hR ho.2.1 hP h54 (2, k, 0) (Or.inr rfl) (by show k < 100; omega) sec
    exact Ok.ff (by decide) (Ok.bd2 e (Ok.done ⟨q, h.tree (f.mono (by simp <;> omega) (by simp) (by simp)) t54 ⟨⟨sec, t67⟩, k, by omega, t52⟩⟩))
theorem cheat_M {σ : MS} {S : St} (h : MR σ S) (ho : okSt S) (p : Int32) (red : Bool) : Ok (F_cheat p (if red then 1 else 0) σ) fun o => o.1 = o_cheat p red (zR S) ∧ MR o.2 S := by
  obtain ⟨⟨b, hR⟩, hP, h54, ⟨⟨sec, h67⟩, -⟩, -⟩ := id h
  have hb := hR.2.1
  have zb := n32_nat (a := b) (by omega)
  have hp3 := ho.2.1.2.1
  unfold F_cheat
  rw [hR.1]
  simp only [zb]
  rw [hR.2.2.1]
  refine Ok.gd (n32_inb (by omega)) (Ok.bd (isIn_L p _ (by omega)) ?_)
  unfold o_cheat
  cases hi : ixo p (rP (zR S)) with
  | none =>
    rw [b32_none rfl]
    exact Ok.tt (by decide) (Ok.done ⟨rfl, h⟩)
  | some k =>
    obtain ⟨rfl, hk⟩ := ixo_some hi
    rw [b32_some rfl]
    refine Ok.ff (by decide) (Ok.lt _ rfl ?_)
    have key : ∀ c : Nat, c < 2 → Ok (F_cheat_b36 (n32 k) (n32 c) (wI σ 64 0)) fun o => o.1 = p_cheat (zR S) (3, k, c) ∧ MR o.2 S := by
      intro c hc
      unfold F_cheat_b36
      refine Ok.lt _ rfl ?_
      generalize hσ1 : wI (wI σ 64 0) 53 (n32 c) = σ1
      have c1 : Fr [64, 53] [] [] σ σ1 := hσ1 ▸ (Fr.wI σ 64 _).tr (Fr.wI _ 53 _) (by simp) (by simp) (by simp)
      have m64 : mI σ1 64 = 0 := by rw [← hσ1, wI_ne _ _ _ _ (by omega), wI_same]
      have m53 : mI σ1 53 = n32 c := by rw [← hσ1, wI_same]
      obtain ⟨τ, r, e, -, f1, ⟨f2, f52⟩, f3, f4⟩ := explore_L (md := (3, k, c)) (sec := sec) (most := 5000) (hR.fr c1 (by simp) (by simp)) ho.2.1 ⟨by show 3 < 4; omega, by show k < 100; omega⟩ (fun _ => ⟨m53, hc⟩) (by rw [c1.1 67 (by simp)]; exact h67) (by obtain ⟨ee, x, y⟩ := h54; exact ⟨ee, x, by rw [c1.1 54 (by simp)]; exact y⟩) (fun z => by cases z) (by omega)
      have f1' := f1 (by show (3 : Nat) ≠ 0; omega)
      have hMR : MR τ S := h.tree (c1.tr f1' (by simp <;> omega) (by simp) (by simp)) f2 ⟨⟨sec, by rw [f1'.1 67 (by simp), c1.1 67 (by simp)]; exact h67⟩, k, by omega, f52⟩
      refine Ok.bd2 e ?_
      unfold p_cheat
      by_cases q : (tree (zR S) (3, k, c)).length ≤ 5000
      · obtain ⟨r1, -, b2, -⟩ := f3 q
        subst r1
        refine Ok.ff (by decide) (Ok.done ⟨?_, hMR⟩)
        rw [ifn (by omega), b2, m64]
      · have r1 := f4 (by omega)
        subst r1
        refine Ok.tt (by decide) (Ok.done ⟨?_, hMR⟩)
        rw [ifp (by omega)]
    cases red with
    | true => exact Ok.ff (by decide) (key 1 (by omega))
    | false => exact Ok.tt (by decide) (key 0 (by omega))
theorem seed_M {σ : MS} {S : St} (h : MR σ S) (w : Int32) : Ok (F_seed w σ) fun o => o.1 = (o_seed w S).1 ∧ MR o.2 (o_seed w S).2 := by
  unfold F_seed
  refine Ok.lt _ rfl (Ok.lt _ rfl (Ok.done ⟨h.2.2.2.2.2.2.2.2.1, ?_⟩))
  obtain ⟨⟨b, a1⟩, a2, a3, a4, a5, a6, a7, a8, a9, a10, a11⟩ := h
  have f := Fr.wI σ 72 w
  refine ⟨⟨b, a1.fr f (by simp) (by simp)⟩, a2.fr f (by simp) (by simp) (by simp) (by simp) (by simp), ?_, ?_, ?_, ?_, ?_, ?_, wI_same _ _ _, ?_, a11⟩
  · obtain ⟨e, x, y⟩ := a3; exact ⟨e, x, by rw [f.1 54 (by simp)]; exact y⟩
  · obtain ⟨⟨s, x⟩, w', y, z⟩ := a4; exact ⟨⟨s, by rw [f.1 67 (by simp)]; exact x⟩, w', y, by rw [f.1 52 (by simp)]; exact z⟩
  · exact ⟨by rw [f.1 2 (by simp)]; exact a5.1, a5.2⟩
  · exact ⟨by rw [f.1 4 (by simp)]; exact a6.1, by rw [f.1 5 (by simp)]; exact a6.2⟩
  · exact ⟨by rw [f.1 82 (by simp)]; exact a7.1, a7.2⟩
  · rw [f.1 83 (by simp)]; exact a8
  · rw [f.1 77 (by simp), f.1 73 (by simp), f.1 74 (by simp), f.1 75 (by simp), f.1 76 (by simp)]; exact a10
theorem later_M {σ : MS} {S : St} (h : MR σ S) (ho : okSt S) (y : Int32) : Ok (F_later y σ) fun o => o.1 = (o_later y S).1 ∧ MR o.2 (o_later y S).2 := by
  have ht := ho.2.2.2.2.2.1
  have e0 : F_isIn y 0 1000 = some (b32 (ixo y 1001 ≠ none)) := isIn_L y 1001 (by omega)
  unfold F_later o_later
  refine Ok.bd e0 ?_
  cases hi : ixo y 1001 with
  | none =>
    rw [b32_none rfl]
    exact Ok.tt (by decide) (Ok.done ⟨rfl, h⟩)
  | some k =>
    obtain ⟨rfl, hk⟩ := ixo_some hi
    rw [b32_some rfl]
    refine Ok.ff (by decide) ?_
    obtain ⟨⟨b, a1⟩, a2, a3, a4, a5, a6, a7, a8, a9, a10, a11⟩ := id h
    rw [a8, show n32 (zT S) + n32 k = n32 (zT S + k) from by simp (disch := omega) only [↓reduceIte, ↓lt_y, leT, leF, ltT, ltF, eqT, eqF, n32_lit, n32_add, n32_mul, n32_sub, n32_le, n32_lt, n32_eq, n32_nat, gdn, gd_T, inbT, bd_y, bd2_y, ifp, ifn, not_true_eq_false, not_false_eq_true, and_self, true_and, and_true, false_and, and_false, or_self, true_or, or_true, false_or, or_false, wA_s, wL_s, sA_same, sL_same, sA_L, sL_A, sA_I, sL_I, wI_A, wI_L, wI_same, sA_sA, sL_sL, sA_ne, sL_ne, wI_ne]]
    by_cases q : zT S + k ≤ 100000
    · simp only [ifp q]
      refine Ok.tt (by simp (disch := omega) only [↓reduceIte, ↓lt_y, leT, leF, ltT, ltF, eqT, eqF, n32_lit, n32_add, n32_mul, n32_sub, n32_le, n32_lt, n32_eq, n32_nat, gdn, gd_T, inbT, bd_y, bd2_y, ifp, ifn, not_true_eq_false, not_false_eq_true, and_self, true_and, and_true, false_and, and_false, or_self, true_or, or_true, false_or, or_false, wA_s, wL_s, sA_same, sL_same, sA_L, sL_A, sA_I, sL_I, wI_A, wI_L, wI_same, sA_sA, sL_sL, sA_ne, sL_ne, wI_ne]) (Ok.lt _ rfl (Ok.done ⟨by exact wI_same σ 83 (n32 (zT S + k)), ?_⟩))
      have f := Fr.wI σ 83 (n32 (zT S + k))
      refine ⟨⟨b, a1.fr f (by simp) (by simp)⟩, a2.fr f (by simp) (by simp) (by simp) (by simp) (by simp), ?_, ?_, ?_, ?_, ?_, wI_same _ _ _, ?_, ?_, a11⟩
      · obtain ⟨e, x, y⟩ := a3; exact ⟨e, x, by rw [f.1 54 (by simp)]; exact y⟩
      · obtain ⟨⟨s, x⟩, w', y, z⟩ := a4; exact ⟨⟨s, by rw [f.1 67 (by simp)]; exact x⟩, w', y, by rw [f.1 52 (by simp)]; exact z⟩
      · exact ⟨by rw [f.1 2 (by simp)]; exact a5.1, a5.2⟩
      · exact ⟨by rw [f.1 4 (by simp)]; exact a6.1, by rw [f.1 5 (by simp)]; exact a6.2⟩
      · exact ⟨by rw [f.1 82 (by simp)]; exact a7.1, a7.2⟩
      · rw [f.1 72 (by simp)]; exact a9
      · rw [f.1 77 (by simp), f.1 73 (by simp), f.1 74 (by simp), f.1 75 (by simp), f.1 76 (by simp)]; exact a10
    · simp only [ifn q]
      exact Ok.ff (by simp (disch := omega) only [↓reduceIte, ↓lt_y, leT, leF, ltT, ltF, eqT, eqF, n32_lit, n32_add, n32_mul, n32_sub, n32_le, n32_lt, n32_eq, n32_nat, gdn, gd_T, inbT, bd_y, bd2_y, ifp, ifn, not_true_eq_false, not_false_eq_true, and_self, true_and, and_true, false_and, and_false, or_self, true_or, or_true, false_or, or_false, wA_s, wL_s, sA_same, sL_same, sA_L, sL_A, sA_I, sL_I, wI_A, wI_L, wI_same, sA_sA, sL_sL, sA_ne, sL_ne, wI_ne]) (Ok.done ⟨rfl, h⟩)
theorem played_M {σ : MS} {S : St} (h : MR σ S) (w : Int32) : F_played σ w = some (o_played w S) := by
  obtain ⟨-, -, -, -, -, -, -, -, -, ⟨a, c⟩, -⟩ := h
  unfold F_played o_played
  rw [a]
  cases hg : (zG S).1 with
  | false => rw [ifp (by decide), ifp rfl]
  | true =>
    obtain ⟨c1, c2, c3, c4⟩ := c hg
    rw [ifn (c := (if true = true then (1 : Int32) else 0) = 0) (by decide), ifn (c := true = false) (by decide), c1, c2, c3, c4]
    by_cases q0 : w = 0
    · rw [ifp q0, ifp q0]
    rw [ifn q0, ifn q0]
    by_cases q1 : w = 1
    · rw [ifp q1, ifp q1]
    rw [ifn q1, ifn q1]
    by_cases q2 : w = 2
    · rw [ifp q2, ifp q2]
    rw [ifn q2, ifn q2]
    by_cases q3 : w = 3
    · rw [ifp q3, ifp q3]
    · rw [ifn q3, ifn q3]
/-- the desk is written -/
theorem MR.re {is as : List Nat} {σ τ : MS} {S S' : St} (h : MR σ S) (f : Fr is as [] σ τ) (h1 : ∀ j ∈ is, j = 2 ∨ j = 72 ∨ j = 82 ∨ j = 83) (h2 : ∀ j ∈ as, j = 0 ∨ (79 ≤ j ∧ j ≤ 81) ∨ (84 ≤ j ∧ j ≤ 88)) (eR : zR S' = zR S) (eF : zF S' = zF S) (eG : zG S' = zG S)
    (d1 : mI τ 2 = n32 (zTp S').length ∧ ∀ k v, (zTp S')[k]? = some v → mA τ 0 k = v) (d2 : mI τ 82 = n32 (zL S').length ∧ MLk τ 79 80 81 0 (zL S')) (d3 : mI τ 83 = n32 (zT S')) (d4 : mI τ 72 = zW S') (d5 : ∀ j, j < 3 → MBx τ j (zB S' j)) : MR τ S' := by
  have gI : ∀ j, ¬ (j = 2 ∨ j = 72 ∨ j = 82 ∨ j = 83) → mI τ j = mI σ j := fun j q => f.1 j fun z => q (h1 j z)
  obtain ⟨⟨b, a1⟩, a2, a3, a4, a5, a6, a7, a8, a9, a10, a11⟩ := h
  unfold MR
  rw [eR, eF, eG]
  refine ⟨⟨b, a1.fr f (fun z => by have := h1 _ z; omega) (fun j x y z => by have := h2 _ z; omega)⟩, a2.fr f (fun z => by have := h1 _ z; omega) (fun z => by have := h1 _ z; omega) (fun j x y z => by have := h2 _ z; omega) (by simp) (by simp), ?_, ?_, d1, ?_, d2, d3, d4, ?_, d5⟩
  · obtain ⟨e, x, y⟩ := a3; exact ⟨e, x, by rw [gI 54 (by omega)]; exact y⟩
  · obtain ⟨⟨s, x⟩, w', y, z⟩ := a4; exact ⟨⟨s, by rw [gI 67 (by omega)]; exact x⟩, w', y, by rw [gI 52 (by omega)]; exact z⟩
  · rw [gI 4 (by omega), gI 5 (by omega)]; exact a6
  · rw [gI 77 (by omega), gI 73 (by omega), gI 74 (by omega), gI 75 (by omega), gI 76 (by omega)]; exact a10
theorem MLk.eq {σ τ : MS} {fp ft fu o : Nat} {l : List Tl} (h : MLk σ fp ft fu o l) (e1 : mA τ fp = mA σ fp) (e2 : mA τ ft = mA σ ft) (e3 : mA τ fu = mA σ fu) : MLk τ fp ft fu o l := fun k t hk => by
  have := h k t hk
  unfold MTl at this ⊢
  rw [e1, e2, e3]; exact this
theorem MBx.eq {σ τ : MS} {j : Nat} {q : Option (List Tl × Int32)} (h : MBx σ j q) (e : ∀ i, 84 ≤ i → i ≤ 88 → mA τ i = mA σ i) : MBx τ j q := by
  unfold MBx at h ⊢
  split
  · rw [e 84 (by omega) (by omega)]; exact h
  · obtain ⟨x1, x2, x3⟩ := h
    exact ⟨by rw [e 84 (by omega) (by omega)]; exact x1, by rw [e 85 (by omega) (by omega)]; exact x2, x3.eq (e 86 (by omega) (by omega)) (e 87 (by omega) (by omega)) (e 88 (by omega) (by omega))⟩
theorem end_M {σ : MS} {S : St} (h : MR σ S) (ho : okSt S) (n : Int32) : Ok (F_end n σ) fun o => o.1 = (o_end n S).1 ∧ MR o.2 (o_end n S).2 := by
  have ht := ho.1
  have a5 := h.2.2.2.2.1
  unfold F_end o_end
  rw [a5.1]
  cases hi : ixo n ((zTp S).length + 1) with
  | some k =>
    obtain ⟨rfl, hk⟩ := ixo_some hi
    refine Ok.ff (by rw [show (0 : Int32) = n32 0 from rfl, n32_lt ⟨by omega, by omega⟩]; omega) (Ok.tt (by rw [n32_le ⟨by omega, by omega⟩]; omega) (Ok.lt _ rfl (Ok.done ⟨rfl, ?_⟩)))
    have f := Fr.wI σ 2 (n32 k)
    obtain ⟨-, -, -, -, -, -, a7, a8, a9, -, a11⟩ := id h
    refine h.re f (by simp) (by simp) rfl rfl rfl ⟨?_, fun i v hv => ?_⟩ ⟨by rw [f.1 82 (by simp)]; exact a7.1, a7.2⟩ (by rw [f.1 83 (by simp)]; exact a8) (by rw [f.1 72 (by simp)]; exact a9) a11
    · show mI (wI σ 2 (n32 k)) 2 = n32 ((zTp S).take k).length
      rw [wI_same, List.length_take, Nat.min_eq_left (by omega)]
    · have hv' : ((zTp S).take k)[i]? = some v := hv
      have hik : i < k := by
        have := (List.getElem?_eq_some_iff.mp hv').1
        rw [List.length_take] at this; omega
      rw [List.getElem?_take_of_lt hik] at hv'
      exact a5.2 i v hv'
  | none =>
    by_cases q : n < 0
    · exact Ok.tt q (Ok.done ⟨rfl, h⟩)
    · refine Ok.ff q (Ok.ff (fun z => ?_) (Ok.done ⟨rfl, h⟩))
      have h0 : 0 ≤ n := by
        rw [Int32.le_iff_toInt_le]
        have z : (0 : Int32).toInt = 0 := rfl
        apply Classical.byContradiction
        intro y
        exact q (Int32.lt_iff_toInt_lt.mpr (by omega))
      unfold ixo at hi
      have h3 : n.toNatClampNeg = n.toInt.toNat := rfl
      have h4 := Int32.le_iff_toInt_le.mp z
      rw [n32_toInt (by omega)] at h4
      rw [ifp ⟨h0, by omega⟩] at hi
      cases hi
theorem kn_neg' (u : Option Nat) (h : ∀ p, u = some p → p < 2147483648) : (kn32 u < 0) ↔ u = none := by
  cases u with
  | none => simp [kn32] <;> decide
  | some p =>
    have := h p rfl
    simp only [kn32]
    rw [show (0 : Int32) = n32 0 from rfl, n32_lt ⟨this, by omega⟩]
    simp
theorem getD_get {l : List Tl} {k : Nat} (h : k < l.length) : l[k]? = some (l.getD k default) := by
  rw [List.getD_eq_getElem?_getD, List.getElem?_eq_getElem h]; rfl
theorem untell_M {σ : MS} {S : St} (h : MR σ S) (ho : okSt S) (n : Int32) : Ok (F_untell n σ) fun o => o.1 = (o_untell n S).1 ∧ MR o.2 (o_untell n S).2 := by
  have hl := ho.2.2.1
  have ht := ho.2.2.2.2.2.1
  obtain ⟨-, -, -, -, a5, -, a7, a8, a9, -, a11⟩ := id h
  unfold F_untell o_untell
  rw [a7.1]
  refine Ok.bd (isIn_L n _ (by omega)) ?_
  cases hi : ixo n (zL S).length with
  | none =>
    rw [b32_none rfl]
    exact Ok.tt (by decide) (Ok.done ⟨rfl, h⟩)
  | some k =>
    obtain ⟨rfl, hk⟩ := ixo_some hi
    have zk := n32_nat (a := k) (by omega)
    have hg := getD_get hk
    obtain ⟨t1, t2, t3⟩ := a7.2 k _ hg
    have hot := ho.2.2.2.1 _ (List.mem_of_getElem? hg)
    rw [Nat.zero_add] at t1 t2 t3
    rw [b32_some rfl]
    refine Ok.ff (by decide) (Ok.gd (n32_inb (by omega)) ?_)
    simp only [zk, t3]
    have hkn := kn_neg' ((zL S).getD k default).2.2 (fun p hp => by have := hot.2.2 p hp; omega)
    by_cases q : ((zL S).getD k default).2.2 = none
    · simp only [ifp q]
      refine Ok.tt (hkn.mpr q) (Ok.gd (n32_inb (by omega)) (Ok.lt _ rfl (Ok.done ⟨rfl, ?_⟩)))
      simp only [zk, wA_s, a8]
      have f := Fr.sA σ 81 (up0 (mA σ 81) k (n32 (zT S)))
      refine h.re f (by simp) (by simp) rfl rfl rfl a5 ⟨?_, ?_⟩ a8 a9 (fun j hj => (a11 j hj).eq (fun i x y => f.2.1 i (by simp; omega)))
      · show mI (sA σ 81 _) 82 = n32 ((zL S).set k _).length
        rw [sA_I, List.length_set]; exact a7.1
      · show MLk _ 79 80 81 0 ((zL S).set k _)
        intro i t hit
        rw [Nat.zero_add]
        rw [List.getElem?_set] at hit
        by_cases z : k = i
        · subst z
          rw [ifp rfl, ifp hk] at hit
          cases hit
          exact ⟨by rw [f.2.1 79 (by simp)]; exact t1, by rw [f.2.1 80 (by simp)]; exact t2, by rw [sA_same, up0, ifp rfl]; rfl⟩
        · rw [ifn z] at hit
          obtain ⟨u1, u2, u3⟩ := a7.2 i t hit
          rw [Nat.zero_add] at u1 u2 u3
          exact ⟨by rw [f.2.1 79 (by simp)]; exact u1, by rw [f.2.1 80 (by simp)]; exact u2, by rw [sA_same, up0, ifn (fun y => z y.symm)]; exact u3⟩
    · simp only [ifn q]
      exact Ok.ff (fun z => q (hkn.mp z)) (Ok.done ⟨rfl, h⟩)
theorem tell_M {σ : MS} {S : St} (h : MR σ S) (ho : okSt S) (p : Int32) : Ok (F_tell p σ) fun o => o.1 = (o_tell p S).1 ∧ MR o.2 (o_tell p S).2 := by
  have hl := ho.2.2.1
  obtain ⟨-, hP, -, -, a5, -, a7, a8, a9, -, a11⟩ := id h
  unfold F_tell o_tell
  by_cases q : 200 < (pths (zR S)).length
  · simp only [ifp q]
    have e0 : F_isPath σ p = some (n32 0) := by
      unfold F_isPath
      rw [(hP.1 q).2, isIn_L p 0 (by omega)]
      simp only [bd_y]
      have : ixo p 0 = none := by unfold ixo; rw [ifn (by omega)]
      rw [b32_none this, gd_y (by decide)]
    exact Ok.bd e0 (Ok.tt (by decide) (Ok.done ⟨rfl, h⟩))
  · simp only [ifn q]
    refine Ok.bd (isPath_L hP (by omega) p) ?_
    cases hi : ixo p (pths (zR S)).length with
    | none =>
      rw [b32_none rfl]
      exact Ok.tt (by decide) (Ok.done ⟨rfl, h⟩)
    | some k =>
      obtain ⟨rfl, hk⟩ := ixo_some hi
      rw [b32_some rfl]
      refine Ok.ff (by decide) ?_
      rw [a7.1]
      by_cases q20 : (zL S).length = 20
      · simp only [ifp q20]
        exact Ok.tt (by simp (disch := omega) only [↓reduceIte, ↓lt_y, leT, leF, ltT, ltF, eqT, eqF, n32_lit, n32_add, n32_mul, n32_sub, n32_le, n32_lt, n32_eq, n32_nat, gdn, gd_T, inbT, bd_y, bd2_y, ifp, ifn, not_true_eq_false, not_false_eq_true, and_self, true_and, and_true, false_and, and_false, or_self, true_or, or_true, false_or, or_false, wA_s, wL_s, sA_same, sL_same, sA_L, sL_A, sA_I, sL_I, wI_A, wI_L, wI_same, sA_sA, sL_sL, sA_ne, sL_ne, wI_ne]) (Ok.done ⟨rfl, h⟩)
      · simp only [ifn q20]
        have zl := n32_nat (a := (zL S).length) (by omega)
        refine Ok.ff (by simp (disch := omega) only [↓reduceIte, ↓lt_y, leT, leF, ltT, ltF, eqT, eqF, n32_lit, n32_add, n32_mul, n32_sub, n32_le, n32_lt, n32_eq, n32_nat, gdn, gd_T, inbT, bd_y, bd2_y, ifp, ifn, not_true_eq_false, not_false_eq_true, and_self, true_and, and_true, false_and, and_false, or_self, true_or, or_true, false_or, or_false, wA_s, wL_s, sA_same, sL_same, sA_L, sL_A, sA_I, sL_I, wI_A, wI_L, wI_same, sA_sA, sL_sL, sA_ne, sL_ne, wI_ne]) (Ok.gd (n32_inb (by omega)) (Ok.lt _ rfl (Ok.gd (by show inb (mI (wA σ 79 _ _) 82) 20; rw [wA_s, sA_I, a7.1]; exact n32_inb (by omega)) (Ok.lt _ rfl (Ok.gd (by rw [wA_s, wA_s, sA_I, sA_I, a7.1]; exact n32_inb (by omega)) (Ok.lt _ rfl (Ok.lt _ rfl (Ok.done ?_))))))))
        simp only [wA_s, sA_I, a7.1, zl, a8, sA_ne _ _ _ _ (show (80 : Nat) ≠ 79 by omega), sA_ne _ _ _ _ (show (81 : Nat) ≠ 80 by omega), sA_ne _ _ _ _ (show (81 : Nat) ≠ 79 by omega)]
        rw [show n32 (zL S).length + (1 : Int32) = n32 ((zL S).length + 1) from by simp (disch := omega) only [↓reduceIte, ↓lt_y, leT, leF, ltT, ltF, eqT, eqF, n32_lit, n32_add, n32_mul, n32_sub, n32_le, n32_lt, n32_eq, n32_nat, gdn, gd_T, inbT, bd_y, bd2_y, ifp, ifn, not_true_eq_false, not_false_eq_true, and_self, true_and, and_true, false_and, and_false, or_self, true_or, or_true, false_or, or_false, wA_s, wL_s, sA_same, sL_same, sA_L, sL_A, sA_I, sL_I, wI_A, wI_L, wI_same, sA_sA, sL_sL, sA_ne, sL_ne, wI_ne]]
        generalize hτ : sA (sA (sA σ 79 (up0 (mA σ 79) (zL S).length (n32 k))) 80 (up0 (mA σ 80) (zL S).length (n32 (zT S)))) 81 (up0 (mA σ 81) (zL S).length (-1)) = τ
        have f0 : Fr [] [79, 80, 81] [] σ τ := hτ ▸ ((Fr.sA σ 79 _).tr (Fr.sA _ 80 _) (js := []) (bs := [79, 80]) (ms := []) (by simp) (by simp) (by simp)).tr (Fr.sA _ 81 _) (by simp) (by simp <;> omega) (by simp)
        have g79 : mA τ 79 = up0 (mA σ 79) (zL S).length (n32 k) := by rw [← hτ, sA_ne _ _ _ _ (by omega), sA_ne _ _ _ _ (by omega), sA_same]
        have g80 : mA τ 80 = up0 (mA σ 80) (zL S).length (n32 (zT S)) := by rw [← hτ, sA_ne _ _ _ _ (by omega), sA_same]
        have g81 : mA τ 81 = up0 (mA σ 81) (zL S).length (-1) := by rw [← hτ, sA_same]
        have f : Fr [82] [79, 80, 81] [] σ (wI τ 82 (n32 ((zL S).length + 1))) := f0.tr (Fr.wI τ 82 _) (by simp) (by simp) (by simp)
        refine ⟨?_, h.re f (by simp) (by simp <;> omega) rfl rfl rfl ⟨by rw [f.1 2 (by simp)]; exact a5.1, by rw [f.2.1 0 (by simp)]; exact a5.2⟩ ⟨?_, ?_⟩ (by rw [f.1 83 (by simp)]; exact a8) (by rw [f.1 72 (by simp)]; exact a9) (fun j hj => (a11 j hj).eq (fun i x y => f.2.1 i (by simp; omega)))⟩
        · rw [wI_same, show (1 : Int32) = n32 1 from rfl, n32_sub (by omega), Nat.add_sub_cancel]
        · show mI (wI τ 82 _) 82 = n32 (zL S ++ [(k, zT S, none)]).length
          rw [wI_same]; simp
        · show MLk _ 79 80 81 0 (zL S ++ [(k, zT S, none)])
          intro i t hit
          rw [Nat.zero_add]
          unfold MTl
          rw [wI_A, wI_A, wI_A, g79, g80, g81]
          simp only [up0]
          by_cases z : i = (zL S).length
          · rw [z, List.getElem?_append_right (Nat.le_refl _), Nat.sub_self] at hit
            cases hit
            rw [ifp z, ifp z, ifp z]
            exact ⟨rfl, rfl, rfl⟩
          · have hil : i < (zL S).length := by
              have := (List.getElem?_eq_some_iff.mp hit).1
              simp at this; omega
            rw [List.getElem?_append_left hil] at hit
            rw [ifn z, ifn z, ifn z]
            have := a7.2 i t hit
            unfold MTl at this
            rw [Nat.zero_add] at this
            exact this
