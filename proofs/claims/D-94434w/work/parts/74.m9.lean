set_option maxRecDepth 100000
/-! THE REFERENCE's TREE, gone through -/
/-- lower levels are as they were -/
def Lo (l : Nat) (σ τ : MS) : Prop := (∀ j, j < 2048 * l → mL τ 43 j = mL σ 43 j) ∧ ∀ j, j < l → mA τ 45 j = mA σ 45 j ∧ mA τ 46 j = mA σ 46 j ∧ mA τ 47 j = mA σ 47 j ∧ mA τ 48 j = mA σ 48 j ∧ mL τ 44 j = mL σ 44 j ∧ mA τ 49 j = mA σ 49 j ∧ mA τ 50 j = mA σ 50 j
theorem Lo.rf {l : Nat} {σ : MS} : Lo l σ σ := ⟨fun _ _ => rfl, fun _ _ => ⟨rfl, rfl, rfl, rfl, rfl, rfl, rfl⟩⟩
theorem Lo.tr {l : Nat} {σ τ υ : MS} (h : Lo l σ τ) (h' : Lo l τ υ) : Lo l σ υ :=
  ⟨fun j hj => (h'.1 j hj).trans (h.1 j hj), fun j hj => by
    obtain ⟨a1, a2, a3, a4, a5, a6, a7⟩ := h.2 j hj
    obtain ⟨b1, b2, b3, b4, b5, b6, b7⟩ := h'.2 j hj
    exact ⟨b1.trans a1, b2.trans a2, b3.trans a3, b4.trans a4, b5.trans a5, b6.trans a6, b7.trans a7⟩⟩
theorem Lo.mono {l m : Nat} {σ τ : MS} (h : Lo m σ τ) (hl : l ≤ m) : Lo l σ τ := ⟨fun j hj => h.1 j (by omega), fun j hj => h.2 j (by omega)⟩
theorem Lo.ofOL {l m : Nat} {σ τ : MS} (h : OL m σ τ) (hm : m < 16) (hl : l ≤ m) (h49 : mA τ 49 = mA σ 49) (h50 : mA τ 50 = mA σ 50) : Lo l σ τ :=
  ⟨fun j hj => h.1 j ⟨by omega, by omega⟩, fun j hj => by
    obtain ⟨a1, a2, a3, a4, a5⟩ := h.2 j (by omega)
    exact ⟨a1, a2, a3, a4, a5, by rw [h49], by rw [h50]⟩⟩
theorem Lo.ofFr {is as ls : List Nat} {l : Nat} {σ τ : MS} (f : Fr is as ls σ τ) (h1 : ∀ j, 45 ≤ j → j ≤ 50 → j ∉ as) (h2 : 43 ∉ ls) (h3 : 44 ∉ ls) : Lo l σ τ :=
  ⟨fun j _ => by rw [f.2.2 43 h2], fun j _ => ⟨by rw [f.2.1 45 (h1 45 (by omega) (by omega))], by rw [f.2.1 46 (h1 46 (by omega) (by omega))], by rw [f.2.1 47 (h1 47 (by omega) (by omega))], by rw [f.2.1 48 (h1 48 (by omega) (by omega))], by rw [f.2.2 44 h3], by rw [f.2.1 49 (h1 49 (by omega) (by omega))], by rw [f.2.1 50 (h1 50 (by omega) (by omega))]⟩⟩
theorem LV.lo {l m : Nat} {σ τ : MS} {v : Lv} (h : LV σ m v) (f : Lo l σ τ) (hm : m < l) : LV τ m v := by
  obtain ⟨h1, h2, h3, h4, h5, h6⟩ := h
  obtain ⟨g1, g2, g3, g4, g5, g6, g7⟩ := f.2 m hm
  exact ⟨fun i q hi hq => by rw [f.1 _ (by omega)]; exact h1 i q hi hq, by rw [g1]; exact h2, by rw [g2]; exact h3, by rw [g3]; exact h4, by rw [g4]; exact h5, by rw [g5]; exact h6⟩
/-- what has been gathered of the leaves so far -/
def AccL (σ : MS) (N : Nat) (md : Md) (ak : Nat → Int32) (sec : Bool) (a0 u0 : Int32) (L : List Leaf) : Prop :=
  mI σ 55 = n32 L.length ∧ mI σ 64 = L.foldl (fun a lf => a ||| n32 (leafE N lf)) a0 ∧ ((∃ lf ∈ L, leafU N ak sec lf) → mI σ 66 = 1) ∧ (¬ (∃ lf ∈ L, leafU N ak sec lf) → mI σ 66 = u0) ∧ (md.1 = 0 → ∀ p lf, L[p]? = some lf → PathR σ N p lf ∧ (lfK lf).length ≤ 6)
theorem AccL.fr {is as ls : List Nat} {σ τ : MS} {N : Nat} {md : Md} {ak : Nat → Int32} {sec : Bool} {a0 u0 : Int32} {L : List Leaf} (h : AccL σ N md ak sec a0 u0 L) (f : Fr is as ls σ τ) (h1 : 55 ∉ is) (h2 : 64 ∉ is) (h3 : 66 ∉ is) (h4 : ∀ j, 57 ≤ j → j ≤ 60 → j ∉ as) (h5 : 61 ∉ ls) (h6 : 62 ∉ ls) : AccL τ N md ak sec a0 u0 L := by
  obtain ⟨a1, a2, a3, a4, a5⟩ := h
  refine ⟨by rw [f.1 55 h1]; exact a1, by rw [f.1 64 h2]; exact a2, by rw [f.1 66 h3]; exact a3, by rw [f.1 66 h3]; exact a4, fun q p lf hp => ?_⟩
  obtain ⟨b1, b2⟩ := a5 q p lf hp
  refine ⟨?_, b2⟩
  unfold PathR at b1 ⊢
  rw [f.2.1 57 (h4 57 (by omega) (by omega)), f.2.1 58 (h4 58 (by omega) (by omega)), f.2.1 59 (h4 59 (by omega) (by omega)), f.2.1 60 (h4 60 (by omega) (by omega)), f.2.2 61 h5, f.2.2 62 h6]
  exact b1
def FX (md : Md) (σ τ : MS) : Prop := Fr [54, 55, 64, 66] [41, 42, 45, 46, 47, 48, 49, 50, 57, 58, 59, 60] [43, 44, 61, 62] σ τ ∧ (md.1 ≠ 0 → Fr [54, 55, 64, 66] [41, 42, 45, 46, 47, 48, 49, 50] [43, 44] σ τ)
theorem FX.tr {md : Md} {σ τ υ : MS} (h : FX md σ τ) (h' : FX md τ υ) : FX md σ υ := ⟨Fr.tr h.1 h'.1 (by simp) (by simp) (by simp), fun q => Fr.tr (h.2 q) (h'.2 q) (by simp) (by simp) (by simp)⟩
theorem FX.of {is as ls : List Nat} {md : Md} {σ τ : MS} (f : Fr is as ls σ τ) (h1 : ∀ k, k ∈ is → k ∈ [54, 55, 64, 66]) (h2 : ∀ k, k ∈ as → k ∈ [41, 42, 45, 46, 47, 48, 49, 50]) (h3 : ∀ k, k ∈ ls → k ∈ [43, 44]) : FX md σ τ :=
  ⟨f.mono h1 (fun k hk => by have := h2 k hk; simp at this ⊢; omega) (fun k hk => by have := h3 k hk; simp at this ⊢; omega), fun _ => f.mono h1 h2 h3⟩
theorem FX.rf {md : Md} {σ : MS} : FX md σ σ := FX.of Fr.rf (by simp) (by simp) (by simp)
/-- what stands while the tree is gone through -/
def Env9 (σ : MS) (b N : Nat) (xs : List Stq) (md : Md) (ak : Nat → Int32) (sec : Bool) : Prop := MB σ b N ∧ MSteps σ b xs ∧ MMd σ md ∧ (∀ i, i < N → mA σ 56 i = ak i) ∧ mI σ 67 = (if sec then 1 else 0) ∧ ∃ e, e < 104 ∧ mI σ 54 = n32 e
theorem Env9.fx {σ τ : MS} {b N : Nat} {xs : List Stq} {md : Md} {ak : Nat → Int32} {sec : Bool} (h : Env9 σ b N xs md ak sec) (f : FX md σ τ) (h54 : ∃ e, e < 104 ∧ mI τ 54 = n32 e) : Env9 τ b N xs md ak sec := by
  obtain ⟨h1, h2, h3, h4, h5, h6⟩ := h
  replace f := f.1
  exact ⟨h1.fr f (by simp) (by simp), h2.fr f (by simp) (by intro j h1 h2; simp; omega), h3.fr f (by simp) (by simp) (by simp), fun i hi => by rw [f.2.1 56 (by simp)]; exact h4 i hi, by rw [f.1 67 (by simp)]; exact h5, h54⟩
def cost (f : Nat) : Nat := 1000 ^ (f + 1)
theorem cost_s (f : Nat) : cost (f + 1) = 1000 * cost f := by unfold cost; rw [Nat.pow_succ, Nat.mul_comm]
theorem cost_pos (f : Nat) : 1000 ≤ cost f := by
  unfold cost
  calc 1000 = 1000 ^ 1 := rfl
    _ ≤ _ := Nat.pow_le_pow_right (by omega) (by omega)
/-- the end of a part of the tree: it goes on a level above, or all is given up -/
def nodeQ (b N : Nat) (xs : List Stq) (md : Md) (ak : Nat → Int32) (sec : Bool) (a0 u0 : Int32) (most l : Nat) (σ : MS) (L : List Leaf) (fu c : Nat) (o : Option (Int32 × MS)) : Prop :=
  (∃ τ fu', o = F_explore_L25 fu' (n32 most) (n32 l + (-1)) (n32 0) τ ∧ fu ≤ fu' + c ∧ FX md σ τ ∧ Lo l σ τ ∧ Env9 τ b N xs md ak sec ∧ AccL τ N md ak sec a0 u0 L ∧ L.length ≤ most) ∨
  (∃ τ, o = some (n32 0, τ) ∧ FX md σ τ ∧ (∃ e, e < 104 ∧ mI τ 54 = n32 e) ∧ most < L.length)
theorem nodeQ.from {b N : Nat} {xs : List Stq} {md : Md} {ak : Nat → Int32} {sec : Bool} {a0 u0 : Int32} {most l : Nat} {σ τ : MS} {L : List Leaf} {fu fu' c c' : Nat} {o : Option (Int32 × MS)} (h : nodeQ b N xs md ak sec a0 u0 most l τ L fu c o) (f : FX md σ τ) (g : Lo l σ τ) (hc : fu' + c ≤ fu + c') : nodeQ b N xs md ak sec a0 u0 most l σ L fu' c' o := by
  rcases h with ⟨υ, fu2, h1, h2, h3, h4, h5, h6, h7⟩ | ⟨υ, h1, h2, h3, h4⟩
  · exact Or.inl ⟨υ, fu2, h1, by omega, f.tr h3, g.tr h4, h5, h6, h7⟩
  · exact Or.inr ⟨υ, h1, f.tr h2, h3, h4⟩
theorem explore_b93_end {b N : Nat} {xs : List Stq} {md : Md} {ak : Nat → Int32} {sec : Bool} {a0 u0 : Int32} {most l : Nat} {σ : MS} {L : List Leaf} {fu c kd : Nat} (hl : l < 16) (hk : mA σ 49 l = n32 kd) (hk3 : kd < 3) (hE : Env9 σ b N xs md ak sec) (hA : AccL σ N md ak sec a0 u0 L) (hL : L.length ≤ most) : nodeQ b N xs md ak sec a0 u0 most l σ L fu c (F_explore_b93 (F_explore_L25 fu) (n32 most) (n32 l) σ) := by
  have zl := n32_nat (a := l) (by omega)
  unfold F_explore_b93 F_explore_b123
  rw [gd_y (n32_inb (by omega))]
  simp only [zl, hk]
  rw [ifn (by simp (disch := omega) only [↓reduceIte, ↓lt_y, leT, leF, ltT, ltF, eqT, eqF, n32_lit, n32_add, n32_mul, n32_sub, n32_le, n32_lt, n32_eq, n32_nat, gdn, gd_T, inbT, bd_y, bd2_y, ifp, ifn, not_true_eq_false, not_false_eq_true, and_self, true_and, and_true, false_and, and_false, or_self, true_or, or_true, false_or, or_false, wA_s, wL_s, sA_same, sL_same, sA_L, sL_A, sA_I, sL_I, wI_A, wI_L, wI_same, sA_sA, sL_sL, sA_ne, sL_ne, wI_ne])]
  exact Or.inl ⟨σ, fu, rfl, by omega, FX.rf, Lo.rf, hE, hA, hL⟩
theorem lvs_stop {N : Nat} {xs : List Stq} {md : Md} {f : Nat} {lk : List Nat} {v : Lv} {r : Nat × Lv} (hr : adv N xs md (xs.length + 1) v = r) (h : r.1 ≠ 3) : lvs N xs md (f + 1) lk v = [(lk, r.1, stpAt xs (vP r.2), r.2)] := by
  rw [lvs, hr, ifn h]
theorem lvs_part {N : Nat} {xs : List Stq} {md : Md} {f : Nat} {lk : List Nat} {v : Lv} {r : Nat × Lv} (hr : adv N xs md (xs.length + 1) v = r) (h : r.1 = 3) : lvs N xs md (f + 1) lk v = (List.range (chN md (stpAt xs (vP r.2)))).flatMap fun c => if wgt (chS N md (stpAt xs (vP r.2)) c r.2) = 0 then [] else lvs N xs md f (lk ++ [c]) (chS N md (stpAt xs (vP r.2)) c r.2) := by
  rw [lvs, hr, ifp h]
theorem n32_neg1 (l : Nat) : n32 (l + 1) + (-1) = n32 l := by
  rw [← n32_add, Int32.add_assoc, show n32 1 + (-1 : Int32) = 0 from rfl, Int32.add_zero]
theorem getD_app (l : List Nat) (c j : Nat) (h : j < l.length + 1) : (l ++ [c]).getD j 0 = if j = l.length then c else l.getD j 0 := by
  by_cases q : j = l.length
  · subst q
    rw [ifp rfl, List.getD_eq_getElem?_getD, List.getElem?_append_right (Nat.le_refl _), Nat.sub_self]
    rfl
  · rw [ifn q, List.getD_eq_getElem?_getD, List.getD_eq_getElem?_getD, List.getElem?_append_left (by omega)]
theorem node_L {b N : Nat} {xs : List Stq} {md : Md} {ak : Nat → Int32} {sec : Bool} {a0 u0 : Int32} {most : Nat} (hr : okR xs) (hm3 : md.1 = 3 → md.2.2 < 2) (hmost : md.1 = 0 → most ≤ 200) (hmost2 : most < 1000000) :
    ∀ (f l : Nat) (lk : List Nat) (v : Lv) (σ : MS) (L : List Leaf) (fu : Nat), f + l = 16 → l ≤ cntO xs (vP v) + mixNo xs (vP v) → (md.1 = 0 → l ≤ cntO xs (vP v)) → lk.length = l → (md.1 = 0 → ∀ j, j < l → mA σ 50 j = n32 (lk.getD j 0 + 1) ∧ lk.getD j 0 < 256) → vP v ≤ xs.length →
      Env9 σ b N xs md ak sec → LV σ l v → okV N v → bdV xs v → AccL σ N md ak sec a0 u0 L → L.length ≤ most → cost f ≤ fu →
      nodeQ b N xs md ak sec a0 u0 most l σ (L ++ lvs N xs md f lk v) fu (cost f) (F_explore_L25 fu (n32 most) (n32 l) (n32 1) σ) := by
  intro f
  induction f with
  | zero =>
    intro l lk v σ L fu h1 h2 h3 h4 h5 h6
    have q1 := cntO_mono (xs := xs) h6
    have q2 := mixNo_mono (xs := xs) h6
    have q3 := hr.2.1
    have q4 := hr.2.2
    omega
  | succ f ih =>
    intro l lk v σ L fu h1 h2 h3 h4 h5 h6 hE hv hok hbd hA hL hfu
    have hMN := MN_gt
    have q1 := cntO_mono (xs := xs) h6
    have q2 := mixNo_mono (xs := xs) h6
    have q3 := hr.2.1
    have q4 := hr.2.2
    have h40 := hr.1.1
    have hl15 : l ≤ 14 := by omega
    have hcs := cost_s f
    have hcp := cost_pos f
    obtain ⟨fu, rfl⟩ : ∃ g, fu = g + 1 := ⟨fu - 1, by omega⟩
    obtain ⟨hB, hX, hM, hak, hsec, he⟩ := id hE
    have hbb := hB.2.1
    have zl := n32_nat (a := l) (by omega)
    rw [F_explore_L25, ifn (by simp (disch := omega) only [↓reduceIte, ↓lt_y, leT, leF, ltT, ltF, eqT, eqF, n32_lit, n32_add, n32_mul, n32_sub, n32_le, n32_lt, n32_eq, n32_nat, gdn, gd_T, inbT, bd_y, bd2_y, ifp, ifn, not_true_eq_false, not_false_eq_true, and_self, true_and, and_true, false_and, and_false, or_self, true_or, or_true, false_or, or_false, wA_s, wL_s, sA_same, sL_same, sA_L, sL_A, sA_I, sL_I, wI_A, wI_L, wI_same, sA_sA, sL_sL, sA_ne, sL_ne, wI_ne]), ifn (by simp (disch := omega) only [↓reduceIte, ↓lt_y, leT, leF, ltT, ltF, eqT, eqF, n32_lit, n32_add, n32_mul, n32_sub, n32_le, n32_lt, n32_eq, n32_nat, gdn, gd_T, inbT, bd_y, bd2_y, ifp, ifn, not_true_eq_false, not_false_eq_true, and_self, true_and, and_true, false_and, and_false, or_self, true_or, or_true, false_or, or_false, wA_s, wL_s, sA_same, sL_same, sA_L, sL_A, sA_I, sL_I, wI_A, wI_L, wI_same, sA_sA, sL_sL, sA_ne, sL_ne, wI_ne])]
    unfold F_advance
    obtain ⟨⟨kd, τ1⟩, e1, p1, p2, p3, p4, p5, p6, p7, p8, ee, p9, p10, p11⟩ := advance_L (b := b) (N := N) (md := md) (by omega : l < 16) hr.1 (xs.length + 1) σ v MN (by omega) h6 (by omega) hB hX hM hv hok he
    have hbd1 := bd_adv (N := N) (md := md) hr.1 hm3 (xs.length + 1) v hok hbd
    have hend := adv_end (N := N) (xs := xs) (md := md) (xs.length + 1) v
    generalize hradv : adv N xs md (xs.length + 1) v = r at p1 p2 p3 p4 p7 p8 p11 hbd1 hend
    obtain ⟨-, hend3, hend1, hend2⟩ := hend
    simp only at p1 p3 p5 p6 p10
    subst p1
    rw [e1]
    simp only [bd2_y]
    rw [gd_y (n32_inb (by omega))]
    simp only [↓lt_y, zl]
    rw [gd_y (n32_inb (by omega)), wA_s, wA_s, gd_y (n32_inb (by omega))]
    generalize hτ2 : sA (sA τ1 49 (up0 (mA τ1 49) l (n32 r.1))) 50 (up0 (mA (sA τ1 49 (up0 (mA τ1 49) l (n32 r.1))) 50) l (0 : Int32)) = τ2
    have c1 : Fr [] [49, 50] [] τ1 τ2 := hτ2 ▸ (Fr.sA τ1 49 _).tr (Fr.sA _ 50 _) (by simp) (by simp) (by simp)
    have cX : FX md σ τ2 := FX.of (p5.tr c1 (js := [54]) (bs := [41, 42, 45, 46, 47, 49, 50]) (ms := [43, 44]) (by simp) (by simp <;> omega) (by simp)) (by simp) (by simp <;> omega) (by simp)
    have e49 : mA τ2 49 = up0 (mA τ1 49) l (n32 r.1) := by rw [← hτ2, sA_ne _ _ _ _ (by omega), sA_same]
    have e50 : mA τ2 50 = up0 (mA τ1 50) l (n32 0) := by rw [← hτ2, sA_same, sA_ne _ _ _ _ (by omega)]; rfl
    have k49 : mA τ2 49 l = n32 r.1 := by rw [e49, up0, ifp rfl]
    have k50 : mA τ2 50 l = n32 0 := by rw [e50, up0, ifp rfl]
    have hv2 : LV τ2 l r.2 := by
      obtain ⟨x1, x2, x3, x4, x5, x6⟩ := p3
      exact ⟨fun i q hi hq => by rw [c1.2.2 43 (by simp)]; exact x1 i q hi hq, by rw [c1.2.1 45 (by simp)]; exact x2, by rw [c1.2.1 46 (by simp)]; exact x3, by rw [c1.2.1 47 (by simp)]; exact x4, by rw [c1.2.1 48 (by simp)]; exact x5, by rw [c1.2.2 44 (by simp)]; exact x6⟩
    have k54 : mI τ2 54 = n32 ee := by rw [c1.1 54 (by simp)]; exact p10
    have hE2 : Env9 τ2 b N xs md ak sec := hE.fx cX ⟨ee, p9, k54⟩
    have p5' : Fr [54] [41, 42, 45, 46, 47, 49, 50] [43, 44] σ τ2 := p5.tr c1 (by simp) (by simp <;> omega) (by simp)
    have hA2 : AccL τ2 N md ak sec a0 u0 L := hA.fr p5' (by simp) (by simp) (by simp) (by intro j h1 h2; simp; omega) (by simp) (by simp)
    have hLo : Lo l σ τ2 := (Lo.ofOL (l := l) p6 (by omega) (Nat.le_refl _) (by rw [p5.2.1 49 (by simp)]) (by rw [p5.2.1 50 (by simp)])).tr
      ⟨fun j _ => by rw [c1.2.2 43 (by simp)], fun j hj => ⟨by rw [c1.2.1 45 (by simp)], by rw [c1.2.1 46 (by simp)], by rw [c1.2.1 47 (by simp)], by rw [c1.2.1 48 (by simp)], by rw [c1.2.2 44 (by simp)], by rw [e49, up0, ifn (by omega)], by rw [e50, up0, ifn (by omega)]⟩⟩
    have h5' : md.1 = 0 → ∀ j, j < l → mA τ2 50 j = n32 (lk.getD j 0 + 1) ∧ lk.getD j 0 < 256 := fun q j hj => by rw [(hLo.2 j hj).2.2.2.2.2.2]; exact h5 q j hj
    rw [k49]
    by_cases hk3 : r.1 = 3
    · rw [ifp (by simp (disch := omega) only [↓reduceIte, ↓lt_y, leT, leF, ltT, ltF, eqT, eqF, n32_lit, n32_add, n32_mul, n32_sub, n32_le, n32_lt, n32_eq, n32_nat, gdn, gd_T, inbT, bd_y, bd2_y, ifp, ifn, not_true_eq_false, not_false_eq_true, and_self, true_and, and_true, false_and, and_false, or_self, true_or, or_true, false_or, or_false, wA_s, wL_s, sA_same, sL_same, sA_L, sL_A, sA_I, sL_I, wI_A, wI_L, wI_same, sA_sA, sL_sL, sA_ne, sL_ne, wI_ne])]
      obtain ⟨x, hx, hn, hxt⟩ := hend3 hk3
      have hox := (hr.1.2 _ x hx).1
      have hsx := stpAt_eq hx
      have hlt : vP r.2 < xs.length := (List.getElem?_eq_some_iff.mp hx).1
      rw [lvs_part hradv hk3, hsx]
      have r1 := cntO_mono (xs := xs) p7
      have r2 := mixNo_mono (xs := xs) p7
      have r3 : cntO xs (vP r.2 + 1) ≤ 6 := Nat.le_trans (cntO_mono (by omega)) q3
      have r4 : mixNo xs (vP r.2 + 1) ≤ 8 := Nat.le_trans (mixNo_mono (by omega)) q4
      have hxt8 : sT x = 8 ∨ (2 ≤ sT x ∧ sT x ≤ 7) := hxt.elim Or.inl fun z => Or.inr ⟨z.1, z.2.1⟩
      have hw7 : sT x ≠ 8 → 4 ≤ sT x ∧ sT x ≤ 7 := fun q => Classical.byContradiction fun z => (hxt.resolve_left q).2.2.1 (wys_one z)
      have hlev : l + 1 ≤ cntO xs (vP r.2 + 1) + mixNo xs (vP r.2 + 1) := by
        by_cases q : sT x = 8
        · rw [cntO_step hx q]
          have := mixNo_mono (xs := xs) (show vP r.2 ≤ vP r.2 + 1 by omega)
          omega
        · rw [mixNo_step hx (hw7 q)]
          have := cntO_mono (xs := xs) (show vP r.2 ≤ vP r.2 + 1 by omega)
          omega
      have hlev0 : md.1 = 0 → l + 1 ≤ cntO xs (vP r.2 + 1) := by
        intro q0
        by_cases q : sT x = 8
        · rw [cntO_step hx q]; have := h3 q0; omega
        · rcases (hxt.resolve_left q).2.2.2 with z | z <;> omega
      have hpc : ∀ c, vP (chS N md x c r.2) = vP r.2 + 1 := fun c => by unfold chS; split <;> rfl
      have hchl := (children_L (by omega : l < 16) hE2.1 hE2.2.1 hr.1 hE2.2.2.1 hv2 hx (by omega)).2
      rw [List.range_eq_range']
      have main : ∀ (m c : Nat) (σ2 : MS) (L2 : List Leaf) (fu2 : Nat), c + m = chN md x → Env9 σ2 b N xs md ak sec → LV σ2 l r.2 → mA σ2 49 l = n32 3 → mA σ2 50 l = n32 c → AccL σ2 N md ak sec a0 u0 L2 → L2.length ≤ most → (md.1 = 0 → ∀ j, j < l → mA σ2 50 j = n32 (lk.getD j 0 + 1) ∧ lk.getD j 0 < 256) → (m + 1) * (cost f + 1) ≤ fu2 →
          nodeQ b N xs md ak sec a0 u0 most l σ2 (L2 ++ (List.range' c m).flatMap fun c => if wgt (chS N md x c r.2) = 0 then [] else lvs N xs md f (lk ++ [c]) (chS N md x c r.2)) fu2 ((m + 1) * (cost f + 1)) (F_explore_b93 (F_explore_L25 fu2) (n32 most) (n32 l) σ2) := by
        intro m
        induction m with
        | zero =>
          intro c σ2 L2 fu2 hcm g1 g2 g3 g4 g5 g6 g7 g8
          unfold F_explore_b93 F_explore_b123
          rw [gd_y (n32_inb (by omega))]
          simp only [zl, g3, g4]
          rw [ifp (by simp (disch := omega) only [↓reduceIte, ↓lt_y, leT, leF, ltT, ltF, eqT, eqF, n32_lit, n32_add, n32_mul, n32_sub, n32_le, n32_lt, n32_eq, n32_nat, gdn, gd_T, inbT, bd_y, bd2_y, ifp, ifn, not_true_eq_false, not_false_eq_true, and_self, true_and, and_true, false_and, and_false, or_self, true_or, or_true, false_or, or_false, wA_s, wL_s, sA_same, sL_same, sA_L, sL_A, sA_I, sL_I, wI_A, wI_L, wI_same, sA_sA, sL_sL, sA_ne, sL_ne, wI_ne]), gd_y (n32_inb (by omega)), (children_L (by omega : l < 16) g1.1 g1.2.1 hr.1 g1.2.2.1 g2 hx (by omega)).1]
          simp only [bd_y]
          rw [ifp (by rw [← hcm]; rfl)]
          refine Or.inl ⟨σ2, fu2, rfl, by omega, FX.rf, Lo.rf, g1, ?_, ?_⟩
          · simpa using g5
          · simpa using g6
        | succ m ihm =>
          intro c σ2 L2 fu2 hcm g1 g2 g3 g4 g5 g6 g7 g8
          have g8' : (m + 1) * (cost f + 1) + (cost f + 1) ≤ fu2 := by rw [Nat.add_mul, Nat.one_mul] at g8; exact g8
          have hmul : (m + 1 + 1) * (cost f + 1) = (m + 1) * (cost f + 1) + (cost f + 1) := by rw [Nat.add_mul, Nat.one_mul]
          generalize hK : (m + 1) * (cost f + 1) = K at *
          have hbc : bdV xs (chS N md x c r.2) := bd_child hox hx hbd1
          have hbl := bd_lt hr hbc (by rw [hpc]; omega)
          obtain ⟨τ3, d1, d2, d3, d4⟩ := descend_L (c := c) (by omega : l < 15) g1.1 g1.2.1 hr.1 g1.2.2.1 g2 p4 hx hxt (by omega) g4 hbl.2.2
          unfold F_explore_b93 F_explore_b160
          rw [gd_y (n32_inb (by omega))]
          simp only [zl, g3, g4]
          rw [ifp (by simp (disch := omega) only [↓reduceIte, ↓lt_y, leT, leF, ltT, ltF, eqT, eqF, n32_lit, n32_add, n32_mul, n32_sub, n32_le, n32_lt, n32_eq, n32_nat, gdn, gd_T, inbT, bd_y, bd2_y, ifp, ifn, not_true_eq_false, not_false_eq_true, and_self, true_and, and_true, false_and, and_false, or_self, true_or, or_true, false_or, or_false, wA_s, wL_s, sA_same, sL_same, sA_L, sL_A, sA_I, sL_I, wI_A, wI_L, wI_same, sA_sA, sL_sL, sA_ne, sL_ne, wI_ne]), gd_y (n32_inb (by omega)), (children_L (by omega : l < 16) g1.1 g1.2.1 hr.1 g1.2.2.1 g2 hx (by omega)).1]
          simp only [bd_y]
          rw [ifn (by simp (disch := omega) only [↓reduceIte, ↓lt_y, leT, leF, ltT, ltF, eqT, eqF, n32_lit, n32_add, n32_mul, n32_sub, n32_le, n32_lt, n32_eq, n32_nat, gdn, gd_T, inbT, bd_y, bd2_y, ifp, ifn, not_true_eq_false, not_false_eq_true, and_self, true_and, and_true, false_and, and_false, or_self, true_or, or_true, false_or, or_false, wA_s, wL_s, sA_same, sL_same, sA_L, sL_A, sA_I, sL_I, wI_A, wI_L, wI_same, sA_sA, sL_sL, sA_ne, sL_ne, wI_ne]), d1]
          simp only [bd2_y]
          rw [gd_y (n32_inb (by omega)), gd_y (n32_inb (by omega)), d2.2.1 50 (by simp), g4, show n32 c + (1 : Int32) = n32 (c + 1) from by simp (disch := omega) only [↓reduceIte, ↓lt_y, leT, leF, ltT, ltF, eqT, eqF, n32_lit, n32_add, n32_mul, n32_sub, n32_le, n32_lt, n32_eq, n32_nat, gdn, gd_T, inbT, bd_y, bd2_y, ifp, ifn, not_true_eq_false, not_false_eq_true, and_self, true_and, and_true, false_and, and_false, or_self, true_or, or_true, false_or, or_false, wA_s, wL_s, sA_same, sL_same, sA_L, sL_A, sA_I, sL_I, wI_A, wI_L, wI_same, sA_sA, sL_sL, sA_ne, sL_ne, wI_ne], wA_s]
          simp only [↓lt_y]
          generalize hτ4 : sA τ3 50 (up0 (mA τ3 50) l (n32 (c + 1))) = τ4
          have f4 : Fr [] [50] [] τ3 τ4 := hτ4 ▸ Fr.sA _ _ _
          have e504 : mA τ4 50 = up0 (mA σ2 50) l (n32 (c + 1)) := by rw [← hτ4, sA_same, d2.2.1 50 (by simp)]
          have f5 : Fr [] [41, 42, 45, 46, 47, 48, 50] [43, 44] σ2 τ4 := d2.tr f4 (by simp) (by simp <;> omega) (by simp)
          have f6 : FX md σ2 τ4 := FX.of f5 (by simp) (by simp <;> omega) (by simp)
          have hE4 : Env9 τ4 b N xs md ak sec := g1.fx f6 (by
            obtain ⟨e', e1', e2'⟩ := g1.2.2.2.2.2
            exact ⟨e', e1', by rw [f5.1 54 (by simp)]; exact e2'⟩)
          have hA4 : AccL τ4 N md ak sec a0 u0 L2 := g5.fr f5 (by simp) (by simp) (by simp) (by intro j h1 h2; simp; omega) (by simp) (by simp)
          have hLo3 : Lo (l + 1) σ2 τ3 := Lo.ofOL d3 (by omega) (Nat.le_refl _) (d2.2.1 49 (by simp)) (d2.2.1 50 (by simp))
          have hLo4 : Lo l σ2 τ4 := (hLo3.mono (by omega)).tr ⟨fun j _ => by rw [f4.2.2 43 (by simp)], fun j hj => ⟨by rw [f4.2.1 45 (by simp)], by rw [f4.2.1 46 (by simp)], by rw [f4.2.1 47 (by simp)], by rw [f4.2.1 48 (by simp)], by rw [f4.2.2 44 (by simp)], by rw [f4.2.1 49 (by simp)], by rw [← hτ4, sA_same, up0, ifn (by omega)]⟩⟩
          have up : ∀ {k : Nat} {u : Lv}, LV τ3 k u → LV τ4 k u := fun {k u} y => by
            obtain ⟨x1, x2, x3, x4, x5, x6⟩ := y
            exact ⟨fun i q hi hq => by rw [f4.2.2 43 (by simp)]; exact x1 i q hi hq, by rw [f4.2.1 45 (by simp)]; exact x2, by rw [f4.2.1 46 (by simp)]; exact x3, by rw [f4.2.1 47 (by simp)]; exact x4, by rw [f4.2.1 48 (by simp)]; exact x5, by rw [f4.2.2 44 (by simp)]; exact x6⟩
          have hv4 : LV τ4 l r.2 := up (g2.lo hLo3 (by omega))
          have k494 : mA τ4 49 l = n32 3 := by rw [f5.2.1 49 (by simp)]; exact g3
          have k504 : mA τ4 50 l = n32 (c + 1) := by rw [e504, up0, ifp rfl]
          have g74 : md.1 = 0 → ∀ j, j < l → mA τ4 50 j = n32 (lk.getD j 0 + 1) ∧ lk.getD j 0 < 256 := fun q j hj => by rw [e504, up0, ifn (by omega)]; exact g7 q j hj
          rw [List.range'_succ, List.flatMap_cons]
          by_cases hw : wgt (chS N md x c r.2) = 0
          · have eb : b32 (wgt (chS N md x c r.2) ≠ 0) = n32 0 := if_neg (fun z => z hw)
            have ec : (if wgt (chS N md x c r.2) = 0 then [] else lvs N xs md f (lk ++ [c]) (chS N md x c r.2)) = [] := if_pos hw
            rw [eb, ec, ifp (c := n32 0 = (0 : Int32)) rfl, List.nil_append]
            obtain ⟨fu3, rfl⟩ : ∃ g, fu2 = g + 1 := ⟨fu2 - 1, by omega⟩
            rw [show n32 l + (0 : Int32) = n32 l from Int32.add_zero _, F_explore_L25, ifn (by simp (disch := omega) only [↓reduceIte, ↓lt_y, leT, leF, ltT, ltF, eqT, eqF, n32_lit, n32_add, n32_mul, n32_sub, n32_le, n32_lt, n32_eq, n32_nat, gdn, gd_T, inbT, bd_y, bd2_y, ifp, ifn, not_true_eq_false, not_false_eq_true, and_self, true_and, and_true, false_and, and_false, or_self, true_or, or_true, false_or, or_false, wA_s, wL_s, sA_same, sL_same, sA_L, sL_A, sA_I, sL_I, wI_A, wI_L, wI_same, sA_sA, sL_sL, sA_ne, sL_ne, wI_ne]), ifp (by simp (disch := omega) only [↓reduceIte, ↓lt_y, leT, leF, ltT, ltF, eqT, eqF, n32_lit, n32_add, n32_mul, n32_sub, n32_le, n32_lt, n32_eq, n32_nat, gdn, gd_T, inbT, bd_y, bd2_y, ifp, ifn, not_true_eq_false, not_false_eq_true, and_self, true_and, and_true, false_and, and_false, or_self, true_or, or_true, false_or, or_false, wA_s, wL_s, sA_same, sL_same, sA_L, sL_A, sA_I, sL_I, wI_A, wI_L, wI_same, sA_sA, sL_sL, sA_ne, sL_ne, wI_ne])]
            exact (ihm (c + 1) τ4 L2 fu3 (by omega) hE4 hv4 k494 k504 hA4 g6 g74 (by omega)).from f6 hLo4 (by omega)
          · have eb : b32 (wgt (chS N md x c r.2) ≠ 0) = n32 1 := if_pos hw
            have ec : (if wgt (chS N md x c r.2) = 0 then [] else lvs N xs md f (lk ++ [c]) (chS N md x c r.2)) = lvs N xs md f (lk ++ [c]) (chS N md x c r.2) := if_neg hw
            rw [eb, ec, ifn (c := n32 1 = (0 : Int32)) (by decide), show n32 l + (1 : Int32) = n32 (l + 1) from by simp (disch := omega) only [↓reduceIte, ↓lt_y, leT, leF, ltT, ltF, eqT, eqF, n32_lit, n32_add, n32_mul, n32_sub, n32_le, n32_lt, n32_eq, n32_nat, gdn, gd_T, inbT, bd_y, bd2_y, ifp, ifn, not_true_eq_false, not_false_eq_true, and_self, true_and, and_true, false_and, and_false, or_self, true_or, or_true, false_or, or_false, wA_s, wL_s, sA_same, sL_same, sA_L, sL_A, sA_I, sL_I, wI_A, wI_L, wI_same, sA_sA, sL_sL, sA_ne, sL_ne, wI_ne]]
            have hcu := d4 hw
            have hin := ih (l + 1) (lk ++ [c]) (chS N md x c r.2) τ4 L2 fu2 (by omega) (by rw [hpc]; exact hlev) (by rw [hpc]; exact hlev0) (by simp [h4]) (fun q j hj => by
                rw [getD_app _ _ _ (by omega)]
                by_cases z : j = lk.length
                · rw [ifp z, z, h4, k504]; exact ⟨rfl, by omega⟩
                · rw [ifn z]; exact g74 q j (by omega)) (by rw [hpc]; omega) hE4 (up hcu) (ok_child hox p4 hn hxt hw) hbc hA4 g6 (by omega)
            rcases hin with ⟨τ5, fu5, i1, i2, i3, i4, i5, i6, i7⟩ | ⟨τ5, i1, i2, i3, i4⟩
            · rw [i1, n32_neg1]
              obtain ⟨fu3, rfl⟩ : ∃ g, fu5 = g + 1 := ⟨fu5 - 1, by omega⟩
              rw [F_explore_L25, ifn (by simp (disch := omega) only [↓reduceIte, ↓lt_y, leT, leF, ltT, ltF, eqT, eqF, n32_lit, n32_add, n32_mul, n32_sub, n32_le, n32_lt, n32_eq, n32_nat, gdn, gd_T, inbT, bd_y, bd2_y, ifp, ifn, not_true_eq_false, not_false_eq_true, and_self, true_and, and_true, false_and, and_false, or_self, true_or, or_true, false_or, or_false, wA_s, wL_s, sA_same, sL_same, sA_L, sL_A, sA_I, sL_I, wI_A, wI_L, wI_same, sA_sA, sL_sL, sA_ne, sL_ne, wI_ne]), ifp (by simp (disch := omega) only [↓reduceIte, ↓lt_y, leT, leF, ltT, ltF, eqT, eqF, n32_lit, n32_add, n32_mul, n32_sub, n32_le, n32_lt, n32_eq, n32_nat, gdn, gd_T, inbT, bd_y, bd2_y, ifp, ifn, not_true_eq_false, not_false_eq_true, and_self, true_and, and_true, false_and, and_false, or_self, true_or, or_true, false_or, or_false, wA_s, wL_s, sA_same, sL_same, sA_L, sL_A, sA_I, sL_I, wI_A, wI_L, wI_same, sA_sA, sL_sL, sA_ne, sL_ne, wI_ne]), ← List.append_assoc]
              refine (ihm (c + 1) τ5 _ fu3 (by omega) i5 (hv4.lo i4 (by omega)) (by rw [(i4.2 l (by omega)).2.2.2.2.2.1]; exact k494) (by rw [(i4.2 l (by omega)).2.2.2.2.2.2]; exact k504) i6 i7 (fun q j hj => by rw [(i4.2 j (by omega)).2.2.2.2.2.2]; exact g74 q j hj) (by omega)).from (f6.tr i3) (hLo4.tr (i4.mono (by omega))) (by omega)
            · rw [i1]
              refine Or.inr ⟨τ5, rfl, f6.tr i2, i3, ?_⟩
              rw [List.length_append] at i4
              rw [List.length_append, List.length_append]
              omega
      have hmul2 : (chN md x + 1) * (cost f + 1) ≤ 257 * (cost f + 1) := Nat.mul_le_mul_right _ (by omega)
      refine (main (chN md x) 0 τ2 L fu (by omega) hE2 hv2 (by rw [k49, hk3]) k50 hA2 hL h5' ?_).from cX hLo ?_
      · omega
      · omega
    · have hlt3 : r.1 < 3 := by omega
      rw [ifn (by simp (disch := omega) only [↓reduceIte, ↓lt_y, leT, leF, ltT, ltF, eqT, eqF, n32_lit, n32_add, n32_mul, n32_sub, n32_le, n32_lt, n32_eq, n32_nat, gdn, gd_T, inbT, bd_y, bd2_y, ifp, ifn, not_true_eq_false, not_false_eq_true, and_self, true_and, and_true, false_and, and_false, or_self, true_or, or_true, false_or, or_false, wA_s, wL_s, sA_same, sL_same, sA_L, sL_A, sA_I, sL_I, wI_A, wI_L, wI_same, sA_sA, sL_sL, sA_ne, sL_ne, wI_ne]), lvs_stop hradv hk3, hA2.1]
      by_cases hfull : L.length = most
      · rw [ifp (by rw [hfull])]
        exact Or.inr ⟨τ2, rfl, cX, ⟨ee, p9, k54⟩, by simp; omega⟩
      · rw [ifn (by simp (disch := omega) only [↓reduceIte, ↓lt_y, leT, leF, ltT, ltF, eqT, eqF, n32_lit, n32_add, n32_mul, n32_sub, n32_le, n32_lt, n32_eq, n32_nat, gdn, gd_T, inbT, bd_y, bd2_y, ifp, ifn, not_true_eq_false, not_false_eq_true, and_self, true_and, and_true, false_and, and_false, or_self, true_or, or_true, false_or, or_false, wA_s, wL_s, sA_same, sL_same, sA_L, sL_A, sA_I, sL_I, wI_A, wI_L, wI_same, sA_sA, sL_sL, sA_ne, sL_ne, wI_ne])]
        have hle : LeafAt τ2 N l (lk, r.1, stpAt xs (vP r.2), r.2) := by
          have hbl := bd_lt hr hbd1 p8
          refine ⟨by omega, hv2.1, hbl.2.2, hv2.2.2.2.2.2, k49, hlt3, ee, p9, k54, fun z => ?_⟩
          have hz : r.1 = 1 ∨ r.1 = 2 := by have : r.1 ≠ 0 := z; omega
          rw [p11 z]
          rcases hz with z1 | z2
          · obtain ⟨x, hx, ht, -⟩ := hend1 z1
            exact ⟨(stpAt_eq hx).symm ▸ hE2.2.1.2 _ x hx, (stpAt_eq hx).symm ▸ (hr.1.2 _ x hx).1, Or.inl ⟨z1, (stpAt_eq hx).symm ▸ ht⟩⟩
          · obtain ⟨x, hx, ht⟩ := hend2 z2
            exact ⟨(stpAt_eq hx).symm ▸ hE2.2.1.2 _ x hx, (stpAt_eq hx).symm ▸ (hr.1.2 _ x hx).1, Or.inr ⟨z2, (stpAt_eq hx).symm ▸ ht⟩⟩
        have hbl := bd_lt hr hbd1 p8
        obtain ⟨τ3, d1, d2, d3, d4, d5, d6, d7⟩ := leaf_L (p := L.length) (lf := (lk, r.1, stpAt xs (vP r.2), r.2)) hE2.1 hE2.2.2.1 hle hE2.2.2.2.1 hE2.2.2.2.2.1 hbl.2.1 hA2.1 (fun q0 => ⟨by have := hmost q0; omega, h4.symm, by have := h3 q0; omega, fun j hj => (h5' q0 j hj).1, fun j hj => (h5' q0 j hj).2⟩)
        rw [d1]
        simp only [bd_y, ↓lt_y]
        rw [d2.1 55 (by simp), hA2.1, show n32 L.length + (1 : Int32) = n32 (L.length + 1) from by simp (disch := omega) only [↓reduceIte, ↓lt_y, leT, leF, ltT, ltF, eqT, eqF, n32_lit, n32_add, n32_mul, n32_sub, n32_le, n32_lt, n32_eq, n32_nat, gdn, gd_T, inbT, bd_y, bd2_y, ifp, ifn, not_true_eq_false, not_false_eq_true, and_self, true_and, and_true, false_and, and_false, or_self, true_or, or_true, false_or, or_false, wA_s, wL_s, sA_same, sL_same, sA_L, sL_A, sA_I, sL_I, wI_A, wI_L, wI_same, sA_sA, sL_sL, sA_ne, sL_ne, wI_ne]]
        have f1 : Fr [55, 64, 66] [57, 58, 59, 60] [61, 62] τ2 (wI τ3 55 (n32 (L.length + 1))) := d2.tr (Fr.wI τ3 55 _) (by simp <;> omega) (by simp) (by simp)
        have fX : FX md τ2 (wI τ3 55 (n32 (L.length + 1))) := ⟨f1.mono (by simp <;> omega) (by simp <;> omega) (by simp <;> omega), fun q => (d7 q).tr (Fr.wI τ3 55 _) (by simp <;> omega) (by simp) (by simp)⟩
        have hA3 : AccL (wI τ3 55 (n32 (L.length + 1))) N md ak sec a0 u0 (L ++ [(lk, r.1, stpAt xs (vP r.2), r.2)]) := by
          obtain ⟨b1, b2, b3, b4, b5⟩ := hA2
          refine ⟨by rw [wI_same]; simp, ?_, ?_, ?_, ?_⟩
          · rw [wI_ne _ _ _ _ (by omega), d3, b2, List.foldl_append]; rfl
          · rintro ⟨lf, hlf, hu⟩
            rw [wI_ne _ _ _ _ (by omega)]
            by_cases y : leafU N ak sec (lk, r.1, stpAt xs (vP r.2), r.2)
            · exact d4 y
            · rw [d5 y]
              rcases List.mem_append.mp hlf with z | z
              · exact b3 ⟨lf, z, hu⟩
              · rw [List.mem_singleton.mp z] at hu; exact absurd hu y
          · intro hn
            rw [wI_ne _ _ _ _ (by omega), d5 (fun y => hn ⟨_, List.mem_append.mpr (Or.inr (List.mem_singleton.mpr rfl)), y⟩)]
            exact b4 (fun ⟨lf, z, hu⟩ => hn ⟨lf, List.mem_append.mpr (Or.inl z), hu⟩)
          · intro q0 p lf hp
            by_cases y : p = L.length
            · subst y
              rw [List.getElem?_append_right (Nat.le_refl _), Nat.sub_self] at hp
              cases hp
              exact ⟨(d6 q0).1, by show lk.length ≤ 6; have := h3 q0; omega⟩
            · have hpl : p < L.length := by
                have := (List.getElem?_eq_some_iff.mp hp).1
                simp at this; omega
              rw [List.getElem?_append_left hpl] at hp
              obtain ⟨w1, w2⟩ := b5 q0 p lf hp
              exact ⟨w1.op (d6 q0).2 y w2, w2⟩
        have hE3 : Env9 (wI τ3 55 (n32 (L.length + 1))) b N xs md ak sec := hE2.fx fX ⟨ee, p9, by rw [f1.1 54 (by simp)]; exact k54⟩
        refine (explore_b93_end (kd := r.1) (c := cost (f + 1) - 1) (by omega) (by rw [f1.2.1 49 (by simp)]; exact k49) hlt3 hE3 hA3 (by simp; omega)).from (cX.tr fX) (hLo.tr (Lo.ofFr f1 (by intro j h1 h2; simp; omega) (by simp) (by simp))) ?_
        have := cost_pos (f + 1)
        omega
