set_option maxRecDepth 100000
/-! THE REFERENCE: the start is laid -/
/-- the start stands at the level 17 and at the level 0 -/
def MStart (σ : MS) (R : Rc) : Prop := LD σ 17 (vD (strtR R)) ∧ LD σ 0 (vD (strtR R)) ∧ mI σ 68 = n32 (vC (strtR R)) ∧ okV (rN R) (strtR R) ∧ bdV [] (strtR R) ∧ ∀ i, i < rN R → mA σ 56 i = askS (rA R) i
theorem layStart_L {σ : MS} {b : Nat} {R : Rc} (hR : MRc σ b R) (hq : okQ R) (h67 : E67 σ) :
    ∃ τ, F_layStart σ = some τ ∧ Fr [51, 68] [34, 45, 46, 47, 48, 56] [43, 44] σ τ ∧ LD τ 17 (vD (strtR R)) ∧ LD τ 0 (vD (strtR R)) ∧ mI τ 68 = n32 (vC (strtR R)) ∧ okV (rN R) (strtR R) ∧ (∀ i, sm 256 (vD (strtR R) i) ≤ 1) ∧ ∀ i, i < rN R → mA τ 56 i = askS (rA R) i := by
  have hMN := MN_gt
  obtain ⟨-, w, hw, h52⟩ := h67
  have hb := hR.2.1
  have zb := n32_nat (a := b) (by omega)
  have hX := hq.2.2.1.1
  unfold F_layStart
  simp only [↓lt_y]
  have c1 : Fr [51] [] [] σ (wI σ 51 0) := Fr.wI σ 51 0
  have hR1 := hR.fr c1 (by simp) (by simp)
  obtain ⟨τ1, e1, c2, hv, hak⟩ := begin_L (hR1.mb hq) hR1.2.2.2.2.1 hq.2.2.2.2.2.2.2.1
  rw [e1]
  simp only [bd_y]
  have c3 : Fr [51] [34, 45, 46, 47, 48, 56] [43, 44] σ τ1 := c1.tr c2 (by simp) (by simp) (by simp)
  have m51 : mI τ1 51 = n32 0 := by rw [c2.1 51 (by simp), wI_same]; rfl
  -- the end of the loop
  have fin : ∀ (s : MS) (v : Lv), Fr [] [46, 47] [43] τ1 s → LV s 0 v → vC v ≤ 8 → ∃ τ, F_layStart_b130 s = some τ ∧ Fr [51, 68] [34, 45, 46, 47, 48, 56] [43, 44] σ τ ∧ LD τ 17 (vD v) ∧ LD τ 0 (vD v) ∧ mI τ 68 = n32 (vC v) ∧ ∀ i, i < rN R → mA τ 56 i = askS (rA R) i := by
    intro s v f hvv hc
    have i0 : inb (0 : Int32) 16 := by decide
    have z0 : Int32.toNatClampNeg (0 : Int32) = 0 := rfl
    unfold F_layStart_b130
    rw [gd_y i0]
    simp only [↓lt_y, z0]
    rw [hvv.2.2.1, show (0 : Int32) = n32 0 from rfl, show (17 : Int32) = n32 17 from rfl, bringBack_L _ 0 17 (by omega) (by omega) (by omega)]
    simp only [bd_y]
    have f1 : Fr [51] [34, 45, 46, 47, 48, 56] [43, 44] σ s := c3.tr f (by simp) (by simp <;> omega) (by simp)
    refine ⟨_, rfl, (f1.tr (Fr.wI s 68 _) (js := [51, 68]) (bs := [34, 45, 46, 47, 48, 56]) (ms := [43, 44]) (by simp) (by simp) (by simp)).tr (Fr.sL _ 43 _) (by simp) (by simp) (by simp), fun i q hi hq' => ?_, fun i q hi hq' => ?_, ?_, fun i hi => ?_⟩
    · rw [sL_same, ifp (by omega)]
      have := hvv.1 i q hi hq'
      rw [show 2048 * 0 + (2048 * 17 + 256 * i + q - 2048 * 17) = 2048 * 0 + 256 * i + q by omega]
      exact this
    · rw [sL_same, ifn (by omega)]
      exact hvv.1 i q hi hq'
    · rw [sL_I, wI_same]
    · rw [sL_A, wI_A, f.2.1 56 (by simp)]
      exact hak i hi
  have main : ∀ (l : List Stq) (k : Nat) (s : MS) (v : Lv) (fu : Nat), (rX R).drop k = l → k + l.length = (rX R).length → Fr [] [46, 47] [43] τ1 s → LV s 0 v → okV (rN R) v → (∀ i, sm 256 (vD v i) ≤ 1) → l.length < fu →
      ∃ τ, F_layStart_L13 fu (n32 1) (n32 k) s = some τ ∧ Fr [51, 68] [34, 45, 46, 47, 48, 56] [43, 44] σ τ ∧ LD τ 17 (vD (strt (rN R) l v)) ∧ LD τ 0 (vD (strt (rN R) l v)) ∧ mI τ 68 = n32 (vC (strt (rN R) l v)) ∧ okV (rN R) (strt (rN R) l v) ∧ (∀ i, sm 256 (vD (strt (rN R) l v) i) ≤ 1) ∧ ∀ i, i < rN R → mA τ 56 i = askS (rA R) i := by
    intro l
    induction l with
    | nil =>
      intro k s v fu hd hk f hvv hok hs1 hfu
      obtain ⟨fu, rfl⟩ : ∃ f, fu = f + 1 := ⟨fu - 1, by omega⟩
      have hkl : k = (rX R).length := by simpa using hk
      have hRs := (hR1.fr c2 (by simp) (by intro j x y; simp; omega)).fr f (by simp) (by intro j x y; simp; omega)
      have h40 := hX.1
      rw [F_layStart_L13, hRs.1]
      simp only [zb]
      rw [hRs.2.2.2.1.1, gd_y (n32_inb (by omega)), ifp (by simp (disch := omega) only [↓reduceIte, ↓lt_y, leT, leF, ltT, ltF, eqT, eqF, n32_lit, n32_add, n32_mul, n32_sub, n32_le, n32_lt, n32_eq, n32_nat, gdn, gd_T, inbT, bd_y, bd2_y, ifp, ifn, not_true_eq_false, not_false_eq_true, and_self, true_and, and_true, false_and, and_false, or_self, true_or, or_true, false_or, or_false, wA_s, wL_s, sA_same, sL_same, sA_L, sL_A, sA_I, sL_I, wI_A, wI_L, wI_same, sA_sA, sL_sL, sA_ne, sL_ne, wI_ne])]
      obtain ⟨τ, x1, x2, x3, x4, x5, x6⟩ := fin s v f hvv hok.1
      exact ⟨τ, x1, x2, x3, x4, x5, hok, hs1, x6⟩
    | cons x l ih =>
      intro k s v fu hd hk f hvv hok hs1 hfu
      obtain ⟨fu, rfl⟩ : ∃ f, fu = f + 1 := ⟨fu - 1, by omega⟩
      simp only [List.length_cons] at hk hfu
      have hx : (rX R)[k]? = some x := by
        have : ((rX R).drop k)[0]? = some x := by rw [hd]; rfl
        rwa [List.getElem?_drop, Nat.add_zero] at this
      have hd' : (rX R).drop (k + 1) = l := by rw [← List.tail_drop, hd]; rfl
      have hRs := (hR1.fr c2 (by simp) (by intro j x y; simp; omega)).fr f (by simp) (by intro j x y; simp; omega)
      have hBs := hRs.mb hq
      have h40 := hX.1
      have hst := hRs.2.2.2.1.2 k x hx
      have hox := (hX.2 k x hx).1
      have hT := hox.o12
      have t22 := hst.h1
      have zk := n32_nat (a := 52 * b + k) (by omega)
      have hM : MMd s (0, w, 0) := ⟨by rw [f.1 51 (by simp)]; exact m51, by show 0 < 4; omega, by rw [f.1 52 (by simp), c3.1 52 (by simp)]; exact h52, hw, fun z => by cases z⟩
      have i0 : inb (0 : Int32) 16 := by decide
      have z0 : Int32.toNatClampNeg (0 : Int32) = 0 := rfl
      rw [F_layStart_L13, hRs.1]
      simp only [zb]
      rw [hRs.2.2.2.1.1, gd_y (n32_inb (by omega)), ifn (by simp (disch := omega) only [↓reduceIte, ↓lt_y, leT, leF, ltT, ltF, eqT, eqF, n32_lit, n32_add, n32_mul, n32_sub, n32_le, n32_lt, n32_eq, n32_nat, gdn, gd_T, inbT, bd_y, bd2_y, ifp, ifn, not_true_eq_false, not_false_eq_true, and_self, true_and, and_true, false_and, and_false, or_self, true_or, or_true, false_or, or_false, wA_s, wL_s, sA_same, sL_same, sA_L, sL_A, sA_I, sL_I, wI_A, wI_L, wI_same, sA_sA, sL_sL, sA_ne, sL_ne, wI_ne]), ifn (by decide)]
      simp only [↓lt_y]
      rw [show (52 : Int32) * n32 b + n32 k = n32 (52 * b + k) from by simp (disch := omega) only [↓reduceIte, ↓lt_y, leT, leF, ltT, ltF, eqT, eqF, n32_lit, n32_add, n32_mul, n32_sub, n32_le, n32_lt, n32_eq, n32_nat, gdn, gd_T, inbT, bd_y, bd2_y, ifp, ifn, not_true_eq_false, not_false_eq_true, and_self, true_and, and_true, false_and, and_false, or_self, true_or, or_true, false_or, or_false, wA_s, wL_s, sA_same, sL_same, sA_L, sL_A, sA_I, sL_I, wI_A, wI_L, wI_same, sA_sA, sL_sL, sA_ne, sL_ne, wI_ne], gd_y (n32_inb (by omega))]
      simp only [zk, t22]
      rw [strt]
      by_cases t01 : sT x ≤ 1
      · rw [ifp t01]
        have hlay : ∃ τ, F_layStart_b62 (F_layStart_b124 (F_layStart_L13 fu)) (n32 k) (n32 (52 * b + k)) s = some τ ∧ Fr [51, 68] [34, 45, 46, 47, 48, 56] [43, 44] σ τ ∧ LD τ 17 (vD (if vC v + layN x ≤ 8 then strt (rN R) l (layS (rN R) (0, 0, 0) x v) else v)) ∧ LD τ 0 (vD (if vC v + layN x ≤ 8 then strt (rN R) l (layS (rN R) (0, 0, 0) x v) else v)) ∧ mI τ 68 = n32 (vC (if vC v + layN x ≤ 8 then strt (rN R) l (layS (rN R) (0, 0, 0) x v) else v)) ∧ okV (rN R) (if vC v + layN x ≤ 8 then strt (rN R) l (layS (rN R) (0, 0, 0) x v) else v) ∧ (∀ i, sm 256 (vD (if vC v + layN x ≤ 8 then strt (rN R) l (layS (rN R) (0, 0, 0) x v) else v) i) ≤ 1) ∧ ∀ i, i < rN R → mA τ 56 i = askS (rA R) i := by
          have hln : layN x ≤ 2 ∧ 1 ≤ layN x := by unfold layN; split <;> omega
          have hc8 := hok.1
          have e62 : F_layStart_b62 (F_layStart_b124 (F_layStart_L13 fu)) (n32 k) (n32 (52 * b + k)) s = F_layStart_b82 (F_layStart_b124 (F_layStart_L13 fu)) (n32 k) (n32 (52 * b + k)) (n32 (layN x)) (n32 (vC v)) s := by
            unfold F_layStart_b62
            simp only [z0, zk, t22, hvv.2.2.1]
            rw [gd_y i0, gd_y (n32_inb (by omega))]
            unfold layN
            by_cases t0 : sT x = 0
            · rw [ifp (by simp (disch := omega) only [↓reduceIte, ↓lt_y, leT, leF, ltT, ltF, eqT, eqF, n32_lit, n32_add, n32_mul, n32_sub, n32_le, n32_lt, n32_eq, n32_nat, gdn, gd_T, inbT, bd_y, bd2_y, ifp, ifn, not_true_eq_false, not_false_eq_true, and_self, true_and, and_true, false_and, and_false, or_self, true_or, or_true, false_or, or_false, wA_s, wL_s, sA_same, sL_same, sA_L, sL_A, sA_I, sL_I, wI_A, wI_L, wI_same, sA_sA, sL_sL, sA_ne, sL_ne, wI_ne]), ifp t0]; rfl
            · rw [ifn (by simp (disch := omega) only [↓reduceIte, ↓lt_y, leT, leF, ltT, ltF, eqT, eqF, n32_lit, n32_add, n32_mul, n32_sub, n32_le, n32_lt, n32_eq, n32_nat, gdn, gd_T, inbT, bd_y, bd2_y, ifp, ifn, not_true_eq_false, not_false_eq_true, and_self, true_and, and_true, false_and, and_false, or_self, true_or, or_true, false_or, or_false, wA_s, wL_s, sA_same, sL_same, sA_L, sL_A, sA_I, sL_I, wI_A, wI_L, wI_same, sA_sA, sL_sL, sA_ne, sL_ne, wI_ne]), ifn t0]; rfl
          rw [e62]
          unfold F_layStart_b82
          rw [show n32 (vC v) + n32 (layN x) = n32 (vC v + layN x) from by simp (disch := omega) only [↓reduceIte, ↓lt_y, leT, leF, ltT, ltF, eqT, eqF, n32_lit, n32_add, n32_mul, n32_sub, n32_le, n32_lt, n32_eq, n32_nat, gdn, gd_T, inbT, bd_y, bd2_y, ifp, ifn, not_true_eq_false, not_false_eq_true, and_self, true_and, and_true, false_and, and_false, or_self, true_or, or_true, false_or, or_false, wA_s, wL_s, sA_same, sL_same, sA_L, sL_A, sA_I, sL_I, wI_A, wI_L, wI_same, sA_sA, sL_sL, sA_ne, sL_ne, wI_ne]]
          by_cases q : vC v + layN x ≤ 8
          · simp only [ifp q]
            rw [ifn (by simp (disch := omega) only [↓reduceIte, ↓lt_y, leT, leF, ltT, ltF, eqT, eqF, n32_lit, n32_add, n32_mul, n32_sub, n32_le, n32_lt, n32_eq, n32_nat, gdn, gd_T, inbT, bd_y, bd2_y, ifp, ifn, not_true_eq_false, not_false_eq_true, and_self, true_and, and_true, false_and, and_false, or_self, true_or, or_true, false_or, or_false, wA_s, wL_s, sA_same, sL_same, sA_L, sL_A, sA_I, sL_I, wI_A, wI_L, wI_same, sA_sA, sL_sL, sA_ne, sL_ne, wI_ne])]
            unfold F_layStart_b93
            rw [ifn (by decide)]
            obtain ⟨s1', x1, g1, g2, g3⟩ := lays_V (N := rN R) (first := 1) (by omega : 0 < 16) hBs (by omega : 52 * b + k < 104) hst hox (by omega) hM (by omega) (by omega) hvv
            have x1' : F_lays 0 (n32 (52 * b + k)) 1 s = some s1' := x1
            rw [x1']
            simp only [bd_y, zk]
            rw [gd_y (n32_inb (by omega)), g1.2.1 22 (by simp), t22]
            have next : ∀ (s2 : MS) (u : Lv), Fr [] [46, 47] [43] s s2 → LV s2 0 u → u = layS (rN R) (0, 0, 0) x v → ∃ τ, F_layStart_b124 (F_layStart_L13 fu) (n32 1) (n32 k) s2 = some τ ∧ Fr [51, 68] [34, 45, 46, 47, 48, 56] [43, 44] σ τ ∧ LD τ 17 (vD (strt (rN R) l (layS (rN R) (0, 0, 0) x v))) ∧ LD τ 0 (vD (strt (rN R) l (layS (rN R) (0, 0, 0) x v))) ∧ mI τ 68 = n32 (vC (strt (rN R) l (layS (rN R) (0, 0, 0) x v))) ∧ okV (rN R) (strt (rN R) l (layS (rN R) (0, 0, 0) x v)) ∧ (∀ i, sm 256 (vD (strt (rN R) l (layS (rN R) (0, 0, 0) x v)) i) ≤ 1) ∧ ∀ i, i < rN R → mA τ 56 i = askS (rA R) i := by
              intro s2 u ff hu eu
              unfold F_layStart_b124
              simp only [↓lt_y]
              rw [show n32 k + (1 : Int32) = n32 (k + 1) from by simp (disch := omega) only [↓reduceIte, ↓lt_y, leT, leF, ltT, ltF, eqT, eqF, n32_lit, n32_add, n32_mul, n32_sub, n32_le, n32_lt, n32_eq, n32_nat, gdn, gd_T, inbT, bd_y, bd2_y, ifp, ifn, not_true_eq_false, not_false_eq_true, and_self, true_and, and_true, false_and, and_false, or_self, true_or, or_true, false_or, or_false, wA_s, wL_s, sA_same, sL_same, sA_L, sL_A, sA_I, sL_I, wI_A, wI_L, wI_same, sA_sA, sL_sL, sA_ne, sL_ne, wI_ne]]
              subst eu
              refine ih (k + 1) s2 (layS (rN R) (0, 0, 0) x v) fu hd' (by omega) (f.tr ff (by simp) (by simp) (by simp)) hu (okV_layS hox (fun z => by cases z) hok q) (fun i => ?_) (by omega)
              have hm : (0 : Nat) = 3 → (0 : Nat) < 2 := fun z => by omega
              have one : ∀ (first : Nat) (u : Lv), vC u ≤ 7 → (∀ i, sm 256 (vD u i) ≤ 1) → ∀ i, sm 256 (vD (lay1 (rN R) (0, 0, 0) x first u) i) ≤ 1 := by
                intro first u hcu hu1 i
                show sm 256 (fun q => if i < rN R then adc (vC u) (redOf (0, 0, 0) x first i) (vD u i) q else vD u i q) ≤ 1
                by_cases z : i < rN R
                · simp only [z, if_true]
                  have : sm 256 (adc (vC u) (redOf (0, 0, 0) x first i) (vD u i)) = sm 256 (vD u i) := sm_push fun r hr => or_lt hr (redOf_lt hox (fun y => by cases y)) hcu
                  have h1 := hu1 i
                  rw [← this] at h1
                  exact h1
                · simp only [z, if_false]
                  exact hu1 i
              unfold layS
              split
              · rename_i t0
                have hc2 : vC v + 1 ≤ 7 := by unfold layN at q; rw [ifp t0] at q; omega
                exact one 0 (lay1 (rN R) (0, 0, 0) x 1 v) hc2 (one 1 v (by omega) hs1) i
              · exact one 1 v (by omega) hs1 i
            by_cases t0 : sT x = 0
            · have hl2 : layN x = 2 := by unfold layN; rw [ifp t0]
              rw [ifp (by simp (disch := omega) only [↓reduceIte, ↓lt_y, leT, leF, ltT, ltF, eqT, eqF, n32_lit, n32_add, n32_mul, n32_sub, n32_le, n32_lt, n32_eq, n32_nat, gdn, gd_T, inbT, bd_y, bd2_y, ifp, ifn, not_true_eq_false, not_false_eq_true, and_self, true_and, and_true, false_and, and_false, or_self, true_or, or_true, false_or, or_false, wA_s, wL_s, sA_same, sL_same, sA_L, sL_A, sA_I, sL_I, wI_A, wI_L, wI_same, sA_sA, sL_sL, sA_ne, sL_ne, wI_ne])]
              obtain ⟨s2', y1, y2, y3, y4⟩ := lays_V (N := rN R) (first := 0) (by omega : 0 < 16) (hBs.fr g1 (by simp) (by simp)) (by omega : 52 * b + k < 104) (hst.fr g1 (by intro j h1 h2; simp; omega)) hox (by omega) (hM.fr g1 (by simp) (by simp) (by simp)) (by omega) (by show vC v + 1 ≤ 7; omega) g2
              have y1' : F_lays 0 (n32 (52 * b + k)) 0 s1' = some s2' := y1
              rw [y1']
              simp only [bd_y]
              refine next s2' _ (g1.tr y2 (by simp) (by simp) (by simp)) y3 ?_
              rw [lay1_0, lay1_0 (rN R) x 1 w 0]
              unfold layS
              rw [ifp t0]
            · rw [ifn (by simp (disch := omega) only [↓reduceIte, ↓lt_y, leT, leF, ltT, ltF, eqT, eqF, n32_lit, n32_add, n32_mul, n32_sub, n32_le, n32_lt, n32_eq, n32_nat, gdn, gd_T, inbT, bd_y, bd2_y, ifp, ifn, not_true_eq_false, not_false_eq_true, and_self, true_and, and_true, false_and, and_false, or_self, true_or, or_true, false_or, or_false, wA_s, wL_s, sA_same, sL_same, sA_L, sL_A, sA_I, sL_I, wI_A, wI_L, wI_same, sA_sA, sL_sL, sA_ne, sL_ne, wI_ne])]
              refine next s1' _ g1 g2 ?_
              rw [lay1_0]
              unfold layS
              rw [ifn t0]
          · simp only [ifn q]
            rw [ifp (by simp (disch := omega) only [↓reduceIte, ↓lt_y, leT, leF, ltT, ltF, eqT, eqF, n32_lit, n32_add, n32_mul, n32_sub, n32_le, n32_lt, n32_eq, n32_nat, gdn, gd_T, inbT, bd_y, bd2_y, ifp, ifn, not_true_eq_false, not_false_eq_true, and_self, true_and, and_true, false_and, and_false, or_self, true_or, or_true, false_or, or_false, wA_s, wL_s, sA_same, sL_same, sA_L, sL_A, sA_I, sL_I, wI_A, wI_L, wI_same, sA_sA, sL_sL, sA_ne, sL_ne, wI_ne])]
            unfold F_layStart_b93
            rw [ifp rfl]
            unfold F_layStart_b124
            simp only [↓lt_y]
            obtain ⟨fu, rfl⟩ : ∃ f, fu = f + 1 := ⟨fu - 1, by omega⟩
            rw [show n32 k + (1 : Int32) = n32 (k + 1) from by simp (disch := omega) only [↓reduceIte, ↓lt_y, leT, leF, ltT, ltF, eqT, eqF, n32_lit, n32_add, n32_mul, n32_sub, n32_le, n32_lt, n32_eq, n32_nat, gdn, gd_T, inbT, bd_y, bd2_y, ifp, ifn, not_true_eq_false, not_false_eq_true, and_self, true_and, and_true, false_and, and_false, or_self, true_or, or_true, false_or, or_false, wA_s, wL_s, sA_same, sL_same, sA_L, sL_A, sA_I, sL_I, wI_A, wI_L, wI_same, sA_sA, sL_sL, sA_ne, sL_ne, wI_ne], F_layStart_L13, hRs.1]
            simp only [zb]
            obtain ⟨τ, x1, x2, x3, x4, x5, x6⟩ := fin s v f hvv hok.1
            rw [hRs.2.2.2.1.1, gd_y (n32_inb (by omega)), ifp (c := True) trivial]
            refine ⟨τ, ?_, x2, x3, x4, x5, hok, hs1, x6⟩
            split <;> exact x1
        by_cases t0 : sT x = 0
        · rw [ifp (by simp (disch := omega) only [↓reduceIte, ↓lt_y, leT, leF, ltT, ltF, eqT, eqF, n32_lit, n32_add, n32_mul, n32_sub, n32_le, n32_lt, n32_eq, n32_nat, gdn, gd_T, inbT, bd_y, bd2_y, ifp, ifn, not_true_eq_false, not_false_eq_true, and_self, true_and, and_true, false_and, and_false, or_self, true_or, or_true, false_or, or_false, wA_s, wL_s, sA_same, sL_same, sA_L, sL_A, sA_I, sL_I, wI_A, wI_L, wI_same, sA_sA, sL_sL, sA_ne, sL_ne, wI_ne])]; exact hlay
        · rw [ifn (by simp (disch := omega) only [↓reduceIte, ↓lt_y, leT, leF, ltT, ltF, eqT, eqF, n32_lit, n32_add, n32_mul, n32_sub, n32_le, n32_lt, n32_eq, n32_nat, gdn, gd_T, inbT, bd_y, bd2_y, ifp, ifn, not_true_eq_false, not_false_eq_true, and_self, true_and, and_true, false_and, and_false, or_self, true_or, or_true, false_or, or_false, wA_s, wL_s, sA_same, sL_same, sA_L, sL_A, sA_I, sL_I, wI_A, wI_L, wI_same, sA_sA, sL_sL, sA_ne, sL_ne, wI_ne]), gd_y (n32_inb (by omega)), ifp (by simp (disch := omega) only [↓reduceIte, ↓lt_y, leT, leF, ltT, ltF, eqT, eqF, n32_lit, n32_add, n32_mul, n32_sub, n32_le, n32_lt, n32_eq, n32_nat, gdn, gd_T, inbT, bd_y, bd2_y, ifp, ifn, not_true_eq_false, not_false_eq_true, and_self, true_and, and_true, false_and, and_false, or_self, true_or, or_true, false_or, or_false, wA_s, wL_s, sA_same, sL_same, sA_L, sL_A, sA_I, sL_I, wI_A, wI_L, wI_same, sA_sA, sL_sL, sA_ne, sL_ne, wI_ne])]; exact hlay
      · rw [ifn t01, ifn (by simp (disch := omega) only [↓reduceIte, ↓lt_y, leT, leF, ltT, ltF, eqT, eqF, n32_lit, n32_add, n32_mul, n32_sub, n32_le, n32_lt, n32_eq, n32_nat, gdn, gd_T, inbT, bd_y, bd2_y, ifp, ifn, not_true_eq_false, not_false_eq_true, and_self, true_and, and_true, false_and, and_false, or_self, true_or, or_true, false_or, or_false, wA_s, wL_s, sA_same, sL_same, sA_L, sL_A, sA_I, sL_I, wI_A, wI_L, wI_same, sA_sA, sL_sL, sA_ne, sL_ne, wI_ne]), gd_y (n32_inb (by omega)), ifn (by simp (disch := omega) only [↓reduceIte, ↓lt_y, leT, leF, ltT, ltF, eqT, eqF, n32_lit, n32_add, n32_mul, n32_sub, n32_le, n32_lt, n32_eq, n32_nat, gdn, gd_T, inbT, bd_y, bd2_y, ifp, ifn, not_true_eq_false, not_false_eq_true, and_self, true_and, and_true, false_and, and_false, or_self, true_or, or_true, false_or, or_false, wA_s, wL_s, sA_same, sL_same, sA_L, sL_A, sA_I, sL_I, wI_A, wI_L, wI_same, sA_sA, sL_sL, sA_ne, sL_ne, wI_ne])]
        unfold F_layStart_b124
        simp only [↓lt_y]
        rw [show n32 k + (1 : Int32) = n32 (k + 1) from by simp (disch := omega) only [↓reduceIte, ↓lt_y, leT, leF, ltT, ltF, eqT, eqF, n32_lit, n32_add, n32_mul, n32_sub, n32_le, n32_lt, n32_eq, n32_nat, gdn, gd_T, inbT, bd_y, bd2_y, ifp, ifn, not_true_eq_false, not_false_eq_true, and_self, true_and, and_true, false_and, and_false, or_self, true_or, or_true, false_or, or_false, wA_s, wL_s, sA_same, sL_same, sA_L, sL_A, sA_I, sL_I, wI_A, wI_L, wI_same, sA_sA, sL_sL, sA_ne, sL_ne, wI_ne]]
        exact ih (k + 1) s v fu hd' (by omega) f hvv hok hs1 (by omega)
  have hs0 : ∀ i, sm 256 (vD (lv0 (rN R)) i) ≤ 1 := (lv0_bd (rN R) []).1
  have := main (rX R) 0 τ1 (lv0 (rN R)) MN rfl (by omega) (Fr.rf.mono (by simp) (by simp) (by simp)) hv (lv0_ok _) hs0 (by have := hX.1; omega)
  exact this
