set_option maxRecDepth 100000
theorem said_bits {kd : Nat} {x : Stq} {f : Nat → Nat} {k : Nat} (hex : ∃ r, r < 256 ∧ f r ≠ 0) : endS kd x f = 1 <<< k ↔ ∀ r, r < 256 → f r ≠ 0 → said kd x r = k := by
  have hb : ∀ a j, (1 <<< a : Nat).testBit j = decide (a = j) := fun a j => by rw [Nat.one_shiftLeft, Nat.testBit_two_pow]
  constructor
  · intro h r hr hf
    have h1 : (endS kd x f).testBit (said kd x r) = true := (orr_bit 256 _ _).mpr ⟨r, hr, by rw [ifn hf, hb]; simp⟩
    rw [h, hb] at h1
    simp at h1
    exact h1.symm
  · intro h
    apply Nat.eq_of_testBit_eq
    intro j
    rw [Bool.eq_iff_iff, hb]
    unfold endS
    rw [orr_bit]
    constructor
    · rintro ⟨r, hr, h1⟩
      by_cases z : f r = 0
      · rw [ifp z] at h1; simp at h1
      · rw [ifn z, hb, h r hr z] at h1; exact h1
    · intro h1
      obtain ⟨r, hr, hf⟩ := hex
      exact ⟨r, hr, by rw [ifn hf, hb, h r hr hf]; exact h1⟩
theorem n32_ge (a : Nat) (h : a < 2147483648) : (0 : Int32) ≤ n32 a := (n32_le (a := 0) ⟨by omega, h⟩).mpr (by omega)
theorem isRight_L {σ : MS} {b : Nat} {R : Rc} (hR : MRc σ b R) (hq : okQ R) (hP : MPt σ R) (h2 : (pths R).length ≤ 200) {k i : Nat} (hk : k < (pths R).length) (hi : i < rN R) :
    ∃ r g, F_isRight (n32 k) (n32 i) σ = some (r, sA σ 34 g) ∧ (rgtS ((pths R).getD k default) (askS (rA R) i) i → r = n32 1) ∧ (¬ rgtS ((pths R).getD k default) (askS (rA R) i) i → r = n32 0) := by
  have hN := rN_le hq
  obtain ⟨-, -, c3, c4, -, c6⟩ := path_at hP h2 hk
  have hw := wys_lt hq hk
  have hok := pths_ok hq hk
  have e1 := c3 i (by omega)
  rw [ifp hi] at e1
  have e2 := c4 i (by omega)
  rw [ifp hi] at e2
  generalize (pths R).getD k default = lf at c6 hw hok e1 e2 ⊢
  have hz : wysS lf i = sm 256 (vD (lfV lf) i) := rfl
  have hwi := hw.1 i
  have z8 := n32_nat (a := 8 * k + i) (by omega)
  have zk := n32_nat (a := k) (by omega)
  have ea : (8 : Int32) * n32 k + n32 i = n32 (8 * k + i) := by simp (disch := omega) only [↓reduceIte, ↓lt_y, leT, leF, ltT, ltF, eqT, eqF, n32_lit, n32_add, n32_mul, n32_sub, n32_le, n32_lt, n32_eq, n32_nat, gdn, gd_T, inbT, bd_y, bd2_y, ifp, ifn, not_true_eq_false, not_false_eq_true, and_self, true_and, and_true, false_and, and_false, or_self, true_or, or_true, false_or, or_false, wA_s, wL_s, sA_same, sL_same, sA_L, sL_A, sA_I, sL_I, wI_A, wI_L, wI_same, sA_sA, sL_sL, sA_ne, sL_ne, wI_ne]
  unfold F_isRight
  rw [ea, gd_y (n32_inb (by omega)), z8, e1]
  by_cases q : wysS lf i = 0
  · rw [ifp ((cmpZ _).mpr ((e64_ne (by omega)).mpr (by omega)))]
    refine ⟨_, mA σ 34, by rw [sA_id]; rfl, fun _ => rfl, fun z => absurd (fun r hr hd => ?_) z⟩
    have : vD (lfV lf) i r ≤ sm 256 (vD (lfV lf) i) := sm_ge hr
    omega
  rw [ifn (fun y => q (by have := (e64_ne (by omega)).mp ((cmpZ _).mp y); omega))]
  obtain ⟨g, e3⟩ := askedOf_L (hR.mb hq) hR.2.2.2.2.1 hq.2.2.2.2.2.2.2.1 (by omega : i < 8)
  rw [e3]
  simp only [bd2_y]
  rw [gd_y (n32_inb (by omega))]
  simp only [zk, sA_ne _ _ _ _ (show (60 : Nat) ≠ 34 by omega), c6]
  generalize askS (rA R) i = a
  obtain ⟨r0, hr0, hd0⟩ := sm_ne (show sm 256 (vD (lfV lf) i) ≠ 0 by omega)
  have hkd := hok.2.2.2.2.1
  by_cases k2 : lfD lf = 2
  · obtain ⟨ho, ht⟩ := hok.2.2.2.2.2.2 k2
    have o11 := ho.o11 ht
    rw [ifp k2, ifn (c := n32 (s1 (lfX lf)) < 0) (by rw [show (0 : Int32) = n32 0 from rfl, n32_lt ⟨by omega, by omega⟩]; omega), gd_y (n32_inb (by omega))]
    have hans : ∀ r, ansS (lfD lf) (lfX lf) r = n32 (s1 (lfX lf)) := fun r => by unfold ansS; rw [ifp k2]
    by_cases y : n32 (s1 (lfX lf)) = a
    · rw [ifp y]
      exact ⟨_, g, rfl, fun _ => rfl, fun z => absurd (fun r hr hd => ⟨by rw [hans]; exact n32_ge _ (by omega), by rw [hans]; exact y⟩) z⟩
    · rw [ifn y]
      exact ⟨_, g, rfl, fun z => absurd ((hans r0).symm.trans (z r0 hr0 hd0).2) y, fun _ => rfl⟩
  rw [ifn k2, ifp (c := (-1 : Int32) < 0) (by decide)]
  have hneg : ¬ (0 : Int32) ≤ -1 := by decide
  -- what the reference compares
  have key : ∀ c : Nat, c < 2 → a = n32 c → (rgtS lf a i ↔ endS (lfD lf) (lfX lf) (vD (lfV lf) i) = 1 <<< c) := by
    intro c hc ha
    rw [said_bits ⟨r0, hr0, hd0⟩]
    refine forall_congr' fun r => forall_congr' fun hr => forall_congr' fun hd => ?_
    have p1 := and1_lt r (s1 (lfX lf))
    unfold ansS said
    rw [ifn k2, ifn k2]
    by_cases k0 : lfD lf = 0
    · rw [ifp k0, ifp k0]
      constructor
      · intro z; exact absurd z.1 hneg
      · intro z; omega
    · rw [ifn k0, ifn k0]
      by_cases y : (r >>> s1 (lfX lf)) &&& 1 = (r >>> s2 (lfX lf)) &&& 1
      · rw [ifp y, ifp y]
        constructor
        · intro z; exact absurd z.1 hneg
        · intro z; omega
      · rw [ifn y, ifn y, ha]
        constructor
        · intro z; exact (n32_eq ⟨by omega, by omega⟩).mp z.2
        · intro z; rw [z]; exact ⟨n32_ge _ (by omega), rfl⟩
  have nokey : (∀ c : Nat, c < 2 → a ≠ n32 c) → ¬ rgtS lf a i := by
    intro hno z
    obtain ⟨z1, z2⟩ := z r0 hr0 hd0
    have p1 := and1_lt r0 (s1 (lfX lf))
    unfold ansS at z1 z2
    rw [ifn k2] at z1 z2
    by_cases k0 : lfD lf = 0
    · rw [ifp k0] at z1; exact hneg z1
    · rw [ifn k0] at z1 z2
      by_cases y : (r0 >>> s1 (lfX lf)) &&& 1 = (r0 >>> s2 (lfX lf)) &&& 1
      · rw [ifp y] at z1; exact hneg z1
      · rw [ifn y] at z2; exact hno _ p1 z2.symm
  have b60 : ∀ c : Nat, c < 2 → a = n32 c → ∃ r g, F_isRight_b60 (n32 k) (n32 i) a (sA σ 34 g) = some (r, sA σ 34 g) ∧ (rgtS lf a i → r = n32 1) ∧ (¬ rgtS lf a i → r = n32 0) := by
    intro c hc ha
    refine ⟨b32 (endS (lfD lf) (lfX lf) (vD (lfV lf) i) = 1 <<< c), g, ?_, fun z => ?_, fun z => ?_⟩
    · unfold F_isRight_b60
      rw [ea, gd_y (n32_inb (by omega)), z8, sA_ne _ _ _ _ (by omega), e2, ha, show (1 : Int32) = n32 1 from rfl, show (31 : Int32) = n32 31 from rfl, n32_shl _ _ (by omega)]
      have hel := endS_lt (kd := lfD lf) (x := lfX lf) (f := vD (lfV lf) i)
      have h1c : (1 <<< c : Nat) < 4 := by
        have : c = 0 ∨ c = 1 := by omega
        rcases this with rfl | rfl <;> decide
      unfold b32
      by_cases y : endS (lfD lf) (lfX lf) (vD (lfV lf) i) = 1 <<< c
      · rw [ifp (by rw [y]), ifp y]
      · rw [ifn (fun w => y ((n32_eq ⟨by omega, by omega⟩).mp w)), ifn y]; rfl
    · unfold b32; rw [ifp ((key c hc ha).mp z)]
    · unfold b32; rw [ifn (fun w => z ((key c hc ha).mpr w))]
  by_cases a0 : a = 0
  · rw [ifp a0]
    obtain ⟨r, g', x1, x2⟩ := b60 0 (by omega) a0
    have hb : F_isRight_b60 (n32 k) (n32 i) a (sA σ 34 g) = some (r, sA σ 34 g) := by
      unfold F_isRight_b60 at x1 ⊢
      rw [ea, gd_y (n32_inb (by omega)), z8, sA_ne _ _ _ _ (by omega)] at x1 ⊢
      split at x1 <;> rename_i w
      · rw [ifp w]; cases x1; rfl
      · rw [ifn w]; cases x1; rfl
    exact ⟨r, g, hb, x2⟩
  · rw [ifn a0]
    by_cases a1 : a = 1
    · rw [ifp a1]
      obtain ⟨r, g', x1, x2⟩ := b60 1 (by omega) a1
      have hb : F_isRight_b60 (n32 k) (n32 i) a (sA σ 34 g) = some (r, sA σ 34 g) := by
        unfold F_isRight_b60 at x1 ⊢
        rw [ea, gd_y (n32_inb (by omega)), z8, sA_ne _ _ _ _ (by omega)] at x1 ⊢
        split at x1 <;> rename_i w
        · rw [ifp w]; cases x1; rfl
        · rw [ifn w]; cases x1; rfl
      exact ⟨r, g, hb, x2⟩
    · rw [ifn a1]
      refine ⟨_, g, rfl, fun z => absurd z (nokey fun c hc => ?_), fun _ => rfl⟩
      have : c = 0 ∨ c = 1 := by omega
      rcases this with rfl | rfl
      · exact a0
      · exact a1
theorem wrong_L {σ : MS} {b : Nat} {R : Rc} (hR : MRc σ b R) (hq : okQ R) (hP : MPt σ R) : ∃ r g, F_wrong σ = some (r, sA σ 34 g) ∧ q_wrong R r := by
  have hMN := MN_gt
  have hN := rN_le hq
  unfold F_wrong q_wrong
  by_cases q : 200 < (pths R).length
  · rw [(hP.1 q).1, ifn (by decide)]
    exact ⟨_, mA σ 34, by rw [sA_id], by rw [ifp q]⟩
  obtain ⟨a1, a2, a3⟩ := hP.2 (by omega)
  rw [a1, ifp (by decide), show (0 : Int32) = n32 0 from rfl]
  simp only [ifn q]
  have hfr : ∀ g, MRc (sA σ 34 g) b R ∧ MPt (sA σ 34 g) R := fun g => ⟨hR.fr (Fr.sA σ 34 g) (by simp) (by intro j x y; simp; omega), hP.fr (Fr.sA σ 34 g) (by simp) (by simp) (by intro j x y; simp; omega) (by simp) (by simp)⟩
  have mem : ∀ lf, lf ∈ pths R ↔ ∃ k, k < (pths R).length ∧ lf = (pths R).getD k default := fun lf => by
    constructor
    · intro h
      obtain ⟨k, hk, e⟩ := List.mem_iff_getElem.mp h
      exact ⟨k, hk, by rw [List.getD_eq_getElem?_getD, List.getElem?_eq_getElem hk]; exact e.symm⟩
    · rintro ⟨k, hk, rfl⟩; exact List.mem_of_getElem? (pths_get hk)
  refine upf (fun fu i (s : MS) => F_wrong_L12 fu (n32 i) s) 0 (rN R) (fun i0 s => (∃ g, s = sA σ 34 g) ∧ ∀ i, i < i0 → ¬ ∃ lf ∈ pths R, ¬ rgtS lf (askS (rA R) i) i)
    (fun o => ∃ r g, o = some (r, sA σ 34 g) ∧ fstS (rN R) (fun i => ∃ lf ∈ pths R, ¬ rgtS lf (askS (rA R) i) i) r) ?_ ?_ σ MN (Nat.zero_le _) (by omega) ⟨⟨mA σ 34, (sA_id σ 34).symm⟩, fun i hi => by omega⟩
  · rintro fu i0 s - hi ⟨⟨g, rfl⟩, hno⟩
    try dsimp only
    rw [F_wrong_L12, inputs_L ((hfr g).1.mb hq)]
    simp only [bd_y]
    rw [ifn (by simp (disch := omega) only [↓reduceIte, ↓lt_y, leT, leF, ltT, ltF, eqT, eqF, n32_lit, n32_add, n32_mul, n32_sub, n32_le, n32_lt, n32_eq, n32_nat, gdn, gd_T, inbT, bd_y, bd2_y, ifp, ifn, not_true_eq_false, not_false_eq_true, and_self, true_and, and_true, false_and, and_false, or_self, true_or, or_true, false_or, or_false, wA_s, wL_s, sA_same, sL_same, sA_L, sL_A, sA_I, sL_I, wI_A, wI_L, wI_same, sA_sA, sL_sL, sA_ne, sL_ne, wI_ne]), show (0 : Int32) = n32 0 from rfl]
    refine upf (fun fu' k (s : MS) => F_wrong_L22 (F_wrong_L12 fu) fu' (n32 i0) (n32 k) s) 0 (pths R).length (fun k0 s => (∃ g, s = sA σ 34 g) ∧ ∀ k, k < k0 → rgtS ((pths R).getD k default) (askS (rA R) i0) i0)
      (fun o => (∃ s', o = F_wrong_L12 fu (n32 (i0 + 1)) s' ∧ (∃ g, s' = sA σ 34 g) ∧ ∀ i, i < i0 + 1 → ¬ ∃ lf ∈ pths R, ¬ rgtS lf (askS (rA R) i) i) ∨ ∃ r g, o = some (r, sA σ 34 g) ∧ fstS (rN R) (fun i => ∃ lf ∈ pths R, ¬ rgtS lf (askS (rA R) i) i) r) ?_ ?_ (sA σ 34 g) MN (Nat.zero_le _) (by omega) ⟨⟨g, rfl⟩, fun k hk => by omega⟩
    · rintro fu' k0 s - hk ⟨⟨g, rfl⟩, hyes⟩
      try dsimp only
      rw [F_wrong_L22, ((hfr g).2.2 (by omega)).2.1, ifn (by simp (disch := omega) only [↓reduceIte, ↓lt_y, leT, leF, ltT, ltF, eqT, eqF, n32_lit, n32_add, n32_mul, n32_sub, n32_le, n32_lt, n32_eq, n32_nat, gdn, gd_T, inbT, bd_y, bd2_y, ifp, ifn, not_true_eq_false, not_false_eq_true, and_self, true_and, and_true, false_and, and_false, or_self, true_or, or_true, false_or, or_false, wA_s, wL_s, sA_same, sL_same, sA_L, sL_A, sA_I, sL_I, wI_A, wI_L, wI_same, sA_sA, sL_sL, sA_ne, sL_ne, wI_ne])]
      obtain ⟨r, g2, e1, r1, r2⟩ := isRight_L (hfr g).1 hq (hfr g).2 (by omega) hk hi
      rw [e1, sA_sA]
      simp only [bd2_y]
      by_cases y : rgtS ((pths R).getD k0 default) (askS (rA R) i0) i0
      · rw [r1 y, ifn (by decide)]
        simp only [↓lt_y]
        rw [show n32 k0 + (1 : Int32) = n32 (k0 + 1) from by simp (disch := omega) only [↓reduceIte, ↓lt_y, leT, leF, ltT, ltF, eqT, eqF, n32_lit, n32_add, n32_mul, n32_sub, n32_le, n32_lt, n32_eq, n32_nat, gdn, gd_T, inbT, bd_y, bd2_y, ifp, ifn, not_true_eq_false, not_false_eq_true, and_self, true_and, and_true, false_and, and_false, or_self, true_or, or_true, false_or, or_false, wA_s, wL_s, sA_same, sL_same, sA_L, sL_A, sA_I, sL_I, wI_A, wI_L, wI_same, sA_sA, sL_sL, sA_ne, sL_ne, wI_ne]]
        refine Or.inl ⟨_, rfl, ⟨g2, rfl⟩, fun k hk' => ?_⟩
        by_cases w : k = k0
        · rw [w]; exact y
        · exact hyes k (by omega)
      · rw [r2 y, ifp (by decide)]
        exact Or.inr (Or.inr ⟨_, g2, rfl, Or.inl ⟨i0, hi, ⟨_, (mem _).mpr ⟨k0, hk, rfl⟩, y⟩, hno, rfl⟩⟩)
    · rintro fu' s ⟨⟨g, rfl⟩, hyes⟩
      try dsimp only
      rw [F_wrong_L22, ((hfr g).2.2 (by omega)).2.1, ifp (by simp (disch := omega) only [↓reduceIte, ↓lt_y, leT, leF, ltT, ltF, eqT, eqF, n32_lit, n32_add, n32_mul, n32_sub, n32_le, n32_lt, n32_eq, n32_nat, gdn, gd_T, inbT, bd_y, bd2_y, ifp, ifn, not_true_eq_false, not_false_eq_true, and_self, true_and, and_true, false_and, and_false, or_self, true_or, or_true, false_or, or_false, wA_s, wL_s, sA_same, sL_same, sA_L, sL_A, sA_I, sL_I, wI_A, wI_L, wI_same, sA_sA, sL_sL, sA_ne, sL_ne, wI_ne])]
      unfold F_wrong_b47
      simp only [↓lt_y]
      rw [show n32 i0 + (1 : Int32) = n32 (i0 + 1) from by simp (disch := omega) only [↓reduceIte, ↓lt_y, leT, leF, ltT, ltF, eqT, eqF, n32_lit, n32_add, n32_mul, n32_sub, n32_le, n32_lt, n32_eq, n32_nat, gdn, gd_T, inbT, bd_y, bd2_y, ifp, ifn, not_true_eq_false, not_false_eq_true, and_self, true_and, and_true, false_and, and_false, or_self, true_or, or_true, false_or, or_false, wA_s, wL_s, sA_same, sL_same, sA_L, sL_A, sA_I, sL_I, wI_A, wI_L, wI_same, sA_sA, sL_sL, sA_ne, sL_ne, wI_ne]]
      refine Or.inl ⟨_, rfl, ⟨g, rfl⟩, fun i hi' => ?_⟩
      by_cases w : i = i0
      · rw [w]
        rintro ⟨lf, hlf, hn⟩
        obtain ⟨k, hk, rfl⟩ := (mem lf).mp hlf
        exact hn (hyes k hk)
      · exact hno i (by omega)
  · rintro fu s ⟨⟨g, rfl⟩, hno⟩
    try dsimp only
    rw [F_wrong_L12, inputs_L ((hfr g).1.mb hq)]
    simp only [bd_y]
    rw [ifp (by simp (disch := omega) only [↓reduceIte, ↓lt_y, leT, leF, ltT, ltF, eqT, eqF, n32_lit, n32_add, n32_mul, n32_sub, n32_le, n32_lt, n32_eq, n32_nat, gdn, gd_T, inbT, bd_y, bd2_y, ifp, ifn, not_true_eq_false, not_false_eq_true, and_self, true_and, and_true, false_and, and_false, or_self, true_or, or_true, false_or, or_false, wA_s, wL_s, sA_same, sL_same, sA_L, sL_A, sA_I, sL_I, wI_A, wI_L, wI_same, sA_sA, sL_sL, sA_ne, sL_ne, wI_ne])]
    exact ⟨_, g, rfl, Or.inr ⟨hno, rfl⟩⟩
