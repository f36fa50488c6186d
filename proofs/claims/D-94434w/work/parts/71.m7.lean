set_option maxRecDepth 100000
/-! THE REFERENCE's LEAVES -/
theorem cmpZ (x : Int64) : lg_cmp x 0 = 0 ↔ x = 0 := cmp0 x
theorem total_L {σ : MS} {l i : Nat} {D : Dst} (hl : l < 16) (hi : i < 8) (hD : LD σ l D) : F_total σ (n32 l) (n32 i) = some (e64 (sm 256 (D i))) := by
  have hMN := MN_gt
  unfold F_total
  simp (disch := omega) only [↓reduceIte, ↓lt_y, leT, leF, ltT, ltF, eqT, eqF, n32_lit, n32_add, n32_mul, n32_sub, n32_le, n32_lt, n32_eq, n32_nat, gdn, gd_T, inbT, bd_y, bd2_y, ifp, ifn, not_true_eq_false, not_false_eq_true, and_self, true_and, and_true, false_and, and_false, or_self, true_or, or_true, false_or, or_false, wA_s, wL_s, sA_same, sL_same, sA_L, sL_A, sA_I, sL_I, wI_A, wI_L, wI_same, sA_sA, sL_sL, sA_ne, sL_ne, wI_ne]
  obtain ⟨fu, s, rfl, e⟩ := upe (fun fu r (s : Nat) => F_total_L5 σ fu (n32 l) (n32 i) (e64 s) (n32 r)) 0 256 (fun r s => s = sm r (D i))
    (by
      rintro fu r s - hr rfl
      refine ⟨_, ?_, rfl⟩
      simp only [F_total_L5]
      simp (disch := omega) only [↓reduceIte, ↓lt_y, leT, leF, ltT, ltF, eqT, eqF, n32_lit, n32_add, n32_mul, n32_sub, n32_le, n32_lt, n32_eq, n32_nat, gdn, gd_T, inbT, bd_y, bd2_y, ifp, ifn, not_true_eq_false, not_false_eq_true, and_self, true_and, and_true, false_and, and_false, or_self, true_or, or_true, false_or, or_false, wA_s, wL_s, sA_same, sL_same, sA_L, sL_A, sA_I, sL_I, wI_A, wI_L, wI_same, sA_sA, sL_sL, sA_ne, sL_ne, wI_ne, hD i r hi hr, ← e64_add]
      rfl)
    0 MN (by omega) (by omega) rfl
  refine e.trans ?_
  simp only [F_total_L5]
  simp (disch := omega) only [↓reduceIte, ↓lt_y, leT, leF, ltT, ltF, eqT, eqF, n32_lit, n32_add, n32_mul, n32_sub, n32_le, n32_lt, n32_eq, n32_nat, gdn, gd_T, inbT, bd_y, bd2_y, ifp, ifn, not_true_eq_false, not_false_eq_true, and_self, true_and, and_true, false_and, and_false, or_self, true_or, or_true, false_or, or_false, wA_s, wL_s, sA_same, sL_same, sA_L, sL_A, sA_I, sL_I, wI_A, wI_L, wI_same, sA_sA, sL_sL, sA_ne, sL_ne, wI_ne]
/-- what is answered by a row: 10 none, 11 another number -/
def said (kd : Nat) (x : Stq) (r : Nat) : Nat := if kd = 2 then (if s1 x ≤ 9 then s1 x else 11) else if kd = 0 then 10 else if (r >>> s1 x) &&& 1 = (r >>> s2 x) &&& 1 then 10 else (r >>> s1 x) &&& 1
def endS (kd : Nat) (x : Stq) (f : Nat → Nat) : Nat := orr 256 fun r => if f r = 0 then 0 else 1 <<< said kd x r
theorem said_le {kd : Nat} {x : Stq} {r : Nat} : said kd x r ≤ 11 := by
  have := and1_lt r (s1 x)
  unfold said
  repeat' split
  all_goals omega
theorem endS_lt {kd : Nat} {x : Stq} {f : Nat → Nat} : endS kd x f < 4096 := by
  refine orr_lt _ 12 _ fun r hr => ?_
  split
  · decide
  · rw [Nat.one_shiftLeft]
    exact Nat.pow_lt_pow_right (by omega) (by have := said_le (kd := kd) (x := x) (r := r); omega)
theorem orr_lt12 (n : Nat) {kd : Nat} {x : Stq} {f : Nat → Nat} : orr n (fun r => if f r = 0 then 0 else 1 <<< said kd x r) < 4096 := by
  refine orr_lt _ 12 _ fun r hr => ?_
  split
  · decide
  · rw [Nat.one_shiftLeft]
    exact Nat.pow_lt_pow_right (by omega) (by have := said_le (kd := kd) (x := x) (r := r); omega)
theorem endsOf_L {σ : MS} {l i kd e : Nat} {x : Stq} {D : Dst} (hl : l < 16) (hi : i < 8) (hD : LD σ l D) (hb : ∀ r, r < 256 → D i r < 9223372036854775808) (he : e < 104) (h54 : mI σ 54 = n32 e) (hkd : mA σ 49 l = n32 kd) (hk3 : kd < 3) (hs : kd ≠ 0 → MStp σ e x ∧ okS x ∧ ((kd = 1 ∧ sT x = 11) ∨ (kd = 2 ∧ sT x = 12))) :
    F_endsOf σ (n32 l) (n32 i) = some (n32 (endS kd x (D i))) := by
  have hMN := MN_gt
  unfold F_endsOf
  simp (disch := omega) only [↓reduceIte, ↓lt_y, leT, leF, ltT, ltF, eqT, eqF, n32_lit, n32_add, n32_mul, n32_sub, n32_le, n32_lt, n32_eq, n32_nat, gdn, gd_T, inbT, bd_y, bd2_y, ifp, ifn, not_true_eq_false, not_false_eq_true, and_self, true_and, and_true, false_and, and_false, or_self, true_or, or_true, false_or, or_false, wA_s, wL_s, sA_same, sL_same, sA_L, sL_A, sA_I, sL_I, wI_A, wI_L, wI_same, sA_sA, sL_sL, sA_ne, sL_ne, wI_ne, h54]
  obtain ⟨fu, s, rfl, e1⟩ := upe (fun fu r (s : Nat) => F_endsOf_L11 σ fu (n32 l) (n32 i) (n32 s) (n32 e) (n32 r)) 0 256 (fun r s => s = orr r fun r => if D i r = 0 then 0 else 1 <<< said kd x r)
    (by
      rintro fu r s - hr rfl
      have h12 := orr_lt12 r (kd := kd) (x := x) (f := D i)
      refine ⟨_, ?_, rfl⟩
      simp only [F_endsOf_L11]
      rw [orr]
      generalize horr : orr r (fun r => if D i r = 0 then 0 else 1 <<< said kd x r) = acc at h12
      have zl := n32_nat (a := l) (by omega)
      have ze := n32_nat (a := e) (by omega)
      rw [ifn (by simp (disch := omega) only [↓reduceIte, ↓lt_y, leT, leF, ltT, ltF, eqT, eqF, n32_lit, n32_add, n32_mul, n32_sub, n32_le, n32_lt, n32_eq, n32_nat, gdn, gd_T, inbT, bd_y, bd2_y, ifp, ifn, not_true_eq_false, not_false_eq_true, and_self, true_and, and_true, false_and, and_false, or_self, true_or, or_true, false_or, or_false, wA_s, wL_s, sA_same, sL_same, sA_L, sL_A, sA_I, sL_I, wI_A, wI_L, wI_same, sA_sA, sL_sL, sA_ne, sL_ne, wI_ne]), show (2048 : Int32) * n32 l + 256 * n32 i + n32 r = n32 (2048 * l + 256 * i + r) from by simp (disch := omega) only [↓reduceIte, ↓lt_y, leT, leF, ltT, ltF, eqT, eqF, n32_lit, n32_add, n32_mul, n32_sub, n32_le, n32_lt, n32_eq, n32_nat, gdn, gd_T, inbT, bd_y, bd2_y, ifp, ifn, not_true_eq_false, not_false_eq_true, and_self, true_and, and_true, false_and, and_false, or_self, true_or, or_true, false_or, or_false, wA_s, wL_s, sA_same, sL_same, sA_L, sL_A, sA_I, sL_I, wI_A, wI_L, wI_same, sA_sA, sL_sL, sA_ne, sL_ne, wI_ne], gd_y (n32_inb (by omega)), n32_nat (by omega), hD i r hi hr]
      by_cases z : D i r = 0
      · rw [ifp ((cmpZ _).mpr ((e64_ne (hb r hr)).mpr z)), ifp z]
        unfold F_endsOf_b157
        simp (disch := omega) only [↓reduceIte, ↓lt_y, leT, leF, ltT, ltF, eqT, eqF, n32_lit, n32_add, n32_mul, n32_sub, n32_le, n32_lt, n32_eq, n32_nat, gdn, gd_T, inbT, bd_y, bd2_y, ifp, ifn, not_true_eq_false, not_false_eq_true, and_self, true_and, and_true, false_and, and_false, or_self, true_or, or_true, false_or, or_false, wA_s, wL_s, sA_same, sL_same, sA_L, sL_A, sA_I, sL_I, wI_A, wI_L, wI_same, sA_sA, sL_sL, sA_ne, sL_ne, wI_ne]
        rw [Nat.or_zero]
      · rw [ifn (fun q => z ((e64_ne (hb r hr)).mp ((cmpZ _).mp q))), ifn z, gd_y (n32_inb (by omega))]
        simp only [↓lt_y]
        rw [gd_y (n32_inb (by omega))]
        simp only [zl, ze, hkd]
        have b148 : ∀ y, y ≤ 11 → F_endsOf_b148 σ (F_endsOf_b157 σ (F_endsOf_L11 σ fu)) (n32 l) (n32 i) (n32 acc) (n32 e) (n32 r) (n32 y) = F_endsOf_L11 σ fu (n32 l) (n32 i) (n32 (acc ||| 1 <<< y)) (n32 e) (n32 (r + 1)) := by
          intro y hy
          unfold F_endsOf_b148 F_endsOf_b157
          simp only [↓lt_y]
          rw [show (1 : Int32) = n32 1 from rfl, show (31 : Int32) = n32 31 from rfl, n32_shl _ _ (by omega), n32_or, n32_add]
        by_cases k0 : kd = 0
        · have : said kd x r = 10 := by unfold said; rw [ifn (by omega), ifp k0]
          rw [ifn (by simp (disch := omega) only [↓reduceIte, ↓lt_y, leT, leF, ltT, ltF, eqT, eqF, n32_lit, n32_add, n32_mul, n32_sub, n32_le, n32_lt, n32_eq, n32_nat, gdn, gd_T, inbT, bd_y, bd2_y, ifp, ifn, not_true_eq_false, not_false_eq_true, and_self, true_and, and_true, false_and, and_false, or_self, true_or, or_true, false_or, or_false, wA_s, wL_s, sA_same, sL_same, sA_L, sL_A, sA_I, sL_I, wI_A, wI_L, wI_same, sA_sA, sL_sL, sA_ne, sL_ne, wI_ne]), this, ← b148 10 (by omega)]
          unfold F_endsOf_b86 F_endsOf_b141
          simp only [zl, ze, hkd]
          rw [gd_y (n32_inb (by omega)), ifn (by simp (disch := omega) only [↓reduceIte, ↓lt_y, leT, leF, ltT, ltF, eqT, eqF, n32_lit, n32_add, n32_mul, n32_sub, n32_le, n32_lt, n32_eq, n32_nat, gdn, gd_T, inbT, bd_y, bd2_y, ifp, ifn, not_true_eq_false, not_false_eq_true, and_self, true_and, and_true, false_and, and_false, or_self, true_or, or_true, false_or, or_false, wA_s, wL_s, sA_same, sL_same, sA_L, sL_A, sA_I, sL_I, wI_A, wI_L, wI_same, sA_sA, sL_sL, sA_ne, sL_ne, wI_ne]), gd_y (n32_inb (by omega)), ifp (by simp (disch := omega) only [↓reduceIte, ↓lt_y, leT, leF, ltT, ltF, eqT, eqF, n32_lit, n32_add, n32_mul, n32_sub, n32_le, n32_lt, n32_eq, n32_nat, gdn, gd_T, inbT, bd_y, bd2_y, ifp, ifn, not_true_eq_false, not_false_eq_true, and_self, true_and, and_true, false_and, and_false, or_self, true_or, or_true, false_or, or_false, wA_s, wL_s, sA_same, sL_same, sA_L, sL_A, sA_I, sL_I, wI_A, wI_L, wI_same, sA_sA, sL_sL, sA_ne, sL_ne, wI_ne])]
          rfl
        · obtain ⟨hs1, ho, ht⟩ := hs k0
          rcases ht with ⟨k1, t⟩ | ⟨k2, t⟩
          · have a1 := hs1.h2 (by omega)
            have a2 := hs1.h3 (by omega)
            have o3 := ho.o3 (Or.inr t)
            have p1 := and1_lt r (s1 x)
            have p2 := and1_lt r (s2 x)
            have q1 : (n32 r >>> (n32 (s1 x) &&& 31)) &&& 1 = n32 ((r >>> s1 x) &&& 1) := n32_bit r (s1 x) (by omega) (by omega)
            have q2 : (n32 r >>> (n32 (s2 x) &&& 31)) &&& 1 = n32 ((r >>> s2 x) &&& 1) := n32_bit r (s2 x) (by omega) (by omega)
            rw [ifp (by simp (disch := omega) only [↓reduceIte, ↓lt_y, leT, leF, ltT, ltF, eqT, eqF, n32_lit, n32_add, n32_mul, n32_sub, n32_le, n32_lt, n32_eq, n32_nat, gdn, gd_T, inbT, bd_y, bd2_y, ifp, ifn, not_true_eq_false, not_false_eq_true, and_self, true_and, and_true, false_and, and_false, or_self, true_or, or_true, false_or, or_false, wA_s, wL_s, sA_same, sL_same, sA_L, sL_A, sA_I, sL_I, wI_A, wI_L, wI_same, sA_sA, sL_sL, sA_ne, sL_ne, wI_ne]), gd_y (n32_inb (by omega)), a1, a2, q1, q2]
            unfold F_endsOf_b86 F_endsOf_b141
            simp only [zl, ze, hkd]
            rw [gd_y (n32_inb (by omega)), ifn (by simp (disch := omega) only [↓reduceIte, ↓lt_y, leT, leF, ltT, ltF, eqT, eqF, n32_lit, n32_add, n32_mul, n32_sub, n32_le, n32_lt, n32_eq, n32_nat, gdn, gd_T, inbT, bd_y, bd2_y, ifp, ifn, not_true_eq_false, not_false_eq_true, and_self, true_and, and_true, false_and, and_false, or_self, true_or, or_true, false_or, or_false, wA_s, wL_s, sA_same, sL_same, sA_L, sL_A, sA_I, sL_I, wI_A, wI_L, wI_same, sA_sA, sL_sL, sA_ne, sL_ne, wI_ne]), gd_y (n32_inb (by omega)), ifn (by simp (disch := omega) only [↓reduceIte, ↓lt_y, leT, leF, ltT, ltF, eqT, eqF, n32_lit, n32_add, n32_mul, n32_sub, n32_le, n32_lt, n32_eq, n32_nat, gdn, gd_T, inbT, bd_y, bd2_y, ifp, ifn, not_true_eq_false, not_false_eq_true, and_self, true_and, and_true, false_and, and_false, or_self, true_or, or_true, false_or, or_false, wA_s, wL_s, sA_same, sL_same, sA_L, sL_A, sA_I, sL_I, wI_A, wI_L, wI_same, sA_sA, sL_sL, sA_ne, sL_ne, wI_ne])]
            by_cases q : (r >>> s1 x) &&& 1 = (r >>> s2 x) &&& 1
            · have : said kd x r = 10 := by unfold said; rw [ifn (by omega), ifn k0, ifp q]
              rw [ifp (by rw [q]), this, ← b148 10 (by omega)]
              rfl
            · have : said kd x r = (r >>> s1 x) &&& 1 := by unfold said; rw [ifn (by omega), ifn k0, ifn q]
              rw [ifn (by rw [n32_eq ⟨by omega, by omega⟩]; exact q), this, ← b148 _ (by omega)]
          · have a1 := hs1.h2 (by omega)
            have o11 := ho.o11 t
            rw [ifn (by simp (disch := omega) only [↓reduceIte, ↓lt_y, leT, leF, ltT, ltF, eqT, eqF, n32_lit, n32_add, n32_mul, n32_sub, n32_le, n32_lt, n32_eq, n32_nat, gdn, gd_T, inbT, bd_y, bd2_y, ifp, ifn, not_true_eq_false, not_false_eq_true, and_self, true_and, and_true, false_and, and_false, or_self, true_or, or_true, false_or, or_false, wA_s, wL_s, sA_same, sL_same, sA_L, sL_A, sA_I, sL_I, wI_A, wI_L, wI_same, sA_sA, sL_sL, sA_ne, sL_ne, wI_ne])]
            unfold F_endsOf_b86
            simp only [zl, ze, hkd, a1]
            rw [gd_y (n32_inb (by omega)), ifp (by simp (disch := omega) only [↓reduceIte, ↓lt_y, leT, leF, ltT, ltF, eqT, eqF, n32_lit, n32_add, n32_mul, n32_sub, n32_le, n32_lt, n32_eq, n32_nat, gdn, gd_T, inbT, bd_y, bd2_y, ifp, ifn, not_true_eq_false, not_false_eq_true, and_self, true_and, and_true, false_and, and_false, or_self, true_or, or_true, false_or, or_false, wA_s, wL_s, sA_same, sL_same, sA_L, sL_A, sA_I, sL_I, wI_A, wI_L, wI_same, sA_sA, sL_sL, sA_ne, sL_ne, wI_ne]), gd_y (n32_inb (by omega))]
            by_cases q : s1 x ≤ 9
            · have : said kd x r = s1 x := by unfold said; rw [ifp k2, ifp q]
              rw [ifn (by simp (disch := omega) only [↓reduceIte, ↓lt_y, leT, leF, ltT, ltF, eqT, eqF, n32_lit, n32_add, n32_mul, n32_sub, n32_le, n32_lt, n32_eq, n32_nat, gdn, gd_T, inbT, bd_y, bd2_y, ifp, ifn, not_true_eq_false, not_false_eq_true, and_self, true_and, and_true, false_and, and_false, or_self, true_or, or_true, false_or, or_false, wA_s, wL_s, sA_same, sL_same, sA_L, sL_A, sA_I, sL_I, wI_A, wI_L, wI_same, sA_sA, sL_sL, sA_ne, sL_ne, wI_ne]), gd_y (n32_inb (by omega)), this, ← b148 _ (by omega)]
            · have : said kd x r = 11 := by unfold said; rw [ifp k2, ifn q]
              rw [ifp (by simp (disch := omega) only [↓reduceIte, ↓lt_y, leT, leF, ltT, ltF, eqT, eqF, n32_lit, n32_add, n32_mul, n32_sub, n32_le, n32_lt, n32_eq, n32_nat, gdn, gd_T, inbT, bd_y, bd2_y, ifp, ifn, not_true_eq_false, not_false_eq_true, and_self, true_and, and_true, false_and, and_false, or_self, true_or, or_true, false_or, or_false, wA_s, wL_s, sA_same, sL_same, sA_L, sL_A, sA_I, sL_I, wI_A, wI_L, wI_same, sA_sA, sL_sL, sA_ne, sL_ne, wI_ne]), this, ← b148 11 (by omega)]
              rfl)
    0 MN (by omega) (by omega) rfl
  refine e1.trans ?_
  simp only [F_endsOf_L11]
  simp (disch := omega) only [↓reduceIte, ↓lt_y, leT, leF, ltT, ltF, eqT, eqF, n32_lit, n32_add, n32_mul, n32_sub, n32_le, n32_lt, n32_eq, n32_nat, gdn, gd_T, inbT, bd_y, bd2_y, ifp, ifn, not_true_eq_false, not_false_eq_true, and_self, true_and, and_true, false_and, and_false, or_self, true_or, or_true, false_or, or_false, wA_s, wL_s, sA_same, sL_same, sA_L, sL_A, sA_I, sL_I, wI_A, wI_L, wI_same, sA_sA, sL_sL, sA_ne, sL_ne, wI_ne]
  rfl
theorem wI_id (σ : MS) (k : Nat) : wI σ k (mI σ k) = σ := by
  unfold wI mI
  obtain ⟨a, b⟩ := σ
  congr 1
  funext j
  by_cases h : j = k
  · subst h; simp
  · simp [h]
theorem wI_wI (σ : MS) (k : Nat) (u v : Int32) : wI (wI σ k u) k v = wI σ k v := by
  unfold wI
  congr 1
  funext j
  by_cases h : j = k <;> simp [h]
def lfK (lf : Leaf) : List Nat := lf.1
def lfD (lf : Leaf) : Nat := lf.2.1
def lfX (lf : Leaf) : Stq := lf.2.2.1
def lfV (lf : Leaf) : Lv := lf.2.2.2
/-- a path as it is kept -/
def PathR (σ : MS) (N p : Nat) (lf : Leaf) : Prop :=
  mA σ 57 p = n32 (lfK lf).length ∧ (∀ j, j < (lfK lf).length → mA σ 58 (6 * p + j) = n32 ((lfK lf).getD j 0)) ∧ (∀ i, i < 8 → mL σ 61 (8 * p + i) = e64 (if i < N then sm 256 (vD (lfV lf) i) else 0)) ∧
  (∀ i, i < 8 → mA σ 59 (8 * p + i) = n32 (if i < N then endS (lfD lf) (lfX lf) (vD (lfV lf) i) else 0)) ∧ mL σ 62 p = e64 (vW (lfV lf)) ∧ mA σ 60 p = if lfD lf = 2 then n32 (s1 (lfX lf)) else -1
/-- the level of a leaf, as it stands in the reference -/
def LeafAt (σ : MS) (N l : Nat) (lf : Leaf) : Prop :=
  l < 16 ∧ LD σ l (vD (lfV lf)) ∧ (∀ i r, r < 256 → vD (lfV lf) i r < 9223372036854775808) ∧ mL σ 44 l = e64 (vW (lfV lf)) ∧ mA σ 49 l = n32 (lfD lf) ∧ lfD lf < 3 ∧ ∃ e, e < 104 ∧ mI σ 54 = n32 e ∧ (lfD lf ≠ 0 → MStp σ e (lfX lf) ∧ okS (lfX lf) ∧ ((lfD lf = 1 ∧ sT (lfX lf) = 11) ∨ (lfD lf = 2 ∧ sT (lfX lf) = 12)))
theorem LeafAt.fr {is as ls : List Nat} {σ τ : MS} {N l : Nat} {lf : Leaf} (h : LeafAt σ N l lf) (f : Fr is as ls σ τ) (h1 : 54 ∉ is) (h2 : ∀ j, j = 49 ∨ (22 ≤ j ∧ j ≤ 27) → j ∉ as) (h3 : 43 ∉ ls) (h4 : 44 ∉ ls) : LeafAt τ N l lf := by
  obtain ⟨a1, a2, a3, a4, a5, a6, e, a7, a8, a9⟩ := h
  refine ⟨a1, fun i q hi hq => ?_, a3, ?_, ?_, a6, e, a7, ?_, fun z => ?_⟩
  · rw [f.2.2 43 h3]; exact a2 i q hi hq
  · rw [f.2.2 44 h4]; exact a4
  · rw [f.2.1 49 (h2 49 (Or.inl rfl))]; exact a5
  · rw [f.1 54 h1]; exact a8
  · exact ⟨(a9 z).1.fr f fun j q1 q2 => h2 j (Or.inr ⟨q1, q2⟩), (a9 z).2⟩
theorem leaf_ends {σ : MS} {N l i : Nat} {lf : Leaf} (h : LeafAt σ N l lf) (hi : i < 8) : F_endsOf σ (n32 l) (n32 i) = some (n32 (endS (lfD lf) (lfX lf) (vD (lfV lf) i))) := by
  obtain ⟨a1, a2, a3, a4, a5, a6, e, a7, a8, a9⟩ := h
  exact endsOf_L a1 hi a2 (fun r => a3 i r) a7 a8 a5 a6 a9
theorem leaf_total {σ : MS} {N l i : Nat} {lf : Leaf} (h : LeafAt σ N l lf) (hi : i < 8) : F_total σ (n32 l) (n32 i) = some (e64 (sm 256 (vD (lfV lf) i))) := total_L h.1 hi h.2.1
/-- paths but one are as they were -/
def OP (p : Nat) (σ τ : MS) : Prop := (∀ j, j ≠ p → mA τ 57 j = mA σ 57 j ∧ mA τ 60 j = mA σ 60 j ∧ mL τ 62 j = mL σ 62 j) ∧ (∀ j, j < 6 * p ∨ 6 * p + 6 ≤ j → mA τ 58 j = mA σ 58 j) ∧ ∀ j, j < 8 * p ∨ 8 * p + 8 ≤ j → mA τ 59 j = mA σ 59 j ∧ mL τ 61 j = mL σ 61 j
theorem PathR.op {σ τ : MS} {N p q : Nat} {lf : Leaf} (h : PathR σ N q lf) (f : OP p σ τ) (hne : q ≠ p) (h6 : (lfK lf).length ≤ 6) : PathR τ N q lf := by
  obtain ⟨a1, a2, a3, a4, a5, a6⟩ := h
  obtain ⟨f1, f2, f3⟩ := f
  exact ⟨by rw [(f1 q hne).1]; exact a1, fun j hj => by rw [f2 _ (by omega)]; exact a2 j hj, fun i hi => by rw [(f3 _ (by omega)).2]; exact a3 i hi, fun i hi => by rw [(f3 _ (by omega)).1]; exact a4 i hi, by rw [(f1 q hne).2.2]; exact a5, by rw [(f1 q hne).2.1]; exact a6⟩
theorem keepPath_L {σ : MS} {b N l p : Nat} {lf : Leaf} (hB : MB σ b N) (h : LeafAt σ N l lf) (hp : p < 200) (h55 : mI σ 55 = n32 p) (hll : l = (lfK lf).length) (hl6 : l ≤ 6) (hch : ∀ j, j < l → mA σ 50 j = n32 ((lfK lf).getD j 0 + 1)) (hcb : ∀ j, j < l → (lfK lf).getD j 0 < 256) :
    ∃ τ, F_keepPath (n32 l) σ = some τ ∧ Fr [] [57, 58, 59, 60] [61, 62] σ τ ∧ PathR τ N p lf ∧ OP p σ τ := by
  have hMN := MN_gt
  have hN := hB.le
  have zp := n32_nat (a := p) (by omega)
  unfold F_keepPath
  rw [h55, ifp (by simp (disch := omega) only [↓reduceIte, ↓lt_y, leT, leF, ltT, ltF, eqT, eqF, n32_lit, n32_add, n32_mul, n32_sub, n32_le, n32_lt, n32_eq, n32_nat, gdn, gd_T, inbT, bd_y, bd2_y, ifp, ifn, not_true_eq_false, not_false_eq_true, and_self, true_and, and_true, false_and, and_false, or_self, true_or, or_true, false_or, or_false, wA_s, wL_s, sA_same, sL_same, sA_L, sL_A, sA_I, sL_I, wI_A, wI_L, wI_same, sA_sA, sL_sL, sA_ne, sL_ne, wI_ne]), gd_y (n32_inb (by omega))]
  simp only [zp, ↓lt_y]
  rw [wA_s, show (0 : Int32) = n32 0 from rfl]
  obtain ⟨fu, s, ⟨g57, g58, rfl, a1, a2, a3, a4⟩, e⟩ := upe (fun fu j s => F_keepPath_L23 fu (n32 l) (n32 j) s) 0 l
    (fun m s => ∃ g57 g58, s = sA (sA σ 57 g57) 58 g58 ∧ g57 p = n32 m ∧ (∀ j, j ≠ p → g57 j = mA σ 57 j) ∧ (∀ j, j < m → g58 (6 * p + j) = n32 ((lfK lf).getD j 0)) ∧ ∀ j, j < 6 * p ∨ 6 * p + 6 ≤ j → g58 j = mA σ 58 j)
    (by
      rintro fu m s - hm ⟨g57, g58, rfl, a1, a2, a3, a4⟩
      have b1 := hch m hm
      have b2 := hcb m hm
      have zm := n32_nat (a := m) (by omega)
      simp only [F_keepPath_L23]
      simp (disch := omega) only [↓reduceIte, ↓lt_y, leT, leF, ltT, ltF, eqT, eqF, n32_lit, n32_add, n32_mul, n32_sub, n32_le, n32_lt, n32_eq, n32_nat, gdn, gd_T, inbT, bd_y, bd2_y, ifp, ifn, not_true_eq_false, not_false_eq_true, and_self, true_and, and_true, false_and, and_false, or_self, true_or, or_true, false_or, or_false, wA_s, wL_s, sA_same, sL_same, sA_L, sL_A, sA_I, sL_I, wI_A, wI_L, wI_same, sA_sA, sL_sL, sA_ne, sL_ne, wI_ne, h55, a1, b1]
      refine ⟨_, rfl, up0 g57 p (n32 (m + 1)), up0 g58 (6 * p + m) (n32 ((lfK lf).getD m 0)), ?_, ?_, ?_, ?_, ?_⟩
      · rw [Nat.add_sub_cancel]
        exact (sA_comm (j := 58) (k := 57) (by omega)).trans (by rw [sA_sA])
      · simp only [up0, if_true]
      · intro j hj; simp only [up0]; rw [ifn hj]; exact a2 j hj
      · intro j hj
        simp only [up0]
        by_cases q : j = m
        · subst q; rw [ifp rfl]
        · rw [ifn (by omega)]; exact a3 j (by omega)
      · intro j hj
        simp only [up0]
        rw [ifn (by omega)]
        exact a4 j hj)
    (sA σ 57 (up0 (mA σ 57) p (n32 0))) MN (by omega) (by omega) ⟨up0 (mA σ 57) p (n32 0), mA σ 58, by rw [← sA_ne σ 57 58 (up0 (mA σ 57) p (n32 0)) (by omega), sA_id], by simp only [up0, if_true], fun j hj => by simp only [up0]; rw [ifn hj], fun j hj => by omega, fun j _ => rfl⟩
  rw [e]
  simp only [F_keepPath_L23, F_keepPath_b77]
  rw [ifp (by simp (disch := omega) only [↓reduceIte, ↓lt_y, leT, leF, ltT, ltF, eqT, eqF, n32_lit, n32_add, n32_mul, n32_sub, n32_le, n32_lt, n32_eq, n32_nat, gdn, gd_T, inbT, bd_y, bd2_y, ifp, ifn, not_true_eq_false, not_false_eq_true, and_self, true_and, and_true, false_and, and_false, or_self, true_or, or_true, false_or, or_false, wA_s, wL_s, sA_same, sL_same, sA_L, sL_A, sA_I, sL_I, wI_A, wI_L, wI_same, sA_sA, sL_sL, sA_ne, sL_ne, wI_ne]), show (0 : Int32) = n32 0 from rfl]
  generalize hτ1 : sA (sA σ 57 g57) 58 g58 = τ1
  have c1 : Fr [] [57, 58] [] σ τ1 := hτ1 ▸ (Fr.sA σ 57 g57).tr (Fr.sA _ 58 g58) (by simp) (by simp) (by simp)
  have m57 : mA τ1 57 = g57 := by rw [← hτ1, sA_ne _ _ _ _ (by omega), sA_same]
  have m58 : mA τ1 58 = g58 := by rw [← hτ1, sA_same]
  have h1 := h.fr c1 (by simp) (by intro j hj; simp; omega) (by simp) (by simp)
  have hB1 := hB.fr c1 (by simp) (by simp)
  have p55 : mI τ1 55 = n32 p := by rw [c1.1 55 (by simp)]; exact h55
  obtain ⟨fu, s, ⟨g59, g61, rfl, d1, d2, d3, d4⟩, e⟩ := upe (fun fu j s => F_keepPath_L79 fu (n32 l) (n32 j) s) 0 8
    (fun m s => ∃ g59 g61, s = sA (sL τ1 61 g61) 59 g59 ∧ (∀ i, i < m → g61 (8 * p + i) = e64 (if i < N then sm 256 (vD (lfV lf) i) else 0)) ∧ (∀ i, i < m → g59 (8 * p + i) = n32 (if i < N then endS (lfD lf) (lfX lf) (vD (lfV lf) i) else 0)) ∧ (∀ j, j < 8 * p ∨ 8 * p + 8 ≤ j → g61 j = mL τ1 61 j) ∧ ∀ j, j < 8 * p ∨ 8 * p + 8 ≤ j → g59 j = mA τ1 59 j)
    (by
      rintro fu m s - hm ⟨g59, g61, rfl, d1, d2, d3, d4⟩
      have c2 : Fr [] [59] [61] τ1 (sA (sL τ1 61 g61) 59 g59) := (Fr.sL τ1 61 g61).tr (Fr.sA _ 59 g59) (by simp) (by simp) (by simp)
      have h2 := h1.fr c2 (by simp) (by intro j hj; simp; omega) (by simp) (by simp)
      have hB2 := hB1.fr c2 (by simp) (by simp)
      have q55 : mI (sA (sL τ1 61 g61) 59 g59) 55 = n32 p := p55
      simp only [F_keepPath_L79]
      rw [ifn (by simp (disch := omega) only [↓reduceIte, ↓lt_y, leT, leF, ltT, ltF, eqT, eqF, n32_lit, n32_add, n32_mul, n32_sub, n32_le, n32_lt, n32_eq, n32_nat, gdn, gd_T, inbT, bd_y, bd2_y, ifp, ifn, not_true_eq_false, not_false_eq_true, and_self, true_and, and_true, false_and, and_false, or_self, true_or, or_true, false_or, or_false, wA_s, wL_s, sA_same, sL_same, sA_L, sL_A, sA_I, sL_I, wI_A, wI_L, wI_same, sA_sA, sL_sL, sA_ne, sL_ne, wI_ne]), inputs_L hB2]
      simp only [bd_y]
      rw [q55, show (8 : Int32) * n32 p + n32 m = n32 (8 * p + m) from by simp (disch := omega) only [↓reduceIte, ↓lt_y, leT, leF, ltT, ltF, eqT, eqF, n32_lit, n32_add, n32_mul, n32_sub, n32_le, n32_lt, n32_eq, n32_nat, gdn, gd_T, inbT, bd_y, bd2_y, ifp, ifn, not_true_eq_false, not_false_eq_true, and_self, true_and, and_true, false_and, and_false, or_self, true_or, or_true, false_or, or_false, wA_s, wL_s, sA_same, sL_same, sA_L, sL_A, sA_I, sL_I, wI_A, wI_L, wI_same, sA_sA, sL_sL, sA_ne, sL_ne, wI_ne]]
      -- the long, then the int
      have step : ∀ (y : Int64) (z : Nat), y = e64 (if m < N then sm 256 (vD (lfV lf) m) else 0) → z = (if m < N then endS (lfD lf) (lfX lf) (vD (lfV lf) m) else 0) →
          F_keepPath_b116 (F_keepPath_L79 fu) (n32 l) (n32 m) y (n32 (8 * p + m)) (sA (sL τ1 61 g61) 59 g59) = F_keepPath_L79 fu (n32 l) (n32 (m + 1)) (sA (sL τ1 61 (up0 g61 (8 * p + m) y)) 59 (up0 g59 (8 * p + m) (n32 z))) := by
        intro y z hy hz
        unfold F_keepPath_b116 F_keepPath_b148
        have e9 : wL (sA (sL τ1 61 g61) 59 g59) 61 (8 * p + m) y = sA (sL τ1 61 (up0 g61 (8 * p + m) y)) 59 g59 := by
          rw [wL_s, sA_L, sL_same]
          unfold sL sA
          congr 3
          funext x j
          by_cases q : x = 61 <;> simp [q]
        have c3 : Fr [] [59] [61] τ1 (sA (sL τ1 61 (up0 g61 (8 * p + m) y)) 59 g59) := (Fr.sL τ1 61 _).tr (Fr.sA _ 59 g59) (by simp) (by simp) (by simp)
        have h3 := h1.fr c3 (by simp) (by intro j hj; simp; omega) (by simp) (by simp)
        have hB3 := hB1.fr c3 (by simp) (by simp)
        have q56 : mI (sA (sL τ1 61 (up0 g61 (8 * p + m) y)) 59 g59) 55 = n32 p := p55
        have z8 := n32_nat (a := 8 * p + m) (by omega)
        rw [gd_y (n32_inb (by omega)), z8, e9]
        simp only [↓lt_y]
        rw [inputs_L hB3]
        simp only [bd_y]
        rw [q56, show (8 : Int32) * n32 p + n32 m = n32 (8 * p + m) from by simp (disch := omega) only [↓reduceIte, ↓lt_y, leT, leF, ltT, ltF, eqT, eqF, n32_lit, n32_add, n32_mul, n32_sub, n32_le, n32_lt, n32_eq, n32_nat, gdn, gd_T, inbT, bd_y, bd2_y, ifp, ifn, not_true_eq_false, not_false_eq_true, and_self, true_and, and_true, false_and, and_false, or_self, true_or, or_true, false_or, or_false, wA_s, wL_s, sA_same, sL_same, sA_L, sL_A, sA_I, sL_I, wI_A, wI_L, wI_same, sA_sA, sL_sL, sA_ne, sL_ne, wI_ne]]
        by_cases q : N ≤ m
        · rw [ifp (by simp (disch := omega) only [↓reduceIte, ↓lt_y, leT, leF, ltT, ltF, eqT, eqF, n32_lit, n32_add, n32_mul, n32_sub, n32_le, n32_lt, n32_eq, n32_nat, gdn, gd_T, inbT, bd_y, bd2_y, ifp, ifn, not_true_eq_false, not_false_eq_true, and_self, true_and, and_true, false_and, and_false, or_self, true_or, or_true, false_or, or_false, wA_s, wL_s, sA_same, sL_same, sA_L, sL_A, sA_I, sL_I, wI_A, wI_L, wI_same, sA_sA, sL_sL, sA_ne, sL_ne, wI_ne]), gd_y (n32_inb (by omega)), z8, wA_s, sA_same, sA_sA, show n32 m + (1 : Int32) = n32 (m + 1) from by simp (disch := omega) only [↓reduceIte, ↓lt_y, leT, leF, ltT, ltF, eqT, eqF, n32_lit, n32_add, n32_mul, n32_sub, n32_le, n32_lt, n32_eq, n32_nat, gdn, gd_T, inbT, bd_y, bd2_y, ifp, ifn, not_true_eq_false, not_false_eq_true, and_self, true_and, and_true, false_and, and_false, or_self, true_or, or_true, false_or, or_false, wA_s, wL_s, sA_same, sL_same, sA_L, sL_A, sA_I, sL_I, wI_A, wI_L, wI_same, sA_sA, sL_sL, sA_ne, sL_ne, wI_ne]]
          rw [ifn (by omega)] at hz
          rw [hz]
          rfl
        · rw [ifn (by simp (disch := omega) only [↓reduceIte, ↓lt_y, leT, leF, ltT, ltF, eqT, eqF, n32_lit, n32_add, n32_mul, n32_sub, n32_le, n32_lt, n32_eq, n32_nat, gdn, gd_T, inbT, bd_y, bd2_y, ifp, ifn, not_true_eq_false, not_false_eq_true, and_self, true_and, and_true, false_and, and_false, or_self, true_or, or_true, false_or, or_false, wA_s, wL_s, sA_same, sL_same, sA_L, sL_A, sA_I, sL_I, wI_A, wI_L, wI_same, sA_sA, sL_sL, sA_ne, sL_ne, wI_ne]), leaf_ends h3 (by omega)]
          simp only [bd_y]
          rw [gd_y (n32_inb (by omega)), z8, wA_s, sA_same, sA_sA, show n32 m + (1 : Int32) = n32 (m + 1) from by simp (disch := omega) only [↓reduceIte, ↓lt_y, leT, leF, ltT, ltF, eqT, eqF, n32_lit, n32_add, n32_mul, n32_sub, n32_le, n32_lt, n32_eq, n32_nat, gdn, gd_T, inbT, bd_y, bd2_y, ifp, ifn, not_true_eq_false, not_false_eq_true, and_self, true_and, and_true, false_and, and_false, or_self, true_or, or_true, false_or, or_false, wA_s, wL_s, sA_same, sL_same, sA_L, sL_A, sA_I, sL_I, wI_A, wI_L, wI_same, sA_sA, sL_sL, sA_ne, sL_ne, wI_ne]]
          rw [ifp (by omega)] at hz
          rw [hz]
      have fin : ∀ (y : Int64) (z : Nat), y = e64 (if m < N then sm 256 (vD (lfV lf) m) else 0) → z = (if m < N then endS (lfD lf) (lfX lf) (vD (lfV lf) m) else 0) →
          ∃ s', F_keepPath_b116 (F_keepPath_L79 fu) (n32 l) (n32 m) y (n32 (8 * p + m)) (sA (sL τ1 61 g61) 59 g59) = F_keepPath_L79 fu (n32 l) (n32 (m + 1)) s' ∧ ∃ g59 g61, s' = sA (sL τ1 61 g61) 59 g59 ∧ (∀ i, i < m + 1 → g61 (8 * p + i) = e64 (if i < N then sm 256 (vD (lfV lf) i) else 0)) ∧ (∀ i, i < m + 1 → g59 (8 * p + i) = n32 (if i < N then endS (lfD lf) (lfX lf) (vD (lfV lf) i) else 0)) ∧ (∀ j, j < 8 * p ∨ 8 * p + 8 ≤ j → g61 j = mL τ1 61 j) ∧ ∀ j, j < 8 * p ∨ 8 * p + 8 ≤ j → g59 j = mA τ1 59 j := by
        intro y z hy hz
        refine ⟨_, step y z hy hz, _, _, rfl, fun i hi => ?_, fun i hi => ?_, fun j hj => ?_, fun j hj => ?_⟩
        · simp only [up0]
          by_cases q : i = m
          · subst q; rw [ifp rfl]; exact hy
          · rw [ifn (by omega)]; exact d1 i (by omega)
        · simp only [up0]
          by_cases q : i = m
          · subst q; rw [ifp rfl, hz]
          · rw [ifn (by omega)]; exact d2 i (by omega)
        · simp only [up0]; rw [ifn (by omega)]; exact d3 j hj
        · simp only [up0]; rw [ifn (by omega)]; exact d4 j hj
      by_cases q : N ≤ m
      · rw [ifp (by simp (disch := omega) only [↓reduceIte, ↓lt_y, leT, leF, ltT, ltF, eqT, eqF, n32_lit, n32_add, n32_mul, n32_sub, n32_le, n32_lt, n32_eq, n32_nat, gdn, gd_T, inbT, bd_y, bd2_y, ifp, ifn, not_true_eq_false, not_false_eq_true, and_self, true_and, and_true, false_and, and_false, or_self, true_or, or_true, false_or, or_false, wA_s, wL_s, sA_same, sL_same, sA_L, sL_A, sA_I, sL_I, wI_A, wI_L, wI_same, sA_sA, sL_sL, sA_ne, sL_ne, wI_ne])]
        exact fin _ _ (by rw [ifn (by omega)]; rfl) rfl
      · rw [ifn (by simp (disch := omega) only [↓reduceIte, ↓lt_y, leT, leF, ltT, ltF, eqT, eqF, n32_lit, n32_add, n32_mul, n32_sub, n32_le, n32_lt, n32_eq, n32_nat, gdn, gd_T, inbT, bd_y, bd2_y, ifp, ifn, not_true_eq_false, not_false_eq_true, and_self, true_and, and_true, false_and, and_false, or_self, true_or, or_true, false_or, or_false, wA_s, wL_s, sA_same, sL_same, sA_L, sL_A, sA_I, sL_I, wI_A, wI_L, wI_same, sA_sA, sL_sL, sA_ne, sL_ne, wI_ne]), leaf_total h2 (by omega)]
        simp only [bd_y]
        exact fin _ _ (by rw [ifp (by omega)]) rfl)
    τ1 MN (by omega) (by omega) ⟨mA τ1 59, mL τ1 61, by rw [sL_id, sA_id], fun i hi => by omega, fun i hi => by omega, fun j _ => rfl, fun j _ => rfl⟩
  rw [e]
  simp only [F_keepPath_L79, F_keepPath_b155]
  rw [ifp (by simp (disch := omega) only [↓reduceIte, ↓lt_y, leT, leF, ltT, ltF, eqT, eqF, n32_lit, n32_add, n32_mul, n32_sub, n32_le, n32_lt, n32_eq, n32_nat, gdn, gd_T, inbT, bd_y, bd2_y, ifp, ifn, not_true_eq_false, not_false_eq_true, and_self, true_and, and_true, false_and, and_false, or_self, true_or, or_true, false_or, or_false, wA_s, wL_s, sA_same, sL_same, sA_L, sL_A, sA_I, sL_I, wI_A, wI_L, wI_same, sA_sA, sL_sL, sA_ne, sL_ne, wI_ne])]
  generalize hτ2 : sA (sL τ1 61 g61) 59 g59 = τ2
  have c2 : Fr [] [59] [61] τ1 τ2 := hτ2 ▸ (Fr.sL τ1 61 g61).tr (Fr.sA _ 59 g59) (by simp) (by simp) (by simp)
  have h2 := h1.fr c2 (by simp) (by intro j hj; simp; omega) (by simp) (by simp)
  have p552 : mI τ2 55 = n32 p := by rw [c2.1 55 (by simp)]; exact p55
  have m59 : mA τ2 59 = g59 := by rw [← hτ2, sA_same]
  have m61 : mL τ2 61 = g61 := by rw [← hτ2, sA_L, sL_same]
  obtain ⟨l16, -, -, h44, h49, h3, ee, he1, he2, he3⟩ := h2
  have zl := n32_nat (a := l) (by omega)
  have ze := n32_nat (a := ee) (by omega)
  rw [gd_y (n32_inb (by omega)), p552, gd_y (n32_inb (by omega)), zp]
  simp only [zl]
  rw [h44, wL_s]
  simp only [↓lt_y]
  generalize hτ3 : sL τ2 62 (up0 (mL τ2 62) p (e64 (vW (lfV lf)))) = τ3
  have c3 : Fr [] [] [62] τ2 τ3 := hτ3 ▸ Fr.sL τ2 62 _
  have m62 : mL τ3 62 = up0 (mL τ2 62) p (e64 (vW (lfV lf))) := by rw [← hτ3, sL_same]
  rw [gd_y (n32_inb (by omega)), show mA τ3 49 l = n32 (lfD lf) from by rw [c3.2.1 49 (by simp)]; exact h49, show mI τ3 55 = n32 p from by rw [c3.1 55 (by simp)]; exact p552, show mI τ3 54 = n32 ee from by rw [c3.1 54 (by simp)]; exact he2]
  have fin : ∀ y : Int32, y = (if lfD lf = 2 then n32 (s1 (lfX lf)) else -1) → ∃ τ, F_keepPath_b201 y (n32 p) τ3 = some τ ∧ Fr [] [57, 58, 59, 60] [61, 62] σ τ ∧ PathR τ N p lf ∧ OP p σ τ := by
    intro y hy
    unfold F_keepPath_b201
    rw [gd_y (n32_inb (by omega)), zp, wA_s]
    simp only [↓lt_y]
    have c4 : Fr [] [60] [] τ3 (sA τ3 60 (up0 (mA τ3 60) p y)) := Fr.sA _ _ _
    have cA : Fr [] [57, 58, 59] [61] σ τ2 := c1.tr c2 (by simp) (by simp <;> omega) (by simp)
    have cB : Fr [] [57, 58, 59] [61, 62] σ τ3 := cA.tr c3 (by simp) (by simp) (by simp <;> omega)
    refine ⟨_, rfl, cB.tr c4 (by simp) (by simp <;> omega) (by simp <;> omega), ⟨?_, ?_, ?_, ?_, ?_, ?_⟩, ⟨fun j hj => ⟨?_, ?_, ?_⟩, fun j hj => ?_, fun j hj => ⟨?_, ?_⟩⟩⟩
    · rw [c4.2.1 57 (by simp), c3.2.1 57 (by simp), c2.2.1 57 (by simp), m57, a1, hll]
    · intro j hj
      rw [c4.2.1 58 (by simp), c3.2.1 58 (by simp), c2.2.1 58 (by simp), m58, a3 j (by omega)]
    · intro i hi
      rw [c4.2.2 61 (by simp), c3.2.2 61 (by simp), m61, d1 i hi]
    · intro i hi
      rw [c4.2.1 59 (by simp), c3.2.1 59 (by simp), m59, d2 i hi]
    · rw [c4.2.2 62 (by simp), m62, up0, ifp rfl]
    · rw [sA_same, up0, ifp rfl]; exact hy
    · rw [c4.2.1 57 (by simp), c3.2.1 57 (by simp), c2.2.1 57 (by simp), m57, a2 j hj]
    · rw [sA_same, up0, ifn hj, cB.2.1 60 (by simp)]
    · rw [c4.2.2 62 (by simp), m62, up0, ifn hj, cA.2.2 62 (by simp)]
    · rw [c4.2.1 58 (by simp), c3.2.1 58 (by simp), c2.2.1 58 (by simp), m58, a4 j hj]
    · rw [c4.2.1 59 (by simp), c3.2.1 59 (by simp), m59, d4 j hj, c1.2.1 59 (by simp)]
    · rw [c4.2.2 61 (by simp), c3.2.2 61 (by simp), m61, d3 j hj, c1.2.2 61 (by simp)]
  by_cases q : lfD lf = 2
  · obtain ⟨k1, k2, k3⟩ := he3 (by omega)
    rw [ifp (by simp (disch := omega) only [↓reduceIte, ↓lt_y, leT, leF, ltT, ltF, eqT, eqF, n32_lit, n32_add, n32_mul, n32_sub, n32_le, n32_lt, n32_eq, n32_nat, gdn, gd_T, inbT, bd_y, bd2_y, ifp, ifn, not_true_eq_false, not_false_eq_true, and_self, true_and, and_true, false_and, and_false, or_self, true_or, or_true, false_or, or_false, wA_s, wL_s, sA_same, sL_same, sA_L, sL_A, sA_I, sL_I, wI_A, wI_L, wI_same, sA_sA, sL_sL, sA_ne, sL_ne, wI_ne]), gd_y (n32_inb (by omega)), ze, show mA τ3 23 ee = n32 (s1 (lfX lf)) from by rw [c3.2.1 23 (by simp)]; exact k1.h2 (by omega)]
    exact fin _ (by rw [ifp q])
  · rw [ifn (by simp (disch := omega) only [↓reduceIte, ↓lt_y, leT, leF, ltT, ltF, eqT, eqF, n32_lit, n32_add, n32_mul, n32_sub, n32_le, n32_lt, n32_eq, n32_nat, gdn, gd_T, inbT, bd_y, bd2_y, ifp, ifn, not_true_eq_false, not_false_eq_true, and_self, true_and, and_true, false_and, and_false, or_self, true_or, or_true, false_or, or_false, wA_s, wL_s, sA_same, sL_same, sA_L, sL_A, sA_I, sL_I, wI_A, wI_L, wI_same, sA_sA, sL_sL, sA_ne, sL_ne, wI_ne])]
    exact fin _ (by rw [ifn q])
