set_option maxRecDepth 100000
/-! moves are turns of the places -/
theorem mixp_ok : ∀ n, n < 5 → 2 ≤ n → ∀ w, w < fac n → (mixp n w).length = n ∧ (mixp n w).Nodup ∧ ∀ y ∈ mixp n w, y < n := by
  intro n hn h2
  have : n = 2 ∨ n = 3 ∨ n = 4 := by omega
  rcases this with rfl | rfl | rfl <;> decide
theorem wys_mix {x : Stq} (ho : okS x) (t : sT x = 7) : wys x = fac (wd x) := by
  have hwd := wd_b ho (by omega)
  have o8 := ho.o8 t
  unfold wys
  rw [ifn (by omega), ifn (by omega), ifn (by omega), ifp t]
  have : wd x = 2 ∨ wd x = 3 ∨ wd x = 4 := by omega
  rcases this with q | q | q <;> rw [q] <;> rfl
/-- a list without doubles, as long as it is high, holds all -/
theorem perm_all {l : List Nat} (hn : l.Nodup) (hl : ∀ y ∈ l, y < l.length) : ∀ y, y < l.length → y ∈ l := by
  intro y hy
  apply Classical.byContradiction
  intro hc
  have h1 : (y :: l).Nodup := List.nodup_cons.mpr ⟨hc, hn⟩
  have h2 : (y :: l) ⊆ List.range l.length := by
    intro z hz
    rcases List.mem_cons.mp hz with rfl | hz
    · exact List.mem_range.mpr hy
    · exact List.mem_range.mpr (hl z hz)
  have := h1.length_le_of_subset h2
  simp at this
  omega
theorem getD_of_lt {l : List Nat} {j d : Nat} (h : j < l.length) : l.getD j d = l[j] := by
  simp [List.getD_eq_getElem?_getD, h]
theorem idx_get {l : List Nat} (hn : l.Nodup) {j d : Nat} (h : j < l.length) : l.idxOf (l.getD j d) = j := by
  rw [getD_of_lt h]
  exact List.Nodup.idxOf_getElem hn j h
theorem get_idx {l : List Nat} {y d : Nat} (h : y ∈ l) : l.getD (l.idxOf y) d = y := by
  rw [getD_of_lt (List.idxOf_lt_length_of_mem h)]
  exact List.getElem_idxOf _
theorem rot_lt {a b n p c : Nat} (hab : a ≤ b) (hb : b < c) (hp : p < c) : rot a b n p < c := by
  unfold rot
  split
  · have := Nat.mod_lt (p - a + n) (show 0 < b - a + 1 by omega)
    omega
  · exact hp
theorem rot_rot {a b m p : Nat} (hab : a ≤ b) : rot a b m (rot a b ((b - a + 1) - m % (b - a + 1)) p) = p ∧ rot a b ((b - a + 1) - m % (b - a + 1)) (rot a b m p) = p := by
  have hw : 0 < b - a + 1 := by omega
  by_cases q : a ≤ p ∧ p ≤ b
  · have h1 := rot_inv (n := 0) hab q m
    have h2 := Nat.mod_lt (p - a + ((b - a + 1) - m % (b - a + 1))) hw
    have h3 := Nat.mod_lt (p - a + m) hw
    have h4 := Nat.mod_lt m hw
    constructor
    · have e : rot a b ((b - a + 1) - m % (b - a + 1)) p = a + (p - a + ((b - a + 1) - m % (b - a + 1))) % (b - a + 1) := by rw [rot, ifp q]
      rw [e, rot, ifp (by omega), Nat.add_sub_cancel_left, ← h1]
      omega
    · have e : rot a b m p = a + (p - a + m) % (b - a + 1) := by rw [rot, ifp q]
      rw [e, rot, ifp (by omega), Nat.add_sub_cancel_left]
      have h5 : ((p - a + m) % (b - a + 1) + ((b - a + 1) - m % (b - a + 1))) % (b - a + 1) = p - a := by
        rw [Nat.add_mod, Nat.mod_mod, ← Nat.add_mod, Nat.add_assoc]
        have h2 : m + ((b - a + 1) - m % (b - a + 1)) = (b - a + 1) * (m / (b - a + 1) + 1) := by
          have h3 := Nat.mod_add_div m (b - a + 1)
          rw [Nat.mul_add, Nat.mul_one]
          generalize m / (b - a + 1) = z at h3 ⊢
          generalize m % (b - a + 1) = y at h4 h3 ⊢
          generalize (b - a + 1) * z = u at h3 ⊢
          omega
        rw [h2, Nat.add_mul_mod_self_left]
        exact Nat.mod_eq_of_lt (by omega)
      rw [h5]
      omega
  · have e : ∀ n, rot a b n p = p := fun n => by rw [rot, ifn q]
    simp only [e, and_self]
theorem sfr2 {x : Stq} (t : sT x = 2) (w p : Nat) : sfr x w p = (if p = s1 x then s2 x else if p = s2 x then s1 x else p) ∧ sto x w p = (if p = s1 x then s2 x else if p = s2 x then s1 x else p) := by
  unfold sfr sto; rw [ifp t, ifp t]; exact ⟨rfl, rfl⟩
theorem sfr3 {x : Stq} (t : sT x = 3) (w p : Nat) : sfr x w p = (sl x).getD p p ∧ sto x w p = (if p ∈ sl x then (sl x).idxOf p else p) := by
  unfold sfr sto
  have h2 : ¬ sT x = 2 := by omega
  rw [ifn h2, ifn h2, ifp t, ifp t]; exact ⟨rfl, rfl⟩
theorem sfr7 {x : Stq} (t : sT x = 7) (w p : Nat) : sfr x w p = (if s1 x ≤ p ∧ p ≤ s2 x then s1 x + (mixp (wd x) w).getD (p - s1 x) 0 else p) ∧ sto x w p = (if s1 x ≤ p ∧ p ≤ s2 x then s1 x + (mixp (wd x) w).idxOf (p - s1 x) else p) := by
  unfold sfr sto
  have h2 : ¬ sT x = 2 := by omega
  have h3 : ¬ sT x = 3 := by omega
  rw [ifn h2, ifn h2, ifn h3, ifn h3, ifp t, ifp t]; exact ⟨rfl, rfl⟩
theorem sfr4 {x : Stq} (t : 4 ≤ sT x ∧ sT x ≤ 6) (w p : Nat) : sfr x w p = rot (s1 x) (s2 x) (wd x - sby x w % wd x) p ∧ sto x w p = rot (s1 x) (s2 x) (sby x w) p := by
  unfold sfr sto
  have h2 : ¬ sT x = 2 := by omega
  have h3 : ¬ sT x = 3 := by omega
  have h7 : ¬ sT x = 7 := by omega
  rw [ifn h2, ifn h2, ifn h3, ifn h3, ifn h7, ifn h7, ifp t, ifp t]; exact ⟨rfl, rfl⟩
theorem sfr0 {x : Stq} (t : sT x < 2 ∨ 7 < sT x) (w p : Nat) : sfr x w p = p ∧ sto x w p = p := by
  unfold sfr sto
  have h2 : ¬ sT x = 2 := by omega
  have h3 : ¬ sT x = 3 := by omega
  have h7 : ¬ sT x = 7 := by omega
  have h4 : ¬ (4 ≤ sT x ∧ sT x ≤ 6) := by omega
  rw [ifn h2, ifn h2, ifn h3, ifn h3, ifn h7, ifn h7, ifn h4, ifn h4]; exact ⟨rfl, rfl⟩
theorem need2 {x : Stq} (t : sT x = 2 ∨ sT x = 11) : need x = max (s1 x) (s2 x) + 1 := by unfold need; rw [ifp t]
theorem need3 {x : Stq} (t : sT x = 3 ∨ sT x = 8) : need x = mx (sl x) + 1 := by unfold need; rw [ifn (by omega), ifp t]
theorem need4 {x : Stq} (t : 4 ≤ sT x ∧ sT x ≤ 7) : need x = s2 x + 1 := by unfold need; rw [ifn (by omega), ifn (by omega), ifp t]
/-- what a move does to places, by a way -/
theorem sfr_ok {x : Stq} (ho : okS x) {w : Nat} (hw : w < wys x) (p : Nat) : sfr x w (sto x w p) = p ∧ sto x w (sfr x w p) = p ∧ ∀ c, need x ≤ c → p < c → sfr x w p < c ∧ sto x w p < c := by
  have hT := ho.o12
  by_cases t2 : sT x = 2
  · have o3 := ho.o3 (Or.inl t2)
    simp only [(sfr2 t2 w _).1, (sfr2 t2 w _).2, need2 (Or.inl t2)]
    refine ⟨?_, ?_, fun c hc hp => ?_⟩
    · repeat' split
      all_goals omega
    · repeat' split
      all_goals omega
    · constructor
      · repeat' split
        all_goals omega
      · repeat' split
        all_goals omega
  by_cases t3 : sT x = 3
  · have o4 := ho.o4 t3
    have hall := perm_all o4.2.2.1 o4.2.2.2
    have hmem : ∀ y, y ∈ sl x ↔ y < (sl x).length := fun y => ⟨o4.2.2.2 y, hall y⟩
    have hout : ∀ {p}, ¬ p < (sl x).length → (sl x).getD p p = p := fun {p} q => by rw [List.getD_eq_getElem?_getD, List.getElem?_eq_none (by omega)]; rfl
    have hin : ∀ {p}, p < (sl x).length → (sl x).getD p p < (sl x).length := fun {p} q => by rw [getD_of_lt q]; exact o4.2.2.2 _ (List.getElem_mem q)
    have hmx : ∀ c, mx (sl x) + 1 ≤ c → (sl x).length ≤ c := by
      intro c hc
      have := ((mx_le (sl x) c).mp (by omega)).2 ((sl x).length - 1) (hall _ (by omega))
      omega
    simp only [(sfr3 t3 w _).1, (sfr3 t3 w _).2, need3 (Or.inl t3), hmem]
    refine ⟨?_, ?_, fun c hc hp => ?_⟩
    · by_cases q : p < (sl x).length
      · rw [ifp q, get_idx (hall p q)]
      · rw [ifn q, hout q]
    · by_cases q : p < (sl x).length
      · rw [ifp (hin q), idx_get o4.2.2.1 q]
      · rw [hout q, ifn q]
    · have := hmx c hc
      by_cases q : p < (sl x).length
      · rw [ifp q]
        have h6 := hin q
        have h7 := List.idxOf_lt_length_of_mem (hall p q)
        omega
      · rw [ifn q, hout q]; exact ⟨hp, hp⟩
  by_cases t7 : sT x = 7
  · have o8 := ho.o8 t7
    have hwd := wd_b ho (by omega)
    rw [wys_mix ho t7] at hw
    obtain ⟨m1, m2, m3⟩ := mixp_ok (wd x) (by omega) (by omega) w hw
    have hall : ∀ y, y < wd x → y ∈ mixp (wd x) w := fun y hy => perm_all m2 (by rw [m1]; exact m3) y (by rw [m1]; exact hy)
    have hwx : wd x = s2 x - s1 x + 1 := rfl
    have hidx : ∀ {y}, y < wd x → (mixp (wd x) w).idxOf y < wd x := fun {y} hy => by have := List.idxOf_lt_length_of_mem (hall y hy); omega
    have hget : ∀ {y}, y < wd x → (mixp (wd x) w).getD y 0 < wd x := fun {y} hy => m3 _ (by rw [getD_of_lt (by omega)]; exact List.getElem_mem _)
    simp only [(sfr7 t7 w _).1, (sfr7 t7 w _).2, need4 (x := x) (by omega)]
    by_cases q : s1 x ≤ p ∧ p ≤ s2 x
    · have h5 : p - s1 x < wd x := by omega
      have h6 := hidx h5
      have h7 := hget h5
      refine ⟨?_, ?_, fun c hc hp => ?_⟩
      · rw [ifp q, ifp (by omega), Nat.add_sub_cancel_left, get_idx (hall _ h5)]
        omega
      · rw [ifp q, ifp (by omega), Nat.add_sub_cancel_left, idx_get m2 (by omega)]
        omega
      · rw [ifp q, ifp q]; omega
    · simp only [q, if_false]
      exact ⟨trivial, trivial, fun c hc hp => ⟨hp, hp⟩⟩
  by_cases t4 : 4 ≤ sT x ∧ sT x ≤ 6
  · have hwd := wd_b ho (by omega)
    simp only [(sfr4 t4 w _).1, (sfr4 t4 w _).2, need4 (x := x) (by omega)]
    have := rot_rot (a := s1 x) (b := s2 x) (m := sby x w) (p := p) (by omega)
    exact ⟨this.2, this.1, fun c hc hp => ⟨rot_lt (by omega) hc hp, rot_lt (by omega) hc hp⟩⟩
  · simp only [(sfr0 (x := x) (by omega) w _).1, (sfr0 (x := x) (by omega) w _).2]
    exact ⟨trivial, trivial, fun c hc hp => ⟨hp, hp⟩⟩
/-- rows of so many cards stay so -/
theorem mvr_keep {f : Nat → Nat} {r c : Nat} (hr : r < 2 ^ c) (h : ∀ p, p < 8 → f p < c → p < c) : mvr f r < 2 ^ c := by
  apply lt_of_bits
  intro j hj
  rw [mvr_bit]
  by_cases q : j < 8
  · simp only [q, decide_true, Bool.true_and]
    apply Nat.testBit_lt_two_pow
    apply Nat.lt_of_lt_of_le hr
    apply Nat.pow_le_pow_right (by omega)
    apply Classical.byContradiction
    intro q2
    have := h j q (by omega)
    omega
  · simp [q]
