set_option maxRecDepth 100000
/-! runs of letters, digits, blanks -/
theorem dw_drop (P : Nat → Bool) (u : List Nat) : u.dropWhile P = u.drop (u.takeWhile P).length := by
  induction u with
  | nil => rfl
  | cons c u ih =>
    cases h : P c with
    | true => simp [h, ih]
    | false => simp [h]
theorem tw_get (P : Nat → Bool) (u : List Nat) : (∀ j, j < (u.takeWhile P).length → ∃ c, u[j]? = some c ∧ P c = true ∧ (u.takeWhile P)[j]? = some c) ∧ ∀ c, u[(u.takeWhile P).length]? = some c → P c = false := by
  induction u with
  | nil => exact ⟨fun j h => by simp at h, fun c h => by simp at h⟩
  | cons a u ih =>
    cases h : P a with
    | true =>
      simp only [List.takeWhile_cons, h, if_true, List.length_cons]
      refine ⟨fun j hj => ?_, fun c hc => ?_⟩
      · cases j with
        | zero => exact ⟨a, rfl, h, rfl⟩
        | succ j =>
          obtain ⟨c, h1, h2, h3⟩ := ih.1 j (by omega)
          exact ⟨c, by simpa using h1, h2, by simpa using h3⟩
      · exact ih.2 c (by simpa using hc)
    | false =>
      simp only [List.takeWhile_cons, h]
      refine ⟨fun j hj => by simp at hj, fun c hc => ?_⟩
      simp at hc
      rw [← hc]; exact h
theorem tw_in (P : Nat → Bool) (t : List Nat) (e j : Nat) (h : j < ((t.drop e).takeWhile P).length) : ∃ c, t[e + j]? = some c ∧ P c = true ∧ ((t.drop e).takeWhile P)[j]? = some c := by
  obtain ⟨c, h1, h2, h3⟩ := (tw_get P (t.drop e)).1 j h
  exact ⟨c, by rw [List.getElem?_drop] at h1; exact h1, h2, h3⟩
theorem tw_out (P : Nat → Bool) (t : List Nat) (e : Nat) (c : Nat) (h : t[e + ((t.drop e).takeWhile P).length]? = some c) : P c = false :=
  (tw_get P (t.drop e)).2 c (by rw [List.getElem?_drop]; exact h)
theorem tw_le (P : Nat → Bool) (t : List Nat) (e : Nat) : ((t.drop e).takeWhile P).length ≤ t.length - e := by
  have := (List.takeWhile_prefix P (l := t.drop e)).length_le
  rw [List.length_drop] at this; exact this
theorem drop_cons {t : List Nat} {p c : Nat} (h : t[p]? = some c) : t.drop p = c :: t.drop (p + 1) := by
  have hp : p < t.length := (List.getElem?_eq_some_iff.mp h).1
  rw [List.drop_eq_getElem_cons hp]
  congr 1
  rw [List.getElem?_eq_getElem hp] at h; cases h; rfl
/-! the reference's text and tokens -/
def MTx (σ : MS) (t : List Nat) : Prop := mI σ 3 = n32 t.length ∧ t.length ≤ 1600 ∧ (∀ k c, t[k]? = some c → mA σ 1 k &&& 255 = n32 c) ∧ ∀ c ∈ t, c < 256
theorem MTx.fr {is as ls : List Nat} {σ τ : MS} {t : List Nat} (h : MTx σ t) (f : Fr is as ls σ τ) (h1 : 3 ∉ is) (h2 : 1 ∉ as) : MTx τ t := ⟨by rw [f.1 3 h1]; exact h.1, h.2.1, fun k c hk => by rw [f.2.1 1 h2]; exact h.2.2.1 k c hk, h.2.2.2⟩
theorem sign_L {σ : MS} {t : List Nat} (h : MTx σ t) {k : Nat} (hk : k < 2147483648) : F_sign σ (n32 k) = some (n32 (t.getD k 0)) := by
  unfold F_sign
  have hl := h.2.1
  rw [h.1]
  by_cases q : t.length ≤ k
  · rw [ifp ((n32_le ⟨by omega, hk⟩).mpr q), List.getD_eq_getElem?_getD, List.getElem?_eq_none q]
    rfl
  · rw [ifn (fun z => q ((n32_le ⟨by omega, hk⟩).mp z)), gd_y (n32_inb (by omega)), n32_nat hk, h.2.2.1 k (t.getD k 0) (by rw [List.getD_eq_getElem?_getD, List.getElem?_eq_getElem (by omega)]; rfl)]
theorem MTx.lt {σ : MS} {t : List Nat} (h : MTx σ t) (k : Nat) : t.getD k 0 < 256 := by
  by_cases q : k < t.length
  · rw [List.getD_eq_getElem?_getD, List.getElem?_eq_getElem q]
    exact h.2.2.2 _ (List.getElem_mem q)
  · rw [List.getD_eq_getElem?_getD, List.getElem?_eq_none (by omega)]; decide
theorem isL_L {c : Nat} (hc : c < 256) : F_isLetter (n32 c) = some (if isL c = true then n32 1 else n32 0) := by
  rw [isLetter_L c (by omega)]
  unfold b32 isL
  by_cases q : 97 ≤ c ∧ c ≤ 122
  · rw [ifp q, ifp (by simpa using q)]
  · rw [ifn q, ifn (by simpa using q)]
theorem isDg_L {c : Nat} (hc : c < 256) : F_isDigit (n32 c) = some (if isDg c = true then n32 1 else n32 0) := by
  unfold F_isDigit isDg
  rw [show (48 : Int32) = n32 48 from rfl, show (57 : Int32) = n32 57 from rfl]
  by_cases q : c < 48
  · rw [ifp ((n32_lt ⟨by omega, by omega⟩).mpr q), ifn (by simp; omega)]; rfl
  · rw [ifn (fun z => q ((n32_lt ⟨by omega, by omega⟩).mp z))]
    by_cases q2 : 57 < c
    · rw [ifp ((n32_lt ⟨by omega, by omega⟩).mpr q2), ifn (by simp; omega)]; rfl
    · rw [ifn (fun z => q2 ((n32_lt ⟨by omega, by omega⟩).mp z)), ifp (by simp; omega)]; rfl
theorem isSg_L {c : Nat} (hc : c < 256) : F_isSign (n32 c) = some (if isSg c = true then n32 1 else n32 0) := by
  have key : ∀ c, c < 256 → F_isSign (n32 c) = some (if isSg c = true then n32 1 else n32 0) := by decide
  exact key c hc
theorem kc {v w : Nat} (hv : v < 9223372036854775808) (hw : w < 9223372036854775808) : lg_cmp (e64 v) (e64 w) = 0 ↔ v = w := by rw [lg_eq, e64_inj hv hw]
theorem e64_lit (n : Nat) : (OfNat.ofNat n : Int64) = e64 (OfNat.ofNat n) := eqr rfl
theorem isKept_L {v : Nat} (hv : v < 9223372036854775808) : F_isKept (e64 v) = some (if v ∈ kept then n32 1 else n32 0) := by
  by_cases q : v ∈ kept
  · rw [ifp q]
    simp only [kept, List.mem_cons, List.not_mem_nil, or_false] at q
    rcases q with rfl | rfl | rfl | rfl | rfl | rfl | rfl | rfl | rfl | rfl | rfl | rfl | rfl | rfl | rfl | rfl | rfl | rfl | rfl | rfl | rfl | rfl | rfl | rfl | rfl | rfl | rfl | rfl <;> decide
  · rw [ifn q]
    simp only [kept, List.mem_cons, List.not_mem_nil, or_false, not_or] at q
    obtain ⟨q1, q2, q3, q4, q5, q6, q7, q8, q9, q10, q11, q12, q13, q14, q15, q16, q17, q18, q19, q20, q21, q22, q23, q24, q25, q26, q27, q28⟩ := q
    have k : ∀ w, w < 9223372036854775808 → v ≠ w → ¬ lg_cmp (e64 v) (e64 w) = 0 := fun w hw h z => h ((kc hv hw).mp z)
    unfold F_isKept F_isKept_b117
    simp only [e64_lit]
    rw [ifn (k _ (by decide) q1), ifn (k _ (by decide) q2), ifn (k _ (by decide) q3), ifn (k _ (by decide) q4), ifn (k _ (by decide) q5), ifn (k _ (by decide) q6), ifn (k _ (by decide) q7), ifn (k _ (by decide) q8), ifn (k _ (by decide) q9), ifn (k _ (by decide) q10), ifn (k _ (by decide) q11), ifn (k _ (by decide) q12), ifn (k _ (by decide) q13), ifn (k _ (by decide) q14), ifp trivial,
      ifn (k _ (by decide) q15), ifn (k _ (by decide) q16), ifn (k _ (by decide) q17), ifn (k _ (by decide) q18), ifn (k _ (by decide) q19), ifn (k _ (by decide) q20), ifn (k _ (by decide) q21), ifn (k _ (by decide) q22), ifn (k _ (by decide) q23), ifn (k _ (by decide) q24), ifn (k _ (by decide) q25), ifn (k _ (by decide) q26), ifn (k _ (by decide) q27), ifn (k _ (by decide) q28)]
    rfl
theorem pck_snoc (w : List Nat) (c : Nat) : pck (w ++ [c]) = 256 * pck w + c := by unfold pck; rw [List.foldl_append]; rfl
theorem dgv_snoc (w : List Nat) (c : Nat) : dgv (w ++ [c]) = 10 * dgv w + (c - 48) := by unfold dgv; rw [List.foldl_append]; rfl
theorem e64_shl {a c : Nat} (hc : c < 256) : (e64 a <<< (Int32.toInt64 (8 : Int32) &&& 63)) ||| (n32 c).toInt64 = e64 (256 * a + c) := by
  rw [n32_e64 (by omega)]
  have e8 : (Int32.toInt64 (8 : Int32) &&& 63) = 8 := by decide
  rw [e8]
  apply Int64.toBitVec_inj.mp
  rw [Int64.toBitVec_or, Int64.toBitVec_shiftLeft]
  have e1 : ∀ n : Nat, (e64 n).toBitVec = BitVec.ofNat 64 n := fun n => rfl
  have e2 : ((8 : Int64).toBitVec.smod 64) = 8#64 := by decide
  rw [e1, e1, e1, e2]
  apply BitVec.eq_of_toNat_eq
  rw [BitVec.toNat_or, BitVec.shiftLeft_eq', BitVec.toNat_shiftLeft, BitVec.toNat_ofNat, BitVec.toNat_ofNat, BitVec.toNat_ofNat]
  rw [BitVec.toNat_ofNat, show 8 % 2 ^ 64 = 8 from rfl, Nat.shiftLeft_eq]
  have e4 : c % 2 ^ 64 = c := Nat.mod_eq_of_lt (by omega)
  have e5 : (a % 2 ^ 64) * 2 ^ 8 % 2 ^ 64 = (a % 2 ^ 56) * 2 ^ 8 := by omega
  rw [e4, e5, ← Nat.shiftLeft_eq, ← Nat.shiftLeft_add_eq_or_of_lt (by omega : c < 2 ^ 8), Nat.shiftLeft_eq]
  omega
theorem take_snoc {w : List Nat} {j c : Nat} (h : w[j]? = some c) : w.take (j + 1) = w.take j ++ [c] := by
  rw [List.take_add_one, h]; rfl
theorem pck_b {w : List Nat} (hw : ∀ c ∈ w, c < 128) : ∀ j, 1 ≤ j → j ≤ w.length → 2 * pck (w.take j) + 2 ≤ 256 ^ j := by
  intro j
  induction j with
  | zero => intro h; omega
  | succ j ih =>
    intro _ hj
    have hc := hw _ (List.getElem_mem (show j < w.length by omega))
    rw [take_snoc (List.getElem?_eq_getElem (show j < w.length by omega)), pck_snoc]
    rcases Nat.eq_zero_or_pos j with z | z
    · subst z
      rw [List.take_zero]
      have : pck [] = 0 := rfl
      omega
    · have := ih z (by omega)
      rw [Nat.pow_succ]
      omega
theorem pck_lt {w : List Nat} (hw : ∀ c ∈ w, c < 128) (h8 : w.length ≤ 8) : pck w < 9223372036854775808 := by
  rcases Nat.eq_zero_or_pos w.length with z | z
  · rw [List.length_eq_zero_iff.mp z]; decide
  · have := pck_b hw w.length z (Nat.le_refl _)
    rw [List.take_length] at this
    have h2 : 256 ^ w.length ≤ 256 ^ 8 := Nat.pow_le_pow_right (by omega) h8
    have h3 : (256 : Nat) ^ 8 = 18446744073709551616 := by decide
    omega
theorem dgv_b {w : List Nat} (hw : ∀ c ∈ w, 48 ≤ c ∧ c ≤ 57) : ∀ j, j ≤ w.length → dgv (w.take j) + 1 ≤ 10 ^ j := by
  intro j
  induction j with
  | zero => intro h; rw [List.take_zero]; decide
  | succ j ih =>
    intro hj
    have hc := hw _ (List.getElem_mem (show j < w.length by omega))
    rw [take_snoc (List.getElem?_eq_getElem (show j < w.length by omega)), dgv_snoc, Nat.pow_succ]
    have := ih (by omega)
    omega
theorem dgv_lt {w : List Nat} (hw : ∀ c ∈ w, 48 ≤ c ∧ c ≤ 57) (h8 : w.length ≤ 4) : dgv w ≤ 9999 := by
  have := dgv_b hw w.length (Nat.le_refl _)
  rw [List.take_length] at this
  have h2 : 10 ^ w.length ≤ 10 ^ 4 := Nat.pow_le_pow_right (by omega) h8
  have h3 : (10 : Nat) ^ 4 = 10000 := by decide
  omega
theorem tw_mem {P : Nat → Bool} {u : List Nat} {c : Nat} (h : c ∈ u.takeWhile P) : P c = true := by
  obtain ⟨j, hj, e⟩ := List.getElem_of_mem h
  obtain ⟨c', -, h2, h3⟩ := (tw_get P u).1 j hj
  rw [List.getElem?_eq_getElem hj] at h3
  cases h3
  rw [← e]; exact h2
