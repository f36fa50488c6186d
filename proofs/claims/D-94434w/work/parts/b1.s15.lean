set_option maxRecDepth 100000
/-! what is read is as it may be -/
def Sx (l' l : List Tk) : Prop := l'.length < l.length ∧ (tkO l → tkO l')
theorem Sx.tr {a b c : List Tk} (h : Sx a b) (h' : Sx b c) : Sx a c := ⟨by have := h.1; have := h'.1; omega, fun k => h.2 (h'.2 k)⟩
theorem Sx.tl {l : List Tk} (h : 2 ≤ kS (cur l)) : Sx l.tail l := ⟨by have := tl_lt h; omega, fun k => k.tl⟩
theorem Sx.ok {a b : List Tk} (h : Sx a b) (hb : tkO b) : tkO a := h.2 hb
theorem rbd_inr {α β : Type} {a : Rs α} {k : α → Rs β} {y : β} (h : rbd a k = .inr y) : ∃ x, a = .inr x ∧ k x = .inr y := by
  cases a with
  | inl e => cases h
  | inr x => exact ⟨x, rfl, h⟩
theorem pNum_i {lo hi : Nat} {l : List Tk} {a : Nat × List Tk} (h : pNum lo hi l = .inr a) : lo ≤ a.1 ∧ a.1 ≤ hi ∧ a.2 = l.tail ∧ Sx a.2 l := by
  unfold pNum at h
  by_cases q : kS (cur l) = 4
  · rw [ifp q] at h
    by_cases q2 : kV (cur l) < lo ∨ hi < kV (cur l)
    · rw [ifp q2] at h; cases h
    · rw [ifn q2] at h; cases h
      exact ⟨by show lo ≤ kV (cur l); omega, by show kV (cur l) ≤ hi; omega, rfl, Sx.tl (by omega)⟩
  · rw [ifn q] at h; cases h
theorem pMust_i {b : Bool} {l l' : List Tk} (h : pMust b l = .inr l') : b = true ∧ l' = l.tail := by
  unfold pMust at h
  cases b with
  | true => cases h; exact ⟨rfl, rfl⟩
  | false => cases h
theorem mustW_i {w : Nat} {l l' : List Tk} (h : pMust (isW l w) l = .inr l') : Sx l' l := by
  obtain ⟨h1, rfl⟩ := pMust_i h
  exact Sx.tl (isW_2 h1)
theorem mustC_i {w : Nat} {l l' : List Tk} (h : pMust (isC l w) l = .inr l') : Sx l' l := by
  obtain ⟨h1, rfl⟩ := pMust_i h
  exact Sx.tl (isC_2 h1)
theorem pCol_i {l : List Tk} {a : Nat × List Tk} (h : pCol l = .inr a) : a.1 < 2 ∧ Sx a.2 l := by
  unfold pCol at h
  split at h
  · rename_i z; cases h; exact ⟨by show 1 < 2; omega, Sx.tl (isW_2 z)⟩
  · split at h
    · rename_i z; cases h; exact ⟨by show 0 < 2; omega, Sx.tl (isW_2 z)⟩
    · cases h
theorem pWho_i {P : Nat} {l : List Tk} {a : Nat × List Tk} (h : pWho P l = .inr a) : a.1 < P ∧ Sx a.2 l := by
  unfold pWho at h
  cases hw : whoK l with
  | none => rw [hw] at h; cases h
  | some p =>
    rw [hw] at h
    have h' : (if p < P then .inr (p, l.tail) else .inl (4, kP (cur l))) = (.inr a : Rs (Nat × List Tk)) := h
    by_cases q : p < P
    · rw [ifp q] at h'; cases h'; exact ⟨q, Sx.tl (whoK_lt hw).2⟩
    · rw [ifn q] at h'; cases h'
theorem pTwo_i {l : List Tk} {a : (Nat × Nat) × List Tk} (h : pTwo l = .inr a) : a.1.1 ≤ 7 ∧ a.1.2 ≤ 7 ∧ a.1.1 ≠ a.1.2 ∧ Sx a.2 l := by
  unfold pTwo at h
  obtain ⟨x, h1, h2⟩ := rbd_inr h
  obtain ⟨y, h3, h4⟩ := rbd_inr h2
  obtain ⟨-, a2, -, a3⟩ := pNum_i h1
  obtain ⟨-, b2, -, b3⟩ := pNum_i h3
  by_cases q : y.1 = x.1
  · rw [ifp q] at h4; cases h4
  · rw [ifn q] at h4; cases h4
    exact ⟨a2, b2, fun z => q z.symm, b3.tr a3⟩
theorem pLst_i : ∀ (f : Nat) (had : List Nat) (l : List Tk) (a : (List Nat × Nat) × List Tk), had.Nodup → (∀ v ∈ had, v < 8) → pLst f had l = .inr a → 0 < a.1.1.length ∧ a.1.1.length ≤ had.length + f ∧ a.1.1.Nodup ∧ (∀ v ∈ a.1.1, v < 8) ∧ Sx a.2 l := by
  intro f
  induction f with
  | zero => intro had l a _ _ h; cases h
  | succ f ih =>
    intro had l a hn h8 h
    rw [pLst] at h
    obtain ⟨x, h1, h2⟩ := rbd_inr h
    obtain ⟨-, a2, -, a3⟩ := pNum_i h1
    by_cases q : x.1 ∈ had
    · rw [ifp q] at h2; cases h2
    · rw [ifn q] at h2
      have hn' : (had ++ [x.1]).Nodup := by
        rw [List.nodup_append]
        refine ⟨hn, by simp, fun u hu v hv e => ?_⟩
        rw [List.mem_singleton.mp hv] at e
        rw [e] at hu; exact q hu
      have h8' : ∀ v ∈ had ++ [x.1], v < 8 := fun v hv => by
        rcases List.mem_append.mp hv with z | z
        · exact h8 v z
        · rw [List.mem_singleton.mp z]; omega
      by_cases q4 : kS (cur x.2) = 4
      · rw [ifp q4] at h2
        obtain ⟨i1, i2, i3, i4, i5⟩ := ih _ _ _ hn' h8' h2
        rw [List.length_append, List.length_singleton] at i2
        exact ⟨i1, by omega, i3, i4, i5.tr a3⟩
      · rw [ifn q4] at h2; cases h2
        refine ⟨by simp, ?_, hn', h8', a3⟩
        show (had ++ [x.1]).length ≤ had.length + (f + 1)
        rw [List.length_append, List.length_singleton]; omega
/-- steps of a sort -/
theorem okS_mk {k a b z : Nat} {l : List Nat} {n g : Nat} (h1 : k = 0 → a < 3) (h2 : k = 1 → a < 2) (h3 : k = 2 ∨ k = 11 → a < 8 ∧ b < 8 ∧ a ≠ b) (h4 : k = 3 → 0 < l.length ∧ l.length ≤ 8 ∧ l.Nodup ∧ ∀ y ∈ l, y < l.length) (h5 : 4 ≤ k → k ≤ 7 → a < b ∧ b < 8) (h6 : k = 5 → (b - a + 1) % 2 = 0) (h7 : k = 6 → 0 < z ∧ z ≤ 4 ∧ (b - a + 1) % z = 0 ∧ 2 * z ≤ b - a + 1) (h8 : k = 7 → b - a + 1 ≤ 4) (h9 : k = 8 → 0 < l.length ∧ l.length ≤ 8 ∧ l.Nodup ∧ ∀ y ∈ l, y < 8) (h10 : k = 9 → a < 8 ∧ b < 2) (h11 : k = 12 → a ≤ 9999) (h12 : k ≤ 12) : okS (k, a, b, z, l, n, g) := ⟨h1, h2, h3, h4, h5, h6, h7, h8, h9, h10, h11, h12⟩
theorem pMov_i {k : Nat} {l : List Tk} {a : Stq × List Tk} (hk : 2 ≤ k ∧ k ≤ 8) (h : pMov k l = .inr a) : okS a.1 ∧ sT a.1 = k ∧ Sx a.2 l := by
  by_cases k2 : k = 2
  · unfold pMov at h
    rw [ifp k2] at h
    obtain ⟨x, h1, h2⟩ := rbd_inr h
    obtain ⟨i1, i2, i3, i4⟩ := pTwo_i h1
    cases h2
    exact ⟨okS_mk (by omega) (by omega) (fun _ => ⟨by omega, by omega, i3⟩) (by omega) (by omega) (by omega) (by omega) (by omega) (by omega) (by omega) (by omega) (by omega), k2.symm, i4⟩
  by_cases k3 : k = 3
  · unfold pMov at h
    rw [ifn k2, ifp k3] at h
    obtain ⟨x, h1, h2⟩ := rbd_inr h
    obtain ⟨i1, i2, i3, i4, i5⟩ := pLst_i _ _ _ _ (by simp) (by simp) h1
    by_cases q : mx x.1.1 < x.1.1.length
    · rw [ifp q] at h2; cases h2
      simp only [List.length_nil, Nat.zero_add] at i2
      exact ⟨okS_mk (by omega) (by omega) (by omega) (fun _ => ⟨i1, i2, i3, ((mx_le _ _).mp q).2⟩) (by omega) (by omega) (by omega) (by omega) (by omega) (by omega) (by omega) (by omega), k3.symm, i5⟩
    · rw [ifn q] at h2; cases h2
  by_cases k8 : k = 8
  · unfold pMov at h
    rw [ifn k2, ifn k3, ifp k8] at h
    obtain ⟨x, h1, h2⟩ := rbd_inr h
    obtain ⟨i1, i2, i3, i4, i5⟩ := pLst_i _ _ _ _ (by simp) (by simp) h1
    simp only [List.length_nil, Nat.zero_add] at i2
    cases h2
    exact ⟨okS_mk (by omega) (by omega) (by omega) (by omega) (by omega) (by omega) (by omega) (by omega) (fun _ => ⟨i1, i2, i3, i4⟩) (by omega) (by omega) (by omega), k8.symm, i5⟩
  rw [pMov_4 (by omega)] at h
  obtain ⟨z, h1, h2⟩ := rbd_inr h
  have hz : 0 < z.1 ∧ z.1 ≤ 4 ∧ (z.2 = l ∨ Sx z.2 l) := by
    by_cases k6 : k = 6
    · rw [ifp k6] at h1
      obtain ⟨x, h3, h4⟩ := rbd_inr h1
      obtain ⟨l', h5, h6⟩ := rbd_inr h4
      obtain ⟨b1, b2, -, b3⟩ := pNum_i h3
      cases h6
      exact ⟨by show 0 < x.1; omega, b2, Or.inr ((mustW_i h5).tr b3)⟩
    · rw [ifn k6] at h1; cases h1; exact ⟨by show 0 < 1; omega, by show 1 ≤ 4; omega, Or.inl rfl⟩
  obtain ⟨y, h3, h4⟩ := rbd_inr h2
  unfold b109R at h3
  obtain ⟨x, h5, h6⟩ := rbd_inr h3
  obtain ⟨l', h7, h8⟩ := rbd_inr h6
  obtain ⟨w, h9, h10⟩ := rbd_inr h8
  obtain ⟨-, c1, -, c2⟩ := pNum_i h5
  obtain ⟨-, d1, -, d2⟩ := pNum_i h9
  have s1 := d2.tr ((mustW_i h7).tr c2)
  have s2 : Sx w.2 l := by
    rcases hz.2.2 with e | e
    · rw [← e]; exact s1
    · exact s1.tr e
  split at h10
  · rename_i q
    cases h10
    cases h4
    exact ⟨okS_mk (by omega) (by omega) (by omega) (by omega) (fun _ _ => ⟨q.1, by show w.1 < 8; omega⟩) (fun e => q.2.1 e) (fun e => ⟨hz.1, hz.2.1, q.2.2.1 e⟩) (fun e => q.2.2.2 e) (by omega) (by omega) (by omega) (by omega), rfl, s2⟩
  · cases h10
theorem pOth_i {k P : Nat} {xs : List Stq} {l : List Tk} {a : Stq × List Tk} (hP : P ≤ 3) (hk : k = 0 ∨ k = 1 ∨ k = 9 ∨ k = 10 ∨ k = 11 ∨ k = 12) (h : pOth k P xs l = .inr a) : okS a.1 ∧ sT a.1 = k ∧ Sx a.2 l ∧ (k = 0 → s1 a.1 < P) ∧ (k = 9 ∨ k = 10 → mrk xs (sn a.1) = false) := by
  unfold pOth at h
  rcases hk with rfl | rfl | rfl | rfl | rfl | rfl
  · rw [ifp rfl] at h
    obtain ⟨x, h1, h2⟩ := rbd_inr h
    obtain ⟨i1, i2⟩ := pWho_i h1
    cases h2
    exact ⟨okS_mk (by omega) (by omega) (by omega) (by omega) (by omega) (by omega) (by omega) (by omega) (by omega) (by omega) (by omega) (by omega), rfl, i2, fun _ => i1, by omega⟩
  · rw [ifn (by omega), ifp rfl] at h
    obtain ⟨x, h1, h2⟩ := rbd_inr h
    obtain ⟨i1, i2⟩ := pCol_i h1
    cases h2
    exact ⟨okS_mk (by omega) (fun _ => i1) (by omega) (by omega) (by omega) (by omega) (by omega) (by omega) (by omega) (by omega) (by omega) (by omega), rfl, i2, by omega, by omega⟩
  · rw [ifn (by omega), ifn (by omega), ifp rfl] at h
    obtain ⟨x, h1, h2⟩ := rbd_inr h
    obtain ⟨y, h3, h4⟩ := rbd_inr h2
    obtain ⟨l', h5, h6⟩ := rbd_inr h4
    obtain ⟨-, i1, -, i2⟩ := pNum_i h1
    obtain ⟨j1, j2⟩ := pCol_i h3
    have s1 := (mustW_i h5).tr (j2.tr i2)
    by_cases q : kS (cur l') = 2
    · rw [ifp q] at h6
      cases hm : mrk xs (kV (cur l')) with
      | true => rw [hm] at h6; cases h6
      | false =>
        rw [hm] at h6; cases h6
        exact ⟨okS_mk (by omega) (by omega) (by omega) (by omega) (by omega) (by omega) (by omega) (by omega) (by omega) (fun _ => ⟨by omega, j1⟩) (by omega) (by omega), rfl, (Sx.tl (by omega)).tr s1, by omega, fun _ => hm⟩
    · rw [ifn q] at h6; cases h6
  · rw [ifn (by omega), ifn (by omega), ifn (by omega), ifp rfl] at h
    by_cases q : kS (cur l) = 2
    · rw [ifp q] at h
      cases hm : mrk xs (kV (cur l)) with
      | true => rw [hm] at h; cases h
      | false =>
        rw [hm] at h; cases h
        exact ⟨okS_mk (by omega) (by omega) (by omega) (by omega) (by omega) (by omega) (by omega) (by omega) (by omega) (by omega) (by omega) (by omega), rfl, Sx.tl (by omega), by omega, fun _ => hm⟩
    · rw [ifn q] at h; cases h
  · rw [ifn (by omega), ifn (by omega), ifn (by omega), ifn (by omega), ifp rfl] at h
    obtain ⟨x, h1, h2⟩ := rbd_inr h
    obtain ⟨i1, i2, i3, i4⟩ := pTwo_i h1
    cases h2
    exact ⟨okS_mk (by omega) (by omega) (fun _ => ⟨by omega, by omega, i3⟩) (by omega) (by omega) (by omega) (by omega) (by omega) (by omega) (by omega) (by omega) (by omega), rfl, i4, by omega, by omega⟩
  · rw [ifn (by omega), ifn (by omega), ifn (by omega), ifn (by omega), ifn (by omega)] at h
    obtain ⟨x, h1, h2⟩ := rbd_inr h
    obtain ⟨-, i1, -, i2⟩ := pNum_i h1
    cases h2
    exact ⟨okS_mk (by omega) (by omega) (by omega) (by omega) (by omega) (by omega) (by omega) (by omega) (by omega) (by omega) (fun _ => i1) (by omega), rfl, i2, by omega, by omega⟩
theorem movK_i {l : List Tk} {k : Nat} (h : movK l = some k) : 2 ≤ k ∧ k ≤ 7 ∧ 2 ≤ kS (cur l) := by
  unfold movK at h
  repeat' split at h
  all_goals first | (rename_i z; cases h; exact ⟨by omega, by omega, isW_2 z⟩) | cases h
theorem stpK_i {l : List Tk} {k : Nat} (h : stpK l = some k) : k ≤ 12 ∧ 2 ≤ kS (cur l) ∧ ((2 ≤ k ∧ k ≤ 8) ∨ k = 0 ∨ k = 1 ∨ k = 9 ∨ k = 10 ∨ k = 11 ∨ k = 12) := by
  unfold stpK at h
  cases hm : movK l with
  | some j =>
    rw [hm] at h
    cases h
    have := movK_i hm
    exact ⟨by omega, this.2.2, Or.inl ⟨by omega, by omega⟩⟩
  | none =>
    rw [hm] at h
    simp only at h
    repeat' split at h
    all_goals first | (rename_i z; cases h; exact ⟨by omega, isW_2 z, by omega⟩) | cases h
/-! parsers' states -/
def okPs (s : Ps) : Prop := (1 ≤ jP s ∧ jP s ≤ 3) ∧ (jX s).length ≤ 40 ∧ (∀ x ∈ jX s, okS x) ∧ (cntO (jX s) (jX s).length ≤ 6 ∧ mixNo (jX s) (jX s).length ≤ 8) ∧ (jY s).length ≤ 8 ∧ (∀ x ∈ jY s, okS x ∧ 2 ≤ sT x ∧ sT x ≤ 7) ∧ (jO s).length ≤ 4 ∧ (∀ x ∈ jO s, okS x ∧ sT x = 8) ∧ okA (jA s) ∧ jU s ≤ 40 ∧ (∀ x ∈ jX s, sT x = 0 → s1 x < jP s) ∧ (jL s = false → ∀ x ∈ jX s, sT x ≠ 0) ∧ ∀ k x, (jX s)[k]? = some x → sT x = 9 ∨ sT x = 10 → mrk ((jX s).take k) (sn x) = false
theorem cntO_take {xs : List Stq} (y : Stq) : ∀ k, k ≤ xs.length → cntO (xs ++ [y]) k = cntO xs k := by
  intro k
  induction k with
  | zero => intro _; rfl
  | succ k ih =>
    intro hk
    rw [cntO, cntO, ih (by omega), List.getElem?_append_left (by omega)]
theorem cntO_snoc (xs : List Stq) (y : Stq) : cntO (xs ++ [y]) (xs ++ [y]).length = cntO xs xs.length + if sT y = 8 then 1 else 0 := by
  rw [List.length_append, List.length_singleton, cntO, cntO_take y _ (Nat.le_refl _), List.getElem?_append_right (Nat.le_refl _), Nat.sub_self]
  rfl
theorem mixNo_take {xs : List Stq} (y : Stq) : ∀ k, k ≤ xs.length → mixNo (xs ++ [y]) k = mixNo xs k := by
  intro k
  induction k with
  | zero => intro _; rfl
  | succ k ih =>
    intro hk
    rw [mixNo, mixNo, ih (by omega), List.getElem?_append_left (by omega)]
theorem mixNo_snoc (xs : List Stq) (y : Stq) : mixNo (xs ++ [y]) (xs ++ [y]).length = mixNo xs xs.length + if 4 ≤ sT y ∧ sT y ≤ 7 then 1 else 0 := by
  rw [List.length_append, List.length_singleton, mixNo, mixNo_take y _ (Nat.le_refl _), List.getElem?_append_right (Nat.le_refl _), Nat.sub_self]
  rfl
theorem pLin_i {s : Ps} {l : List Tk} {a : Ps × List Tk} (hs : okPs s) (hl : tkO l) (h : pLin s l = .inr a) : okPs a.1 ∧ tkO a.2 ∧ Sx a.2 l := by
  unfold pLin at h
  obtain ⟨x, h1, h2⟩ := rbd_inr h
  obtain ⟨l', h3, h4⟩ := rbd_inr h2
  cases h4
  have key : okPs x.1 ∧ Sx x.2 l := by
    obtain ⟨o1, o2, o3, o4, o5, o6, o7, o8, o9, o10, o11, o12, o13⟩ := id hs
    cases w1 : isW l 123580963646565 with
    | true =>
      rw [w1, ifp rfl] at h1
      unfold pPpl at h1
      by_cases q : jT s = true ∨ (jA s).isSome = true ∨ jL s = true
      · rw [ifp q] at h1; cases h1
      · rw [ifn q] at h1
        obtain ⟨y, h5, h6⟩ := rbd_inr h1
        obtain ⟨i1, i2, -, i3⟩ := pNum_i h5
        cases h6
        have hL : jL s = false := by
          cases hL : jL s with
          | true => exact absurd (Or.inr (Or.inr hL)) q
          | false => rfl
        exact ⟨⟨⟨i1, i2⟩, o2, o3, o4, o5, o6, o7, o8, o9, o10, fun x hx z => absurd z (o12 hL x hx), o12, o13⟩, i3.tr (Sx.tl (isW_2 w1))⟩
    | false =>
      rw [w1, ifn (by decide)] at h1
      cases w2 : isW l 1634954099 with
      | true =>
        rw [w2, ifp rfl] at h1
        unfold pAsk at h1
        by_cases q : (jA s).isSome = true
        · rw [ifp q] at h1; cases h1
        · rw [ifn q] at h1
          cases hd : dx (jP s) (dxF l) 0 0 [] (jU s) l.tail with
          | none => rw [hd] at h1; cases h1
          | some r =>
            cases r with
            | inl e => rw [hd] at h1; cases h1
            | inr y =>
              rw [hd] at h1; cases h1
              obtain ⟨i1, i2, i3⟩ := dx_okC o1.2 o10 hl.tl hd
              have i4 := dx_len _ _ _ _ _ _ _ (by omega) hd
              have tl := tl_lt (isW_2 w2)
              refine ⟨⟨o1, o2, o3, o4, o5, o6, o7, o8, fun c hc => by cases hc; exact i1, i2, o11, o12, o13⟩, by show y.2.2.length < l.length; omega, fun _ => i3⟩
      | false =>
        rw [w2, ifn (by decide)] at h1
        cases w3 : isW l 7168377 with
        | true =>
          rw [w3, ifp rfl] at h1
          unfold pMay at h1
          have tl : Sx l.tail l := Sx.tl (isW_2 w3)
          cases hm : movK l.tail with
          | some k =>
            rw [hm] at h1
            have h1' : (if (jY s).length = 8 then .inl (2, kP (cur l)) else rbd (pMov k l.tail.tail) fun a => .inr ((jP s, jT s, jL s, jX s, jY s ++ [a.1], jO s, jA s, jU s), a.2)) = (.inr x : Rs (Ps × List Tk)) := h1
            by_cases q : (jY s).length = 8
            · rw [ifp q] at h1'; cases h1'
            · rw [ifn q] at h1'
              obtain ⟨y, h5, h6⟩ := rbd_inr h1'
              obtain ⟨k1, k2, k3⟩ := movK_i hm
              obtain ⟨i1, i2, i3⟩ := pMov_i (by omega) h5
              cases h6
              refine ⟨⟨o1, o2, o3, o4, by show (jY s ++ [y.1]).length ≤ 8; rw [List.length_append, List.length_singleton]; omega, fun x hx => ?_, o7, o8, o9, o10, o11, o12, o13⟩, i3.tr ((Sx.tl k3).tr tl)⟩
              rcases List.mem_append.mp hx with z | z
              · exact o6 x z
              · rw [List.mem_singleton.mp z, i2]; exact ⟨i1, k1, k2⟩
          | none =>
            rw [hm] at h1
            have h1' : (if isW l.tail 1869636974 then (if (jO s).length = 4 then .inl (2, kP (cur l)) else rbd (pMov 8 l.tail.tail) fun a => .inr ((jP s, jT s, jL s, jX s, jY s, jO s ++ [a.1], jA s, jU s), a.2)) else .inl (errT l.tail)) = (.inr x : Rs (Ps × List Tk)) := h1
            cases w4 : isW l.tail 1869636974 with
            | false => rw [w4] at h1'; cases h1'
            | true =>
              rw [w4, ifp rfl] at h1'
              by_cases q : (jO s).length = 4
              · rw [ifp q] at h1'; cases h1'
              · rw [ifn q] at h1'
                obtain ⟨y, h5, h6⟩ := rbd_inr h1'
                obtain ⟨i1, i2, i3⟩ := pMov_i (by omega) h5
                cases h6
                refine ⟨⟨o1, o2, o3, o4, o5, o6, by show (jO s ++ [y.1]).length ≤ 4; rw [List.length_append, List.length_singleton]; omega, fun x hx => ?_, o9, o10, o11, o12, o13⟩, i3.tr ((Sx.tl (isW_2 w4)).tr tl)⟩
                rcases List.mem_append.mp hx with z | z
                · exact o8 x z
                · rw [List.mem_singleton.mp z, i2]; exact ⟨i1, rfl⟩
        | false =>
          rw [w3, ifn (by decide)] at h1
          unfold pStp at h1
          cases hm : stpK l with
          | none => rw [hm] at h1; cases h1
          | some k =>
            rw [hm] at h1
            obtain ⟨k1, k2, k3⟩ := stpK_i hm
            have h1' : (if (jX s).length = 40 ∨ (k = 8 ∧ cntO (jX s) (jX s).length = 6) ∨ ((4 ≤ k ∧ k ≤ 7) ∧ mixNo (jX s) (jX s).length = 8) then .inl (errT l) else rbd (if 2 ≤ k ∧ k ≤ 8 then pMov k l.tail else pOth k (jP s) (jX s) l.tail) fun a => .inr ((jP s, jT s, jL s || decide (k = 0), jX s ++ [a.1], jY s, jO s, jA s, jU s), a.2)) = (.inr x : Rs (Ps × List Tk)) := h1
            by_cases q : (jX s).length = 40 ∨ (k = 8 ∧ cntO (jX s) (jX s).length = 6) ∨ ((4 ≤ k ∧ k ≤ 7) ∧ mixNo (jX s) (jX s).length = 8)
            · rw [ifp q] at h1'; cases h1'
            · rw [ifn q] at h1'
              obtain ⟨y, h5, h6⟩ := rbd_inr h1'
              have tl : Sx l.tail l := Sx.tl k2
              have i : okS y.1 ∧ sT y.1 = k ∧ Sx y.2 l.tail ∧ (k = 0 → s1 y.1 < jP s) ∧ (k = 9 ∨ k = 10 → mrk (jX s) (sn y.1) = false) := by
                by_cases qk : 2 ≤ k ∧ k ≤ 8
                · rw [ifp qk] at h5
                  obtain ⟨i1, i2, i3⟩ := pMov_i qk h5
                  exact ⟨i1, i2, i3, by omega, by omega⟩
                · rw [ifn qk] at h5
                  exact pOth_i o1.2 (k3.resolve_left qk) h5
              obtain ⟨i1, i2, i3, i4, i5⟩ := i
              cases h6
              refine ⟨⟨o1, by show (jX s ++ [y.1]).length ≤ 40; rw [List.length_append, List.length_singleton]; omega, fun x hx => ?_, ⟨?_, ?_⟩, o5, o6, o7, o8, o9, o10, fun x hx z => ?_, fun z x hx => ?_, fun j x hj z => ?_⟩, i3.tr tl⟩
              · rcases List.mem_append.mp hx with z | z
                · exact o3 x z
                · rw [List.mem_singleton.mp z]; exact i1
              · show cntO (jX s ++ [y.1]) (jX s ++ [y.1]).length ≤ 6
                rw [cntO_snoc, i2]
                split <;> omega
              · show mixNo (jX s ++ [y.1]) (jX s ++ [y.1]).length ≤ 8
                rw [mixNo_snoc, i2]
                split <;> omega
              · rcases List.mem_append.mp hx with w | w
                · exact o11 x w z
                · rw [List.mem_singleton.mp w] at z ⊢; exact i4 (i2.symm.trans z)
              · have z' : (jL s || decide (k = 0)) = false := z
                rw [Bool.or_eq_false_iff] at z'
                rcases List.mem_append.mp hx with w | w
                · exact o12 z'.1 x w
                · rw [List.mem_singleton.mp w, i2]; exact of_decide_eq_false z'.2
              · have hj' : (jX s ++ [y.1])[j]? = some x := hj
                show mrk ((jX s ++ [y.1]).take j) (sn x) = false
                by_cases e : j < (jX s).length
                · rw [List.getElem?_append_left e] at hj'
                  rw [List.take_append_of_le_length (by omega)]
                  exact o13 j x hj' z
                · rw [List.getElem?_append_right (by omega)] at hj'
                  have ej : j = (jX s).length := by
                    have : j - (jX s).length < 1 := (List.getElem?_eq_some_iff.mp hj').1
                    omega
                  subst ej
                  rw [Nat.sub_self] at hj'
                  cases hj'
                  rw [List.take_left']
                  · exact i5 (by rw [← i2]; exact z)
                  · rfl
  exact ⟨key.1, (mustC_i h3).ok (key.2.ok hl), (mustC_i h3).tr key.2⟩

/-! the whole text -/
theorem pTxt_i : ∀ (f : Nat) (s s' : Ps) (l : List Tk), okPs s → tkO l → pTxt f s l = .inr s' → okPs s' := by
  intro f
  induction f with
  | zero => intro s s' l _ _ h; cases h
  | succ f ih =>
    intro s s' l hs hl h
    rw [pTxt] at h
    by_cases q : kS (cur l) = 0
    · rw [ifp q] at h; cases h; exact hs
    · rw [ifn q] at h
      obtain ⟨a, h1, h2⟩ := rbd_inr h
      obtain ⟨i1, i2, -⟩ := pLin_i hs hl h1
      exact ih _ _ _ i1 i2 h2
theorem ps0_ok : okPs ps0 := ⟨⟨by decide, by decide⟩, by decide, (fun x hx => by cases hx), ⟨by decide, by decide⟩, by decide, (fun x hx => by cases hx), by decide, (fun x hx => by cases hx), (fun c hc => by cases hc), by decide, (fun x hx => by cases hx), (fun _ x hx => by cases hx), (fun k x hk => by simp [ps0, jX] at hk)⟩
theorem tks_ok : ∀ (f p : Nat) (u : List Nat), tkO (tks f p u) := by
  intro f
  induction f with
  | zero => intro p u k hk; cases hk
  | succ f ih =>
    intro p u k hk h4
    have hx : ∀ p u, kS (lex1 p u) = 4 → kV (lex1 p u) ≤ 9999 := by
      intro p u h
      unfold lex1 at h ⊢
      cases u with
      | nil => cases h
      | cons c u =>
        simp only at h ⊢
        by_cases q1 : isL c = true
        · rw [ifp q1] at h
          by_cases q2 : 8 < ((c :: u).takeWhile isL).length
          · rw [ifp q2] at h; cases h
          · rw [ifn q2] at h
            exfalso
            by_cases q3 : pck ((c :: u).takeWhile isL) ∈ kept
            · rw [ifp q3] at h; cases h
            · rw [ifn q3] at h; cases h
        · rw [ifn q1] at h ⊢
          by_cases q2 : isDg c = true
          · rw [ifp q2] at h ⊢
            by_cases q3 : 4 < ((c :: u).takeWhile isDg).length ∨ (((c :: u).dropWhile isDg).headD 0 |> isL) = true
            · rw [ifp q3] at h; cases h
            · rw [ifn q3]
              exact dgv_lt (fun x hx => isDg_lt (tw_mem hx)) (by omega)
          · rw [ifn q2] at h
            by_cases q3 : isSg c = true
            · rw [ifp q3] at h; cases h
            · rw [ifn q3] at h; cases h
    rw [tks] at hk
    by_cases q : kS (lex1 (p + (u.takeWhile isBl).length) (u.dropWhile isBl)) ≤ 1
    · rw [ifp q] at hk
      rw [List.mem_singleton.mp hk] at h4 ⊢
      exact hx _ _ h4
    · rw [ifn q] at hk
      rcases List.mem_cons.mp hk with z | z
      · rw [z] at h4 ⊢; exact hx _ _ h4
      · exact ih _ _ k z h4
theorem mrkAt_i {xs : List Stq} {n k : Nat} (h : mrkAt xs n = some k) : ∃ y, xs[k]? = some y ∧ sT y = 10 ∧ sn y = n := by
  unfold mrkAt at h
  rw [List.findIdx?_eq_some_iff_getElem] at h
  obtain ⟨hk, h1, -⟩ := h
  exact ⟨xs[k], List.getElem?_eq_getElem hk, (of_decide_eq_true h1).1, (of_decide_eq_true h1).2⟩
theorem pStl_i {xs : List Stq} : ∀ (l l' : List Stq), pStl xs l = .inr l' → l'.length = l.length ∧ ∀ (k : Nat) (x : Stq), l[k]? = some x → (sT x ≠ 9 → l'[k]? = some x) ∧ (sT x = 9 → ∃ j, mrkAt xs (sn x) = some j ∧ l'[k]? = some (setS3 x j)) := by
  intro l
  induction l with
  | nil => intro l' h; cases h; exact ⟨rfl, fun k x hk => by simp at hk⟩
  | cons a l ih =>
    intro l' h
    rw [pStl] at h
    by_cases q : sT a = 9
    · rw [ifp q] at h
      cases hm : mrkAt xs (sn a) with
      | none => rw [hm] at h; cases h
      | some j =>
        rw [hm] at h
        have h' : rbd (pStl xs l) (fun l' => .inr (setS3 a j :: l')) = .inr l' := h
        obtain ⟨y, h1, h2⟩ := rbd_inr h'
        cases h2
        obtain ⟨i1, i2⟩ := ih y h1
        refine ⟨by rw [List.length_cons, List.length_cons, i1], fun k x hk => ?_⟩
        cases k with
        | zero => cases hk; exact ⟨fun z => absurd q z, fun _ => ⟨j, hm, rfl⟩⟩
        | succ k => exact i2 k x hk
    · rw [ifn q] at h
      obtain ⟨y, h1, h2⟩ := rbd_inr h
      cases h2
      obtain ⟨i1, i2⟩ := ih y h1
      refine ⟨by rw [List.length_cons, List.length_cons, i1], fun k x hk => ?_⟩
      cases k with
      | zero => cases hk; exact ⟨fun _ => rfl, fun z => absurd z q⟩
      | succ k => exact i2 k x hk
theorem okS_set {x : Stq} {k : Nat} (h : okS x) (h9 : sT x = 9) : okS (setS3 x k) := by
  have h10 := h.o10 h9
  refine okS_mk (by omega) (by omega) (by omega) (by omega) (by omega) (by omega) (by omega) (by omega) (by omega) (fun _ => h10) (by omega) (by omega)
theorem cnt_same {xs ys : List Stq} (h : ∀ k : Nat, (xs[k]?).map sT = (ys[k]?).map sT) : (∀ k, cntO xs k = cntO ys k) ∧ ∀ k, mixNo xs k = mixNo ys k := by
  constructor
  · intro k
    induction k with
    | zero => rfl
    | succ k ih =>
      rw [cntO, cntO, ih]
      have := h k
      cases hx : xs[k]? with
      | none =>
        rw [hx] at this
        cases hy : ys[k]? with
        | none => rfl
        | some y => rw [hy] at this; cases this
      | some x =>
        rw [hx] at this
        cases hy : ys[k]? with
        | none => rw [hy] at this; cases this
        | some y =>
          rw [hy] at this
          have e : sT x = sT y := by simpa using this
          simp only [e]
  · intro k
    induction k with
    | zero => rfl
    | succ k ih =>
      rw [mixNo, mixNo, ih]
      have := h k
      cases hx : xs[k]? with
      | none =>
        rw [hx] at this
        cases hy : ys[k]? with
        | none => rfl
        | some y => rw [hy] at this; cases this
      | some x =>
        rw [hx] at this
        cases hy : ys[k]? with
        | none => rw [hy] at this; cases this
        | some y =>
          rw [hy] at this
          have e : sT x = sT y := by simpa using this
          simp only [e]
theorem mrk_get {xs : List Stq} {n j : Nat} {y : Stq} (hj : xs[j]? = some y) (h1 : sT y = 10) (h2 : sn y = n) : mrk xs n = true := by
  unfold mrk
  rw [List.any_eq_true]
  exact ⟨y, List.mem_of_getElem? hj, by simp [h1, h2]⟩
/-- steps behind their marks -/
theorem stl_ok {s : Ps} {xs : List Stq} (hs : okPs s) (h : pStl (jX s) (jX s) = .inr xs) : okR xs ∧ xs.length = (jX s).length ∧ (∀ x ∈ xs, sT x = 0 → s1 x < jP s) ∧ mixNo xs xs.length = mixNo (jX s) (jX s).length := by
  obtain ⟨o1, o2, o3, o4, o5, o6, o7, o8, o9, o10, o11, o12, o13⟩ := hs
  obtain ⟨i1, i2⟩ := pStl_i _ _ h
  have back : ∀ (k : Nat) (x : Stq), xs[k]? = some x → ∃ y, (jX s)[k]? = some y ∧ (sT y ≠ 9 → x = y) ∧ (sT y = 9 → ∃ j, mrkAt (jX s) (sn y) = some j ∧ x = setS3 y j) := by
    intro k x hk
    have hlt : k < xs.length := (List.getElem?_eq_some_iff.mp hk).1
    have hy : (jX s)[k]? = some ((jX s)[k]'(by omega)) := List.getElem?_eq_getElem _
    refine ⟨_, hy, fun z => ?_, fun z => ?_⟩
    · have := (i2 k _ hy).1 z
      rw [hk] at this; cases this; rfl
    · obtain ⟨j, j1, j2⟩ := (i2 k _ hy).2 z
      rw [hk] at j2; cases j2
      exact ⟨j, j1, rfl⟩
  have hT : ∀ k : Nat, (xs[k]?).map sT = ((jX s)[k]?).map sT := by
    intro k
    cases hx : xs[k]? with
    | none =>
      have : xs.length ≤ k := List.getElem?_eq_none_iff.mp hx
      rw [List.getElem?_eq_none (by omega)]
    | some x =>
      obtain ⟨y, hy, h1, h2⟩ := back k x hx
      rw [hy]
      by_cases q : sT y = 9
      · obtain ⟨j, -, e⟩ := h2 q; rw [e]; rfl
      · rw [h1 q]
  obtain ⟨c1, c2⟩ := cnt_same hT
  refine ⟨⟨⟨by omega, fun k x hk => ?_⟩, by rw [c1, i1]; exact o4.1, by rw [c2, i1]; exact o4.2⟩, i1, fun x hx z => ?_, by rw [c2, i1]⟩
  · obtain ⟨y, hy, h1, h2⟩ := back k x hk
    have hoy := o3 y (List.mem_of_getElem? hy)
    by_cases q : sT y = 9
    · obtain ⟨j, hm, e⟩ := h2 q
      subst e
      refine ⟨okS_set hoy q, fun _ => ?_⟩
      show k < j ∧ j < xs.length
      obtain ⟨w, w1, w2, w3⟩ := mrkAt_i hm
      have hj : j < (jX s).length := (List.getElem?_eq_some_iff.mp w1).1
      refine ⟨?_, by omega⟩
      have hno := o13 k y hy (Or.inl q)
      apply Classical.byContradiction
      intro z
      by_cases e : j = k
      · rw [e, hy] at w1; cases w1; omega
      · have : mrk ((jX s).take k) (sn y) = true := mrk_get (j := j) (y := w) (by rw [List.getElem?_take, if_pos (by omega)]; exact w1) w2 w3
        rw [hno] at this; cases this
    · rw [h1 q]
      exact ⟨hoy, fun z => absurd z q⟩
  · obtain ⟨k, hk, e⟩ := List.getElem_of_mem hx
    obtain ⟨y, hy, h1, h2⟩ := back k x (by rw [List.getElem?_eq_getElem hk, e])
    by_cases q : sT y = 9
    · obtain ⟨j, -, e2⟩ := h2 q
      rw [e2] at z
      have : sT y = 0 := z
      omega
    · rw [h1 q] at z ⊢
      exact o11 y (List.mem_of_getElem? hy) z
theorem prs_ok {t : List Nat} {R : Rc} (h : prs t = .inr R) : okQ R := by
  unfold prs at h
  obtain ⟨s, h1, h2⟩ := rbd_inr h
  obtain ⟨xs, h3, h4⟩ := rbd_inr h2
  cases h4
  have hs := pTxt_i _ _ _ _ ps0_ok (tks_ok _ _ _) h1
  obtain ⟨i1, i2, i3, -⟩ := stl_ok hs h3
  obtain ⟨o1, o2, o3, o4, o5, o6, o7, o8, o9, o10, o11, o12, o13⟩ := hs
  exact ⟨o1.1, o1.2, i1, o5, o6, o7, o8, o9, o10, i3⟩
