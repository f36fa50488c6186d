set_option maxRecDepth 100000
/-! THE MACHINE's TREE -/
/-- the colours that are seen of a row -/
def colS (x : Stq) (r : Nat) : Nat := orr (sl x).length fun k => ((r >>> (sl x).getD k 0) &&& 1) <<< k
def seeS (x : Stq) (c : Nat) (s : Nat → Nat) : Nat → Nat := fun p => if p ∈ sl x then ((c >>> (sl x).idxOf p) &&& 1) + 1 else s p
def chO (N : Nat) (x : Stq) (c : Nat) (v : Lv) : Lv := (fun i q => if i < N ∧ colS x q = c then vD v i q else 0, vP v + 1, vC v, vK v, seeS x c (vS v), vW v * wys x)
/-- whether a way of a move is seen as so -/
def mtc (md : Md) (x : Stq) (kn : Option Nat) (w c : Nat) : Bool := if md.1 = 2 then w == c else (kn.map fun p => sto x w p) == some c
def chP (md : Md) (x : Stq) (c : Nat) (v : Lv) : Lv := (fun i q => sm (wys x) fun w => if mtc md x (vK v) w c then mvD (sfr x w) (vD v) i q else 0, vP v + 1, vC v, if md.1 = 1 then some c else vK v, vS v, vW v * wys x)
def chS (N : Nat) (md : Md) (x : Stq) (c : Nat) (v : Lv) : Lv := if sT x = 8 then chO N x c v else chP md x c v
def chN (md : Md) (x : Stq) : Nat := if sT x = 8 then 2 ^ (sl x).length else if md.1 = 2 then wys x else 8
/-- all ways of all inputs -/
def wgt (v : Lv) : Nat := sm 8 fun i => sm 256 fun r => vD v i r
def stpAt (xs : List Stq) (k : Nat) : Stq := xs.getD k (0, 0, 0, 0, [], 0, 0)
/-- looks, how it ended, by which step, the level -/
abbrev Leaf : Type := List Nat × Nat × Stq × Lv
def lvs (N : Nat) (xs : List Stq) (md : Md) : Nat → List Nat → Lv → List Leaf
  | 0, _, _ => []
  | f + 1, lk, v =>
    if (adv N xs md (xs.length + 1) v).1 = 3 then
      (List.range (chN md (stpAt xs (vP (adv N xs md (xs.length + 1) v).2)))).flatMap fun c =>
        if wgt (chS N md (stpAt xs (vP (adv N xs md (xs.length + 1) v).2)) c (adv N xs md (xs.length + 1) v).2) = 0 then [] else lvs N xs md f (lk ++ [c]) (chS N md (stpAt xs (vP (adv N xs md (xs.length + 1) v).2)) c (adv N xs md (xs.length + 1) v).2)
    else [(lk, (adv N xs md (xs.length + 1) v).1, stpAt xs (vP (adv N xs md (xs.length + 1) v).2), (adv N xs md (xs.length + 1) v).2)]
def lv0 (N : Nat) : Lv := (fun i r => if i < N ∧ r = 0 then 1 else 0, 0, 0, none, fun _ => 0, 1)
theorem wgt_ne {v : Lv} : wgt v ≠ 0 ↔ ∃ i r, i < 8 ∧ r < 256 ∧ vD v i r ≠ 0 := by
  constructor
  · intro h
    obtain ⟨i, hi, h⟩ := sm_ne h
    obtain ⟨r, hr, h⟩ := sm_ne h
    exact ⟨i, r, hi, hr, h⟩
  · rintro ⟨i, r, hi, hr, h⟩ z
    have h1 : vD v i r ≤ sm 256 (fun r => vD v i r) := sm_ge (f := fun r => vD v i r) hr
    have h2 : sm 256 (fun r => vD v i r) ≤ wgt v := sm_ge (f := fun i => sm 256 fun r => vD v i r) hi
    omega
theorem stpAt_eq {xs : List Stq} {k : Nat} {x : Stq} (h : xs[k]? = some x) : stpAt xs k = x := by
  unfold stpAt
  rw [List.getD_eq_getElem?_getD, h]
  rfl
/-! sums stay -/
theorem sm_push {g : Nat → Nat} {f : Nat → Nat} {n m : Nat} (h : ∀ r, r < m → g r < n) : sm n (fun q => sm m fun r => if g r = q then f r else 0) = sm m f := by
  rw [sm_swap]
  apply sm_eq
  intro r hr
  have : sm n (fun q => if q = g r then f r else 0) = if g r < n then f r else 0 := sm_pick (g r) fun _ => f r
  rw [ifp (h r hr)] at this
  refine (sm_eq fun q hq => ?_).trans this
  by_cases z : g r = q
  · rw [ifp z, ifp z.symm]
  · rw [ifn z, ifn (fun y => z y.symm)]
/-- sums by inputs are bounded by the ways in all, these by the shuffles ahead -/
def bdV (xs : List Stq) (v : Lv) : Prop := (∀ i, sm 256 (vD v i) ≤ vW v) ∧ vW v ≤ 24 ^ mixNo xs (vP v)
theorem mixNo_mono {xs : List Stq} {a b : Nat} (h : a ≤ b) : mixNo xs a ≤ mixNo xs b := by
  induction b with
  | zero => have : a = 0 := by omega
            subst this; exact Nat.le_refl _
  | succ b ih =>
    by_cases e : a = b + 1
    · subst e; exact Nat.le_refl _
    · exact Nat.le_trans (ih (by omega)) (by rw [mixNo]; exact Nat.le_add_right _ _)
theorem mixNo_step {xs : List Stq} {k : Nat} {x : Stq} (h : xs[k]? = some x) (t : 4 ≤ sT x ∧ sT x ≤ 7) : mixNo xs (k + 1) = mixNo xs k + 1 := by
  rw [mixNo, h]
  simp only [t, and_self, if_true]
theorem wys_one {x : Stq} (t : ¬ (4 ≤ sT x ∧ sT x ≤ 7)) : wys x = 1 := by
  unfold wys
  repeat' split
  all_goals first | rfl | omega
theorem pow24 {a b : Nat} (h : a ≤ b) : 24 ^ a ≤ 24 ^ b := Nat.pow_le_pow_right (by omega) h
theorem bd_step {xs : List Stq} {k : Nat} {x : Stq} {w : Nat} (h : xs[k]? = some x) (ho : okS x) (hw : w ≤ 24 ^ mixNo xs k) : w * wys x ≤ 24 ^ mixNo xs (k + 1) := by
  by_cases t : 4 ≤ sT x ∧ sT x ≤ 7
  · rw [mixNo_step h t, Nat.pow_succ]
    exact Nat.mul_le_mul hw (wys_b ho).2
  · rw [wys_one t, Nat.mul_one]
    exact Nat.le_trans hw (pow24 (mixNo_mono (by omega)))
theorem mvD_sum (f : Nat → Nat) (D : Dst) (i : Nat) : sm 256 (mvD f D i) = sm 256 (D i) := sm_push fun r _ => mvr_lt f r
theorem mvA_sum (x : Stq) (D : Dst) (i : Nat) : sm 256 (mvA x D i) = wys x * sm 256 (D i) := by
  show sm 256 (fun q => sm (wys x) fun w => mvD (sfr x w) D i q) = _
  rw [sm_swap, sm_eq (g := fun _ => sm 256 (D i)) (fun w _ => mvD_sum _ _ _), sm_const]
theorem bdV.of {xs : List Stq} {u v : Lv} (h : bdV xs v) (h1 : ∀ i, sm 256 (vD u i) ≤ vW v) (h2 : vW u = vW v) (h3 : vP u = vP v) : bdV xs u := by
  unfold bdV
  rw [h2, h3]
  exact ⟨h1, h.2⟩
theorem bd_lay1 {xs : List Stq} {N : Nat} {md : Md} {x : Stq} {first : Nat} {v : Lv} (ho : okS x) (hm : md.1 = 3 → md.2.2 < 2) (hc : vC v ≤ 7) (h : bdV xs v) : bdV xs (lay1 N md x first v) := by
  refine h.of (fun i => ?_) rfl rfl
  show sm 256 (fun q => if i < N then adc (vC v) (redOf md x first i) (vD v i) q else vD v i q) ≤ vW v
  by_cases z : i < N
  · simp only [z, if_true]
    have : sm 256 (adc (vC v) (redOf md x first i) (vD v i)) = sm 256 (vD v i) := sm_push fun r hr => or_lt hr (redOf_lt ho hm) hc
    have h1 := h.1 i
    rw [← this] at h1
    exact h1
  · simp only [z, if_false]
    exact h.1 i
theorem bd_mov {xs : List Stq} {x : Stq} {v : Lv} (ho : okS x) (hx : xs[vP v]? = some x) (h : bdV xs v) : bdV xs (nxt (movS x v)) := by
  have e1 : vW (nxt (movS x v)) = vW v * wys x := rfl
  have e2 : vP (nxt (movS x v)) = vP v + 1 := rfl
  have e3 : vD (nxt (movS x v)) = mvA x (vD v) := rfl
  unfold bdV
  rw [e1, e2, e3]
  refine ⟨fun i => ?_, bd_step hx ho h.2⟩
  rw [mvA_sum, Nat.mul_comm]
  exact Nat.mul_le_mul_right _ (h.1 i)
theorem bd_jmp {xs : List Stq} {p : Nat} {v : Lv} (hp : vP v ≤ p) (h : bdV xs v) : bdV xs (jmp v p) := by
  have e1 : vW (jmp v p) = vW v := rfl
  have e2 : vP (jmp v p) = p := rfl
  have e3 : vD (jmp v p) = vD v := rfl
  unfold bdV
  rw [e1, e2, e3]
  exact ⟨h.1, Nat.le_trans h.2 (pow24 (mixNo_mono hp))⟩
theorem bd_nxt {xs : List Stq} {v : Lv} (h : bdV xs v) : bdV xs (nxt v) := bd_jmp (Nat.le_succ _) h
theorem bd_adv {N : Nat} {xs : List Stq} {md : Md} (ho : okX xs) (hm : md.1 = 3 → md.2.2 < 2) : ∀ (f : Nat) (v : Lv), okV N v → bdV xs v → bdV xs (adv N xs md f v).2 := by
  intro f
  induction f with
  | zero => intro v _ h; exact h
  | succ f ih =>
    intro v hok h
    simp only [adv]
    cases hx : xs[vP v]? with
    | none => exact h
    | some x =>
      have hox := (ho.2 _ x hx).1
      simp only
      split
      · split
        · rename_i t c
          have hc : vC v ≤ 7 := by unfold layN at c; split at c <;> omega
          have : bdV xs (layS N md x v) := by
            unfold layS
            split
            · rename_i t0
              have hc2 : vC v + 1 ≤ 7 := by unfold layN at c; rw [ifp t0] at c; omega
              exact bd_lay1 hox hm hc2 (bd_lay1 hox hm hc h)
            · exact bd_lay1 hox hm hc h
          exact ih _ (okV.nxt (okV_layS hox hm hok c)) (bd_nxt this)
        · exact h
      · split
        · split
          · split
            · exact h
            · rename_i t1 t8 hn _
              exact ih _ (okV.nxt (okV_movS hox hok hn)) (bd_mov hox hx h)
          · exact h
        · split
          · exact h
          · split
            · exact h
            · split
              · rename_i t9
                have hg := (ho.2 _ x hx).2 t9.1
                exact ih _ (okV.jmp hok) (bd_jmp (by omega) h)
              · exact ih _ (okV.nxt hok) (bd_nxt h)
