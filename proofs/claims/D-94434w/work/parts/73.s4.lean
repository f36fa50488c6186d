set_option maxRecDepth 100000
/-! THE MACHINE's TREE: what holds all through -/
def cntO (xs : List Stq) : Nat → Nat
  | 0 => 0
  | k + 1 => cntO xs k + (match xs[k]? with
    | some x => if sT x = 8 then 1 else 0
    | none => 0)
theorem cntO_mono {xs : List Stq} {a b : Nat} (h : a ≤ b) : cntO xs a ≤ cntO xs b := by
  induction b with
  | zero => have : a = 0 := by omega
            subst this; exact Nat.le_refl _
  | succ b ih =>
    by_cases e : a = b + 1
    · subst e; exact Nat.le_refl _
    · exact Nat.le_trans (ih (by omega)) (by rw [cntO]; exact Nat.le_add_right _ _)
theorem cntO_step {xs : List Stq} {k : Nat} {x : Stq} (h : xs[k]? = some x) (t : sT x = 8) : cntO xs (k + 1) = cntO xs k + 1 := by
  rw [cntO, h]
  simp only [t, if_true]
def okR (xs : List Stq) : Prop := okX xs ∧ cntO xs xs.length ≤ 6 ∧ mixNo xs xs.length ≤ 8
/-- what ended -/
def endK (xs : List Stq) (md : Md) (r : Nat × Lv) : Prop := r.1 < 4 ∧ (r.1 = 3 → ∃ x, xs[vP r.2]? = some x ∧ need x ≤ vC r.2 ∧ (sT x = 8 ∨ (2 ≤ sT x ∧ sT x ≤ 7 ∧ seenS xs md x r.2))) ∧ (r.1 = 1 → ∃ x, xs[vP r.2]? = some x ∧ sT x = 11 ∧ need x ≤ vC r.2) ∧ (r.1 = 2 → ∃ x, xs[vP r.2]? = some x ∧ sT x = 12)
theorem adv_end {N : Nat} {xs : List Stq} {md : Md} : ∀ (f : Nat) (v : Lv), endK xs md (adv N xs md f v) := by
  intro f
  have z0 : ∀ v, endK xs md (0, v) := fun v => ⟨by show 0 < 4; omega, (fun z => by cases z), (fun z => by cases z), (fun z => by cases z)⟩
  induction f with
  | zero => intro v; exact z0 v
  | succ f ih =>
    intro v
    simp only [adv]
    cases hx : xs[vP v]? with
    | none => exact z0 v
    | some x =>
      simp only
      split
      · split
        · exact ih _
        · exact z0 v
      · split
        · split
          · split
            · rename_i t1 t8 hn hs
              refine ⟨by show 3 < 4; omega, fun _ => ⟨x, hx, hn, ?_⟩, (fun z => by cases z), (fun z => by cases z)⟩
              by_cases q : sT x = 8
              · exact Or.inl q
              · exact Or.inr ⟨by omega, by omega, hs.resolve_left q⟩
            · exact ih _
          · exact z0 v
        · split
          · rename_i t11
            split
            · rename_i hn
              exact ⟨by show 1 < 4; omega, (fun z => by cases z), fun _ => ⟨x, hx, t11, hn⟩, (fun z => by cases z)⟩
            · exact z0 v
          · split
            · rename_i t12
              exact ⟨by show 2 < 4; omega, (fun z => by cases z), (fun z => by cases z), fun _ => ⟨x, hx, t12⟩⟩
            · split
              · exact ih _
              · exact ih _
theorem ok_child {N : Nat} {xs : List Stq} {md : Md} {x : Stq} {c : Nat} {v : Lv} (hox : okS x) (hok : okV N v) (hn : need x ≤ vC v) (ht : sT x = 8 ∨ (2 ≤ sT x ∧ sT x ≤ 7 ∧ seenS xs md x v)) (hw : wgt (chS N md x c v) ≠ 0) : okV N (chS N md x c v) := by
  by_cases t8 : sT x = 8
  · have e : chS N md x c v = chO N x c v := by unfold chS; rw [ifp t8]
    rw [e]
    refine ⟨hok.1, fun i q hq => ?_, hok.2.2.1, fun p => ?_⟩
    · have hq' : (if i < N ∧ colS x q = c then vD v i q else 0) ≠ 0 := hq
      split at hq'
      · exact hok.2.1 i q hq'
      · exact absurd rfl hq'
    · show seeS x c (vS v) p ≤ 2
      unfold seeS
      split
      · have := and1_lt c ((sl x).idxOf p); omega
      · exact hok.2.2.2 p
  · have e : chS N md x c v = chP md x c v := by unfold chS; rw [ifn t8]
    rw [e] at hw ⊢
    obtain ⟨w, hw1, hw2⟩ := wgt_match hw
    have ht2 := ht.resolve_left t8
    refine ⟨hok.1, fun i q hq => ?_, fun p hp => ?_, hok.2.2.2⟩
    · obtain ⟨w, hw, h⟩ := sm_ne (show sm (wys x) (fun w => if mtc md x (vK v) w c then mvD (sfr x w) (vD v) i q else 0) ≠ 0 from hq)
      split at h
      · exact mv_sup hox hok hn hw h
      · exact absurd rfl h
    · show p < vC v
      have hp' : (if md.1 = 1 then some c else vK v) = some p := hp
      split at hp'
      · rename_i m1
        cases hp'
        cases hk : vK v with
        | none =>
          exfalso
          rcases ht2.2.2.2 with z | z
          · omega
          · exact z.2 hk
        | some p0 =>
          rw [hk] at hw2
          have := (mtc_1 (by omega)).mp hw2
          rw [← this]
          exact ((sfr_ok hox hw1 p0).2.2 (vC v) hn (hok.2.2.1 p0 hk)).2
      · exact hok.2.2.1 p hp'
theorem bd_child {N : Nat} {xs : List Stq} {md : Md} {x : Stq} {c : Nat} {v : Lv} (hox : okS x) (hx : xs[vP v]? = some x) (h : bdV xs v) : bdV xs (chS N md x c v) := by
  have e1 : vW (chS N md x c v) = vW v * wys x := by unfold chS; split <;> rfl
  have e2 : vP (chS N md x c v) = vP v + 1 := by unfold chS; split <;> rfl
  unfold bdV
  rw [e1, e2]
  refine ⟨fun i => ?_, bd_step hx hox h.2⟩
  have hwb := wys_b hox
  by_cases t8 : sT x = 8
  · have e3 : vD (chS N md x c v) i = fun q => if i < N ∧ colS x q = c then vD v i q else 0 := by unfold chS; rw [ifp t8]; rfl
    rw [e3]
    calc _ ≤ sm 256 (vD v i) := sm_le fun q hq => by split <;> omega
      _ ≤ vW v := h.1 i
      _ ≤ _ := Nat.le_mul_of_pos_right _ hwb.1
  · have e3 : vD (chS N md x c v) i = fun q => sm (wys x) fun w => if mtc md x (vK v) w c then mvD (sfr x w) (vD v) i q else 0 := by unfold chS; rw [ifn t8]; rfl
    rw [e3, sm_swap]
    calc _ ≤ sm (wys x) (fun _ => sm 256 (vD v i)) := sm_le fun w hw => by
            split
            · rw [← mvD_sum (sfr x w) (vD v) i]; exact Nat.le_refl _
            · rw [sm_zero fun _ _ => rfl]; exact Nat.zero_le _
      _ = wys x * sm 256 (vD v i) := sm_const _ _
      _ ≤ wys x * vW v := Nat.mul_le_mul_left _ (h.1 i)
      _ = _ := Nat.mul_comm _ _
/-- no sum comes near the end of the longs -/
theorem bd_lt {xs : List Stq} {v : Lv} (hr : okR xs) (h : bdV xs v) (hp : vP v ≤ xs.length) : vW v ≤ 110075314176 ∧ (∀ i, sm 256 (vD v i) < 9223372036854775808) ∧ ∀ i r, r < 256 → vD v i r < 9223372036854775808 := by
  have h1 : vW v ≤ 24 ^ 8 := Nat.le_trans h.2 (pow24 (Nat.le_trans (mixNo_mono hp) hr.2.2))
  have h2 : (24 : Nat) ^ 8 = 110075314176 := by decide
  rw [h2] at h1
  refine ⟨h1, fun i => ?_, fun i r hr => ?_⟩
  · have := h.1 i; omega
  · have h3 := h.1 i
    have h4 : vD v i r ≤ sm 256 (vD v i) := sm_ge hr
    omega
theorem sup_lt {N : Nat} {v : Lv} (hok : okV N v) {i r : Nat} (hr : 256 ≤ r) : vD v i r = 0 := by
  apply Classical.byContradiction
  intro q
  have h1 := (hok.2.1 i r q).2
  have : 2 ^ vC v ≤ 2 ^ 8 := Nat.pow_le_pow_right (by omega) hok.1
  have h3 : (2 : Nat) ^ 8 = 256 := by decide
  omega
theorem adv_pc {N : Nat} {xs : List Stq} {md : Md} (ho : okX xs) : ∀ (f : Nat) (v : Lv), vP v ≤ xs.length → vP v ≤ vP (adv N xs md f v).2 ∧ vP (adv N xs md f v).2 ≤ xs.length := by
  intro f
  induction f with
  | zero => intro v h; exact ⟨Nat.le_refl _, h⟩
  | succ f ih =>
    intro v h
    simp only [adv]
    cases hx : xs[vP v]? with
    | none => exact ⟨Nat.le_refl _, h⟩
    | some x =>
      have hlt : vP v < xs.length := (List.getElem?_eq_some_iff.mp hx).1
      have up : ∀ u : Lv, vP u = vP v + 1 → vP v ≤ vP (adv N xs md f u).2 ∧ vP (adv N xs md f u).2 ≤ xs.length := fun u hu => by
        have := ih u (by omega); omega
      simp only
      split
      · split
        · exact up _ (by unfold layS; split <;> rfl)
        · exact ⟨Nat.le_refl _, h⟩
      · split
        · split
          · split
            · exact ⟨Nat.le_refl _, h⟩
            · exact up _ rfl
          · exact ⟨Nat.le_refl _, h⟩
        · split
          · exact ⟨Nat.le_refl _, h⟩
          · split
            · exact ⟨Nat.le_refl _, h⟩
            · split
              · rename_i t9
                have hg := (ho.2 _ x hx).2 t9.1
                have e : vP (jmp v (s3 x + 1)) = s3 x + 1 := rfl
                have := ih (jmp v (s3 x + 1)) (by omega)
                omega
              · exact up _ rfl
theorem adv_ok {N : Nat} {xs : List Stq} {md : Md} (ho : okX xs) (hm : md.1 = 3 → md.2.2 < 2) : ∀ (f : Nat) (v : Lv), okV N v → okV N (adv N xs md f v).2 := by
  intro f
  induction f with
  | zero => intro v h; exact h
  | succ f ih =>
    intro v h
    simp only [adv]
    cases hx : xs[vP v]? with
    | none => exact h
    | some x =>
      have hox := (ho.2 _ x hx).1
      simp only
      split
      · split
        · rename_i c; exact ih _ (okV.nxt (okV_layS hox hm h c))
        · exact h
      · split
        · split
          · split
            · exact h
            · rename_i hn _; exact ih _ (okV.nxt (okV_movS hox h hn))
          · exact h
        · split
          · exact h
          · split
            · exact h
            · split
              · exact ih _ (okV.jmp h)
              · exact ih _ (okV.nxt h)
