set_option maxRecDepth 100000
/-! THE MACHINE's LEAVES: none is empty -/
theorem wgt_lay1 {N : Nat} {md : Md} {x : Stq} {first : Nat} {v : Lv} (ho : okS x) (hm : md.1 = 3 → md.2.2 < 2) (hc : vC v ≤ 7) : wgt (lay1 N md x first v) = wgt v := by
  apply sm_eq
  intro i _
  show sm 256 (fun q => if i < N then adc (vC v) (redOf md x first i) (vD v i) q else vD v i q) = sm 256 fun r => vD v i r
  by_cases z : i < N
  · simp only [z, if_true]
    exact sm_push fun r hr => or_lt hr (redOf_lt ho hm) hc
  · simp only [z, if_false]
theorem wgt_mov {x : Stq} {v : Lv} : wgt (movS x v) = wys x * wgt v := by
  have h : wgt (movS x v) = sm 8 fun i => wys x * sm 256 (vD v i) := sm_eq fun i _ => mvA_sum x (vD v) i
  rw [h]
  have : ∀ n, sm n (fun i => wys x * sm 256 (vD v i)) = wys x * sm n fun i => sm 256 (vD v i) := by
    intro n
    induction n with
    | zero => rfl
    | succ n ih =>
      show sm n (fun i => wys x * sm 256 (vD v i)) + wys x * sm 256 (vD v n) = wys x * ((sm n fun i => sm 256 (vD v i)) + sm 256 (vD v n))
      rw [ih, Nat.mul_add]
  exact this 8
theorem wgt_nxt {v : Lv} : wgt (nxt v) = wgt v := rfl
theorem wgt_jmp {v : Lv} {p : Nat} : wgt (jmp v p) = wgt v := rfl
theorem adv_wgt {N : Nat} {xs : List Stq} {md : Md} (ho : okX xs) (hm : md.1 = 3 → md.2.2 < 2) : ∀ (f : Nat) (v : Lv), wgt v ≠ 0 → wgt (adv N xs md f v).2 ≠ 0 := by
  intro f
  induction f with
  | zero => intro v h; exact h
  | succ f ih =>
    intro v h
    simp only [adv]
    cases hx : xs[vP v]? with
    | none => exact h
    | some x =>
      have hox := (ho.2 _ x hx).1
      simp only
      split
      · split
        · rename_i t c
          refine ih _ ?_
          rw [wgt_nxt]
          have hc : vC v ≤ 7 := by unfold layN at c; split at c <;> omega
          unfold layS
          split
          · rename_i t0
            have hc2 : vC v + 1 ≤ 7 := by unfold layN at c; rw [ifp t0] at c; omega
            rw [wgt_lay1 (v := lay1 N md x 1 v) hox hm hc2, wgt_lay1 hox hm hc]; exact h
          · rw [wgt_lay1 hox hm hc]; exact h
        · exact h
      · split
        · split
          · split
            · exact h
            · refine ih _ ?_
              rw [wgt_nxt, wgt_mov]
              have := (wys_b hox).1
              exact Nat.mul_ne_zero (by omega) h
          · exact h
        · split
          · exact h
          · split
            · exact h
            · split
              · exact ih _ (by rw [wgt_jmp]; exact h)
              · exact ih _ (by rw [wgt_nxt]; exact h)
theorem wgt_lv0 {N : Nat} (h : 0 < N) : wgt (lv0 N) ≠ 0 := wgt_ne.mpr ⟨0, 0, by omega, by omega, by
  show (if 0 < N ∧ (0 : Nat) = 0 then 1 else 0) ≠ 0
  rw [ifp ⟨h, rfl⟩]
  decide⟩
/-- what holds of every leaf -/
def okL (N : Nat) (xs : List Stq) (lf : Leaf) : Prop := okV N (lfV lf) ∧ bdV xs (lfV lf) ∧ wgt (lfV lf) ≠ 0 ∧ vP (lfV lf) ≤ xs.length ∧ lfD lf < 3 ∧ (lfD lf = 1 → okS (lfX lf) ∧ sT (lfX lf) = 11 ∧ need (lfX lf) ≤ vC (lfV lf)) ∧ (lfD lf = 2 → okS (lfX lf) ∧ sT (lfX lf) = 12)
theorem lvs_ok {N : Nat} {xs : List Stq} {md : Md} (hr : okR xs) (hm : md.1 = 3 → md.2.2 < 2) : ∀ (f : Nat) (lk : List Nat) (v : Lv), okV N v → bdV xs v → wgt v ≠ 0 → vP v ≤ xs.length → ∀ lf ∈ lvs N xs md f lk v, okL N xs lf := by
  intro f
  induction f with
  | zero => intro lk v _ _ _ _ lf h; simp [lvs] at h
  | succ f ih =>
    intro lk v hok hbd hw hp lf h
    have a1 := adv_ok (N := N) (md := md) hr.1 hm (xs.length + 1) v hok
    have a2 := bd_adv (N := N) (md := md) hr.1 hm (xs.length + 1) v hok hbd
    have a3 := adv_wgt (N := N) (md := md) hr.1 hm (xs.length + 1) v hw
    have a4 := adv_pc (N := N) (md := md) hr.1 (xs.length + 1) v hp
    have a5 := adv_end (N := N) (xs := xs) (md := md) (xs.length + 1) v
    generalize hradv : adv N xs md (xs.length + 1) v = r at a1 a2 a3 a4 a5
    obtain ⟨b0, b3, b1, b2⟩ := a5
    by_cases q : r.1 = 3
    · rw [lvs_part hradv q] at h
      obtain ⟨x, hx, hn, hxt⟩ := b3 q
      have hox := (hr.1.2 _ x hx).1
      have hlt : vP r.2 < xs.length := (List.getElem?_eq_some_iff.mp hx).1
      rw [stpAt_eq hx] at h
      obtain ⟨c, hc, h⟩ := List.mem_flatMap.mp h
      by_cases hz : wgt (chS N md x c r.2) = 0
      · rw [ifp hz] at h; simp at h
      · rw [ifn hz] at h
        have hpc : vP (chS N md x c r.2) = vP r.2 + 1 := by unfold chS; split <;> rfl
        exact ih _ _ (ok_child hox a1 hn hxt hz) (bd_child hox hx a2) hz (by rw [hpc]; omega) lf h
    · rw [lvs_stop hradv q] at h
      rw [List.mem_singleton.mp h]
      refine ⟨a1, a2, a3, a4.2, by show r.1 < 3; omega, fun z => ?_, fun z => ?_⟩
      · obtain ⟨x, hx, ht, hn⟩ := b1 z
        show okS (stpAt xs (vP r.2)) ∧ sT (stpAt xs (vP r.2)) = 11 ∧ need (stpAt xs (vP r.2)) ≤ vC r.2
        rw [stpAt_eq hx]
        exact ⟨(hr.1.2 _ x hx).1, ht, hn⟩
      · obtain ⟨x, hx, ht⟩ := b2 z
        show okS (stpAt xs (vP r.2)) ∧ sT (stpAt xs (vP r.2)) = 12
        rw [stpAt_eq hx]
        exact ⟨(hr.1.2 _ x hx).1, ht⟩
theorem pths_ok {R : Rc} (hq : okQ R) {k : Nat} (h : k < (pths R).length) : okL (rN R) (rX R) ((pths R).getD k default) :=
  lvs_ok hq.2.2.1 (fun z => by cases z) 16 [] (lv0 (rN R)) (lv0_ok _) (lv0_bd _ _) (wgt_lv0 (by have := rN_le hq; omega)) (Nat.zero_le _) _ (List.mem_of_getElem? (pths_get h))
theorem leaf_pos {N : Nat} {xs : List Stq} {lf : Leaf} (h : okL N xs lf) (hN : N ≤ 8) : 0 < vW (lfV lf) ∧ 0 < sm N fun j => wysS lf j := by
  obtain ⟨i, r, hi, hr, hd⟩ := wgt_ne.mp h.2.2.1
  have h1 : vD (lfV lf) i r ≤ sm 256 (vD (lfV lf) i) := sm_ge hr
  have h2 := h.2.1.1 i
  have hin := (h.1.2.1 i r hd).1
  have h3 : wysS lf i ≤ sm N fun j => wysS lf j := sm_ge (f := fun j => wysS lf j) hin
  have h4 : wysS lf i = sm 256 (vD (lfV lf) i) := rfl
  omega
