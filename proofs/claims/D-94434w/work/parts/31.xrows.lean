/-! rows over the typed heap -/
set_option maxRecDepth 100000
/-- the object's class has the field -/
def hasF (t f : Nat) : Bool := (tfl t).contains f
theorem tfl_kd {t f : Nat} (h : hasF t f = true) : ((0 < t ∧ t ≤ 24) ∨ t = 41) ∧ tkd t = 1 := by
  have h1 : t < 49 := by
    apply Classical.byContradiction
    intro h2
    have : tfl t = [] := by
      unfold tfl
      split <;> first | omega | rfl
    rw [hasF, this] at h
    cases h
  have : ∀ t, t < 49 → tfl t ≠ [] → ((0 < t ∧ t ≤ 24) ∨ t = 41) ∧ tkd t = 1 := by decide +kernel
  refine this t h1 (fun q => ?_)
  rw [hasF, q] at h
  cases h
theorem xin' {t : Nat} (h : (0 < t ∧ t ≤ 24) ∨ t = 41) : ∀ w ∈ u_ws (tnm t) (tT t) (tfl t).length, w ∈ lw_all := by
  rcases h with h | h
  · exact xin t h.1 h.2
  · subst h; exact xin41
/-- the fields of one class that bear one name are but the hidden ones, 49 and one of 58, 63, 66 -/
def xnmB (t i j : Nat) : Bool := (i == j) || !((gnm ((tfl t).getD i 0)).2.1 == (gnm ((tfl t).getD j 0)).2.1) || ((tfl t).getD i 0 == 49 && ((tfl t).getD j 0 == 58 || (tfl t).getD j 0 == 63 || (tfl t).getD j 0 == 66)) || ((tfl t).getD j 0 == 49 && ((tfl t).getD i 0 == 58 || (tfl t).getD i 0 == 63 || (tfl t).getD i 0 == 66))
theorem xnm0 : ((List.range 49).all fun t => (List.range (tfl t).length).all fun i => (List.range (tfl t).length).all fun j => xnmB t i j) = true := by decide +kernel
theorem xnm : ∀ t, t < 49 → ∀ i, i < (tfl t).length → ∀ j, j < (tfl t).length → i ≠ j → (gnm ((tfl t).getD i 0)).2.1 = (gnm ((tfl t).getD j 0)).2.1 → ((tfl t).getD i 0 = 49 ∧ ((tfl t).getD j 0 = 58 ∨ (tfl t).getD j 0 = 63 ∨ (tfl t).getD j 0 = 66)) ∨ ((tfl t).getD j 0 = 49 ∧ ((tfl t).getD i 0 = 58 ∨ (tfl t).getD i 0 = 63 ∨ (tfl t).getD i 0 = 66)) := by
  intro t ht i hi j hj hij hnm
  have h := List.all_eq_true.mp (List.all_eq_true.mp (List.all_eq_true.mp xnm0 t (List.mem_range.mpr ht)) i (List.mem_range.mpr hi)) j (List.mem_range.mpr hj)
  simp only [xnmB, Bool.or_eq_true, Bool.and_eq_true, beq_iff_eq, Bool.not_eq_true', beq_eq_false_iff_ne, hij, hnm, ne_eq, not_true_eq_false, false_or] at h
  rcases h with ⟨h1, h2⟩ | ⟨h1, h2⟩
  · exact Or.inl ⟨h1, by omega⟩
  · exact Or.inr ⟨h1, by omega⟩
theorem xfl_lt {t k : Nat} (h : (0 < t ∧ t ≤ 24) ∨ t = 41) (hk : k < (tfl t).length) : (tfl t).getD k 0 < 118 := tfl_lt t (by omega) _ (by
  rw [List.getD_eq_getElem?_getD, List.getElem?_eq_getElem hk]
  exact List.getElem_mem hk)
section XR
variable {p : Program} {l : Launch} {e : Env} {R : Room} {s : State} {m : MethodId} {args : Array Value} {below : List Frame} {meth : Method} {c : Code} {H : Heap} {locs : List Loc} {cells slots nL : Nat} {Q : State → Prop} {D : XD} {h0 h : TH} {cc : ByteArray} {own : String} {pc index : Nat} {ls : Array Slot} {rest : List Value}
/-- a field of an object: its cell, its slot, what is in it -/
theorem x_field (hC : XCx D cc nL own h0 p R s m args meth c) (hP : XRep D h H) {a f : Nat} (hf : hasF (hT h a) f = true) :
    ∃ (k : Nat) (cell : Cell) (cf : Nat) (kf : Class) (fi : Nat) (fd : Field) (kC : Class) (v : Value), k < (tfl (hT h a)).length ∧ (tfl (hT h a)).getD k 0 = f ∧ f < 118 ∧ H[a - 1]? = some cell ∧ cell.cls = D.1 (hT h a) ∧ cell.vm = .none ∧
      s.vm.findClass (tnm (hT h a)) = some (D.1 (hT h a)) ∧ s.vm.classes[D.1 (hT h a)]? = some kC ∧ kC.kind = .ordinary ∧
      s.fieldFound? (gnm f).1 (gnm f).2.1 (gnm f).2.2.1 = some (cf, kf, fi, fd) ∧ fd.isStatic = false ∧ fd.slot = D.2.1 (hT h a) k ∧ cell.slots[fd.slot]? = some v ∧ (hskip h a f ∨ v = xV h a f) ∧ a ≠ 0 := by
  obtain ⟨hcl, hkd⟩ := tfl_kd hf
  have hne : hT h a ≠ 0 := by omega
  obtain ⟨cell, q1, q2, q3, q4⟩ := (hP.2.1 a hne).1.1 hkd
  obtain ⟨hS, hfc, kC, hkC, hkind⟩ := hC.2.2.2.2.2.2.1.1 _ hcl
  obtain ⟨k, hk, hkf⟩ := List.mem_iff_getElem.mp (List.contains_iff_mem.mp hf)
  have hkf' : (tfl (hT h a)).getD k 0 = f := by rw [List.getD_eq_getElem?_getD, List.getElem?_eq_getElem hk]; exact hkf
  obtain ⟨cf, kf, fi, fd, hi, hsl⟩ := hS k hk
  have hi' : s.fieldFound? (gnm f).1 (gnm f).2.1 (gnm f).2.2.1 = some (cf, kf, fi, fd) := by
    rw [← hkf']
    exact hi
  obtain ⟨v, hv, hv2⟩ := q4 k hk
  rw [hkf'] at hv2
  exact ⟨k, cell, cf, kf, fi, fd, kC, v, hk, hkf', by rw [← hkf']; exact xfl_lt hcl hk, q1, q2, q3, hfc, hkC, hkind, hi', (u_facts hfc hkC (u_lays hC.2.2.2.2.1 (xin' hcl) hk) hi).1, hsl, by rw [hsl]; exact hv, hv2, hP.pos hne⟩
theorem X_get (hC : XCx D cc nL own h0 p R s m args meth c) (hX : XSt D s h0 h H locs cells slots) {a : Nat} (f : Nat) {ref : String} (hf : hasF (hT h a) f = true) (hsk : ¬ hskip h a f) (hlink : Cond.fieldLink own index ref (gnm f).2.1 (gnm f).2.2.1 ∈ lw_all) (hsame : ∀ x, s.fieldFound? (gnm f).1 (gnm f).2.1 (gnm f).2.2.1 = some x → s.fieldFound? ref (gnm f).2.1 (gnm f).2.2.1 = some x) (hdg : decode cc pc = .ok (.getfield index, 3))
    (kk : W p l e R s m args below meth c H locs cells slots Q (F0 m (pc + 3) ls (xV h a f :: rest))) : W p l e R s m args below meth c H locs cells slots Q (F0 m pc ls (rv a :: rest)) := by
  obtain ⟨k, cell, cf, kf, fi, fd, kC, v, -, -, -, q1, q2, q3, -, -, -, hi, hst, hsl, hv, hv2, ha⟩ := x_field hC hX.1 hf
  rcases hv2 with hv2 | hv2
  · exact absurd hv2 hsk
  subst hv2
  rw [rv_pos ha]
  exact W.getf hC.1 hC.2.1 hC.2.2.2.1 (hC.2.2.2.2.1 _ hlink) (hsame _ hi) hst q1 (by rw [q3]; exact fun h => by cases h) hv rfl rfl hdg kk
theorem X_getN (hC : XCx D cc nL own h0 p R s m args meth c) (hX : XSt D s h0 h H locs cells slots) {a : Nat} (f : Nat) {host : String} (hf : hasF (hT h a) f = true) (hsk : ¬ hskip h a f) (hlink : (own, index, (gnm f).1, (gnm f).2.1, (gnm f).2.2.1, host) ∈ xFN) (hdg : decode cc pc = .ok (.getfield index, 3))
    (kk : W p l e R s m args below meth c H locs cells slots Q (F0 m (pc + 3) ls (xV h a f :: rest))) : W p l e R s m args below meth c H locs cells slots Q (F0 m pc ls (rv a :: rest)) := by
  obtain ⟨k, cell, cf, kf, fi, fd, kC, v, -, -, -, q1, q2, q3, -, -, -, hi, hst, hsl, hv, hv2, ha⟩ := x_field hC hX.1 hf
  rcases hv2 with hv2 | hv2
  · exact absurd hv2 hsk
  subst hv2
  rw [rv_pos ha]
  have hl := hC.2.2.2.2.2.2.1.2.2.2.1 _ hlink
  exact va_Wgetf hC.1 hC.2.1 hC.2.2.2.1 (va_Nw.use rfl hl) hi hst q1 (by rw [q3]; exact fun h => by cases h) hv rfl rfl hdg kk
theorem xV_i (h : TH) (a f : Nat) (hf : gR f = false) : xV h a f = .int (hI h f a) := by simp [xV, hf]
theorem xV_r (h : TH) (a f : Nat) (hf : gR f = true) : xV h a f = rv (hR h f a) := by simp [xV, hf]
/-- the heap behind a field's write -/
theorem x_put (hC : XCx D cc nL own h0 p R s m args meth c) (hX : XSt D s h0 h H locs cells slots) {a f : Nat} (hf : hasF (hT h a) f = true) (hw : hT h a ≤ 24) {cell : Cell} {fd : Field} {k : Nat} {v : Value} (hk : k < (tfl (hT h a)).length) (hkf : (tfl (hT h a)).getD k 0 = f) (q1 : H[a - 1]? = some cell) (hsl : fd.slot = D.2.1 (hT h a) k)
    {h1 : TH} (hsep : (f = 58 ∨ f = 63 ∨ f = 66 → hR h1 49 a = 0) ∧ (f = 49 → ∀ g, g = 58 ∨ g = 63 ∨ g = 66 → hasF (hT h a) g = true → xV h1 a g = v)) {H1 : Heap} (e1 : H1[a - 1]? = some (cell.setSlot fd.slot v)) (e2 : H1.size = H.size) (e3 : ∀ q, q ≠ a - 1 → H1[q]? = H[q]?)
    (eT : ∀ b, hT h1 b = hT h b) (ez : hz h1 = hz h) (ec : hc h1 = hc h) (es : hs h1 = hs h)
    (hother : ∀ b, b ≠ a → hN h1 b = hN h b ∧ (∀ f, hI h1 f b = hI h f b) ∧ (∀ f, hR h1 f b = hR h f b) ∧ (∀ i, hA h1 b i = hA h b i) ∧ (∀ i, hL h1 b i = hL h b i) ∧ ∀ i, hY h1 b i = hY h b i)
    (hval : xV h1 a f = v) (hvals : ∀ g, g ≠ f → xV h1 a g = xV h a g ∧ hR h1 g a = hR h g a) : XSt D s h0 h1 H1 (locs ++ [⟨a - 1, fd.slot⟩]) cells slots := by
  obtain ⟨hcl, hkd⟩ := tfl_kd hf
  have hne : hT h a ≠ 0 := by omega
  refine hX.upd (k := fd.slot) hne (by omega) eT ez ec es hother e2 e3 ?_
  obtain ⟨cell', g1, q2, q3, q4⟩ := (hX.1.2.1 a hne).1.1 hkd
  cases q1.symm.trans g1
  obtain ⟨hS, hfc, kC, hkC, hkind⟩ := hC.2.2.2.2.2.2.1.1 _ hcl
  unfold xAt
  rw [eT]
  refine ⟨fun _ => ⟨_, e1, q2, q3, fun j hj => ?_⟩, fun q => by omega, fun q => by omega, fun q => by omega⟩
  obtain ⟨w, hw1, hw2⟩ := q4 j hj
  by_cases hjk : j = k
  · subst hjk
    refine ⟨v, ?_, Or.inr (by rw [hkf, hval])⟩
    rw [hsl]
    show (cell.slots.setIfInBounds _ v)[_]? = some v
    rw [Array.getElem?_setIfInBounds, if_pos rfl, if_pos (Array.getElem?_eq_some_iff.mp hw1).1]
  · have hgf : (tfl (hT h a)).getD j 0 ≠ f := by
      intro hq
      have hnd : (∀ t, t < 49 → ∀ i, i < (tfl t).length → ∀ j, j < (tfl t).length → (tfl t).getD i 0 = (tfl t).getD j 0 → i = j) := by decide +kernel
      exact hjk (hnd _ (by omega) j hj k hk (hq.trans hkf.symm))
    by_cases hnm : (gnm ((tfl (hT h a)).getD j 0)).2.1 = (gnm f).2.1
    · -- one of the hidden pair
      have hp := xnm _ (by omega) j hj k hk hjk (by rw [hkf]; exact hnm)
      rw [hkf] at hp
      rcases hp with ⟨hp1, hp2⟩ | ⟨hp1, hp2⟩
      · -- the other is 49, f one of the three: not known yet
        have hz49 := hsep.1 hp2
        by_cases hse : D.2.1 (hT h a) j = fd.slot
        · refine ⟨v, ?_, Or.inl ⟨hp1, hz49⟩⟩
          rw [hse]
          show (cell.slots.setIfInBounds _ v)[_]? = some v
          rw [Array.getElem?_setIfInBounds, if_pos rfl, if_pos (by rw [← hse]; exact (Array.getElem?_eq_some_iff.mp hw1).1)]
        · refine ⟨w, ?_, Or.inl ⟨hp1, hz49⟩⟩
          show (cell.slots.setIfInBounds _ v)[_]? = some w
          rw [Array.getElem?_setIfInBounds, if_neg (fun q => hse q.symm)]
          exact hw1
      · -- f is 49, the other one of the three: it holds the same
        have hin : hasF (hT h a) ((tfl (hT h a)).getD j 0) = true := by
          rw [hasF, List.contains_iff_mem, List.getD_eq_getElem?_getD, List.getElem?_eq_getElem hj]
          exact List.getElem_mem hj
        have hv := hsep.2 hp1 _ hp2 hin
        have hwv : w = v := by
          rcases hw2 with hw2 | hw2
          · have := hw2.1
            omega
          · rw [hw2, ← (hvals _ hgf).1, hv]
        refine ⟨v, ?_, Or.inr hv.symm⟩
        show (cell.slots.setIfInBounds _ v)[_]? = some v
        rw [Array.getElem?_setIfInBounds]
        split
        · split
          · rfl
          · rename_i hne1 hne2
            rw [hne1] at hne2
            exact absurd (Array.getElem?_eq_some_iff.mp hw1).1 hne2
        · rw [hw1, hwv]
    · obtain ⟨_, _, _, fa, hia, ea⟩ := hS j hj
      obtain ⟨_, _, _, fb, hib, eb⟩ := hS k hk
      have hslots : D.2.1 (hT h a) j ≠ D.2.1 (hT h a) k := by
        rw [← ea, ← eb]
        refine u_apart (u_lays hC.2.2.2.2.1 (xin' hcl) hj) (u_lays hC.2.2.2.2.1 (xin' hcl) hk) hia hib ?_
        rw [(State.fieldFound?_type hia (gty_ok _ (xfl_lt hcl hj))).1, (State.fieldFound?_type hib (gty_ok _ (xfl_lt hcl hk))).1]
        show (gnm ((tfl (hT h a)).getD j 0)).2.1 ≠ (gnm ((tfl (hT h a)).getD k 0)).2.1
        rw [hkf]
        exact hnm
      refine ⟨w, ?_, ?_⟩
      · show (cell.slots.setIfInBounds _ v)[_]? = some w
        rw [hsl, Array.getElem?_setIfInBounds, if_neg (fun q => hslots q.symm)]
        exact hw1
      · rcases hw2 with hw2 | hw2
        · exact Or.inl ⟨hw2.1, by rw [(hvals 49 (fun q => hgf (hw2.1.trans q))).2]; exact hw2.2⟩
        · exact Or.inr (by rw [hw2, (hvals _ hgf).1])
end XR
