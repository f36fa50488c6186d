/-! rows over the typed heap: constants, classes asked, calls -/
set_option maxRecDepth 100000
/-- an object of the tag can be cast to the class of the name, as the tables say -/
def castB (t : Nat) (nm : String) : Bool := (tkd t == 1) && ((tnm t == nm && decide ((0 < t ∧ t ≤ 24) ∨ t = 41)) || xCa.contains (tnm t, nm))
/-- what instanceof answers -/
def isI (h : TH) (a : Nat) (nm : String) : Option Int32 := if a = 0 then some 0 else if castB (hT h a) nm = true then some 1 else if (tkd (hT h a) == 1 && xNc.contains (tnm (hT h a), nm)) = true then some 0 else none
section XR
variable {p : Program} {l : Launch} {e : Env} {R : Room} {s : State} {m : MethodId} {args : Array Value} {below : List Frame} {meth : Method} {c : Code} {H : Heap} {locs : List Loc} {cells slots nL : Nat} {Q : State → Prop} {D : XD} {h0 h h1 : TH} {cc : ByteArray} {own : String} {pc index : Nat} {ls : Array Slot} {rest : List Value}
theorem X_ldcS (hC : XCx D cc nL own h0 p R s m args meth c) {tx : String} {i : Nat} (hin : (own, index, tx, i) ∈ xSr) (hdg : decode cc pc = .ok (.ldc index, 2))
    (kk : W p l e R s m args below meth c H locs cells slots Q (F0 m (pc + 2) ls (rv (D.2.2.2 i) :: rest))) : W p l e R s m args below meth c H locs cells slots Q (F0 m pc ls rest) := by
  have hZ := hC.2.2.2.2.2.2.1.2.2.2.2.2.2.2.2.2.1 _ hin
  rw [rv_pos hZ.2] at kk
  exact va_ldcS hC.1 hC.2.1 hC.2.2.2.1 hZ.1 hdg kk
theorem X_gets (hC : XCx D cc nL own h0 p R s m args meth c) (hX : XSt D s h0 h H locs cells slots) {C n d : String} {q : Nat ⊕ Int32} (hin : (C, n, d, q) ∈ xZs) (hlink : Cond.fieldLink own index C n d ∈ lw_all) (hdg : decode cc pc = .ok (.getstatic index, 3))
    (kk : W p l e R s m args below meth c H locs cells slots Q (F0 m (pc + 3) ls (xZv D q :: rest))) : W p l e R s m args below meth c H locs cells slots Q (F0 m pc ls rest) :=
  va_gets hC.1 hC.2.1 (hC.2.2.2.2.2.2.2.1 _ hin) hX.2.1 hC.2.2.2.1 (hC.2.2.2.2.1 _ hlink) (fun _ h => h) hdg kk
theorem x_recv (hC : XCx D cc nL own h0 p R s m args meth c) (hX : XSt D s h0 h H locs cells slots) {a : Nat} (hk : tkd (hT h a) = 1) : a ≠ 0 ∧ ClassAt s (tnm (hT h a)) (D.1 (hT h a)) ∧ ∃ cell : Cell, H[a - 1]? = some cell ∧ cell.vm.isStatics = false ∧ s.vm.findClass (tnm (hT h a)) = some cell.cls := by
  have hne : hT h a ≠ 0 := fun q => by rw [q] at hk; exact absurd hk (by decide)
  obtain ⟨cell, q1, q2, q3, -⟩ := (hX.1.2.1 a hne).1.1 hk
  have hcl : ClassAt s (tnm (hT h a)) (D.1 (hT h a)) := by
    have : ∀ t, t < 49 → tkd t = 1 → ((0 < t ∧ t ≤ 24) ∨ t = 41) ∨ (44 ≤ t ∧ t ≤ 47) := by decide +kernel
    rcases this _ (tkd_lt (by omega)) hk with q | q
    · exact (hC.2.2.2.2.2.2.1.1 _ q).2
    · have := hC.2.2.2.2.2.2.1.2.1 (hT h a - 44) (by omega)
      rw [show 44 + (hT h a - 44) = hT h a by omega] at this
      exact this
  exact ⟨hX.1.pos hne, hcl, cell, q1, by rw [q3]; rfl, by rw [q2]; exact hcl.1⟩
theorem X_cast (hC : XCx D cc nL own h0 p R s m args meth c) (hX : XSt D s h0 h H locs cells slots) {a : Nat} {nm : String} (hk : a = 0 ∨ castB (hT h a) nm = true) (hlink : Cond.classLink own index nm ∈ lw_all) (hdg : decode cc pc = .ok (.checkcast index, 3))
    (kk : W p l e R s m args below meth c H locs cells slots Q (F0 m (pc + 3) ls (rv a :: rest))) : W p l e R s m args below meth c H locs cells slots Q (F0 m pc ls (rv a :: rest)) := by
  rcases hk with rfl | hk
  · exact lv_castN hC.1 hC.2.1 hdg kk
  simp only [castB, Bool.and_eq_true, beq_iff_eq, Bool.or_eq_true, decide_eq_true_eq, List.contains_iff_mem] at hk
  obtain ⟨ha, hcl, hr⟩ := x_recv hC hX hk.1
  rw [rv_pos ha] at kk ⊢
  rcases hk.2 with ⟨q, -⟩ | q
  · rw [q] at hcl hr
    exact va_castS hC.1 hC.2.1 hC.2.2.2.1 (hC.2.2.2.2.1 _ hlink) hcl hr hdg kk
  · exact va_castY hC.1 hC.2.1 hC.2.2.2.1 (hC.2.2.2.2.1 _ hlink) (hC.2.2.2.2.2.2.1.2.2.2.2.2.1 _ q) hr hdg kk
theorem X_inst (hC : XCx D cc nL own h0 p R s m args meth c) (hX : XSt D s h0 h H locs cells slots) {a : Nat} {nm : String} {r : Int32} (hk : isI h a nm = some r) (hlink : Cond.classLink own index nm ∈ lw_all) (hdg : decode cc pc = .ok (.instanceof index, 3))
    (kk : W p l e R s m args below meth c H locs cells slots Q (F0 m (pc + 3) ls (.int r :: rest))) : W p l e R s m args below meth c H locs cells slots Q (F0 m pc ls (rv a :: rest)) := by
  unfold isI at hk
  split at hk
  · rename_i q
    subst q
    cases hk
    exact lv_instN hC.1 hC.2.1 hdg kk
  split at hk
  · rename_i q0 q
    cases hk
    simp only [castB, Bool.and_eq_true, beq_iff_eq, Bool.or_eq_true, decide_eq_true_eq, List.contains_iff_mem] at q
    obtain ⟨ha, hcl, hr⟩ := x_recv hC hX q.1
    rw [rv_pos ha]
    rcases q.2 with ⟨q, -⟩ | q
    · rw [q] at hcl hr
      exact va_instS hC.1 hC.2.1 hC.2.2.2.1 (hC.2.2.2.2.1 _ hlink) hcl hr hdg kk
    · exact va_instY hC.1 hC.2.1 hC.2.2.2.1 (hC.2.2.2.2.1 _ hlink) (hC.2.2.2.2.2.2.1.2.2.2.2.2.1 _ q) hr hdg kk
  split at hk
  · rename_i q0 q1 q
    cases hk
    simp only [Bool.and_eq_true, beq_iff_eq, List.contains_iff_mem] at q
    obtain ⟨ha, hcl, hr⟩ := x_recv hC hX q.1
    rw [rv_pos ha]
    exact va_instNo hC.1 hC.2.1 hC.2.2.2.1 (hC.2.2.2.2.1 _ hlink) (hC.2.2.2.2.2.2.1.2.2.2.2.2.2.2.1 _ q.2) hr hdg kk
  · cases hk
theorem x_room (hC : XCx D cc nL own h0 p R s m args meth c) (hX : XSt D s h0 h H locs cells slots) (fr lo : Nat) : cells + (xRm fr lo h).cells ≤ R.cells ∧ slots + (xRm fr lo h).slots ≤ R.slots := by
  obtain ⟨-, -, -, -, -, -, -, -, hRc, hRs⟩ := hC
  obtain ⟨⟨-, -, -, -, -, h6, h7⟩, -, hcc, hss⟩ := hX
  rw [hRc, hRs]
  exact ⟨by show cells + (XC - hc h) ≤ XC - hc h0; omega, by show slots + (XS - hs h) ≤ XS - hs h0; omega⟩
variable {y x : MethodName} {bytes : ByteArray} {maxL n fr lo count : Nat} {ret : Option FieldType} {As st0 : List Value} {v : Option Value} {a : Nat} {C owner host : String}
theorem X_callV (hC : XCx D cc nL own h0 p R s m args meth c) (hX : XSt D s h0 h H locs cells slots) (hk : tkd (hT h a) = 1) (hnm : tnm (hT h a) = C) (hM : XMt l y (ws_ y bytes maxL ret) fr lo D (rv a :: As) h (.returned v) h1)
    (cw : CallW R s args own C index y bytes maxL ret (ws_ y bytes maxL ret) (xRm fr lo h) (xRm fr lo h).cells (xRm fr lo h).slots n) (hst : st0 = As.reverse ++ rv a :: rest) (hn : As.length = n) (hl : ls.size = nL) (hW : (rest.map fun v => v.category).sum ≤ 8) (hdg : decode cc pc = .ok (.invokevirtual index, 3))
    (kk : ∀ (H1 : Heap) (locs1 : List Loc) (cells1 slots1 : Nat), XSt D s h0 h1 H1 locs1 cells1 slots1 → W p l e R s m args below meth c H1 locs1 cells1 slots1 Q (F0 m (pc + 3) ls (v.toList ++ rest))) : W p l e R s m args below meth c H locs cells slots Q (F0 m pc ls st0) := by
  obtain ⟨ha, hcl, hr⟩ := x_recv hC hX hk
  subst hnm
  have hp := x_pre hC hX (rv a :: As)
  have hro := x_room hC hX fr lo
  rw [rv_pos ha] at hM hst hp
  exact x_ran (x_runV (As := As) (rest := rest) ⟨hC.1, hC.2.1, hC.2.2.1, hC.2.2.2.1, hC.2.2.2.2.1⟩ hM cw ⟨xP_blind, hr, hp⟩ rfl hn hl hst (lv_room hW) hdg hro) hX rfl rfl kk
theorem X_callVT {z : Nat} {h2 : TH} (hC : XCx D cc nL own h0 p R s m args meth c) (hX : XSt D s h0 h H locs cells slots) (hnh : c.exceptionTable.isEmpty = true) (hk : tkd (hT h a) = 1) (hnm : tnm (hT h a) = C) (hM : XMt l y (ws_ y bytes maxL ret) fr lo D (rv a :: As) h (.threw z) h1)
    (cw : CallW R s args own C index y bytes maxL ret (ws_ y bytes maxL ret) (xRm fr lo h) (xRm fr lo h).cells (xRm fr lo h).slots n) (hst : st0 = As.reverse ++ rv a :: rest) (hn : As.length = n) (hl : ls.size = nL) (hW : (rest.map fun v => v.category).sum ≤ 8) (hdg : decode cc pc = .ok (.invokevirtual index, 3)) (hh : h1 = h2) :
    W p l e R s m args below meth c H locs cells slots (XMQ below D (.threw z) h0 h2 s) (F0 m pc ls st0) := by
  obtain ⟨ha, hcl, hr⟩ := x_recv hC hX hk
  subst hnm
  have hp := x_pre hC hX (rv a :: As)
  have hro := x_room hC hX fr lo
  rw [rv_pos ha] at hM hst hp
  exact x_ranT hC hnh rfl rfl rfl (x_runVT (As := As) (rest := rest) ⟨hC.1, hC.2.1, hC.2.2.1, hC.2.2.2.1, hC.2.2.2.2.1⟩ hM cw ⟨xP_blind, hr, hp⟩ rfl hn hl hst (lv_room hW) hdg hro) hX rfl rfl hh
theorem X_callU (hC : XCx D cc nL own h0 p R s m args meth c) (hX : XSt D s h0 h H locs cells slots) (hk : tkd (hT h a) = 1) (hnm : tnm (hT h a) = C) (hM : XMt l y (ws_ y bytes maxL ret) fr lo D (rv a :: As) h (.returned v) h1)
    (cw : va_CU R s args own C owner index x y bytes maxL ret (ws_ y bytes maxL ret) (xRm fr lo h) (xRm fr lo h).cells (xRm fr lo h).slots n) (hst : st0 = As.reverse ++ rv a :: rest) (hn : As.length = n) (hl : ls.size = nL) (hW : (rest.map fun v => v.category).sum ≤ 8) (hdg : decode cc pc = .ok (.invokevirtual index, 3))
    (kk : ∀ (H1 : Heap) (locs1 : List Loc) (cells1 slots1 : Nat), XSt D s h0 h1 H1 locs1 cells1 slots1 → W p l e R s m args below meth c H1 locs1 cells1 slots1 Q (F0 m (pc + 3) ls (v.toList ++ rest))) : W p l e R s m args below meth c H locs cells slots Q (F0 m pc ls st0) := by
  obtain ⟨ha, hcl, hr⟩ := x_recv hC hX hk
  subst hnm
  have hp := x_pre hC hX (rv a :: As)
  have hro := x_room hC hX fr lo
  rw [rv_pos ha] at hM hst hp
  exact x_ran (x_runU (As := As) (rest := rest) ⟨hC.1, hC.2.1, hC.2.2.1, hC.2.2.2.1, hC.2.2.2.2.1⟩ hM cw ⟨xP_blind, hr, hp⟩ rfl hn hl hst (lv_room hW) hdg hro) hX rfl rfl kk
theorem X_callF (hC : XCx D cc nL own h0 p R s m args meth c) (hX : XSt D s h0 h H locs cells slots) (hk : tkd (hT h a) = 1) (hnm : tnm (hT h a) = C) (hM : XMt l y (ws_ y bytes maxL ret) fr lo D (rv a :: As) h (.returned v) h1)
    (cw : va_CI R s args own C index x y bytes maxL ret (ws_ y bytes maxL ret) (xRm fr lo h) (xRm fr lo h).cells (xRm fr lo h).slots n) (hst : st0 = As.reverse ++ rv a :: rest) (hn : As.length = n) (hl : ls.size = nL) (hW : (rest.map fun v => v.category).sum ≤ 8) (hdg : decode cc pc = .ok (.invokeinterface index count, 5))
    (kk : ∀ (H1 : Heap) (locs1 : List Loc) (cells1 slots1 : Nat), XSt D s h0 h1 H1 locs1 cells1 slots1 → W p l e R s m args below meth c H1 locs1 cells1 slots1 Q (F0 m (pc + 5) ls (v.toList ++ rest))) : W p l e R s m args below meth c H locs cells slots Q (F0 m pc ls st0) := by
  obtain ⟨ha, hcl, hr⟩ := x_recv hC hX hk
  subst hnm
  have hp := x_pre hC hX (rv a :: As)
  have hro := x_room hC hX fr lo
  rw [rv_pos ha] at hM hst hp
  exact x_ran (x_runF hcl (As := As) (rest := rest) ⟨hC.1, hC.2.1, hC.2.2.1, hC.2.2.2.1, hC.2.2.2.2.1⟩ hM cw ⟨xP_blind, hr, hp⟩ rfl hn hl hst (lv_room hW) hdg hro) hX rfl rfl kk
theorem X_callVN (hC : XCx D cc nL own h0 p R s m args meth c) (hX : XSt D s h0 h H locs cells slots) (hk : tkd (hT h a) = 1) (hnm : tnm (hT h a) = C) (hM : XMt l y (ws_ y bytes maxL ret) fr lo D (rv a :: As) h (.returned v) h1)
    (cw : va_CN R s args own index y host bytes maxL ret (ws_ y bytes maxL ret) (xRm fr lo h) (xRm fr lo h).cells (xRm fr lo h).slots n ∧ (Cond.instanceMethod y).before args s = true ∧ (Cond.selects C y y).before args s = true) (hst : st0 = As.reverse ++ rv a :: rest) (hn : As.length = n) (hl : ls.size = nL) (hW : (rest.map fun v => v.category).sum ≤ 8) (hdg : decode cc pc = .ok (.invokevirtual index, 3))
    (kk : ∀ (H1 : Heap) (locs1 : List Loc) (cells1 slots1 : Nat), XSt D s h0 h1 H1 locs1 cells1 slots1 → W p l e R s m args below meth c H1 locs1 cells1 slots1 Q (F0 m (pc + 3) ls (v.toList ++ rest))) : W p l e R s m args below meth c H locs cells slots Q (F0 m pc ls st0) := by
  obtain ⟨ha, hcl, hr⟩ := x_recv hC hX hk
  subst hnm
  have hp := x_pre hC hX (rv a :: As)
  have hro := x_room hC hX fr lo
  rw [rv_pos ha] at hM hst hp
  exact x_ran (x_runVN (As := As) (rest := rest) ⟨hC.1, hC.2.1, hC.2.2.1, hC.2.2.2.1, hC.2.2.2.2.1⟩ hM cw ⟨xP_blind, hr, hp⟩ rfl hn hl hst (lv_room hW) hdg hro) hX rfl rfl kk
theorem X_callS (hC : XCx D cc nL own h0 p R s m args meth c) (hX : XSt D s h0 h H locs cells slots) (hM : XMt l y (ws_ y bytes maxL ret) fr lo D As h (.returned v) h1)
    (cw : CallB R s args own index y bytes maxL ret (ws_ y bytes maxL ret) (xRm fr lo h) (xRm fr lo h).cells (xRm fr lo h).slots n ∧ (Cond.static y).before args s = true) (hst : st0 = As.reverse ++ rest) (hn : As.length = n) (hl : ls.size = nL) (hW : (rest.map fun v => v.category).sum ≤ 8) (hdg : decode cc pc = .ok (.invokestatic index, 3))
    (kk : ∀ (H1 : Heap) (locs1 : List Loc) (cells1 slots1 : Nat), XSt D s h0 h1 H1 locs1 cells1 slots1 → W p l e R s m args below meth c H1 locs1 cells1 slots1 Q (F0 m (pc + 3) ls (v.toList ++ rest))) : W p l e R s m args below meth c H locs cells slots Q (F0 m pc ls st0) :=
  x_ran (x_runS (As := As) (rest := rest) ⟨hC.1, hC.2.1, hC.2.2.1, hC.2.2.2.1, hC.2.2.2.2.1⟩ hM cw ⟨xP_blind, x_pre hC hX As⟩ rfl hn hl hst (lv_room hW) hdg (x_room hC hX fr lo)) hX rfl rfl kk
theorem X_callSN (hC : XCx D cc nL own h0 p R s m args meth c) (hX : XSt D s h0 h H locs cells slots) (hM : XMt l y (ws_ y bytes maxL ret) fr lo D As h (.returned v) h1)
    (cw : va_CN R s args own index y host bytes maxL ret (ws_ y bytes maxL ret) (xRm fr lo h) (xRm fr lo h).cells (xRm fr lo h).slots n ∧ (Cond.static y).before args s = true ∧ True) (hst : st0 = As.reverse ++ rest) (hn : As.length = n) (hl : ls.size = nL) (hW : (rest.map fun v => v.category).sum ≤ 8) (hdg : decode cc pc = .ok (.invokestatic index, 3))
    (kk : ∀ (H1 : Heap) (locs1 : List Loc) (cells1 slots1 : Nat), XSt D s h0 h1 H1 locs1 cells1 slots1 → W p l e R s m args below meth c H1 locs1 cells1 slots1 Q (F0 m (pc + 3) ls (v.toList ++ rest))) : W p l e R s m args below meth c H locs cells slots Q (F0 m pc ls st0) :=
  x_ran (x_runSN (As := As) (rest := rest) ⟨hC.1, hC.2.1, hC.2.2.1, hC.2.2.2.1, hC.2.2.2.2.1⟩ hM cw ⟨xP_blind, x_pre hC hX As⟩ rfl hn hl hst (lv_room hW) hdg (x_room hC hX fr lo)) hX rfl rfl kk
theorem X_callI (hC : XCx D cc nL own h0 p R s m args meth c) (hX : XSt D s h0 h H locs cells slots) (ha : a ≠ 0) (hM : XMt l y (ws_ y bytes maxL none) fr lo D (rv a :: As) h (.returned v) h1)
    (cw : CallB R s args own index y bytes maxL none (ws_ y bytes maxL none) (xRm fr lo h) (xRm fr lo h).cells (xRm fr lo h).slots n ∧ y.name = "<init>" ∧ (Cond.instanceMethod y).before args s = true) (hst : st0 = As.reverse ++ rv a :: rest) (hn : As.length = n) (hl : ls.size = nL) (hW : (rest.map fun v => v.category).sum ≤ 8) (hdg : decode cc pc = .ok (.invokespecial index, 3))
    (kk : ∀ (H1 : Heap) (locs1 : List Loc) (cells1 slots1 : Nat), XSt D s h0 h1 H1 locs1 cells1 slots1 → W p l e R s m args below meth c H1 locs1 cells1 slots1 Q (F0 m (pc + 3) ls (v.toList ++ rest))) : W p l e R s m args below meth c H locs cells slots Q (F0 m pc ls st0) := by
  have hp := x_pre hC hX (rv a :: As)
  have hro := x_room hC hX fr lo
  rw [rv_pos ha] at hM hst hp
  exact x_ran (x_runI (As := As) (rest := rest) ⟨hC.1, hC.2.1, hC.2.2.1, hC.2.2.2.1, hC.2.2.2.2.1⟩ hM cw ⟨xP_blind, hp⟩ rfl hn hl hst (lv_room hW) hdg hro) hX rfl rfl kk
theorem X_callIN (hC : XCx D cc nL own h0 p R s m args meth c) (hX : XSt D s h0 h H locs cells slots) (ha : a ≠ 0) (hM : XMt l y (ws_ y bytes maxL none) fr lo D (rv a :: As) h (.returned v) h1)
    (cw : va_CN R s args own index y host bytes maxL none (ws_ y bytes maxL none) (xRm fr lo h) (xRm fr lo h).cells (xRm fr lo h).slots n ∧ y.name = "<init>" ∧ (Cond.instanceMethod y).before args s = true) (hst : st0 = As.reverse ++ rv a :: rest) (hn : As.length = n) (hl : ls.size = nL) (hW : (rest.map fun v => v.category).sum ≤ 8) (hdg : decode cc pc = .ok (.invokespecial index, 3))
    (kk : ∀ (H1 : Heap) (locs1 : List Loc) (cells1 slots1 : Nat), XSt D s h0 h1 H1 locs1 cells1 slots1 → W p l e R s m args below meth c H1 locs1 cells1 slots1 Q (F0 m (pc + 3) ls (v.toList ++ rest))) : W p l e R s m args below meth c H locs cells slots Q (F0 m pc ls st0) := by
  have hp := x_pre hC hX (rv a :: As)
  have hro := x_room hC hX fr lo
  rw [rv_pos ha] at hM hst hp
  exact x_ran (x_runIN (As := As) (rest := rest) ⟨hC.1, hC.2.1, hC.2.2.1, hC.2.2.2.1, hC.2.2.2.2.1⟩ hM cw ⟨xP_blind, hp⟩ rfl hn hl hst (lv_room hW) hdg hro) hX rfl rfl kk
theorem X_objInit (hC : XCx D cc nL own h0 p R s m args meth c) (ha : a ≠ 0) (hlink : Cond.methodLink own index Lib.objectInit ∈ lw_all) (hinst : Cond.instanceMethod Lib.objectInit ∈ lw_all) (hcode : Cond.code Lib.objectInit ⟨#[0xb1]⟩ 1 none ∈ lw_all) (hl : ls.size = nL) (hfr : 1 ≤ R.frames) (hlo : (rest.map fun v => v.category).sum + 12 ≤ R.locals) (hdg : decode cc pc = .ok (.invokespecial index, 3))
    (kk : W p l e R s m args below meth c H locs cells slots Q (F0 m (pc + 3) ls rest)) : W p l e R s m args below meth c H locs cells slots Q (F0 m pc ls (rv a :: rest)) := by
  rw [rv_pos ha]
  exact W.objInit hC.1 hC.2.1 hC.2.2.2.1 (hC.2.2.2.2.1 _ hlink) (hC.2.2.2.2.1 _ hinst) (hC.2.2.2.2.1 _ hcode) rfl (hl.trans hC.2.2.1.symm) rfl hdg hfr (by show 2 * 0 + _ + 12 ≤ _; omega) kk
end XR
