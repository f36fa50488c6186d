set_option maxRecDepth 100000
noncomputable section
theorem gX_X13_7 {p : Program} {l : Launch} {e : Env} {R : Room} {s : State} {m : MethodId} {args : Array Value} {below : List Frame} {meth : Method} {c : Code} {H : Heap} {locs : List Loc} {cells slots nL : Nat} {Q : State → Prop} {D : XD} {h0 h : TH} {cc : ByteArray} {pc : Nat} {ls : Array Slot} {rest : List Value} (hC : XCx D cc nL RX13 h0 p R s m args meth c) (hX : XSt D s h0 h H locs cells slots) {a : Nat} (hf : hasF (hT h a) 91 = true) (hdg : decode cc pc = .ok (.getfield 7, 3)) (kk : W p l e R s m args below meth c H locs cells slots Q (F0 m (pc + 3) ls (rv (hR h 91 a) :: rest))) : W p l e R s m args below meth c H locs cells slots Q (F0 m pc ls (rv a :: rest)) :=
  X_getr hC hX 91 hf rfl (fun q => absurd q (by decide)) q1196 (fun _ h => h) hdg kk
theorem xfa0 {D : XD} {s : State} (h : XF0 D s) : va_Fw "BlindCards$Asked$1" ⟨"BlindCards$Node", "of", "(I)I"⟩ ⟨"BlindCards$Asked$1", "of", "(I)I"⟩ s := h.2.2.2.2.2.2.2.2.1 ("BlindCards$Asked$1", ⟨"BlindCards$Node", "of", "(I)I"⟩, ⟨"BlindCards$Asked$1", "of", "(I)I"⟩) (List.mem_of_getElem? (i := 0) rfl)
theorem xfa1 {D : XD} {s : State} (h : XF0 D s) : va_Fw "BlindCards$Asked$2" ⟨"BlindCards$Node", "of", "(I)I"⟩ ⟨"BlindCards$Asked$2", "of", "(I)I"⟩ s := h.2.2.2.2.2.2.2.2.1 ("BlindCards$Asked$2", ⟨"BlindCards$Node", "of", "(I)I"⟩, ⟨"BlindCards$Asked$2", "of", "(I)I"⟩) (List.mem_of_getElem? (i := 1) rfl)
theorem xfa2 {D : XD} {s : State} (h : XF0 D s) : va_Fw "BlindCards$Asked$3" ⟨"BlindCards$Node", "of", "(I)I"⟩ ⟨"BlindCards$Asked$3", "of", "(I)I"⟩ s := h.2.2.2.2.2.2.2.2.1 ("BlindCards$Asked$3", ⟨"BlindCards$Node", "of", "(I)I"⟩, ⟨"BlindCards$Asked$3", "of", "(I)I"⟩) (List.mem_of_getElem? (i := 2) rfl)
theorem xfa3 {D : XD} {s : State} (h : XF0 D s) : va_Fw "BlindCards$Asked$4" ⟨"BlindCards$Node", "of", "(I)I"⟩ ⟨"BlindCards$Asked$4", "of", "(I)I"⟩ s := h.2.2.2.2.2.2.2.2.1 ("BlindCards$Asked$4", ⟨"BlindCards$Node", "of", "(I)I"⟩, ⟨"BlindCards$Asked$4", "of", "(I)I"⟩) (List.mem_of_getElem? (i := 3) rfl)
theorem xfa4 {D : XD} {s : State} (h : XF0 D s) : va_Fw "BlindCards$Not" ⟨"BlindCards$Node", "of", "(I)I"⟩ ⟨"BlindCards$Not", "of", "(I)I"⟩ s := h.2.2.2.2.2.2.2.2.1 ("BlindCards$Not", ⟨"BlindCards$Node", "of", "(I)I"⟩, ⟨"BlindCards$Not", "of", "(I)I"⟩) (List.mem_of_getElem? (i := 4) rfl)
theorem xfa5 {D : XD} {s : State} (h : XF0 D s) : va_Fw "BlindCards$Pair" ⟨"BlindCards$Node", "of", "(I)I"⟩ ⟨"BlindCards$Pair", "of", "(I)I"⟩ s := h.2.2.2.2.2.2.2.2.1 ("BlindCards$Pair", ⟨"BlindCards$Node", "of", "(I)I"⟩, ⟨"BlindCards$Pair", "of", "(I)I"⟩) (List.mem_of_getElem? (i := 5) rfl)
theorem xfa6 {D : XD} {s : State} (h : XF0 D s) : va_Fw "BlindCards$Value" ⟨"BlindCards$Node", "of", "(I)I"⟩ ⟨"BlindCards$Value", "of", "(I)I"⟩ s := h.2.2.2.2.2.2.2.2.1 ("BlindCards$Value", ⟨"BlindCards$Node", "of", "(I)I"⟩, ⟨"BlindCards$Value", "of", "(I)I"⟩) (List.mem_of_getElem? (i := 6) rfl)
def V_Node_of (K : Nat → Nat) (o_X13_of : TH → Nat → Int32 → Option Int32) (o_X15_of : TH → Nat → Int32 → Option Int32) (h : TH) (a : Nat) (b0 : Int32) : Option Int32 :=
  if hT h a = 44 then F_X25_of K h a b0 else
  if hT h a = 45 then F_X26_of K h a b0 else
  if hT h a = 46 then F_X27_of K h a b0 else
  if hT h a = 47 then F_X28_of K h a b0 else
  if hT h a = 11 then o_X13_of h a b0 else
  if hT h a = 13 then o_X15_of h a b0 else
  if hT h a = 12 then F_X14_of K h a b0 else
  none
theorem iXn_X13_13 {p : Program} {l : Launch} {e : Env} {R : Room} {s : State} {m : MethodId} {args : Array Value} {below : List Frame} {meth : Method} {c : Code} {H : Heap} {locs : List Loc} {cells slots nL : Nat} {Q : State → Prop} {D : XD} {h0 h : TH} {cc : ByteArray} {pc : Nat} {ls : Array Slot} {rest : List Value} (hC : XCx D cc nL RX13 h0 p R s m args meth c) (hX : XSt D s h0 h H locs cells slots) {a : Nat} {b0 : Int32} {x : Int32} {fr lo : Nat} (hfr : 1 ≤ fr) (hlo : 20 ≤ lo) {o_X13_of : TH → Nat → Int32 → Option Int32} (ho_X13_of : ∀ (a : Nat) (b0 : Int32) (h : TH) (x : Int32), o_X13_of h a b0 = some x → XMt l yX13_of (ws_ yX13_of cX13_of 2 (some .int)) fr lo D [rv a, .int b0] h (.returned (some (.int x))) h) {o_X15_of : TH → Nat → Int32 → Option Int32} (ho_X15_of : ∀ (a : Nat) (b0 : Int32) (h : TH) (x : Int32), o_X15_of h a b0 = some x → XMt l yX15_of (ws_ yX15_of cX15_of 4 (some .int)) fr lo D [rv a, .int b0] h (.returned (some (.int x))) h) (hcF : V_Node_of D.2.2.2 o_X13_of o_X15_of h a b0 = some x) (hl : ls.size = nL) (hW : (rest.map fun v => v.category).sum ≤ 8) (hRf : fr + 1 ≤ R.frames) (hRl : lo + 23 ≤ R.locals) (hdg : decode cc pc = .ok (.invokeinterface 13 2, 5)) (kk : ∀ (H1 : Heap) (locs1 : List Loc) (cells1 slots1 : Nat), XSt D s h0 h H1 locs1 cells1 slots1 → W p l e R s m args below meth c H1 locs1 cells1 slots1 Q (F0 m (pc + 5) ls (.int x :: rest))) : W p l e R s m args below meth c H locs cells slots Q (F0 m pc ls (.int b0 :: rv a :: rest)) := by
  unfold V_Node_of at hcF
  by_cases q : hT h a = 44
  · replace hcF := it_t hcF q
    exact X_callF0 hC hX (by rw [q]; decide) (by rw [q]; rfl) (As := [.int b0]) (m_X25_of l D a b0 h _ hcF) (cwF0 1 hC.2.2.2.2.1 q699 q663 q665 q667 (xfa0 hC.2.2.2.2.2.2.1) (by decide +kernel) ⟨(by show 0 + 1 ≤ _; omega), (by show 8 + (2 + 11) + 0 ≤ _; omega)⟩) rfl rfl hl hW hdg kk
  replace hcF := it_f hcF q
  by_cases q : hT h a = 45
  · replace hcF := it_t hcF q
    exact X_callF0 hC hX (by rw [q]; decide) (by rw [q]; rfl) (As := [.int b0]) (m_X26_of l D a b0 h _ hcF) (cwF0 1 hC.2.2.2.2.1 q699 q669 q671 q673 (xfa1 hC.2.2.2.2.2.2.1) (by decide +kernel) ⟨(by show 0 + 1 ≤ _; omega), (by show 8 + (2 + 11) + 0 ≤ _; omega)⟩) rfl rfl hl hW hdg kk
  replace hcF := it_f hcF q
  by_cases q : hT h a = 46
  · replace hcF := it_t hcF q
    exact X_callF0 hC hX (by rw [q]; decide) (by rw [q]; rfl) (As := [.int b0]) (m_X27_of l D a b0 h _ hcF) (cwF0 1 hC.2.2.2.2.1 q699 q675 q677 q679 (xfa2 hC.2.2.2.2.2.2.1) (by decide +kernel) ⟨(by show 0 + 1 ≤ _; omega), (by show 8 + (2 + 11) + 0 ≤ _; omega)⟩) rfl rfl hl hW hdg kk
  replace hcF := it_f hcF q
  by_cases q : hT h a = 47
  · replace hcF := it_t hcF q
    exact X_callF0 hC hX (by rw [q]; decide) (by rw [q]; rfl) (As := [.int b0]) (m_X28_of l D a b0 h _ hcF) (cwF0 1 hC.2.2.2.2.1 q699 q681 q683 q685 (xfa3 hC.2.2.2.2.2.2.1) (by decide +kernel) ⟨(by show 1 + 1 ≤ _; omega), (by show 8 + (2 + 11) + 20 ≤ _; omega)⟩) rfl rfl hl hW hdg kk
  replace hcF := it_f hcF q
  by_cases q : hT h a = 11
  · replace hcF := it_t hcF q
    exact X_callF0 hC hX (by rw [q]; decide) (by rw [q]; rfl) (As := [.int b0]) (ho_X13_of a b0 h _ hcF) (cwF0 1 hC.2.2.2.2.1 q699 q693 q695 q697 (xfa4 hC.2.2.2.2.2.2.1) (by decide +kernel) ⟨hRf, (by show 8 + (2 + 11) + lo ≤ _; omega)⟩) rfl rfl hl hW hdg kk
  replace hcF := it_f hcF q
  by_cases q : hT h a = 13
  · replace hcF := it_t hcF q
    exact X_callF0 hC hX (by rw [q]; decide) (by rw [q]; rfl) (As := [.int b0]) (ho_X15_of a b0 h _ hcF) (cwF0 1 hC.2.2.2.2.1 q699 q701 q703 q705 (xfa5 hC.2.2.2.2.2.2.1) (by decide +kernel) ⟨hRf, (by show 8 + (4 + 11) + lo ≤ _; omega)⟩) rfl rfl hl hW hdg kk
  replace hcF := it_f hcF q
  by_cases q : hT h a = 12
  · replace hcF := it_t hcF q
    exact X_callF0 hC hX (by rw [q]; decide) (by rw [q]; rfl) (As := [.int b0]) (m_X14_of l D a b0 h _ hcF) (cwF0 1 hC.2.2.2.2.1 q699 q709 q711 q713 (xfa6 hC.2.2.2.2.2.2.1) (by decide +kernel) ⟨(by show 0 + 1 ≤ _; omega), (by show 8 + (2 + 11) + 0 ≤ _; omega)⟩) rfl rfl hl hW hdg kk
  replace hcF := it_f hcF q
  exact nm_none hcF
theorem gX_X15_7 {p : Program} {l : Launch} {e : Env} {R : Room} {s : State} {m : MethodId} {args : Array Value} {below : List Frame} {meth : Method} {c : Code} {H : Heap} {locs : List Loc} {cells slots nL : Nat} {Q : State → Prop} {D : XD} {h0 h : TH} {cc : ByteArray} {pc : Nat} {ls : Array Slot} {rest : List Value} (hC : XCx D cc nL RX15 h0 p R s m args meth c) (hX : XSt D s h0 h H locs cells slots) {a : Nat} (hf : hasF (hT h a) 93 = true) (hdg : decode cc pc = .ok (.getfield 7, 3)) (kk : W p l e R s m args below meth c H locs cells slots Q (F0 m (pc + 3) ls (rv (hR h 93 a) :: rest))) : W p l e R s m args below meth c H locs cells slots Q (F0 m pc ls (rv a :: rest)) :=
  X_getr hC hX 93 hf rfl (fun q => absurd q (by decide)) q1248 (fun _ h => h) hdg kk
theorem iXn_X15_20 {p : Program} {l : Launch} {e : Env} {R : Room} {s : State} {m : MethodId} {args : Array Value} {below : List Frame} {meth : Method} {c : Code} {H : Heap} {locs : List Loc} {cells slots nL : Nat} {Q : State → Prop} {D : XD} {h0 h : TH} {cc : ByteArray} {pc : Nat} {ls : Array Slot} {rest : List Value} (hC : XCx D cc nL RX15 h0 p R s m args meth c) (hX : XSt D s h0 h H locs cells slots) {a : Nat} {b0 : Int32} {x : Int32} {fr lo : Nat} (hfr : 1 ≤ fr) (hlo : 20 ≤ lo) {o_X13_of : TH → Nat → Int32 → Option Int32} (ho_X13_of : ∀ (a : Nat) (b0 : Int32) (h : TH) (x : Int32), o_X13_of h a b0 = some x → XMt l yX13_of (ws_ yX13_of cX13_of 2 (some .int)) fr lo D [rv a, .int b0] h (.returned (some (.int x))) h) {o_X15_of : TH → Nat → Int32 → Option Int32} (ho_X15_of : ∀ (a : Nat) (b0 : Int32) (h : TH) (x : Int32), o_X15_of h a b0 = some x → XMt l yX15_of (ws_ yX15_of cX15_of 4 (some .int)) fr lo D [rv a, .int b0] h (.returned (some (.int x))) h) (hcF : V_Node_of D.2.2.2 o_X13_of o_X15_of h a b0 = some x) (hl : ls.size = nL) (hW : (rest.map fun v => v.category).sum ≤ 8) (hRf : fr + 1 ≤ R.frames) (hRl : lo + 23 ≤ R.locals) (hdg : decode cc pc = .ok (.invokeinterface 20 2, 5)) (kk : ∀ (H1 : Heap) (locs1 : List Loc) (cells1 slots1 : Nat), XSt D s h0 h H1 locs1 cells1 slots1 → W p l e R s m args below meth c H1 locs1 cells1 slots1 Q (F0 m (pc + 5) ls (.int x :: rest))) : W p l e R s m args below meth c H locs cells slots Q (F0 m pc ls (.int b0 :: rv a :: rest)) := by
  unfold V_Node_of at hcF
  by_cases q : hT h a = 44
  · replace hcF := it_t hcF q
    exact X_callF0 hC hX (by rw [q]; decide) (by rw [q]; rfl) (As := [.int b0]) (m_X25_of l D a b0 h _ hcF) (cwF0 1 hC.2.2.2.2.1 q707 q663 q665 q667 (xfa0 hC.2.2.2.2.2.2.1) (by decide +kernel) ⟨(by show 0 + 1 ≤ _; omega), (by show 8 + (2 + 11) + 0 ≤ _; omega)⟩) rfl rfl hl hW hdg kk
  replace hcF := it_f hcF q
  by_cases q : hT h a = 45
  · replace hcF := it_t hcF q
    exact X_callF0 hC hX (by rw [q]; decide) (by rw [q]; rfl) (As := [.int b0]) (m_X26_of l D a b0 h _ hcF) (cwF0 1 hC.2.2.2.2.1 q707 q669 q671 q673 (xfa1 hC.2.2.2.2.2.2.1) (by decide +kernel) ⟨(by show 0 + 1 ≤ _; omega), (by show 8 + (2 + 11) + 0 ≤ _; omega)⟩) rfl rfl hl hW hdg kk
  replace hcF := it_f hcF q
  by_cases q : hT h a = 46
  · replace hcF := it_t hcF q
    exact X_callF0 hC hX (by rw [q]; decide) (by rw [q]; rfl) (As := [.int b0]) (m_X27_of l D a b0 h _ hcF) (cwF0 1 hC.2.2.2.2.1 q707 q675 q677 q679 (xfa2 hC.2.2.2.2.2.2.1) (by decide +kernel) ⟨(by show 0 + 1 ≤ _; omega), (by show 8 + (2 + 11) + 0 ≤ _; omega)⟩) rfl rfl hl hW hdg kk
  replace hcF := it_f hcF q
  by_cases q : hT h a = 47
  · replace hcF := it_t hcF q
    exact X_callF0 hC hX (by rw [q]; decide) (by rw [q]; rfl) (As := [.int b0]) (m_X28_of l D a b0 h _ hcF) (cwF0 1 hC.2.2.2.2.1 q707 q681 q683 q685 (xfa3 hC.2.2.2.2.2.2.1) (by decide +kernel) ⟨(by show 1 + 1 ≤ _; omega), (by show 8 + (2 + 11) + 20 ≤ _; omega)⟩) rfl rfl hl hW hdg kk
  replace hcF := it_f hcF q
  by_cases q : hT h a = 11
  · replace hcF := it_t hcF q
    exact X_callF0 hC hX (by rw [q]; decide) (by rw [q]; rfl) (As := [.int b0]) (ho_X13_of a b0 h _ hcF) (cwF0 1 hC.2.2.2.2.1 q707 q693 q695 q697 (xfa4 hC.2.2.2.2.2.2.1) (by decide +kernel) ⟨hRf, (by show 8 + (2 + 11) + lo ≤ _; omega)⟩) rfl rfl hl hW hdg kk
  replace hcF := it_f hcF q
  by_cases q : hT h a = 13
  · replace hcF := it_t hcF q
    exact X_callF0 hC hX (by rw [q]; decide) (by rw [q]; rfl) (As := [.int b0]) (ho_X15_of a b0 h _ hcF) (cwF0 1 hC.2.2.2.2.1 q707 q701 q703 q705 (xfa5 hC.2.2.2.2.2.2.1) (by decide +kernel) ⟨hRf, (by show 8 + (4 + 11) + lo ≤ _; omega)⟩) rfl rfl hl hW hdg kk
  replace hcF := it_f hcF q
  by_cases q : hT h a = 12
  · replace hcF := it_t hcF q
    exact X_callF0 hC hX (by rw [q]; decide) (by rw [q]; rfl) (As := [.int b0]) (m_X14_of l D a b0 h _ hcF) (cwF0 1 hC.2.2.2.2.1 q707 q709 q711 q713 (xfa6 hC.2.2.2.2.2.2.1) (by decide +kernel) ⟨(by show 0 + 1 ≤ _; omega), (by show 8 + (2 + 11) + 0 ≤ _; omega)⟩) rfl rfl hl hW hdg kk
  replace hcF := it_f hcF q
  exact nm_none hcF
theorem gX_X15_13 {p : Program} {l : Launch} {e : Env} {R : Room} {s : State} {m : MethodId} {args : Array Value} {below : List Frame} {meth : Method} {c : Code} {H : Heap} {locs : List Loc} {cells slots nL : Nat} {Q : State → Prop} {D : XD} {h0 h : TH} {cc : ByteArray} {pc : Nat} {ls : Array Slot} {rest : List Value} (hC : XCx D cc nL RX15 h0 p R s m args meth c) (hX : XSt D s h0 h H locs cells slots) {a : Nat} (hf : hasF (hT h a) 94 = true) (hdg : decode cc pc = .ok (.getfield 13, 3)) (kk : W p l e R s m args below meth c H locs cells slots Q (F0 m (pc + 3) ls (rv (hR h 94 a) :: rest))) : W p l e R s m args below meth c H locs cells slots Q (F0 m pc ls (rv a :: rest)) :=
  X_getr hC hX 94 hf rfl (fun q => absurd q (by decide)) q1249 (fun _ h => h) hdg kk
theorem gX_X15_16 {p : Program} {l : Launch} {e : Env} {R : Room} {s : State} {m : MethodId} {args : Array Value} {below : List Frame} {meth : Method} {c : Code} {H : Heap} {locs : List Loc} {cells slots nL : Nat} {Q : State → Prop} {D : XD} {h0 h : TH} {cc : ByteArray} {pc : Nat} {ls : Array Slot} {rest : List Value} (hC : XCx D cc nL RX15 h0 p R s m args meth c) (hX : XSt D s h0 h H locs cells slots) {a : Nat} (hf : hasF (hT h a) 95 = true) (hdg : decode cc pc = .ok (.getfield 16, 3)) (kk : W p l e R s m args below meth c H locs cells slots Q (F0 m (pc + 3) ls (.int (hI h 95 a) :: rest))) : W p l e R s m args below meth c H locs cells slots Q (F0 m pc ls (rv a :: rest)) :=
  X_geti hC hX 95 hf rfl q1250 (fun _ h => h) hdg kk
/-! BlindCards$Not.of BlindCards$Pair.of -/
def B_X13_of (K : Nat → Nat) (o_X13_of : TH → Nat → Int32 → Option Int32) (o_X15_of : TH → Nat → Int32 → Option Int32) (h : TH) (a0 : Nat) (b0 : Int32) : Option Int32 :=
  gd (hasF (hT h a0) 91 = true) <|
  lt (hR h 91 a0) fun r_2 =>
  bd (V_Node_of K o_X13_of o_X15_of h r_2 b0) fun r_3 =>
  if r_3 = 0 then
    some (1 : Int32)
  else
    some (0 : Int32)
set_option maxHeartbeats 4000000 in
theorem w_X13_of_g {p : Program} {l : Launch} {e : Env} {s : State} {m : MethodId} {args : Array Value} {below : List Frame} {meth : Method} {c : Code} {D : XD} {h : TH} {fr lo : Nat} (hC : XCx D cX13_of 2 RX13 h p (xRm (fr + 1) (lo + 23) h) s m args meth c) (hr : meth.sig.returnType = some .int) (hnh : c.exceptionTable.isEmpty = true) (hin : meth.name = "of") (hfr : 1 ≤ fr) (hlo : 20 ≤ lo) (o_X13_of : TH → Nat → Int32 → Option Int32) (ho_X13_of : ∀ (a : Nat) (b0 : Int32) (h : TH) (x : Int32), o_X13_of h a b0 = some x → XMt l yX13_of (ws_ yX13_of cX13_of 2 (some .int)) fr lo D [rv a, .int b0] h (.returned (some (.int x))) h) (o_X15_of : TH → Nat → Int32 → Option Int32) (ho_X15_of : ∀ (a : Nat) (b0 : Int32) (h : TH) (x : Int32), o_X15_of h a b0 = some x → XMt l yX15_of (ws_ yX15_of cX15_of 4 (some .int)) fr lo D [rv a, .int b0] h (.returned (some (.int x))) h) {x : Int32} :
    ∀ (a0 : Nat) (b0 : Int32), B_X13_of D.2.2.2 o_X13_of o_X15_of h a0 b0 = some x → XJ p l e (xRm (fr + 1) (lo + 23) h) s m args below meth c D 2 (.returned (some (.int x))) h h 0 [(0, rv a0), (1, .int b0)] [] h := by
  have hx := hC.1
  have hb := hC.2.1
  intro a0 b0 hF H locs cells slots ls hX hl
  rw [B_X13_of] at hF
  refine X_aload_n hx hb dX13_of_0 rfl (lv_at hl 0 rfl) ?_
  obtain ⟨h_1, hF⟩ := gd_ok hF
  refine gX_X13_7 hC hX h_1 dX13_of_1 ?_
  refine lv_topr (fun r_2 er_2 => ?_)
  replace hF := lt_at hF er_2
  refine lv_iload_n hx hb dX13_of_4 rfl (lv_at hl 1 rfl) ?_
  obtain ⟨r_3, hc_4, hF⟩ := bd_ok hF
  refine iXn_X13_13 hC hX hfr hlo ho_X13_of ho_X15_of hc_4 hl.1 (Nat.le_of_ble_eq_true rfl) (by show _ ≤ fr + 1; omega) (by show _ ≤ lo + 23; omega) dX13_of_5 (fun H locs cells slots hX => ?_)
  refine lv_if_ne (tgt := 17) hx hb dX13_of_10 (by decide) (fun c_5 => ?_) (fun c_5 => ?_)
  · replace hF := it_f hF c_5
    refine lv_iconst (v := 0) hx hb dX13_of_17 (by decide) ?_
    exact x_reti hC hX hr rfl (Option.some.inj hF) rfl dX13_of_18
  · replace hF := it_t hF c_5
    refine lv_iconst (v := 1) hx hb dX13_of_13 (by decide) ?_
    refine lv_goto (tgt := 18) hx hb dX13_of_14 (by decide) ?_
    exact x_reti hC hX hr rfl (Option.some.inj hF) rfl dX13_of_18
theorem mb_X13_of (l : Launch) (D : XD) {fr lo : Nat} (hfr : 1 ≤ fr) (hlo : 20 ≤ lo) (o_X13_of : TH → Nat → Int32 → Option Int32) (ho_X13_of : ∀ (a : Nat) (b0 : Int32) (h : TH) (x : Int32), o_X13_of h a b0 = some x → XMt l yX13_of (ws_ yX13_of cX13_of 2 (some .int)) fr lo D [rv a, .int b0] h (.returned (some (.int x))) h) (o_X15_of : TH → Nat → Int32 → Option Int32) (ho_X15_of : ∀ (a : Nat) (b0 : Int32) (h : TH) (x : Int32), o_X15_of h a b0 = some x → XMt l yX15_of (ws_ yX15_of cX15_of 4 (some .int)) fr lo D [rv a, .int b0] h (.returned (some (.int x))) h) (a0 : Nat) (b0 : Int32) (h : TH) (x : Int32) (hF : B_X13_of D.2.2.2 o_X13_of o_X15_of h a0 b0 = some x) : XMt l yX13_of (ws_ yX13_of cX13_of 2 (some .int)) (fr + 1) (lo + 23) D [rv a0, .int b0] h (.returned (some (.int x))) h := by
  refine x_met (by decide +kernel) ?_ ?_
  · simp [lg_sl, rv_cat, cat_i, cat_l]
  intro p e s m below meth c hC hr hnh hin ls hl hX
  replace hl : lv_has ls 2 [(0, rv a0), (1, .int b0)] := by simpa [lv_args, rv_cat, cat_i, cat_l] using hl
  exact w_X13_of_g hC hr hnh hin hfr hlo o_X13_of ho_X13_of o_X15_of ho_X15_of a0 b0 hF s.heap [] 0 0 ls hX hl
def B_X15_of (K : Nat → Nat) (o_X13_of : TH → Nat → Int32 → Option Int32) (o_X15_of : TH → Nat → Int32 → Option Int32) (h : TH) (a0 : Nat) (b0 : Int32) : Option Int32 :=
  gd (hasF (hT h a0) 93 = true) <|
  lt (hR h 93 a0) fun r_2 =>
  bd (V_Node_of K o_X13_of o_X15_of h r_2 b0) fun r_3 =>
  gd (hasF (hT h a0) 94 = true) <|
  lt (hR h 94 a0) fun r_6 =>
  bd (V_Node_of K o_X13_of o_X15_of h r_6 b0) fun r_7 =>
  gd (hasF (hT h a0) 95 = true) <|
  lt ((hI h 95 a0)) fun x_10 =>
  if x_10 = (38 : Int32) then
    if r_3 = 0 then
      some (0 : Int32)
    else
      if r_7 = 0 then
        some (0 : Int32)
      else
        some (1 : Int32)
  else
  if x_10 = (42 : Int32) then
    some (r_3 * r_7)
  else
  if x_10 = (43 : Int32) then
    some (r_3 + r_7)
  else
  if x_10 = (45 : Int32) then
    some (r_3 - r_7)
  else
  if x_10 = (60 : Int32) then
    if r_7 ≤ r_3 then
      some (0 : Int32)
    else
      some (1 : Int32)
  else
  if x_10 = (61 : Int32) then
    if r_3 = r_7 then
      some (1 : Int32)
    else
      some (0 : Int32)
  else
  if x_10 = (62 : Int32) then
    if r_3 ≤ r_7 then
      some (0 : Int32)
    else
      some (1 : Int32)
  else
    if r_3 = 0 then
      if r_7 = 0 then
        some (0 : Int32)
      else
        some (1 : Int32)
    else
      some (1 : Int32)
set_option maxHeartbeats 4000000 in
theorem w_X15_of_g {p : Program} {l : Launch} {e : Env} {s : State} {m : MethodId} {args : Array Value} {below : List Frame} {meth : Method} {c : Code} {D : XD} {h : TH} {fr lo : Nat} (hC : XCx D cX15_of 4 RX15 h p (xRm (fr + 1) (lo + 23) h) s m args meth c) (hr : meth.sig.returnType = some .int) (hnh : c.exceptionTable.isEmpty = true) (hin : meth.name = "of") (hfr : 1 ≤ fr) (hlo : 20 ≤ lo) (o_X13_of : TH → Nat → Int32 → Option Int32) (ho_X13_of : ∀ (a : Nat) (b0 : Int32) (h : TH) (x : Int32), o_X13_of h a b0 = some x → XMt l yX13_of (ws_ yX13_of cX13_of 2 (some .int)) fr lo D [rv a, .int b0] h (.returned (some (.int x))) h) (o_X15_of : TH → Nat → Int32 → Option Int32) (ho_X15_of : ∀ (a : Nat) (b0 : Int32) (h : TH) (x : Int32), o_X15_of h a b0 = some x → XMt l yX15_of (ws_ yX15_of cX15_of 4 (some .int)) fr lo D [rv a, .int b0] h (.returned (some (.int x))) h) {x : Int32} :
    ∀ (a0 : Nat) (b0 : Int32), B_X15_of D.2.2.2 o_X13_of o_X15_of h a0 b0 = some x → XJ p l e (xRm (fr + 1) (lo + 23) h) s m args below meth c D 4 (.returned (some (.int x))) h h 0 [(0, rv a0), (1, .int b0)] [] h := by
  have hx := hC.1
  have hb := hC.2.1
  intro a0 b0 hF H locs cells slots ls hX hl
  rw [B_X15_of] at hF
  refine X_aload_n hx hb dX15_of_0 rfl (lv_at hl 0 rfl) ?_
  obtain ⟨h_1, hF⟩ := gd_ok hF
  refine gX_X15_7 hC hX h_1 dX15_of_1 ?_
  refine lv_topr (fun r_2 er_2 => ?_)
  replace hF := lt_at hF er_2
  refine lv_iload_n hx hb dX15_of_4 rfl (lv_at hl 1 rfl) ?_
  obtain ⟨r_3, hc_4, hF⟩ := bd_ok hF
  refine iXn_X15_20 hC hX hfr hlo ho_X13_of ho_X15_of hc_4 hl.1 (Nat.le_of_ble_eq_true rfl) (by show _ ≤ fr + 1; omega) (by show _ ≤ lo + 23; omega) dX15_of_5 (fun H locs cells slots hX => ?_)
  refine lv_istore_n (lv' := [(2, .int r_3), (0, rv a0), (1, .int b0)]) hx hb dX15_of_10 rfl hl (by decide) rfl (fun ls hl => ?_)
  refine X_aload_n hx hb dX15_of_11 rfl (lv_at hl 1 rfl) ?_
  obtain ⟨h_5, hF⟩ := gd_ok hF
  refine gX_X15_13 hC hX h_5 dX15_of_12 ?_
  refine lv_topr (fun r_6 er_6 => ?_)
  replace hF := lt_at hF er_6
  refine lv_iload_n hx hb dX15_of_15 rfl (lv_at hl 2 rfl) ?_
  obtain ⟨r_7, hc_8, hF⟩ := bd_ok hF
  refine iXn_X15_20 hC hX hfr hlo ho_X13_of ho_X15_of hc_8 hl.1 (Nat.le_of_ble_eq_true rfl) (by show _ ≤ fr + 1; omega) (by show _ ≤ lo + 23; omega) dX15_of_16 (fun H locs cells slots hX => ?_)
  refine lv_istore_n (lv' := [(3, .int r_7), (2, .int r_3), (0, rv a0), (1, .int b0)]) hx hb dX15_of_21 rfl hl (by decide) rfl (fun ls hl => ?_)
  refine X_aload_n hx hb dX15_of_22 rfl (lv_at hl 2 rfl) ?_
  obtain ⟨h_9, hF⟩ := gd_ok hF
  refine gX_X15_16 hC hX h_9 dX15_of_23 ?_
  refine lv_topi (fun x_10 ex_10 => ?_)
  replace hF := lt_at hF ex_10
  by_cases c_11 : x_10 = (38 : Int32)
  · replace hF := it_t hF c_11
    refine lv_tableIn (off := 159) (tgt := 185) hx hb dX15_of_26 (by rw [c_11]; decide) (by rw [c_11]; decide) (by rw [c_11]; rfl) (by decide) ?_
    refine lv_iload_n hx hb dX15_of_185 rfl (lv_at hl 1 rfl) ?_
    refine lv_if_eq (tgt := 197) hx hb dX15_of_186 (by decide) (fun c_12 => ?_) (fun c_12 => ?_)
    · replace hF := it_t hF c_12
      refine lv_iconst (v := 0) hx hb dX15_of_197 (by decide) ?_
      exact x_reti hC hX hr rfl (Option.some.inj hF) rfl dX15_of_198
    · replace hF := it_f hF c_12
      refine lv_iload_n hx hb dX15_of_189 rfl (lv_at hl 0 rfl) ?_
      refine lv_if_eq (tgt := 197) hx hb dX15_of_190 (by decide) (fun c_13 => ?_) (fun c_13 => ?_)
      · replace hF := it_t hF c_13
        refine lv_iconst (v := 0) hx hb dX15_of_197 (by decide) ?_
        exact x_reti hC hX hr rfl (Option.some.inj hF) rfl dX15_of_198
      · replace hF := it_f hF c_13
        refine lv_iconst (v := 1) hx hb dX15_of_193 (by decide) ?_
        refine lv_goto (tgt := 198) hx hb dX15_of_194 (by decide) ?_
        exact x_reti hC hX hr rfl (Option.some.inj hF) rfl dX15_of_198
  replace hF := it_f hF c_11
  by_cases c_14 : x_10 = (42 : Int32)
  · replace hF := it_t hF c_14
    refine lv_tableIn (off := 122) (tgt := 148) hx hb dX15_of_26 (by rw [c_14]; decide) (by rw [c_14]; decide) (by rw [c_14]; rfl) (by decide) ?_
    refine lv_iload_n hx hb dX15_of_148 rfl (lv_at hl 1 rfl) ?_
    refine lv_iload_n hx hb dX15_of_149 rfl (lv_at hl 0 rfl) ?_
    refine lv_imul hx hb dX15_of_150 ?_
    exact x_reti hC hX hr rfl (Option.some.inj hF) rfl dX15_of_151
  replace hF := it_f hF c_14
  by_cases c_15 : x_10 = (43 : Int32)
  · replace hF := it_t hF c_15
    refine lv_tableIn (off := 114) (tgt := 140) hx hb dX15_of_26 (by rw [c_15]; decide) (by rw [c_15]; decide) (by rw [c_15]; rfl) (by decide) ?_
    refine lv_iload_n hx hb dX15_of_140 rfl (lv_at hl 1 rfl) ?_
    refine lv_iload_n hx hb dX15_of_141 rfl (lv_at hl 0 rfl) ?_
    refine lv_iadd hx hb dX15_of_142 ?_
    exact x_reti hC hX hr rfl (Option.some.inj hF) rfl dX15_of_143
  replace hF := it_f hF c_15
  by_cases c_16 : x_10 = (45 : Int32)
  · replace hF := it_t hF c_16
    refine lv_tableIn (off := 118) (tgt := 144) hx hb dX15_of_26 (by rw [c_16]; decide) (by rw [c_16]; decide) (by rw [c_16]; rfl) (by decide) ?_
    refine lv_iload_n hx hb dX15_of_144 rfl (lv_at hl 1 rfl) ?_
    refine lv_iload_n hx hb dX15_of_145 rfl (lv_at hl 0 rfl) ?_
    refine lv_isub hx hb dX15_of_146 ?_
    exact x_reti hC hX hr rfl (Option.some.inj hF) rfl dX15_of_147
  replace hF := it_f hF c_16
  by_cases c_17 : x_10 = (60 : Int32)
  · replace hF := it_t hF c_17
    refine lv_tableIn (off := 126) (tgt := 152) hx hb dX15_of_26 (by rw [c_17]; decide) (by rw [c_17]; decide) (by rw [c_17]; rfl) (by decide) ?_
    refine lv_iload_n hx hb dX15_of_152 rfl (lv_at hl 1 rfl) ?_
    refine lv_iload_n hx hb dX15_of_153 rfl (lv_at hl 0 rfl) ?_
    refine lv_icmp_ge (tgt := 161) hx hb dX15_of_154 (by decide) (fun c_18 => ?_) (fun c_18 => ?_)
    · replace hF := it_t hF c_18
      refine lv_iconst (v := 0) hx hb dX15_of_161 (by decide) ?_
      exact x_reti hC hX hr rfl (Option.some.inj hF) rfl dX15_of_162
    · replace hF := it_f hF c_18
      refine lv_iconst (v := 1) hx hb dX15_of_157 (by decide) ?_
      refine lv_goto (tgt := 162) hx hb dX15_of_158 (by decide) ?_
      exact x_reti hC hX hr rfl (Option.some.inj hF) rfl dX15_of_162
  replace hF := it_f hF c_17
  by_cases c_19 : x_10 = (61 : Int32)
  · replace hF := it_t hF c_19
    refine lv_tableIn (off := 148) (tgt := 174) hx hb dX15_of_26 (by rw [c_19]; decide) (by rw [c_19]; decide) (by rw [c_19]; rfl) (by decide) ?_
    refine lv_iload_n hx hb dX15_of_174 rfl (lv_at hl 1 rfl) ?_
    refine lv_iload_n hx hb dX15_of_175 rfl (lv_at hl 0 rfl) ?_
    refine lv_icmp_ne (tgt := 183) hx hb dX15_of_176 (by decide) (fun c_20 => ?_) (fun c_20 => ?_)
    · replace hF := it_f hF c_20
      refine lv_iconst (v := 0) hx hb dX15_of_183 (by decide) ?_
      exact x_reti hC hX hr rfl (Option.some.inj hF) rfl dX15_of_184
    · replace hF := it_t hF c_20
      refine lv_iconst (v := 1) hx hb dX15_of_179 (by decide) ?_
      refine lv_goto (tgt := 184) hx hb dX15_of_180 (by decide) ?_
      exact x_reti hC hX hr rfl (Option.some.inj hF) rfl dX15_of_184
  replace hF := it_f hF c_19
  by_cases c_21 : x_10 = (62 : Int32)
  · replace hF := it_t hF c_21
    refine lv_tableIn (off := 137) (tgt := 163) hx hb dX15_of_26 (by rw [c_21]; decide) (by rw [c_21]; decide) (by rw [c_21]; rfl) (by decide) ?_
    refine lv_iload_n hx hb dX15_of_163 rfl (lv_at hl 1 rfl) ?_
    refine lv_iload_n hx hb dX15_of_164 rfl (lv_at hl 0 rfl) ?_
    refine lv_icmp_le (tgt := 172) hx hb dX15_of_165 (by decide) (fun c_22 => ?_) (fun c_22 => ?_)
    · replace hF := it_t hF c_22
      refine lv_iconst (v := 0) hx hb dX15_of_172 (by decide) ?_
      exact x_reti hC hX hr rfl (Option.some.inj hF) rfl dX15_of_173
    · replace hF := it_f hF c_22
      refine lv_iconst (v := 1) hx hb dX15_of_168 (by decide) ?_
      refine lv_goto (tgt := 173) hx hb dX15_of_169 (by decide) ?_
      exact x_reti hC hX hr rfl (Option.some.inj hF) rfl dX15_of_173
  replace hF := it_f hF c_21
  refine lv_tableD (keys := [38, 42, 43, 45, 60, 61, 62]) (tgt := 199) hx hb dX15_of_26 (List.forall_mem_cons.mpr ⟨ne_toInt c_11 rfl, (List.forall_mem_cons.mpr ⟨ne_toInt c_14 rfl, (List.forall_mem_cons.mpr ⟨ne_toInt c_15 rfl, (List.forall_mem_cons.mpr ⟨ne_toInt c_16 rfl, (List.forall_mem_cons.mpr ⟨ne_toInt c_17 rfl, (List.forall_mem_cons.mpr ⟨ne_toInt c_19 rfl, (List.forall_mem_cons.mpr ⟨ne_toInt c_21 rfl, (fun _ h => nomatch h)⟩)⟩)⟩)⟩)⟩)⟩)⟩) rfl rfl (by decide) ?_
  refine lv_iload_n hx hb dX15_of_199 rfl (lv_at hl 1 rfl) ?_
  refine lv_if_ne (tgt := 207) hx hb dX15_of_200 (by decide) (fun c_23 => ?_) (fun c_23 => ?_)
  · replace hF := it_f hF c_23
    refine lv_iconst (v := 1) hx hb dX15_of_207 (by decide) ?_
    refine lv_goto (tgt := 212) hx hb dX15_of_208 (by decide) ?_
    exact x_reti hC hX hr rfl (Option.some.inj hF) rfl dX15_of_212
  · replace hF := it_t hF c_23
    refine lv_iload_n hx hb dX15_of_203 rfl (lv_at hl 0 rfl) ?_
    refine lv_if_eq (tgt := 211) hx hb dX15_of_204 (by decide) (fun c_24 => ?_) (fun c_24 => ?_)
    · replace hF := it_t hF c_24
      refine lv_iconst (v := 0) hx hb dX15_of_211 (by decide) ?_
      exact x_reti hC hX hr rfl (Option.some.inj hF) rfl dX15_of_212
    · replace hF := it_f hF c_24
      refine lv_iconst (v := 1) hx hb dX15_of_207 (by decide) ?_
      refine lv_goto (tgt := 212) hx hb dX15_of_208 (by decide) ?_
      exact x_reti hC hX hr rfl (Option.some.inj hF) rfl dX15_of_212
theorem mb_X15_of (l : Launch) (D : XD) {fr lo : Nat} (hfr : 1 ≤ fr) (hlo : 20 ≤ lo) (o_X13_of : TH → Nat → Int32 → Option Int32) (ho_X13_of : ∀ (a : Nat) (b0 : Int32) (h : TH) (x : Int32), o_X13_of h a b0 = some x → XMt l yX13_of (ws_ yX13_of cX13_of 2 (some .int)) fr lo D [rv a, .int b0] h (.returned (some (.int x))) h) (o_X15_of : TH → Nat → Int32 → Option Int32) (ho_X15_of : ∀ (a : Nat) (b0 : Int32) (h : TH) (x : Int32), o_X15_of h a b0 = some x → XMt l yX15_of (ws_ yX15_of cX15_of 4 (some .int)) fr lo D [rv a, .int b0] h (.returned (some (.int x))) h) (a0 : Nat) (b0 : Int32) (h : TH) (x : Int32) (hF : B_X15_of D.2.2.2 o_X13_of o_X15_of h a0 b0 = some x) : XMt l yX15_of (ws_ yX15_of cX15_of 4 (some .int)) (fr + 1) (lo + 23) D [rv a0, .int b0] h (.returned (some (.int x))) h := by
  refine x_met (by decide +kernel) ?_ ?_
  · simp [lg_sl, rv_cat, cat_i, cat_l]
  intro p e s m below meth c hC hr hnh hin ls hl hX
  replace hl : lv_has ls 4 [(0, rv a0), (1, .int b0)] := by simpa [lv_args, rv_cat, cat_i, cat_l] using hl
  exact w_X15_of_g hC hr hnh hin hfr hlo o_X13_of ho_X13_of o_X15_of ho_X15_of a0 b0 hF s.heap [] 0 0 ls hX hl
def G_X13_of (K : Nat → Nat) : Nat → (TH → Nat → Int32 → Option Int32) × (TH → Nat → Int32 → Option Int32)
  | 0 => (fun _ _ _ => none, fun _ _ _ => none)
  | d + 1 => (B_X13_of K (G_X13_of K d).1 (G_X13_of K d).2, B_X15_of K (G_X13_of K d).1 (G_X13_of K d).2)
theorem pG_X13_of (l : Launch) (D : XD) : ∀ d : Nat, (∀ (a : Nat) (b0 : Int32) (h : TH) (x : Int32), (G_X13_of D.2.2.2 d).1 h a b0 = some x → XMt l yX13_of (ws_ yX13_of cX13_of 2 (some .int)) (1 + d) (20 + 23 * d) D [rv a, .int b0] h (.returned (some (.int x))) h) ∧ (∀ (a : Nat) (b0 : Int32) (h : TH) (x : Int32), (G_X13_of D.2.2.2 d).2 h a b0 = some x → XMt l yX15_of (ws_ yX15_of cX15_of 4 (some .int)) (1 + d) (20 + 23 * d) D [rv a, .int b0] h (.returned (some (.int x))) h) := by
  intro d
  induction d with
  | zero => exact ⟨fun _ _ _ _ h => nm_none h, fun _ _ _ _ h => nm_none h⟩
  | succ d ih =>
    have e : 20 + 23 * (d + 1) = 20 + 23 * d + 23 := by omega
    rw [e]
    exact ⟨mb_X13_of l D (Nat.le_add_right _ _) (Nat.le_add_right _ _) _ ih.1 _ ih.2, mb_X15_of l D (Nat.le_add_right _ _) (Nat.le_add_right _ _) _ ih.1 _ ih.2⟩
def F_X13_of (K : Nat → Nat) (h : TH) (a : Nat) (b0 : Int32) : Option Int32 := (G_X13_of K 450).1 h a b0
theorem m_X13_of (l : Launch) (D : XD) (a : Nat) (b0 : Int32) (h : TH) (x : Int32) (hF : F_X13_of D.2.2.2 h a b0 = some x) : XMt l yX13_of (ws_ yX13_of cX13_of 2 (some .int)) 451 10370 D [rv a, .int b0] h (.returned (some (.int x))) h := (pG_X13_of l D 450).1 a b0 h x hF
def F_X15_of (K : Nat → Nat) (h : TH) (a : Nat) (b0 : Int32) : Option Int32 := (G_X13_of K 450).2 h a b0
theorem m_X15_of (l : Launch) (D : XD) (a : Nat) (b0 : Int32) (h : TH) (x : Int32) (hF : F_X15_of D.2.2.2 h a b0 = some x) : XMt l yX15_of (ws_ yX15_of cX15_of 4 (some .int)) 451 10370 D [rv a, .int b0] h (.returned (some (.int x))) h := (pG_X13_of l D 450).2 a b0 h x hF
theorem gX_X1_30 {p : Program} {l : Launch} {e : Env} {R : Room} {s : State} {m : MethodId} {args : Array Value} {below : List Frame} {meth : Method} {c : Code} {H : Heap} {locs : List Loc} {cells slots nL : Nat} {Q : State → Prop} {D : XD} {h0 h : TH} {cc : ByteArray} {pc : Nat} {ls : Array Slot} {rest : List Value} (hC : XCx D cc nL RX1 h0 p R s m args meth c) (hX : XSt D s h0 h H locs cells slots) {a : Nat} (hf : hasF (hT h a) 39 = true) (hdg : decode cc pc = .ok (.getfield 30, 3)) (kk : W p l e R s m args below meth c H locs cells slots Q (F0 m (pc + 3) ls (rv (hR h 39 a) :: rest))) : W p l e R s m args below meth c H locs cells slots Q (F0 m pc ls (rv a :: rest)) :=
  X_getr hC hX 39 hf rfl (fun q => absurd q (by decide)) q237 (fun _ h => h) hdg kk
theorem iXn_X1_34 {p : Program} {l : Launch} {e : Env} {R : Room} {s : State} {m : MethodId} {args : Array Value} {below : List Frame} {meth : Method} {c : Code} {H : Heap} {locs : List Loc} {cells slots nL : Nat} {Q : State → Prop} {D : XD} {h0 h : TH} {cc : ByteArray} {pc : Nat} {ls : Array Slot} {rest : List Value} (hC : XCx D cc nL RX1 h0 p R s m args meth c) (hX : XSt D s h0 h H locs cells slots) {a : Nat} {b0 : Int32} {x : Int32} {fr lo : Nat} (hfr : 1 ≤ fr) (hlo : 20 ≤ lo) {o_X13_of : TH → Nat → Int32 → Option Int32} (ho_X13_of : ∀ (a : Nat) (b0 : Int32) (h : TH) (x : Int32), o_X13_of h a b0 = some x → XMt l yX13_of (ws_ yX13_of cX13_of 2 (some .int)) fr lo D [rv a, .int b0] h (.returned (some (.int x))) h) {o_X15_of : TH → Nat → Int32 → Option Int32} (ho_X15_of : ∀ (a : Nat) (b0 : Int32) (h : TH) (x : Int32), o_X15_of h a b0 = some x → XMt l yX15_of (ws_ yX15_of cX15_of 4 (some .int)) fr lo D [rv a, .int b0] h (.returned (some (.int x))) h) (hcF : V_Node_of D.2.2.2 o_X13_of o_X15_of h a b0 = some x) (hl : ls.size = nL) (hW : (rest.map fun v => v.category).sum ≤ 8) (hRf : fr + 1 ≤ R.frames) (hRl : lo + 23 ≤ R.locals) (hdg : decode cc pc = .ok (.invokeinterface 34 2, 5)) (kk : ∀ (H1 : Heap) (locs1 : List Loc) (cells1 slots1 : Nat), XSt D s h0 h H1 locs1 cells1 slots1 → W p l e R s m args below meth c H1 locs1 cells1 slots1 Q (F0 m (pc + 5) ls (.int x :: rest))) : W p l e R s m args below meth c H locs cells slots Q (F0 m pc ls (.int b0 :: rv a :: rest)) := by
  unfold V_Node_of at hcF
  by_cases q : hT h a = 44
  · replace hcF := it_t hcF q
    exact X_callF0 hC hX (by rw [q]; decide) (by rw [q]; rfl) (As := [.int b0]) (m_X25_of l D a b0 h _ hcF) (cwF0 1 hC.2.2.2.2.1 q659 q663 q665 q667 (xfa0 hC.2.2.2.2.2.2.1) (by decide +kernel) ⟨(by show 0 + 1 ≤ _; omega), (by show 8 + (2 + 11) + 0 ≤ _; omega)⟩) rfl rfl hl hW hdg kk
  replace hcF := it_f hcF q
  by_cases q : hT h a = 45
  · replace hcF := it_t hcF q
    exact X_callF0 hC hX (by rw [q]; decide) (by rw [q]; rfl) (As := [.int b0]) (m_X26_of l D a b0 h _ hcF) (cwF0 1 hC.2.2.2.2.1 q659 q669 q671 q673 (xfa1 hC.2.2.2.2.2.2.1) (by decide +kernel) ⟨(by show 0 + 1 ≤ _; omega), (by show 8 + (2 + 11) + 0 ≤ _; omega)⟩) rfl rfl hl hW hdg kk
  replace hcF := it_f hcF q
  by_cases q : hT h a = 46
  · replace hcF := it_t hcF q
    exact X_callF0 hC hX (by rw [q]; decide) (by rw [q]; rfl) (As := [.int b0]) (m_X27_of l D a b0 h _ hcF) (cwF0 1 hC.2.2.2.2.1 q659 q675 q677 q679 (xfa2 hC.2.2.2.2.2.2.1) (by decide +kernel) ⟨(by show 0 + 1 ≤ _; omega), (by show 8 + (2 + 11) + 0 ≤ _; omega)⟩) rfl rfl hl hW hdg kk
  replace hcF := it_f hcF q
  by_cases q : hT h a = 47
  · replace hcF := it_t hcF q
    exact X_callF0 hC hX (by rw [q]; decide) (by rw [q]; rfl) (As := [.int b0]) (m_X28_of l D a b0 h _ hcF) (cwF0 1 hC.2.2.2.2.1 q659 q681 q683 q685 (xfa3 hC.2.2.2.2.2.2.1) (by decide +kernel) ⟨(by show 1 + 1 ≤ _; omega), (by show 8 + (2 + 11) + 20 ≤ _; omega)⟩) rfl rfl hl hW hdg kk
  replace hcF := it_f hcF q
  by_cases q : hT h a = 11
  · replace hcF := it_t hcF q
    exact X_callF0 hC hX (by rw [q]; decide) (by rw [q]; rfl) (As := [.int b0]) (ho_X13_of a b0 h _ hcF) (cwF0 1 hC.2.2.2.2.1 q659 q693 q695 q697 (xfa4 hC.2.2.2.2.2.2.1) (by decide +kernel) ⟨hRf, (by show 8 + (2 + 11) + lo ≤ _; omega)⟩) rfl rfl hl hW hdg kk
  replace hcF := it_f hcF q
  by_cases q : hT h a = 13
  · replace hcF := it_t hcF q
    exact X_callF0 hC hX (by rw [q]; decide) (by rw [q]; rfl) (As := [.int b0]) (ho_X15_of a b0 h _ hcF) (cwF0 1 hC.2.2.2.2.1 q659 q701 q703 q705 (xfa5 hC.2.2.2.2.2.2.1) (by decide +kernel) ⟨hRf, (by show 8 + (4 + 11) + lo ≤ _; omega)⟩) rfl rfl hl hW hdg kk
  replace hcF := it_f hcF q
  by_cases q : hT h a = 12
  · replace hcF := it_t hcF q
    exact X_callF0 hC hX (by rw [q]; decide) (by rw [q]; rfl) (As := [.int b0]) (m_X14_of l D a b0 h _ hcF) (cwF0 1 hC.2.2.2.2.1 q659 q709 q711 q713 (xfa6 hC.2.2.2.2.2.2.1) (by decide +kernel) ⟨(by show 0 + 1 ≤ _; omega), (by show 8 + (2 + 11) + 0 ≤ _; omega)⟩) rfl rfl hl hW hdg kk
  replace hcF := it_f hcF q
  exact nm_none hcF
/-! BlindCards$Recipe.asked -/
def F_X1_asked (K : Nat → Nat) (h : TH) (a0 : Nat) (b0 : Int32) : Option Int32 :=
  gd (hasF (hT h a0) 39 = true) <|
  lt (hR h 39 a0) fun r_2 =>
  if r_2 = 0 then
    some (0 : Int32)
  else
    gd (hasF (hT h a0) 39 = true) <|
    lt (hR h 39 a0) fun r_5 =>
    bd (V_Node_of K (F_X13_of K) (F_X15_of K) h r_5 b0) fun r_6 =>
    some r_6
set_option maxHeartbeats 4000000 in
theorem w_X1_asked {p : Program} {l : Launch} {e : Env} {s : State} {m : MethodId} {args : Array Value} {below : List Frame} {meth : Method} {c : Code} {D : XD} {h : TH} (hC : XCx D cX1_asked 2 RX1 h p (xRm 452 10393 h) s m args meth c) (hr : meth.sig.returnType = some .int) (hnh : c.exceptionTable.isEmpty = true) (hin : meth.name = "asked") {x : Int32} :
    ∀ (a0 : Nat) (b0 : Int32), F_X1_asked D.2.2.2 h a0 b0 = some x → XJ p l e (xRm 452 10393 h) s m args below meth c D 2 (.returned (some (.int x))) h h 0 [(0, rv a0), (1, .int b0)] [] h := by
  have hx := hC.1
  have hb := hC.2.1
  intro a0 b0 hF H locs cells slots ls hX hl
  rw [F_X1_asked] at hF
  refine X_aload_n hx hb dX1_asked_0 rfl (lv_at hl 0 rfl) ?_
  obtain ⟨h_1, hF⟩ := gd_ok hF
  refine gX_X1_30 hC hX h_1 dX1_asked_1 ?_
  refine lv_topr (fun r_2 er_2 => ?_)
  replace hF := lt_at hF er_2
  refine X_ifnonnull (tgt := 11) hx hb dX1_asked_4 (by decide) (fun c_3 => ?_) (fun c_3 => ?_)
  · replace hF := it_f hF c_3
    refine X_aload_n hx hb dX1_asked_11 rfl (lv_at hl 0 rfl) ?_
    obtain ⟨h_4, hF⟩ := gd_ok hF
    refine gX_X1_30 hC hX h_4 dX1_asked_12 ?_
    refine lv_topr (fun r_5 er_5 => ?_)
    replace hF := lt_at hF er_5
    refine lv_iload_n hx hb dX1_asked_15 rfl (lv_at hl 1 rfl) ?_
    obtain ⟨r_6, hc_7, hF⟩ := bd_ok hF
    refine iXn_X1_34 hC hX (fr := 451) (lo := 10370) (Nat.le_of_ble_eq_true rfl) (Nat.le_of_ble_eq_true rfl) (m_X13_of l D) (m_X15_of l D) hc_7 hl.1 (Nat.le_of_ble_eq_true rfl) (Nat.le_of_ble_eq_true rfl) (Nat.le_of_ble_eq_true rfl) dX1_asked_16 (fun H locs cells slots hX => ?_)
    exact x_reti hC hX hr rfl (Option.some.inj hF) rfl dX1_asked_21
  · replace hF := it_t hF c_3
    refine lv_iconst (v := 0) hx hb dX1_asked_7 (by decide) ?_
    refine lv_goto (tgt := 21) hx hb dX1_asked_8 (by decide) ?_
    exact x_reti hC hX hr rfl (Option.some.inj hF) rfl dX1_asked_21
theorem m_X1_asked (l : Launch) (D : XD) (a0 : Nat) (b0 : Int32) (h : TH) (x : Int32) (hF : F_X1_asked D.2.2.2 h a0 b0 = some x) : XMt l yX1_asked (ws_ yX1_asked cX1_asked 2 (some .int)) 452 10393 D [rv a0, .int b0] h (.returned (some (.int x))) h := by
  refine x_met (by decide +kernel) ?_ ?_
  · simp [lg_sl, rv_cat, cat_i, cat_l]
  intro p e s m below meth c hC hr hnh hin ls hl hX
  replace hl : lv_has ls 2 [(0, rv a0), (1, .int b0)] := by simpa [lv_args, rv_cat, cat_i, cat_l] using hl
  exact w_X1_asked hC hr hnh hin a0 b0 hF s.heap [] 0 0 ls hX hl
theorem iX_X0_19 {p : Program} {l : Launch} {e : Env} {R : Room} {s : State} {m : MethodId} {args : Array Value} {below : List Frame} {meth : Method} {c : Code} {H : Heap} {locs : List Loc} {cells slots nL : Nat} {Q : State → Prop} {D : XD} {h0 h : TH} {cc : ByteArray} {pc : Nat} {ls : Array Slot} {rest : List Value} (hC : XCx D cc nL RX0 h0 p R s m args meth c) (hX : XSt D s h0 h H locs cells slots) {a : Nat} {b0 : Int32} {x : Int32} (ht : hT h a = 2) (hcF : F_X1_asked D.2.2.2 h a b0 = some x) (hl : ls.size = nL) (hW : (rest.map fun v => v.category).sum ≤ 8) (hRf : 452 + 1 ≤ R.frames) (hRl : 10414 ≤ R.locals) (hdg : decode cc pc = .ok (.invokevirtual 19, 3)) (kk : ∀ (H1 : Heap) (locs1 : List Loc) (cells1 slots1 : Nat), XSt D s h0 h H1 locs1 cells1 slots1 → W p l e R s m args below meth c H1 locs1 cells1 slots1 Q (F0 m (pc + 3) ls (.int x :: rest))) : W p l e R s m args below meth c H locs cells slots Q (F0 m pc ls (.int b0 :: rv a :: rest)) := by
  have q := ht
  exact X_callV hC hX (by rw [q]; decide) (by rw [q]; rfl) (As := [.int b0]) (m_X1_asked l D a b0 h _ hcF) (cwV 1 hC.2.2.2.2.1 (lw_V q654 q655 q656 q126 q657) rfl rfl rfl (by decide +kernel) ⟨Nat.le_trans (Nat.le_of_ble_eq_true rfl) hRf, Nat.le_trans (Nat.le_of_ble_eq_true rfl) hRl⟩) rfl rfl hl hW hdg kk
/-! BlindCards.areLike -/
def F_X0_areLike (K : Nat → Nat) (h : TH) (a0 : Nat) (b0 : Int32) (b1 : Int32) (b2 : Int32) : Option Int32 :=
  if b2 = 0 then
    gd (hasF (hT h a0) 7 = true) <|
    lt (hR h 7 a0) fun r_3 =>
    gd (hT h r_3 = 2) <|
    bd (F_X1_asked K h r_3 b0) fun r_6 =>
    gd (hasF (hT h a0) 7 = true) <|
    lt (hR h 7 a0) fun r_8 =>
    gd (hT h r_8 = 2) <|
    bd (F_X1_asked K h r_8 b1) fun r_11 =>
    if r_6 = r_11 then
      some (1 : Int32)
    else
      some (0 : Int32)
  else
    some (1 : Int32)
set_option maxHeartbeats 4000000 in
theorem w_X0_areLike {p : Program} {l : Launch} {e : Env} {s : State} {m : MethodId} {args : Array Value} {below : List Frame} {meth : Method} {c : Code} {D : XD} {h : TH} (hC : XCx D cX0_areLike 4 RX0 h p (xRm 453 10414 h) s m args meth c) (hr : meth.sig.returnType = some .boolean) (hnh : c.exceptionTable.isEmpty = true) (hin : meth.name = "areLike") {x : Int32} :
    ∀ (a0 : Nat) (b0 : Int32) (b1 : Int32) (b2 : Int32), F_X0_areLike D.2.2.2 h a0 b0 b1 b2 = some x → XJ p l e (xRm 453 10414 h) s m args below meth c D 4 (.returned (some (.int x))) h h 0 [(0, rv a0), (1, .int b0), (2, .int b1), (3, .int b2)] [] h := by
  have hx := hC.1
  have hb := hC.2.1
  intro a0 b0 b1 b2 hF H locs cells slots ls hX hl
  rw [F_X0_areLike] at hF
  refine lv_iload_n hx hb dX0_areLike_0 rfl (lv_at hl 3 rfl) ?_
  refine lv_if_ne (tgt := 23) hx hb dX0_areLike_1 (by decide) (fun c_1 => ?_) (fun c_1 => ?_)
  · replace hF := it_f hF c_1
    refine lv_iconst (v := 1) hx hb dX0_areLike_23 (by decide) ?_
    refine lv_goto (tgt := 28) hx hb dX0_areLike_24 (by decide) ?_
    exact x_reti hC hX hr rfl (Option.some.inj hF) rfl dX0_areLike_28
  · replace hF := it_t hF c_1
    refine X_aload_n hx hb dX0_areLike_4 rfl (lv_at hl 0 rfl) ?_
    obtain ⟨h_2, hF⟩ := gd_ok hF
    refine gX_X0_15 hC hX h_2 dX0_areLike_5 ?_
    refine lv_topr (fun r_3 er_3 => ?_)
    replace hF := lt_at hF er_3
    refine lv_iload_n hx hb dX0_areLike_8 rfl (lv_at hl 1 rfl) ?_
    obtain ⟨h_4, hF⟩ := gd_ok hF
    obtain ⟨r_6, hc_5, hF⟩ := bd_ok hF
    refine iX_X0_19 hC hX h_4 hc_5 hl.1 (Nat.le_of_ble_eq_true rfl) (Nat.le_of_ble_eq_true rfl) (Nat.le_of_ble_eq_true rfl) dX0_areLike_9 (fun H locs cells slots hX => ?_)
    refine X_aload_n hx hb dX0_areLike_12 rfl (lv_at hl 0 rfl) ?_
    obtain ⟨h_7, hF⟩ := gd_ok hF
    refine gX_X0_15 hC hX h_7 dX0_areLike_13 ?_
    refine lv_topr (fun r_8 er_8 => ?_)
    replace hF := lt_at hF er_8
    refine lv_iload_n hx hb dX0_areLike_16 rfl (lv_at hl 2 rfl) ?_
    obtain ⟨h_9, hF⟩ := gd_ok hF
    obtain ⟨r_11, hc_10, hF⟩ := bd_ok hF
    refine iX_X0_19 hC hX h_9 hc_10 hl.1 (Nat.le_of_ble_eq_true rfl) (Nat.le_of_ble_eq_true rfl) (Nat.le_of_ble_eq_true rfl) dX0_areLike_17 (fun H locs cells slots hX => ?_)
    refine lv_icmp_ne (tgt := 27) hx hb dX0_areLike_20 (by decide) (fun c_12 => ?_) (fun c_12 => ?_)
    · replace hF := it_f hF c_12
      refine lv_iconst (v := 0) hx hb dX0_areLike_27 (by decide) ?_
      exact x_reti hC hX hr rfl (Option.some.inj hF) rfl dX0_areLike_28
    · replace hF := it_t hF c_12
      refine lv_iconst (v := 1) hx hb dX0_areLike_23 (by decide) ?_
      refine lv_goto (tgt := 28) hx hb dX0_areLike_24 (by decide) ?_
      exact x_reti hC hX hr rfl (Option.some.inj hF) rfl dX0_areLike_28
theorem m_X0_areLike (l : Launch) (D : XD) (a0 : Nat) (b0 : Int32) (b1 : Int32) (b2 : Int32) (h : TH) (x : Int32) (hF : F_X0_areLike D.2.2.2 h a0 b0 b1 b2 = some x) : XMt l yX0_areLike (ws_ yX0_areLike cX0_areLike 4 (some .boolean)) 453 10414 D [rv a0, .int b0, .int b1, .int b2] h (.returned (some (.int x))) h := by
  refine x_met (by decide +kernel) ?_ ?_
  · simp [lg_sl, rv_cat, cat_i, cat_l]
  intro p e s m below meth c hC hr hnh hin ls hl hX
  replace hl : lv_has ls 4 [(0, rv a0), (1, .int b0), (2, .int b1), (3, .int b2)] := by simpa [lv_args, rv_cat, cat_i, cat_l] using hl
  exact w_X0_areLike hC hr hnh hin a0 b0 b1 b2 hF s.heap [] 0 0 ls hX hl
theorem gX_X4_26 {p : Program} {l : Launch} {e : Env} {R : Room} {s : State} {m : MethodId} {args : Array Value} {below : List Frame} {meth : Method} {c : Code} {H : Heap} {locs : List Loc} {cells slots nL : Nat} {Q : State → Prop} {D : XD} {h0 h : TH} {cc : ByteArray} {pc : Nat} {ls : Array Slot} {rest : List Value} (hC : XCx D cc nL RX4 h0 p R s m args meth c) (hX : XSt D s h0 h H locs cells slots) {a : Nat} (hf : hasF (hT h a) 59 = true) (hdg : decode cc pc = .ok (.getfield 26, 3)) (kk : W p l e R s m args below meth c H locs cells slots Q (F0 m (pc + 3) ls (.int (hI h 59 a) :: rest))) : W p l e R s m args below meth c H locs cells slots Q (F0 m pc ls (rv a :: rest)) :=
  X_geti hC hX 59 hf rfl q344 (fun _ h => h) hdg kk
theorem pX_X4_26 {p : Program} {l : Launch} {e : Env} {R : Room} {s : State} {m : MethodId} {args : Array Value} {below : List Frame} {meth : Method} {c : Code} {H : Heap} {locs : List Loc} {cells slots nL : Nat} {Q : State → Prop} {D : XD} {h0 h : TH} {cc : ByteArray} {pc : Nat} {ls : Array Slot} {rest : List Value} (hC : XCx D cc nL RX4 h0 p R s m args meth c) (hX : XSt D s h0 h H locs cells slots) {a : Nat} {v : Int32} (hf : hasF (hT h a) 59 = true) (hw : hT h a ≤ 24) (hdg : decode cc pc = .ok (.putfield 26, 3)) (kk : ∀ (H1 : Heap) (locs1 : List Loc), XSt D s h0 (uI h 59 a v) H1 locs1 cells slots → W p l e R s m args below meth c H1 locs1 cells slots Q (F0 m (pc + 3) ls rest)) : W p l e R s m args below meth c H locs cells slots Q (F0 m pc ls (.int v :: rv a :: rest)) :=
  X_puti hC hX 59 hf hw rfl rfl q344 (fun _ h => h) ⟨rfl, rfl⟩ hdg kk
theorem pX_X4_32 {p : Program} {l : Launch} {e : Env} {R : Room} {s : State} {m : MethodId} {args : Array Value} {below : List Frame} {meth : Method} {c : Code} {H : Heap} {locs : List Loc} {cells slots nL : Nat} {Q : State → Prop} {D : XD} {h0 h : TH} {cc : ByteArray} {pc : Nat} {ls : Array Slot} {rest : List Value} (hC : XCx D cc nL RX4 h0 p R s m args meth c) (hX : XSt D s h0 h H locs cells slots) {a : Nat} {v : Int32} (hf : hasF (hT h a) 61 = true) (hw : hT h a ≤ 24) (hg : v = 0 ∨ v = 1) (hdg : decode cc pc = .ok (.putfield 32, 3)) (kk : ∀ (H1 : Heap) (locs1 : List Loc), XSt D s h0 (uI h 61 a v) H1 locs1 cells slots → W p l e R s m args below meth c H1 locs1 cells slots Q (F0 m (pc + 3) ls rest)) : W p l e R s m args below meth c H locs cells slots Q (F0 m pc ls (.int v :: rv a :: rest)) :=
  X_puti hC hX 61 hf hw rfl rfl q346 (fun _ h => h) (zb_nar hg) hdg kk
theorem gX_X4_3 {p : Program} {l : Launch} {e : Env} {R : Room} {s : State} {m : MethodId} {args : Array Value} {below : List Frame} {meth : Method} {c : Code} {H : Heap} {locs : List Loc} {cells slots nL : Nat} {Q : State → Prop} {D : XD} {h0 h : TH} {cc : ByteArray} {pc : Nat} {ls : Array Slot} {rest : List Value} (hC : XCx D cc nL RX4 h0 p R s m args meth c) (hX : XSt D s h0 h H locs cells slots) {a : Nat} (hf : hasF (hT h a) 63 = true) (hdg : decode cc pc = .ok (.getfield 3, 3)) (kk : W p l e R s m args below meth c H locs cells slots Q (F0 m (pc + 3) ls (rv (hR h 63 a) :: rest))) : W p l e R s m args below meth c H locs cells slots Q (F0 m pc ls (rv a :: rest)) :=
  X_getr hC hX 63 hf rfl (fun q => absurd q (by decide)) q348 (fun _ h => h) hdg kk
theorem gX_X4_39 {p : Program} {l : Launch} {e : Env} {R : Room} {s : State} {m : MethodId} {args : Array Value} {below : List Frame} {meth : Method} {c : Code} {H : Heap} {locs : List Loc} {cells slots nL : Nat} {Q : State → Prop} {D : XD} {h0 h : TH} {cc : ByteArray} {pc : Nat} {ls : Array Slot} {rest : List Value} (hC : XCx D cc nL RX4 h0 p R s m args meth c) (hX : XSt D s h0 h H locs cells slots) {a : Nat} (hf : hasF (hT h a) 7 = true) (hdg : decode cc pc = .ok (.getfield 39, 3)) (kk : W p l e R s m args below meth c H locs cells slots Q (F0 m (pc + 3) ls (rv (hR h 7 a) :: rest))) : W p l e R s m args below meth c H locs cells slots Q (F0 m pc ls (rv a :: rest)) :=
  X_getrN hC hX 7 hf rfl (fun q => absurd q (by decide)) (List.mem_of_getElem? (i := 7) rfl) hdg kk
theorem iX_X4_43 {p : Program} {l : Launch} {e : Env} {R : Room} {s : State} {m : MethodId} {args : Array Value} {below : List Frame} {meth : Method} {c : Code} {H : Heap} {locs : List Loc} {cells slots nL : Nat} {Q : State → Prop} {D : XD} {h0 h : TH} {cc : ByteArray} {pc : Nat} {ls : Array Slot} {rest : List Value} (hC : XCx D cc nL RX4 h0 p R s m args meth c) (hX : XSt D s h0 h H locs cells slots) {a : Nat} {x : Int32} (ht : hT h a = 2) (hcF : F_X1_inputs D.2.2.2 h a = some x) (hl : ls.size = nL) (hW : (rest.map fun v => v.category).sum ≤ 8) (hRf : 0 + 1 ≤ R.frames) (hRl : 20 ≤ R.locals) (hdg : decode cc pc = .ok (.invokevirtual 43, 3)) (kk : ∀ (H1 : Heap) (locs1 : List Loc) (cells1 slots1 : Nat), XSt D s h0 h H1 locs1 cells1 slots1 → W p l e R s m args below meth c H1 locs1 cells1 slots1 Q (F0 m (pc + 3) ls (.int x :: rest))) : W p l e R s m args below meth c H locs cells slots Q (F0 m pc ls (rv a :: rest)) := by
  have q := ht
  exact X_callV hC hX (by rw [q]; decide) (by rw [q]; rfl) (As := []) (m_X1_inputs l D a h _ hcF) (cwV 0 hC.2.2.2.2.1 (lw_V q649 q480 q481 q126 q482) rfl rfl rfl (by decide +kernel) ⟨Nat.le_trans (Nat.le_of_ble_eq_true rfl) hRf, Nat.le_trans (Nat.le_of_ble_eq_true rfl) hRl⟩) rfl rfl hl hW hdg kk
theorem gX_X4_29 {p : Program} {l : Launch} {e : Env} {R : Room} {s : State} {m : MethodId} {args : Array Value} {below : List Frame} {meth : Method} {c : Code} {H : Heap} {locs : List Loc} {cells slots nL : Nat} {Q : State → Prop} {D : XD} {h0 h : TH} {cc : ByteArray} {pc : Nat} {ls : Array Slot} {rest : List Value} (hC : XCx D cc nL RX4 h0 p R s m args meth c) (hX : XSt D s h0 h H locs cells slots) {a : Nat} (hf : hasF (hT h a) 60 = true) (hdg : decode cc pc = .ok (.getfield 29, 3)) (kk : W p l e R s m args below meth c H locs cells slots Q (F0 m (pc + 3) ls (.int (hI h 60 a) :: rest))) : W p l e R s m args below meth c H locs cells slots Q (F0 m pc ls (rv a :: rest)) :=
  X_geti hC hX 60 hf rfl q345 (fun _ h => h) hdg kk
theorem gX_X4_22 {p : Program} {l : Launch} {e : Env} {R : Room} {s : State} {m : MethodId} {args : Array Value} {below : List Frame} {meth : Method} {c : Code} {H : Heap} {locs : List Loc} {cells slots nL : Nat} {Q : State → Prop} {D : XD} {h0 h : TH} {cc : ByteArray} {pc : Nat} {ls : Array Slot} {rest : List Value} (hC : XCx D cc nL RX4 h0 p R s m args meth c) (hX : XSt D s h0 h H locs cells slots) {a : Nat} (hf : hasF (hT h a) 62 = true) (hdg : decode cc pc = .ok (.getfield 22, 3)) (kk : W p l e R s m args below meth c H locs cells slots Q (F0 m (pc + 3) ls (.int (hI h 62 a) :: rest))) : W p l e R s m args below meth c H locs cells slots Q (F0 m pc ls (rv a :: rest)) :=
  X_geti hC hX 62 hf rfl q347 (fun _ h => h) hdg kk
theorem iX_X4_49 {p : Program} {l : Launch} {e : Env} {R : Room} {s : State} {m : MethodId} {args : Array Value} {below : List Frame} {meth : Method} {c : Code} {H : Heap} {locs : List Loc} {cells slots nL : Nat} {Q : State → Prop} {D : XD} {h0 h : TH} {cc : ByteArray} {pc : Nat} {ls : Array Slot} {rest : List Value} (hC : XCx D cc nL RX4 h0 p R s m args meth c) (hX : XSt D s h0 h H locs cells slots) {a : Nat} {b0 : Int32} {b1 : Int32} {b2 : Int32} {x : Int32} (ht : hT h a = 1) (hcF : F_X0_areLike D.2.2.2 h a b0 b1 b2 = some x) (hl : ls.size = nL) (hW : (rest.map fun v => v.category).sum ≤ 8) (hRf : 453 + 1 ≤ R.frames) (hRl : 10437 ≤ R.locals) (hdg : decode cc pc = .ok (.invokevirtual 49, 3)) (kk : ∀ (H1 : Heap) (locs1 : List Loc) (cells1 slots1 : Nat), XSt D s h0 h H1 locs1 cells1 slots1 → W p l e R s m args below meth c H1 locs1 cells1 slots1 Q (F0 m (pc + 3) ls (.int x :: rest))) : W p l e R s m args below meth c H locs cells slots Q (F0 m pc ls (.int b2 :: .int b1 :: .int b0 :: rv a :: rest)) := by
  have q := ht
  exact X_callVN hC hX (by rw [q]; decide) (by rw [q]; rfl) (As := [.int b0, .int b1, .int b2]) (m_X0_areLike l D a b0 b1 b2 h _ hcF) ⟨va_cnB 3 hC.2.2.2.2.1 (lw_meth q653) rfl rfl rfl (xm9 hC.2.2.2.2.2.2.1) (hC.2.2.2.2.1 _ q125) (by decide +kernel) ⟨Nat.le_trans (Nat.le_of_ble_eq_true rfl) hRf, Nat.le_trans (Nat.le_of_ble_eq_true rfl) hRl⟩, hC.2.2.2.2.1 _ q652, hC.2.2.2.2.1 _ qs3⟩ rfl rfl hl hW hdg kk
theorem iX_X4_53 {p : Program} {l : Launch} {e : Env} {R : Room} {s : State} {m : MethodId} {args : Array Value} {below : List Frame} {meth : Method} {c : Code} {H : Heap} {locs : List Loc} {cells slots nL : Nat} {Q : State → Prop} {D : XD} {h0 h : TH} {cc : ByteArray} {pc : Nat} {ls : Array Slot} {rest : List Value} (hC : XCx D cc nL RX4 h0 p R s m args meth c) (hX : XSt D s h0 h H locs cells slots) {a : Nat} {b0 : Int32} {b1 : Int32} {x : Int64} (ht : hT h a = 5) (hcF : F_X2_sum D.2.2.2 h a b0 b1 = some x) (hl : ls.size = nL) (hW : (rest.map fun v => v.category).sum ≤ 8) (hRf : 0 + 1 ≤ R.frames) (hRl : 25 ≤ R.locals) (hdg : decode cc pc = .ok (.invokevirtual 53, 3)) (kk : ∀ (H1 : Heap) (locs1 : List Loc) (cells1 slots1 : Nat), XSt D s h0 h H1 locs1 cells1 slots1 → W p l e R s m args below meth c H1 locs1 cells1 slots1 Q (F0 m (pc + 3) ls (.long x :: rest))) : W p l e R s m args below meth c H locs cells slots Q (F0 m pc ls (.int b1 :: .int b0 :: rv a :: rest)) := by
  have q := ht
  exact X_callU hC hX (by rw [q]; decide) (by rw [q]; rfl) (As := [.int b0, .int b1]) (m_X2_sum l D a b0 b1 h _ hcF) (va_cwU 2 hC.2.2.2.2.1 (lw_U (owner := "BlindCards$Runs") q714 q715 q717 q718 q130 q719) rfl rfl rfl rfl (by decide +kernel) ⟨Nat.le_trans (Nat.le_of_ble_eq_true rfl) hRf, Nat.le_trans (Nat.le_of_ble_eq_true rfl) hRl⟩) rfl rfl hl hW hdg kk
theorem pX_X4_29 {p : Program} {l : Launch} {e : Env} {R : Room} {s : State} {m : MethodId} {args : Array Value} {below : List Frame} {meth : Method} {c : Code} {H : Heap} {locs : List Loc} {cells slots nL : Nat} {Q : State → Prop} {D : XD} {h0 h : TH} {cc : ByteArray} {pc : Nat} {ls : Array Slot} {rest : List Value} (hC : XCx D cc nL RX4 h0 p R s m args meth c) (hX : XSt D s h0 h H locs cells slots) {a : Nat} {v : Int32} (hf : hasF (hT h a) 60 = true) (hw : hT h a ≤ 24) (hg : v = 0 ∨ v = 1) (hdg : decode cc pc = .ok (.putfield 29, 3)) (kk : ∀ (H1 : Heap) (locs1 : List Loc), XSt D s h0 (uI h 60 a v) H1 locs1 cells slots → W p l e R s m args below meth c H1 locs1 cells slots Q (F0 m (pc + 3) ls rest)) : W p l e R s m args below meth c H locs cells slots Q (F0 m pc ls (.int v :: rv a :: rest)) :=
  X_puti hC hX 60 hf hw rfl rfl q345 (fun _ h => h) (zb_nar hg) hdg kk
/-! BlindCards$Closer.end -/
def F_X4_end_b122 (K : Nat → Nat) (k32 : Nat → Int32 → Int32 → TH → Option TH) (x0 : Nat) (x1 : Int32) (x5 : Int32) (h : TH) : Option TH :=
  lt (x5 + (1 : Int32)) fun x5_1 =>
  k32 x0 x1 x5_1 h
set_option maxHeartbeats 4000000 in
theorem w_X4_end_b122 {p : Program} {l : Launch} {e : Env} {s : State} {m : MethodId} {args : Array Value} {below : List Frame} {meth : Method} {c : Code} {D : XD} {h0 : TH} (hC : XCx D cX4_end 7 RX4 h0 p (xRm 454 10437 h0) s m args meth c) (hr : meth.sig.returnType = none) (hnh : c.exceptionTable.isEmpty = true) (hin : meth.name = "end") {x : TH} (k32 : Nat → Int32 → Int32 → TH → Option TH) (hk32 : ∀ (x0 : Nat) (x1 : Int32) (x5 : Int32) (h : TH), k32 x0 x1 x5 h = some x → XJ p l e (xRm 454 10437 h0) s m args below meth c D 7 (.returned none) h0 x 32 [(0, rv x0), (1, .int x1), (5, .int x5)] [] h) :
    ∀ (x0 : Nat) (x1 : Int32) (x5 : Int32) (h : TH), F_X4_end_b122 D.2.2.2 k32 x0 x1 x5 h = some x → XJ p l e (xRm 454 10437 h0) s m args below meth c D 7 (.returned none) h0 x 122 [(0, rv x0), (1, .int x1), (5, .int x5)] [] h := by
  have hx := hC.1
  have hb := hC.2.1
  intro x0 x1 x5 h hF H locs cells slots ls hX hl
  rw [F_X4_end_b122] at hF
  obtain ⟨x5_1, ex5_1, hF⟩ := lt_ok hF
  refine lv_iinc (v := x5_1) (lv' := [(5, .int x5_1), (0, rv x0), (1, .int x1)]) hx hb dX4_end_122 hl (k := 2) rfl (by rw [ex5_1]; rfl) (by decide) rfl (fun ls hl => ?_)
  refine lv_goto (tgt := 32) hx hb dX4_end_125 (by decide) ?_
  exact hk32 x0 x1 x5_1 h hF H locs cells slots ls hX (lv_sub hl [1, 2, 0] rfl)
def F_X4_end_b113 (K : Nat → Nat) (k57 : Nat → Int32 → Int32 → Int32 → TH → Option TH) (x0 : Nat) (x1 : Int32) (x5 : Int32) (x6 : Int32) (y0 : Int32) (y1 : Nat) (h : TH) : Option TH :=
  gd (hasF (hT h y1) 60 = true) <|
  gd (hT h y1 ≤ 24) <|
  gd (y0 = 0 ∨ y0 = 1) <|
  lt (uI h 60 y1 y0) fun h_4 =>
  lt (x6 + (1 : Int32)) fun x6_5 =>
  k57 x0 x1 x5 x6_5 h_4
set_option maxHeartbeats 4000000 in
theorem w_X4_end_b113 {p : Program} {l : Launch} {e : Env} {s : State} {m : MethodId} {args : Array Value} {below : List Frame} {meth : Method} {c : Code} {D : XD} {h0 : TH} (hC : XCx D cX4_end 7 RX4 h0 p (xRm 454 10437 h0) s m args meth c) (hr : meth.sig.returnType = none) (hnh : c.exceptionTable.isEmpty = true) (hin : meth.name = "end") {x : TH} (k57 : Nat → Int32 → Int32 → Int32 → TH → Option TH) (hk57 : ∀ (x0 : Nat) (x1 : Int32) (x5 : Int32) (x6 : Int32) (h : TH), k57 x0 x1 x5 x6 h = some x → XJ p l e (xRm 454 10437 h0) s m args below meth c D 7 (.returned none) h0 x 57 [(0, rv x0), (1, .int x1), (5, .int x5), (6, .int x6)] [] h) :
    ∀ (x0 : Nat) (x1 : Int32) (x5 : Int32) (x6 : Int32) (y0 : Int32) (y1 : Nat) (h : TH), F_X4_end_b113 D.2.2.2 k57 x0 x1 x5 x6 y0 y1 h = some x → XJ p l e (xRm 454 10437 h0) s m args below meth c D 7 (.returned none) h0 x 113 [(0, rv x0), (1, .int x1), (5, .int x5), (6, .int x6)] [.int y0, rv y1] h := by
  have hx := hC.1
  have hb := hC.2.1
  intro x0 x1 x5 x6 y0 y1 h hF H locs cells slots ls hX hl
  rw [F_X4_end_b113] at hF
  obtain ⟨h_1, hF⟩ := gd_ok hF
  obtain ⟨h_2, hF⟩ := gd_ok hF
  obtain ⟨h_3, hF⟩ := gd_ok hF
  refine pX_X4_29 hC hX h_1 h_2 h_3 dX4_end_113 (fun H locs hX => ?_)
  obtain ⟨h_4, eh_4, hF⟩ := lt_ok hF
  rw [← eh_4] at hX
  obtain ⟨x6_5, ex6_5, hF⟩ := lt_ok hF
  refine lv_iinc (v := x6_5) (lv' := [(6, .int x6_5), (0, rv x0), (1, .int x1), (5, .int x5)]) hx hb dX4_end_116 hl (k := 3) rfl (by rw [ex6_5]; rfl) (by decide) rfl (fun ls hl => ?_)
  refine lv_goto (tgt := 57) hx hb dX4_end_119 (by decide) ?_
  exact hk57 x0 x1 x5 x6_5 h_4 hF H locs cells slots ls hX (lv_sub hl [1, 2, 3, 0] rfl)
def F_X4_end_b112 (K : Nat → Nat) (k113 : Nat → Int32 → Int32 → Int32 → Int32 → Nat → TH → Option TH) (x0 : Nat) (x1 : Int32) (x5 : Int32) (x6 : Int32) (y0 : Nat) (h : TH) : Option TH :=
  k113 x0 x1 x5 x6 (0 : Int32) y0 h
set_option maxHeartbeats 4000000 in
theorem w_X4_end_b112 {p : Program} {l : Launch} {e : Env} {s : State} {m : MethodId} {args : Array Value} {below : List Frame} {meth : Method} {c : Code} {D : XD} {h0 : TH} (hC : XCx D cX4_end 7 RX4 h0 p (xRm 454 10437 h0) s m args meth c) (hr : meth.sig.returnType = none) (hnh : c.exceptionTable.isEmpty = true) (hin : meth.name = "end") {x : TH} (k113 : Nat → Int32 → Int32 → Int32 → Int32 → Nat → TH → Option TH) (hk113 : ∀ (x0 : Nat) (x1 : Int32) (x5 : Int32) (x6 : Int32) (y0 : Int32) (y1 : Nat) (h : TH), k113 x0 x1 x5 x6 y0 y1 h = some x → XJ p l e (xRm 454 10437 h0) s m args below meth c D 7 (.returned none) h0 x 113 [(0, rv x0), (1, .int x1), (5, .int x5), (6, .int x6)] [.int y0, rv y1] h) :
    ∀ (x0 : Nat) (x1 : Int32) (x5 : Int32) (x6 : Int32) (y0 : Nat) (h : TH), F_X4_end_b112 D.2.2.2 k113 x0 x1 x5 x6 y0 h = some x → XJ p l e (xRm 454 10437 h0) s m args below meth c D 7 (.returned none) h0 x 112 [(0, rv x0), (1, .int x1), (5, .int x5), (6, .int x6)] [rv y0] h := by
  have hx := hC.1
  have hb := hC.2.1
  intro x0 x1 x5 x6 y0 h hF H locs cells slots ls hX hl
  rw [F_X4_end_b112] at hF
  refine lv_iconst (v := 0) hx hb dX4_end_112 (by decide) ?_
  exact hk113 x0 x1 x5 x6 (0 : Int32) y0 h hF H locs cells slots ls hX (lv_sub hl [0, 1, 2, 3] rfl)
def F_X4_end_b108 (K : Nat → Nat) (k113 : Nat → Int32 → Int32 → Int32 → Int32 → Nat → TH → Option TH) (x0 : Nat) (x1 : Int32) (x5 : Int32) (x6 : Int32) (y0 : Nat) (h : TH) : Option TH :=
  k113 x0 x1 x5 x6 (1 : Int32) y0 h
set_option maxHeartbeats 4000000 in
theorem w_X4_end_b108 {p : Program} {l : Launch} {e : Env} {s : State} {m : MethodId} {args : Array Value} {below : List Frame} {meth : Method} {c : Code} {D : XD} {h0 : TH} (hC : XCx D cX4_end 7 RX4 h0 p (xRm 454 10437 h0) s m args meth c) (hr : meth.sig.returnType = none) (hnh : c.exceptionTable.isEmpty = true) (hin : meth.name = "end") {x : TH} (k113 : Nat → Int32 → Int32 → Int32 → Int32 → Nat → TH → Option TH) (hk113 : ∀ (x0 : Nat) (x1 : Int32) (x5 : Int32) (x6 : Int32) (y0 : Int32) (y1 : Nat) (h : TH), k113 x0 x1 x5 x6 y0 y1 h = some x → XJ p l e (xRm 454 10437 h0) s m args below meth c D 7 (.returned none) h0 x 113 [(0, rv x0), (1, .int x1), (5, .int x5), (6, .int x6)] [.int y0, rv y1] h) :
    ∀ (x0 : Nat) (x1 : Int32) (x5 : Int32) (x6 : Int32) (y0 : Nat) (h : TH), F_X4_end_b108 D.2.2.2 k113 x0 x1 x5 x6 y0 h = some x → XJ p l e (xRm 454 10437 h0) s m args below meth c D 7 (.returned none) h0 x 108 [(0, rv x0), (1, .int x1), (5, .int x5), (6, .int x6)] [rv y0] h := by
  have hx := hC.1
  have hb := hC.2.1
  intro x0 x1 x5 x6 y0 h hF H locs cells slots ls hX hl
  rw [F_X4_end_b108] at hF
  refine lv_iconst (v := 1) hx hb dX4_end_108 (by decide) ?_
  refine lv_goto (tgt := 113) hx hb dX4_end_109 (by decide) ?_
  exact hk113 x0 x1 x5 x6 (1 : Int32) y0 h hF H locs cells slots ls hX (lv_sub hl [0, 1, 2, 3] rfl)
def F_X4_end_L57 (K : Nat → Nat) (k32 : Nat → Int32 → Int32 → TH → Option TH) : Nat → Nat → Int32 → Int32 → Int32 → TH → Option TH
  | 0, _, _, _, _, _ => none
  | fu + 1, x0, x1, x5, x6, h =>
    if x5 ≤ x6 then
      F_X4_end_b122 K k32 x0 x1 x5 h
    else
      gd (hasF (hT h x0) 60 = true) <|
      if (hI h 60 x0) = 0 then
        gd (hasF (hT h x0) 63 = true) <|
        lt (hR h 63 x0) fun r_5 =>
        gd (hasF (hT h x0) 62 = true) <|
        gd (hT h r_5 = 1) <|
        bd (F_X0_areLike K h r_5 x5 x6 (hI h 62 x0)) fun r_9 =>
        if r_9 = 0 then
          F_X4_end_b112 K (F_X4_end_b113 K (F_X4_end_L57 K k32 fu)) x0 x1 x5 x6 x0 h
        else
          gd (hT h x0 = 5) <|
          bd (F_X2_sum K h x0 x1 x5) fun r_13 =>
          gd (hT h x0 = 5) <|
          bd (F_X2_sum K h x0 x1 x6) fun r_16 =>
          if (lg_cmp r_13 r_16) = 0 then
            F_X4_end_b112 K (F_X4_end_b113 K (F_X4_end_L57 K k32 fu)) x0 x1 x5 x6 x0 h
          else
            F_X4_end_b108 K (F_X4_end_b113 K (F_X4_end_L57 K k32 fu)) x0 x1 x5 x6 x0 h
      else
        F_X4_end_b108 K (F_X4_end_b113 K (F_X4_end_L57 K k32 fu)) x0 x1 x5 x6 x0 h
set_option maxHeartbeats 4000000 in
theorem w_X4_end_L57 {p : Program} {l : Launch} {e : Env} {s : State} {m : MethodId} {args : Array Value} {below : List Frame} {meth : Method} {c : Code} {D : XD} {h0 : TH} (hC : XCx D cX4_end 7 RX4 h0 p (xRm 454 10437 h0) s m args meth c) (hr : meth.sig.returnType = none) (hnh : c.exceptionTable.isEmpty = true) (hin : meth.name = "end") {x : TH} (k32 : Nat → Int32 → Int32 → TH → Option TH) (hk32 : ∀ (x0 : Nat) (x1 : Int32) (x5 : Int32) (h : TH), k32 x0 x1 x5 h = some x → XJ p l e (xRm 454 10437 h0) s m args below meth c D 7 (.returned none) h0 x 32 [(0, rv x0), (1, .int x1), (5, .int x5)] [] h) :
    ∀ (fu : Nat) (x0 : Nat) (x1 : Int32) (x5 : Int32) (x6 : Int32) (h : TH), F_X4_end_L57 D.2.2.2 k32 fu x0 x1 x5 x6 h = some x → XJ p l e (xRm 454 10437 h0) s m args below meth c D 7 (.returned none) h0 x 57 [(0, rv x0), (1, .int x1), (5, .int x5), (6, .int x6)] [] h := by
  have hx := hC.1
  have hb := hC.2.1
  intro fu
  induction fu with
  | zero => intro x0 x1 x5 x6 h hF; exact nm_none hF
  | succ fu ih =>
    intro x0 x1 x5 x6 h hF H locs cells slots ls hX hl
    rw [F_X4_end_L57] at hF
    refine lv_iload hx hb dX4_end_57 (lv_at hl 3 rfl) ?_
    refine lv_iload hx hb dX4_end_59 (lv_at hl 2 rfl) ?_
    refine lv_icmp_ge (tgt := 122) hx hb dX4_end_61 (by decide) (fun c_1 => ?_) (fun c_1 => ?_)
    · replace hF := it_t hF c_1
      exact w_X4_end_b122 hC hr hnh hin k32 hk32 x0 x1 x5 h hF H locs cells slots ls hX (lv_sub hl [0, 1, 2] rfl)
    · replace hF := it_f hF c_1
      refine X_aload_n hx hb dX4_end_64 rfl (lv_at hl 0 rfl) ?_
      refine X_aload_n hx hb dX4_end_65 rfl (lv_at hl 0 rfl) ?_
      obtain ⟨h_2, hF⟩ := gd_ok hF
      refine gX_X4_29 hC hX h_2 dX4_end_66 ?_
      refine lv_if_ne (tgt := 108) hx hb dX4_end_69 (by decide) (fun c_3 => ?_) (fun c_3 => ?_)
      · replace hF := it_f hF c_3
        exact w_X4_end_b108 hC hr hnh hin (F_X4_end_b113 D.2.2.2 (F_X4_end_L57 D.2.2.2 k32 fu)) (w_X4_end_b113 hC hr hnh hin (F_X4_end_L57 D.2.2.2 k32 fu) ih) x0 x1 x5 x6 x0 h hF H locs cells slots ls hX (lv_sub hl [0, 1, 2, 3] rfl)
      · replace hF := it_t hF c_3
        refine X_aload_n hx hb dX4_end_72 rfl (lv_at hl 0 rfl) ?_
        obtain ⟨h_4, hF⟩ := gd_ok hF
        refine gX_X4_3 hC hX h_4 dX4_end_73 ?_
        refine lv_topr (fun r_5 er_5 => ?_)
        replace hF := lt_at hF er_5
        refine lv_iload hx hb dX4_end_76 (lv_at hl 2 rfl) ?_
        refine lv_iload hx hb dX4_end_78 (lv_at hl 3 rfl) ?_
        refine X_aload_n hx hb dX4_end_80 rfl (lv_at hl 0 rfl) ?_
        obtain ⟨h_6, hF⟩ := gd_ok hF
        refine gX_X4_22 hC hX h_6 dX4_end_81 ?_
        obtain ⟨h_7, hF⟩ := gd_ok hF
        obtain ⟨r_9, hc_8, hF⟩ := bd_ok hF
        refine iX_X4_49 hC hX h_7 hc_8 hl.1 (cat4 (Nat.le_of_ble_eq_true rfl)) (Nat.le_of_ble_eq_true rfl) (Nat.le_of_ble_eq_true rfl) dX4_end_84 (fun H locs cells slots hX => ?_)
        refine lv_if_eq (tgt := 112) hx hb dX4_end_87 (by decide) (fun c_10 => ?_) (fun c_10 => ?_)
        · replace hF := it_t hF c_10
          exact w_X4_end_b112 hC hr hnh hin (F_X4_end_b113 D.2.2.2 (F_X4_end_L57 D.2.2.2 k32 fu)) (w_X4_end_b113 hC hr hnh hin (F_X4_end_L57 D.2.2.2 k32 fu) ih) x0 x1 x5 x6 x0 h hF H locs cells slots ls hX (lv_sub hl [0, 1, 2, 3] rfl)
        · replace hF := it_f hF c_10
          refine X_aload_n hx hb dX4_end_90 rfl (lv_at hl 0 rfl) ?_
          refine lv_iload_n hx hb dX4_end_91 rfl (lv_at hl 1 rfl) ?_
          refine lv_iload hx hb dX4_end_92 (lv_at hl 2 rfl) ?_
          obtain ⟨h_11, hF⟩ := gd_ok hF
          obtain ⟨r_13, hc_12, hF⟩ := bd_ok hF
          refine iX_X4_53 hC hX h_11 hc_12 hl.1 (cat4 (Nat.le_of_ble_eq_true rfl)) (Nat.le_of_ble_eq_true rfl) (Nat.le_of_ble_eq_true rfl) dX4_end_94 (fun H locs cells slots hX => ?_)
          refine X_aload_n hx hb dX4_end_97 rfl (lv_at hl 0 rfl) ?_
          refine lv_iload_n hx hb dX4_end_98 rfl (lv_at hl 1 rfl) ?_
          refine lv_iload hx hb dX4_end_99 (lv_at hl 3 rfl) ?_
          obtain ⟨h_14, hF⟩ := gd_ok hF
          obtain ⟨r_16, hc_15, hF⟩ := bd_ok hF
          refine iX_X4_53 hC hX h_14 hc_15 hl.1 (cat4 (Nat.le_of_ble_eq_true rfl)) (Nat.le_of_ble_eq_true rfl) (Nat.le_of_ble_eq_true rfl) dX4_end_101 (fun H locs cells slots hX => ?_)
          refine W.lcmp hx hb dX4_end_104 ?_
          refine lv_if_eq (tgt := 112) hx hb dX4_end_105 (by decide) (fun c_17 => ?_) (fun c_17 => ?_)
          · replace hF := it_t hF c_17
            exact w_X4_end_b112 hC hr hnh hin (F_X4_end_b113 D.2.2.2 (F_X4_end_L57 D.2.2.2 k32 fu)) (w_X4_end_b113 hC hr hnh hin (F_X4_end_L57 D.2.2.2 k32 fu) ih) x0 x1 x5 x6 x0 h hF H locs cells slots ls hX (lv_sub hl [0, 1, 2, 3] rfl)
          · replace hF := it_f hF c_17
            exact w_X4_end_b108 hC hr hnh hin (F_X4_end_b113 D.2.2.2 (F_X4_end_L57 D.2.2.2 k32 fu)) (w_X4_end_b113 hC hr hnh hin (F_X4_end_L57 D.2.2.2 k32 fu) ih) x0 x1 x5 x6 x0 h hF H locs cells slots ls hX (lv_sub hl [0, 1, 2, 3] rfl)
def F_X4_end_L32 (K : Nat → Nat) : Nat → Nat → Int32 → Int32 → TH → Option TH
  | 0, _, _, _, _ => none
  | fu + 1, x0, x1, x5, h =>
    gd (hasF (hT h x0) 63 = true) <|
    lt (hR h 63 x0) fun r_2 =>
    gd (hasF (hT h r_2) 7 = true) <|
    lt (hR h 7 r_2) fun r_4 =>
    gd (hT h r_4 = 2) <|
    bd (F_X1_inputs K h r_4) fun r_7 =>
    if r_7 ≤ x5 then
      some h
    else
      gd (hasF (hT h x0) 60 = true) <|
      if (hI h 60 x0) = 0 then
        F_X4_end_L57 K (F_X4_end_L32 K fu) MN x0 x1 x5 (0 : Int32) h
      else
        some h
set_option maxHeartbeats 4000000 in
theorem w_X4_end_L32 {p : Program} {l : Launch} {e : Env} {s : State} {m : MethodId} {args : Array Value} {below : List Frame} {meth : Method} {c : Code} {D : XD} {h0 : TH} (hC : XCx D cX4_end 7 RX4 h0 p (xRm 454 10437 h0) s m args meth c) (hr : meth.sig.returnType = none) (hnh : c.exceptionTable.isEmpty = true) (hin : meth.name = "end") {x : TH} :
    ∀ (fu : Nat) (x0 : Nat) (x1 : Int32) (x5 : Int32) (h : TH), F_X4_end_L32 D.2.2.2 fu x0 x1 x5 h = some x → XJ p l e (xRm 454 10437 h0) s m args below meth c D 7 (.returned none) h0 x 32 [(0, rv x0), (1, .int x1), (5, .int x5)] [] h := by
  have hx := hC.1
  have hb := hC.2.1
  intro fu
  induction fu with
  | zero => intro x0 x1 x5 h hF; exact nm_none hF
  | succ fu ih =>
    intro x0 x1 x5 h hF H locs cells slots ls hX hl
    rw [F_X4_end_L32] at hF
    refine lv_iload hx hb dX4_end_32 (lv_at hl 2 rfl) ?_
    refine X_aload_n hx hb dX4_end_34 rfl (lv_at hl 0 rfl) ?_
    obtain ⟨h_1, hF⟩ := gd_ok hF
    refine gX_X4_3 hC hX h_1 dX4_end_35 ?_
    refine lv_topr (fun r_2 er_2 => ?_)
    replace hF := lt_at hF er_2
    obtain ⟨h_3, hF⟩ := gd_ok hF
    refine gX_X4_39 hC hX h_3 dX4_end_38 ?_
    refine lv_topr (fun r_4 er_4 => ?_)
    replace hF := lt_at hF er_4
    obtain ⟨h_5, hF⟩ := gd_ok hF
    obtain ⟨r_7, hc_6, hF⟩ := bd_ok hF
    refine iX_X4_43 hC hX h_5 hc_6 hl.1 (Nat.le_of_ble_eq_true rfl) (Nat.le_of_ble_eq_true rfl) (Nat.le_of_ble_eq_true rfl) dX4_end_41 (fun H locs cells slots hX => ?_)
    refine lv_icmp_ge (tgt := 128) hx hb dX4_end_44 (by decide) (fun c_8 => ?_) (fun c_8 => ?_)
    · replace hF := it_t hF c_8
      exact x_retv hC hX hr (Option.some.inj hF) dX4_end_128
    · replace hF := it_f hF c_8
      refine X_aload_n hx hb dX4_end_47 rfl (lv_at hl 0 rfl) ?_
      obtain ⟨h_9, hF⟩ := gd_ok hF
      refine gX_X4_29 hC hX h_9 dX4_end_48 ?_
      refine lv_if_ne (tgt := 128) hx hb dX4_end_51 (by decide) (fun c_10 => ?_) (fun c_10 => ?_)
      · replace hF := it_f hF c_10
        exact x_retv hC hX hr (Option.some.inj hF) dX4_end_128
      · replace hF := it_t hF c_10
        refine lv_iconst (v := 0) hx hb dX4_end_54 (by decide) ?_
        refine lv_istore (lv' := [(6, .int (0 : Int32)), (0, rv x0), (1, .int x1), (5, .int x5)]) hx hb dX4_end_55 hl (by decide) rfl (fun ls hl => ?_)
        exact w_X4_end_L57 hC hr hnh hin (F_X4_end_L32 D.2.2.2 fu) ih MN x0 x1 x5 (0 : Int32) h hF H locs cells slots ls hX (lv_sub hl [1, 2, 3, 0] rfl)
def F_X4_end_b26 (K : Nat → Nat) (x0 : Nat) (x1 : Int32) (y0 : Int32) (y1 : Nat) (h : TH) : Option TH :=
  gd (hasF (hT h y1) 61 = true) <|
  gd (hT h y1 ≤ 24) <|
  gd (y0 = 0 ∨ y0 = 1) <|
  lt (uI h 61 y1 y0) fun h_4 =>
  F_X4_end_L32 K MN x0 x1 (0 : Int32) h_4
set_option maxHeartbeats 4000000 in
theorem w_X4_end_b26 {p : Program} {l : Launch} {e : Env} {s : State} {m : MethodId} {args : Array Value} {below : List Frame} {meth : Method} {c : Code} {D : XD} {h0 : TH} (hC : XCx D cX4_end 7 RX4 h0 p (xRm 454 10437 h0) s m args meth c) (hr : meth.sig.returnType = none) (hnh : c.exceptionTable.isEmpty = true) (hin : meth.name = "end") {x : TH} :
    ∀ (x0 : Nat) (x1 : Int32) (y0 : Int32) (y1 : Nat) (h : TH), F_X4_end_b26 D.2.2.2 x0 x1 y0 y1 h = some x → XJ p l e (xRm 454 10437 h0) s m args below meth c D 7 (.returned none) h0 x 26 [(0, rv x0), (1, .int x1)] [.int y0, rv y1] h := by
  have hx := hC.1
  have hb := hC.2.1
  intro x0 x1 y0 y1 h hF H locs cells slots ls hX hl
  rw [F_X4_end_b26] at hF
  obtain ⟨h_1, hF⟩ := gd_ok hF
  obtain ⟨h_2, hF⟩ := gd_ok hF
  obtain ⟨h_3, hF⟩ := gd_ok hF
  refine pX_X4_32 hC hX h_1 h_2 h_3 dX4_end_26 (fun H locs hX => ?_)
  obtain ⟨h_4, eh_4, hF⟩ := lt_ok hF
  rw [← eh_4] at hX
  refine lv_iconst (v := 0) hx hb dX4_end_29 (by decide) ?_
  refine lv_istore (lv' := [(5, .int (0 : Int32)), (0, rv x0), (1, .int x1)]) hx hb dX4_end_30 hl (by decide) rfl (fun ls hl => ?_)
  exact w_X4_end_L32 hC hr hnh hin MN x0 x1 (0 : Int32) h_4 hF H locs cells slots ls hX (lv_sub hl [1, 2, 0] rfl)
def F_X4_end (K : Nat → Nat) (a0 : Nat) (b0 : Int32) (b1 : Nat) (b2 : Int64) (h : TH) : Option TH :=
  gd (hasF (hT h a0) 59 = true) <|
  gd (hasF (hT h a0) 59 = true) <|
  gd (hT h a0 ≤ 24) <|
  lt (uI h 59 a0 ((hI h 59 a0) + (1 : Int32))) fun h_4 =>
  gd (hasF (hT h_4 a0) 59 = true) <|
  if (hI h_4 59 a0) ≤ (5000 : Int32) then
    F_X4_end_b26 K a0 b0 (0 : Int32) a0 h_4
  else
    F_X4_end_b26 K a0 b0 (1 : Int32) a0 h_4
set_option maxHeartbeats 4000000 in
theorem w_X4_end {p : Program} {l : Launch} {e : Env} {s : State} {m : MethodId} {args : Array Value} {below : List Frame} {meth : Method} {c : Code} {D : XD} {h0 : TH} (hC : XCx D cX4_end 7 RX4 h0 p (xRm 454 10437 h0) s m args meth c) (hr : meth.sig.returnType = none) (hnh : c.exceptionTable.isEmpty = true) (hin : meth.name = "end") {x : TH} :
    ∀ (a0 : Nat) (b0 : Int32) (b1 : Nat) (b2 : Int64) (h : TH), F_X4_end D.2.2.2 a0 b0 b1 b2 h = some x → XJ p l e (xRm 454 10437 h0) s m args below meth c D 7 (.returned none) h0 x 0 [(0, rv a0), (1, .int b0), (2, rv b1), (3, .long b2)] [] h := by
  have hx := hC.1
  have hb := hC.2.1
  intro a0 b0 b1 b2 h hF H locs cells slots ls hX hl
  rw [F_X4_end] at hF
  refine X_aload_n hx hb dX4_end_0 rfl (lv_at hl 0 rfl) ?_
  refine lv_dup hx hb dX4_end_1 (rv_cat _) ?_
  obtain ⟨h_1, hF⟩ := gd_ok hF
  refine gX_X4_26 hC hX h_1 dX4_end_2 ?_
  refine lv_iconst (v := 1) hx hb dX4_end_5 (by decide) ?_
  refine lv_iadd hx hb dX4_end_6 ?_
  obtain ⟨h_2, hF⟩ := gd_ok hF
  obtain ⟨h_3, hF⟩ := gd_ok hF
  refine pX_X4_26 hC hX h_2 h_3 dX4_end_7 (fun H locs hX => ?_)
  obtain ⟨h_4, eh_4, hF⟩ := lt_ok hF
  rw [← eh_4] at hX
  refine X_aload_n hx hb dX4_end_10 rfl (lv_at hl 0 rfl) ?_
  refine X_aload_n hx hb dX4_end_11 rfl (lv_at hl 0 rfl) ?_
  obtain ⟨h_5, hF⟩ := gd_ok hF
  refine gX_X4_26 hC hX h_5 dX4_end_12 ?_
  refine lv_sipush (v := 5000) hx hb dX4_end_15 (by decide) ?_
  refine lv_icmp_le (tgt := 25) hx hb dX4_end_18 (by decide) (fun c_6 => ?_) (fun c_6 => ?_)
  · replace hF := it_t hF c_6
    refine lv_iconst (v := 0) hx hb dX4_end_25 (by decide) ?_
    exact w_X4_end_b26 hC hr hnh hin a0 b0 (0 : Int32) a0 h_4 hF H locs cells slots ls hX (lv_sub hl [0, 1] rfl)
  · replace hF := it_f hF c_6
    refine lv_iconst (v := 1) hx hb dX4_end_21 (by decide) ?_
    refine lv_goto (tgt := 26) hx hb dX4_end_22 (by decide) ?_
    exact w_X4_end_b26 hC hr hnh hin a0 b0 (1 : Int32) a0 h_4 hF H locs cells slots ls hX (lv_sub hl [0, 1] rfl)
theorem m_X4_end (l : Launch) (D : XD) (a0 : Nat) (b0 : Int32) (b1 : Nat) (b2 : Int64) (h : TH) (x : TH) (hF : F_X4_end D.2.2.2 a0 b0 b1 b2 h = some x) : XMt l yX4_end (ws_ yX4_end cX4_end 7 (none)) 454 10437 D [rv a0, .int b0, rv b1, .long b2] h (.returned none) x := by
  refine x_met (by decide +kernel) ?_ ?_
  · simp [lg_sl, rv_cat, cat_i, cat_l]
  intro p e s m below meth c hC hr hnh hin ls hl hX
  replace hl : lv_has ls 7 [(0, rv a0), (1, .int b0), (2, rv b1), (3, .long b2)] := by simpa [lv_args, rv_cat, cat_i, cat_l] using hl
  exact w_X4_end hC hr hnh hin a0 b0 b1 b2 h hF s.heap [] 0 0 ls hX hl
theorem gX_X3_3 {p : Program} {l : Launch} {e : Env} {R : Room} {s : State} {m : MethodId} {args : Array Value} {below : List Frame} {meth : Method} {c : Code} {H : Heap} {locs : List Loc} {cells slots nL : Nat} {Q : State → Prop} {D : XD} {h0 h : TH} {cc : ByteArray} {pc : Nat} {ls : Array Slot} {rest : List Value} (hC : XCx D cc nL RX3 h0 p R s m args meth c) (hX : XSt D s h0 h H locs cells slots) {a : Nat} (hf : hasF (hT h a) 58 = true) (hdg : decode cc pc = .ok (.getfield 3, 3)) (kk : W p l e R s m args below meth c H locs cells slots Q (F0 m (pc + 3) ls (rv (hR h 58 a) :: rest))) : W p l e R s m args below meth c H locs cells slots Q (F0 m pc ls (rv a :: rest)) :=
  X_getr hC hX 58 hf rfl (fun q => absurd q (by decide)) q285 (fun _ h => h) hdg kk
theorem gX_X3_75 {p : Program} {l : Launch} {e : Env} {R : Room} {s : State} {m : MethodId} {args : Array Value} {below : List Frame} {meth : Method} {c : Code} {H : Heap} {locs : List Loc} {cells slots nL : Nat} {Q : State → Prop} {D : XD} {h0 h : TH} {cc : ByteArray} {pc : Nat} {ls : Array Slot} {rest : List Value} (hC : XCx D cc nL RX3 h0 p R s m args meth c) (hX : XSt D s h0 h H locs cells slots) {a : Nat} (hf : hasF (hT h a) 0 = true) (hdg : decode cc pc = .ok (.getfield 75, 3)) (kk : W p l e R s m args below meth c H locs cells slots Q (F0 m (pc + 3) ls (rv (hR h 0 a) :: rest))) : W p l e R s m args below meth c H locs cells slots Q (F0 m pc ls (rv a :: rest)) :=
  X_getrN hC hX 0 hf rfl (fun q => absurd q (by decide)) (List.mem_of_getElem? (i := 1) rfl) hdg kk
theorem gX_X3_53 {p : Program} {l : Launch} {e : Env} {R : Room} {s : State} {m : MethodId} {args : Array Value} {below : List Frame} {meth : Method} {c : Code} {H : Heap} {locs : List Loc} {cells slots nL : Nat} {Q : State → Prop} {D : XD} {h0 h : TH} {cc : ByteArray} {pc : Nat} {ls : Array Slot} {rest : List Value} (hC : XCx D cc nL RX3 h0 p R s m args meth c) (hX : XSt D s h0 h H locs cells slots) {a : Nat} (hf : hasF (hT h a) 7 = true) (hdg : decode cc pc = .ok (.getfield 53, 3)) (kk : W p l e R s m args below meth c H locs cells slots Q (F0 m (pc + 3) ls (rv (hR h 7 a) :: rest))) : W p l e R s m args below meth c H locs cells slots Q (F0 m pc ls (rv a :: rest)) :=
  X_getrN hC hX 7 hf rfl (fun q => absurd q (by decide)) (List.mem_of_getElem? (i := 9) rfl) hdg kk
theorem iX_X3_79 {p : Program} {l : Launch} {e : Env} {R : Room} {s : State} {m : MethodId} {args : Array Value} {below : List Frame} {meth : Method} {c : Code} {H : Heap} {locs : List Loc} {cells slots nL : Nat} {Q : State → Prop} {D : XD} {h0 h : TH} {cc : ByteArray} {pc : Nat} {ls : Array Slot} {rest : List Value} (hC : XCx D cc nL RX3 h0 p R s m args meth c) (hX : XSt D s h0 h H locs cells slots) {a : Nat} {b0 : Int32} {x : Int32} (ht : hT h a = 2) (hcF : F_X1_asked D.2.2.2 h a b0 = some x) (hl : ls.size = nL) (hW : (rest.map fun v => v.category).sum ≤ 8) (hRf : 452 + 1 ≤ R.frames) (hRl : 10414 ≤ R.locals) (hdg : decode cc pc = .ok (.invokevirtual 79, 3)) (kk : ∀ (H1 : Heap) (locs1 : List Loc) (cells1 slots1 : Nat), XSt D s h0 h H1 locs1 cells1 slots1 → W p l e R s m args below meth c H1 locs1 cells1 slots1 Q (F0 m (pc + 3) ls (.int x :: rest))) : W p l e R s m args below meth c H locs cells slots Q (F0 m pc ls (.int b0 :: rv a :: rest)) := by
  have q := ht
  exact X_callV hC hX (by rw [q]; decide) (by rw [q]; rfl) (As := [.int b0]) (m_X1_asked l D a b0 h _ hcF) (cwV 1 hC.2.2.2.2.1 (lw_V q734 q655 q656 q126 q657) rfl rfl rfl (by decide +kernel) ⟨Nat.le_trans (Nat.le_of_ble_eq_true rfl) hRf, Nat.le_trans (Nat.le_of_ble_eq_true rfl) hRl⟩) rfl rfl hl hW hdg kk
theorem iX_X3_83 {p : Program} {l : Launch} {e : Env} {R : Room} {s : State} {m : MethodId} {args : Array Value} {below : List Frame} {meth : Method} {c : Code} {H : Heap} {locs : List Loc} {cells slots nL : Nat} {Q : State → Prop} {D : XD} {h0 h : TH} {cc : ByteArray} {pc : Nat} {ls : Array Slot} {rest : List Value} (hC : XCx D cc nL RX3 h0 p R s m args meth c) (hX : XSt D s h0 h H locs cells slots) {a : Nat} {b0 : Nat} {b1 : Int32} {b2 : Int32} {x : Int32} (ht : hT h a = 4) (hcF : F_X3_isAnswer D.2.2.2 h a b0 b1 b2 = some x) (hl : ls.size = nL) (hW : (rest.map fun v => v.category).sum ≤ 8) (hRf : 2 + 1 ≤ R.frames) (hRl : 67 ≤ R.locals) (hdg : decode cc pc = .ok (.invokevirtual 83, 3)) (kk : ∀ (H1 : Heap) (locs1 : List Loc) (cells1 slots1 : Nat), XSt D s h0 h H1 locs1 cells1 slots1 → W p l e R s m args below meth c H1 locs1 cells1 slots1 Q (F0 m (pc + 3) ls (.int x :: rest))) : W p l e R s m args below meth c H locs cells slots Q (F0 m pc ls (.int b2 :: .int b1 :: rv b0 :: rv a :: rest)) := by
  have q := ht
  exact X_callV hC hX (by rw [q]; decide) (by rw [q]; rfl) (As := [rv b0, .int b1, .int b2]) (m_X3_isAnswer l D a b0 b1 b2 h _ hcF) (cwV 3 hC.2.2.2.2.1 (lw_V q735 q737 qs5 q131 q738) rfl rfl rfl (by decide +kernel) ⟨Nat.le_trans (Nat.le_of_ble_eq_true rfl) hRf, Nat.le_trans (Nat.le_of_ble_eq_true rfl) hRl⟩) rfl rfl hl hW hdg kk
/-! BlindCards$Keeper.isRight -/
def F_X3_isRight_b68 (K : Nat → Nat) (h : TH) (k6 : Nat → Int32 → Nat → Int32 → Int32 → Int32 → Option Int32) (x0 : Nat) (x1 : Int32) (x2 : Nat) (x3 : Int32) (x5 : Int32) (y0 : Int32) : Option Int32 :=
  lt (x5 + (1 : Int32)) fun x5_1 =>
  k6 x0 x1 x2 x3 y0 x5_1
set_option maxHeartbeats 4000000 in
theorem w_X3_isRight_b68 {p : Program} {l : Launch} {e : Env} {s : State} {m : MethodId} {args : Array Value} {below : List Frame} {meth : Method} {c : Code} {D : XD} {h : TH} (hC : XCx D cX3_isRight 6 RX3 h p (xRm 453 10414 h) s m args meth c) (hr : meth.sig.returnType = some .boolean) (hnh : c.exceptionTable.isEmpty = true) (hin : meth.name = "isRight") {x : Int32} (k6 : Nat → Int32 → Nat → Int32 → Int32 → Int32 → Option Int32) (hk6 : ∀ (x0 : Nat) (x1 : Int32) (x2 : Nat) (x3 : Int32) (x4 : Int32) (x5 : Int32), k6 x0 x1 x2 x3 x4 x5 = some x → XJ p l e (xRm 453 10414 h) s m args below meth c D 6 (.returned (some (.int x))) h h 6 [(0, rv x0), (1, .int x1), (2, rv x2), (3, .int x3), (4, .int x4), (5, .int x5)] [] h) :
    ∀ (x0 : Nat) (x1 : Int32) (x2 : Nat) (x3 : Int32) (x5 : Int32) (y0 : Int32), F_X3_isRight_b68 D.2.2.2 h k6 x0 x1 x2 x3 x5 y0 = some x → XJ p l e (xRm 453 10414 h) s m args below meth c D 6 (.returned (some (.int x))) h h 68 [(0, rv x0), (1, .int x1), (2, rv x2), (3, .int x3), (5, .int x5)] [.int y0] h := by
  have hx := hC.1
  have hb := hC.2.1
  intro x0 x1 x2 x3 x5 y0 hF H locs cells slots ls hX hl
  rw [F_X3_isRight_b68] at hF
  refine lv_istore (lv' := [(4, .int y0), (0, rv x0), (1, .int x1), (2, rv x2), (3, .int x3), (5, .int x5)]) hx hb dX3_isRight_68 hl (by decide) rfl (fun ls hl => ?_)
  obtain ⟨x5_1, ex5_1, hF⟩ := lt_ok hF
  refine lv_iinc (v := x5_1) (lv' := [(5, .int x5_1), (4, .int y0), (0, rv x0), (1, .int x1), (2, rv x2), (3, .int x3)]) hx hb dX3_isRight_70 hl (k := 5) rfl (by rw [ex5_1]; rfl) (by decide) rfl (fun ls hl => ?_)
  refine lv_goto (tgt := 6) hx hb dX3_isRight_73 (by decide) ?_
  exact hk6 x0 x1 x2 x3 y0 x5_1 hF H locs cells slots ls hX (lv_sub hl [2, 3, 4, 5, 1, 0] rfl)
def F_X3_isRight_b67 (K : Nat → Nat) (h : TH) (k68 : Nat → Int32 → Nat → Int32 → Int32 → Int32 → Option Int32) (x0 : Nat) (x1 : Int32) (x2 : Nat) (x3 : Int32) (x5 : Int32) : Option Int32 :=
  k68 x0 x1 x2 x3 x5 (0 : Int32)
set_option maxHeartbeats 4000000 in
theorem w_X3_isRight_b67 {p : Program} {l : Launch} {e : Env} {s : State} {m : MethodId} {args : Array Value} {below : List Frame} {meth : Method} {c : Code} {D : XD} {h : TH} (hC : XCx D cX3_isRight 6 RX3 h p (xRm 453 10414 h) s m args meth c) (hr : meth.sig.returnType = some .boolean) (hnh : c.exceptionTable.isEmpty = true) (hin : meth.name = "isRight") {x : Int32} (k68 : Nat → Int32 → Nat → Int32 → Int32 → Int32 → Option Int32) (hk68 : ∀ (x0 : Nat) (x1 : Int32) (x2 : Nat) (x3 : Int32) (x5 : Int32) (y0 : Int32), k68 x0 x1 x2 x3 x5 y0 = some x → XJ p l e (xRm 453 10414 h) s m args below meth c D 6 (.returned (some (.int x))) h h 68 [(0, rv x0), (1, .int x1), (2, rv x2), (3, .int x3), (5, .int x5)] [.int y0] h) :
    ∀ (x0 : Nat) (x1 : Int32) (x2 : Nat) (x3 : Int32) (x5 : Int32), F_X3_isRight_b67 D.2.2.2 h k68 x0 x1 x2 x3 x5 = some x → XJ p l e (xRm 453 10414 h) s m args below meth c D 6 (.returned (some (.int x))) h h 67 [(0, rv x0), (1, .int x1), (2, rv x2), (3, .int x3), (5, .int x5)] [] h := by
  have hx := hC.1
  have hb := hC.2.1
  intro x0 x1 x2 x3 x5 hF H locs cells slots ls hX hl
  rw [F_X3_isRight_b67] at hF
  refine lv_iconst (v := 0) hx hb dX3_isRight_67 (by decide) ?_
  exact hk68 x0 x1 x2 x3 x5 (0 : Int32) hF H locs cells slots ls hX (lv_sub hl [0, 1, 2, 3, 4] rfl)
def F_X3_isRight_b63 (K : Nat → Nat) (h : TH) (k68 : Nat → Int32 → Nat → Int32 → Int32 → Int32 → Option Int32) (x0 : Nat) (x1 : Int32) (x2 : Nat) (x3 : Int32) (x5 : Int32) : Option Int32 :=
  k68 x0 x1 x2 x3 x5 (1 : Int32)
set_option maxHeartbeats 4000000 in
theorem w_X3_isRight_b63 {p : Program} {l : Launch} {e : Env} {s : State} {m : MethodId} {args : Array Value} {below : List Frame} {meth : Method} {c : Code} {D : XD} {h : TH} (hC : XCx D cX3_isRight 6 RX3 h p (xRm 453 10414 h) s m args meth c) (hr : meth.sig.returnType = some .boolean) (hnh : c.exceptionTable.isEmpty = true) (hin : meth.name = "isRight") {x : Int32} (k68 : Nat → Int32 → Nat → Int32 → Int32 → Int32 → Option Int32) (hk68 : ∀ (x0 : Nat) (x1 : Int32) (x2 : Nat) (x3 : Int32) (x5 : Int32) (y0 : Int32), k68 x0 x1 x2 x3 x5 y0 = some x → XJ p l e (xRm 453 10414 h) s m args below meth c D 6 (.returned (some (.int x))) h h 68 [(0, rv x0), (1, .int x1), (2, rv x2), (3, .int x3), (5, .int x5)] [.int y0] h) :
    ∀ (x0 : Nat) (x1 : Int32) (x2 : Nat) (x3 : Int32) (x5 : Int32), F_X3_isRight_b63 D.2.2.2 h k68 x0 x1 x2 x3 x5 = some x → XJ p l e (xRm 453 10414 h) s m args below meth c D 6 (.returned (some (.int x))) h h 63 [(0, rv x0), (1, .int x1), (2, rv x2), (3, .int x3), (5, .int x5)] [] h := by
  have hx := hC.1
  have hb := hC.2.1
  intro x0 x1 x2 x3 x5 hF H locs cells slots ls hX hl
  rw [F_X3_isRight_b63] at hF
  refine lv_iconst (v := 1) hx hb dX3_isRight_63 (by decide) ?_
  refine lv_goto (tgt := 68) hx hb dX3_isRight_64 (by decide) ?_
  exact hk68 x0 x1 x2 x3 x5 (1 : Int32) hF H locs cells slots ls hX (lv_sub hl [0, 1, 2, 3, 4] rfl)
def F_X3_isRight_L6 (K : Nat → Nat) (h : TH) : Nat → Nat → Int32 → Nat → Int32 → Int32 → Int32 → Option Int32
  | 0, _, _, _, _, _, _ => none
  | fu + 1, x0, x1, x2, x3, x4, x5 =>
    if (256 : Int32) ≤ x5 then
      gd (x4 = 0 ∨ x4 = 1) <|
      some x4
    else
      if x4 = 0 then
        F_X3_isRight_b67 K h (F_X3_isRight_b68 K h (F_X3_isRight_L6 K h fu)) x0 x1 x2 x3 x5
      else
        gd (hasF (hT h x0) 58 = true) <|
        lt (hR h 58 x0) fun r_5 =>
        gd (hasF (hT h r_5) 0 = true) <|
        lt (hR h 0 r_5) fun r_7 =>
        gd (hT h r_7 = 35 ∨ hT h r_7 = 36 ∨ hT h r_7 = 37 ∨ hT h r_7 = 48) <|
        gd (inb x1 (hN h r_7)) <|
        lt (hY h r_7 (Int32.toNatClampNeg x1)) fun r_10 =>
        gd (hT h r_10 = 34) <|
        gd (inb (((256 : Int32) * x3) + x5) (hN h r_10)) <|
        if (lg_cmp (hL h r_10 (Int32.toNatClampNeg (((256 : Int32) * x3) + x5))) (0 : Int64)) = 0 then
          F_X3_isRight_b63 K h (F_X3_isRight_b68 K h (F_X3_isRight_L6 K h fu)) x0 x1 x2 x3 x5
        else
          gd (hasF (hT h x0) 58 = true) <|
          lt (hR h 58 x0) fun r_15 =>
          gd (hasF (hT h r_15) 7 = true) <|
          lt (hR h 7 r_15) fun r_17 =>
          gd (hT h r_17 = 2) <|
          bd (F_X1_asked K h r_17 x3) fun r_20 =>
          gd (hT h x0 = 4) <|
          bd (F_X3_isAnswer K h x0 x2 x5 r_20) fun r_23 =>
          if r_23 = 0 then
            F_X3_isRight_b67 K h (F_X3_isRight_b68 K h (F_X3_isRight_L6 K h fu)) x0 x1 x2 x3 x5
          else
            F_X3_isRight_b63 K h (F_X3_isRight_b68 K h (F_X3_isRight_L6 K h fu)) x0 x1 x2 x3 x5
set_option maxHeartbeats 4000000 in
theorem w_X3_isRight_L6 {p : Program} {l : Launch} {e : Env} {s : State} {m : MethodId} {args : Array Value} {below : List Frame} {meth : Method} {c : Code} {D : XD} {h : TH} (hC : XCx D cX3_isRight 6 RX3 h p (xRm 453 10414 h) s m args meth c) (hr : meth.sig.returnType = some .boolean) (hnh : c.exceptionTable.isEmpty = true) (hin : meth.name = "isRight") {x : Int32} :
    ∀ (fu : Nat) (x0 : Nat) (x1 : Int32) (x2 : Nat) (x3 : Int32) (x4 : Int32) (x5 : Int32), F_X3_isRight_L6 D.2.2.2 h fu x0 x1 x2 x3 x4 x5 = some x → XJ p l e (xRm 453 10414 h) s m args below meth c D 6 (.returned (some (.int x))) h h 6 [(0, rv x0), (1, .int x1), (2, rv x2), (3, .int x3), (4, .int x4), (5, .int x5)] [] h := by
  have hx := hC.1
  have hb := hC.2.1
  intro fu
  induction fu with
  | zero => intro x0 x1 x2 x3 x4 x5 hF; exact nm_none hF
  | succ fu ih =>
    intro x0 x1 x2 x3 x4 x5 hF H locs cells slots ls hX hl
    rw [F_X3_isRight_L6] at hF
    refine lv_iload hx hb dX3_isRight_6 (lv_at hl 5 rfl) ?_
    refine lv_sipush (v := 256) hx hb dX3_isRight_8 (by decide) ?_
    refine lv_icmp_ge (tgt := 76) hx hb dX3_isRight_11 (by decide) (fun c_1 => ?_) (fun c_1 => ?_)
    · replace hF := it_t hF c_1
      refine lv_iload hx hb dX3_isRight_76 (lv_at hl 4 rfl) ?_
      obtain ⟨h_2, hF⟩ := gd_ok hF
      exact x_reti hC hX hr (zb_nar h_2).1 (Option.some.inj hF) rfl dX3_isRight_78
    · replace hF := it_f hF c_1
      refine lv_iload hx hb dX3_isRight_14 (lv_at hl 4 rfl) ?_
      refine lv_if_eq (tgt := 67) hx hb dX3_isRight_16 (by decide) (fun c_3 => ?_) (fun c_3 => ?_)
      · replace hF := it_t hF c_3
        exact w_X3_isRight_b67 hC hr hnh hin (F_X3_isRight_b68 D.2.2.2 h (F_X3_isRight_L6 D.2.2.2 h fu)) (w_X3_isRight_b68 hC hr hnh hin (F_X3_isRight_L6 D.2.2.2 h fu) ih) x0 x1 x2 x3 x5 hF H locs cells slots ls hX (lv_sub hl [0, 1, 2, 3, 5] rfl)
      · replace hF := it_f hF c_3
        refine X_aload_n hx hb dX3_isRight_19 rfl (lv_at hl 0 rfl) ?_
        obtain ⟨h_4, hF⟩ := gd_ok hF
        refine gX_X3_3 hC hX h_4 dX3_isRight_20 ?_
        refine lv_topr (fun r_5 er_5 => ?_)
        replace hF := lt_at hF er_5
        obtain ⟨h_6, hF⟩ := gd_ok hF
        refine gX_X3_75 hC hX h_6 dX3_isRight_23 ?_
        refine lv_topr (fun r_7 er_7 => ?_)
        replace hF := lt_at hF er_7
        refine lv_iload_n hx hb dX3_isRight_26 rfl (lv_at hl 1 rfl) ?_
        obtain ⟨h_8, hF⟩ := gd_ok hF
        obtain ⟨h_9, hF⟩ := gd_ok hF
        refine X_aald hC hX h_8 h_9 dX3_isRight_27 ?_
        refine lv_topr (fun r_10 er_10 => ?_)
        replace hF := lt_at hF er_10
        refine lv_sipush (v := 256) hx hb dX3_isRight_28 (by decide) ?_
        refine lv_iload_n hx hb dX3_isRight_31 rfl (lv_at hl 3 rfl) ?_
        refine lv_imul hx hb dX3_isRight_32 ?_
        refine lv_iload hx hb dX3_isRight_33 (lv_at hl 5 rfl) ?_
        refine lv_iadd hx hb dX3_isRight_35 ?_
        obtain ⟨h_11, hF⟩ := gd_ok hF
        obtain ⟨h_12, hF⟩ := gd_ok hF
        refine X_lald hC hX h_11 h_12 dX3_isRight_36 ?_
        refine lv_lconst (v := 0) hx hb dX3_isRight_37 (by decide) ?_
        refine W.lcmp hx hb dX3_isRight_38 ?_
        refine lv_if_eq (tgt := 63) hx hb dX3_isRight_39 (by decide) (fun c_13 => ?_) (fun c_13 => ?_)
        · replace hF := it_t hF c_13
          exact w_X3_isRight_b63 hC hr hnh hin (F_X3_isRight_b68 D.2.2.2 h (F_X3_isRight_L6 D.2.2.2 h fu)) (w_X3_isRight_b68 hC hr hnh hin (F_X3_isRight_L6 D.2.2.2 h fu) ih) x0 x1 x2 x3 x5 hF H locs cells slots ls hX (lv_sub hl [0, 1, 2, 3, 5] rfl)
        · replace hF := it_f hF c_13
          refine X_aload_n hx hb dX3_isRight_42 rfl (lv_at hl 0 rfl) ?_
          refine X_aload_n hx hb dX3_isRight_43 rfl (lv_at hl 2 rfl) ?_
          refine lv_iload hx hb dX3_isRight_44 (lv_at hl 5 rfl) ?_
          refine X_aload_n hx hb dX3_isRight_46 rfl (lv_at hl 0 rfl) ?_
          obtain ⟨h_14, hF⟩ := gd_ok hF
          refine gX_X3_3 hC hX h_14 dX3_isRight_47 ?_
          refine lv_topr (fun r_15 er_15 => ?_)
          replace hF := lt_at hF er_15
          obtain ⟨h_16, hF⟩ := gd_ok hF
          refine gX_X3_53 hC hX h_16 dX3_isRight_50 ?_
          refine lv_topr (fun r_17 er_17 => ?_)
          replace hF := lt_at hF er_17
          refine lv_iload_n hx hb dX3_isRight_53 rfl (lv_at hl 3 rfl) ?_
          obtain ⟨h_18, hF⟩ := gd_ok hF
          obtain ⟨r_20, hc_19, hF⟩ := bd_ok hF
          refine iX_X3_79 hC hX h_18 hc_19 hl.1 (cat4 (Nat.le_of_ble_eq_true rfl)) (Nat.le_of_ble_eq_true rfl) (Nat.le_of_ble_eq_true rfl) dX3_isRight_54 (fun H locs cells slots hX => ?_)
          obtain ⟨h_21, hF⟩ := gd_ok hF
          obtain ⟨r_23, hc_22, hF⟩ := bd_ok hF
          refine iX_X3_83 hC hX h_21 hc_22 hl.1 (Nat.le_of_ble_eq_true rfl) (Nat.le_of_ble_eq_true rfl) (Nat.le_of_ble_eq_true rfl) dX3_isRight_57 (fun H locs cells slots hX => ?_)
          refine lv_if_eq (tgt := 67) hx hb dX3_isRight_60 (by decide) (fun c_24 => ?_) (fun c_24 => ?_)
          · replace hF := it_t hF c_24
            exact w_X3_isRight_b67 hC hr hnh hin (F_X3_isRight_b68 D.2.2.2 h (F_X3_isRight_L6 D.2.2.2 h fu)) (w_X3_isRight_b68 hC hr hnh hin (F_X3_isRight_L6 D.2.2.2 h fu) ih) x0 x1 x2 x3 x5 hF H locs cells slots ls hX (lv_sub hl [0, 1, 2, 3, 5] rfl)
          · replace hF := it_f hF c_24
            exact w_X3_isRight_b63 hC hr hnh hin (F_X3_isRight_b68 D.2.2.2 h (F_X3_isRight_L6 D.2.2.2 h fu)) (w_X3_isRight_b68 hC hr hnh hin (F_X3_isRight_L6 D.2.2.2 h fu) ih) x0 x1 x2 x3 x5 hF H locs cells slots ls hX (lv_sub hl [0, 1, 2, 3, 5] rfl)
def F_X3_isRight (K : Nat → Nat) (h : TH) (a0 : Nat) (b0 : Int32) (b1 : Nat) (b2 : Int32) : Option Int32 :=
  F_X3_isRight_L6 K h MN a0 b0 b1 b2 (1 : Int32) (0 : Int32)
set_option maxHeartbeats 4000000 in
theorem w_X3_isRight {p : Program} {l : Launch} {e : Env} {s : State} {m : MethodId} {args : Array Value} {below : List Frame} {meth : Method} {c : Code} {D : XD} {h : TH} (hC : XCx D cX3_isRight 6 RX3 h p (xRm 453 10414 h) s m args meth c) (hr : meth.sig.returnType = some .boolean) (hnh : c.exceptionTable.isEmpty = true) (hin : meth.name = "isRight") {x : Int32} :
    ∀ (a0 : Nat) (b0 : Int32) (b1 : Nat) (b2 : Int32), F_X3_isRight D.2.2.2 h a0 b0 b1 b2 = some x → XJ p l e (xRm 453 10414 h) s m args below meth c D 6 (.returned (some (.int x))) h h 0 [(0, rv a0), (1, .int b0), (2, rv b1), (3, .int b2)] [] h := by
  have hx := hC.1
  have hb := hC.2.1
  intro a0 b0 b1 b2 hF H locs cells slots ls hX hl
  rw [F_X3_isRight] at hF
  refine lv_iconst (v := 1) hx hb dX3_isRight_0 (by decide) ?_
  refine lv_istore (lv' := [(4, .int (1 : Int32)), (0, rv a0), (1, .int b0), (2, rv b1), (3, .int b2)]) hx hb dX3_isRight_1 hl (by decide) rfl (fun ls hl => ?_)
  refine lv_iconst (v := 0) hx hb dX3_isRight_3 (by decide) ?_
  refine lv_istore (lv' := [(5, .int (0 : Int32)), (4, .int (1 : Int32)), (0, rv a0), (1, .int b0), (2, rv b1), (3, .int b2)]) hx hb dX3_isRight_4 hl (by decide) rfl (fun ls hl => ?_)
  exact w_X3_isRight_L6 hC hr hnh hin MN a0 b0 b1 b2 (1 : Int32) (0 : Int32) hF H locs cells slots ls hX (lv_sub hl [2, 3, 4, 5, 1, 0] rfl)
theorem m_X3_isRight (l : Launch) (D : XD) (a0 : Nat) (b0 : Int32) (b1 : Nat) (b2 : Int32) (h : TH) (x : Int32) (hF : F_X3_isRight D.2.2.2 h a0 b0 b1 b2 = some x) : XMt l yX3_isRight (ws_ yX3_isRight cX3_isRight 6 (some .boolean)) 453 10414 D [rv a0, .int b0, rv b1, .int b2] h (.returned (some (.int x))) h := by
  refine x_met (by decide +kernel) ?_ ?_
  · simp [lg_sl, rv_cat, cat_i, cat_l]
  intro p e s m below meth c hC hr hnh hin ls hl hX
  replace hl : lv_has ls 6 [(0, rv a0), (1, .int b0), (2, rv b1), (3, .int b2)] := by simpa [lv_args, rv_cat, cat_i, cat_l] using hl
  exact w_X3_isRight hC hr hnh hin a0 b0 b1 b2 hF s.heap [] 0 0 ls hX hl
theorem pX_X3_39 {p : Program} {l : Launch} {e : Env} {R : Room} {s : State} {m : MethodId} {args : Array Value} {below : List Frame} {meth : Method} {c : Code} {H : Heap} {locs : List Loc} {cells slots nL : Nat} {Q : State → Prop} {D : XD} {h0 h : TH} {cc : ByteArray} {pc : Nat} {ls : Array Slot} {rest : List Value} (hC : XCx D cc nL RX3 h0 p R s m args meth c) (hX : XSt D s h0 h H locs cells slots) {a : Nat} {v : Int32} (hf : hasF (hT h a) 57 = true) (hw : hT h a ≤ 24) (hg : v = 0 ∨ v = 1) (hdg : decode cc pc = .ok (.putfield 39, 3)) (kk : ∀ (H1 : Heap) (locs1 : List Loc), XSt D s h0 (uI h 57 a v) H1 locs1 cells slots → W p l e R s m args below meth c H1 locs1 cells slots Q (F0 m (pc + 3) ls rest)) : W p l e R s m args below meth c H locs cells slots Q (F0 m pc ls (.int v :: rv a :: rest)) :=
  X_puti hC hX 57 hf hw rfl rfl q283 (fun _ h => h) (zb_nar hg) hdg kk
theorem gX_X3_47 {p : Program} {l : Launch} {e : Env} {R : Room} {s : State} {m : MethodId} {args : Array Value} {below : List Frame} {meth : Method} {c : Code} {H : Heap} {locs : List Loc} {cells slots nL : Nat} {Q : State → Prop} {D : XD} {h0 h : TH} {cc : ByteArray} {pc : Nat} {ls : Array Slot} {rest : List Value} (hC : XCx D cc nL RX3 h0 p R s m args meth c) (hX : XSt D s h0 h H locs cells slots) {a : Nat} (hf : hasF (hT h a) 48 = true) (hdg : decode cc pc = .ok (.getfield 47, 3)) (kk : W p l e R s m args below meth c H locs cells slots Q (F0 m (pc + 3) ls (.int (hI h 48 a) :: rest))) : W p l e R s m args below meth c H locs cells slots Q (F0 m pc ls (rv a :: rest)) :=
  X_geti hC hX 48 hf rfl q302 (fun x h => u_same (hC.2.2.2.2.1 _ q303) x h) hdg kk
theorem gX_X3_50 {p : Program} {l : Launch} {e : Env} {R : Room} {s : State} {m : MethodId} {args : Array Value} {below : List Frame} {meth : Method} {c : Code} {H : Heap} {locs : List Loc} {cells slots nL : Nat} {Q : State → Prop} {D : XD} {h0 h : TH} {cc : ByteArray} {pc : Nat} {ls : Array Slot} {rest : List Value} (hC : XCx D cc nL RX3 h0 p R s m args meth c) (hX : XSt D s h0 h H locs cells slots) {a : Nat} (hf : hasF (hT h a) 47 = true) (hdg : decode cc pc = .ok (.getfield 50, 3)) (kk : W p l e R s m args below meth c H locs cells slots Q (F0 m (pc + 3) ls (rv (hR h 47 a) :: rest))) : W p l e R s m args below meth c H locs cells slots Q (F0 m pc ls (rv a :: rest)) :=
  X_getr hC hX 47 hf rfl (fun q => absurd q (by decide)) q299 (fun x h => u_same (hC.2.2.2.2.1 _ q300) x h) hdg kk
theorem gX_X3_29 {p : Program} {l : Launch} {e : Env} {R : Room} {s : State} {m : MethodId} {args : Array Value} {below : List Frame} {meth : Method} {c : Code} {H : Heap} {locs : List Loc} {cells slots nL : Nat} {Q : State → Prop} {D : XD} {h0 h : TH} {cc : ByteArray} {pc : Nat} {ls : Array Slot} {rest : List Value} (hC : XCx D cc nL RX3 h0 p R s m args meth c) (hX : XSt D s h0 h H locs cells slots) {a : Nat} (hf : hasF (hT h a) 54 = true) (hdg : decode cc pc = .ok (.getfield 29, 3)) (kk : W p l e R s m args below meth c H locs cells slots Q (F0 m (pc + 3) ls (rv (hR h 54 a) :: rest))) : W p l e R s m args below meth c H locs cells slots Q (F0 m pc ls (rv a :: rest)) :=
  X_getr hC hX 54 hf rfl (fun q => absurd q (by decide)) q277 (fun _ h => h) hdg kk
theorem iX_X3_57 {p : Program} {l : Launch} {e : Env} {R : Room} {s : State} {m : MethodId} {args : Array Value} {below : List Frame} {meth : Method} {c : Code} {H : Heap} {locs : List Loc} {cells slots nL : Nat} {Q : State → Prop} {D : XD} {h0 h : TH} {cc : ByteArray} {pc : Nat} {ls : Array Slot} {rest : List Value} (hC : XCx D cc nL RX3 h0 p R s m args meth c) (hX : XSt D s h0 h H locs cells slots) {a : Nat} {x : Int32} (ht : hT h a = 2) (hcF : F_X1_inputs D.2.2.2 h a = some x) (hl : ls.size = nL) (hW : (rest.map fun v => v.category).sum ≤ 8) (hRf : 0 + 1 ≤ R.frames) (hRl : 20 ≤ R.locals) (hdg : decode cc pc = .ok (.invokevirtual 57, 3)) (kk : ∀ (H1 : Heap) (locs1 : List Loc) (cells1 slots1 : Nat), XSt D s h0 h H1 locs1 cells1 slots1 → W p l e R s m args below meth c H1 locs1 cells1 slots1 Q (F0 m (pc + 3) ls (.int x :: rest))) : W p l e R s m args below meth c H locs cells slots Q (F0 m pc ls (rv a :: rest)) := by
  have q := ht
  exact X_callV hC hX (by rw [q]; decide) (by rw [q]; rfl) (As := []) (m_X1_inputs l D a h _ hcF) (cwV 0 hC.2.2.2.2.1 (lw_V q723 q480 q481 q126 q482) rfl rfl rfl (by decide +kernel) ⟨Nat.le_trans (Nat.le_of_ble_eq_true rfl) hRf, Nat.le_trans (Nat.le_of_ble_eq_true rfl) hRl⟩) rfl rfl hl hW hdg kk
theorem gX_X3_25 {p : Program} {l : Launch} {e : Env} {R : Room} {s : State} {m : MethodId} {args : Array Value} {below : List Frame} {meth : Method} {c : Code} {H : Heap} {locs : List Loc} {cells slots nL : Nat} {Q : State → Prop} {D : XD} {h0 h : TH} {cc : ByteArray} {pc : Nat} {ls : Array Slot} {rest : List Value} (hC : XCx D cc nL RX3 h0 p R s m args meth c) (hX : XSt D s h0 h H locs cells slots) {a : Nat} (hf : hasF (hT h a) 53 = true) (hdg : decode cc pc = .ok (.getfield 25, 3)) (kk : W p l e R s m args below meth c H locs cells slots Q (F0 m (pc + 3) ls (rv (hR h 53 a) :: rest))) : W p l e R s m args below meth c H locs cells slots Q (F0 m pc ls (rv a :: rest)) :=
  X_getr hC hX 53 hf rfl (fun q => absurd q (by decide)) q275 (fun _ h => h) hdg kk
theorem iX_X3_63 {p : Program} {l : Launch} {e : Env} {R : Room} {s : State} {m : MethodId} {args : Array Value} {below : List Frame} {meth : Method} {c : Code} {H : Heap} {locs : List Loc} {cells slots nL : Nat} {Q : State → Prop} {D : XD} {h0 h : TH} {cc : ByteArray} {pc : Nat} {ls : Array Slot} {rest : List Value} (hC : XCx D cc nL RX3 h0 p R s m args meth c) (hX : XSt D s h0 h H locs cells slots) {a : Nat} {b0 : Int32} {b1 : Int32} {x : Int64} (ht : hT h a = 4) (hcF : F_X2_sum D.2.2.2 h a b0 b1 = some x) (hl : ls.size = nL) (hW : (rest.map fun v => v.category).sum ≤ 8) (hRf : 0 + 1 ≤ R.frames) (hRl : 25 ≤ R.locals) (hdg : decode cc pc = .ok (.invokevirtual 63, 3)) (kk : ∀ (H1 : Heap) (locs1 : List Loc) (cells1 slots1 : Nat), XSt D s h0 h H1 locs1 cells1 slots1 → W p l e R s m args below meth c H1 locs1 cells1 slots1 Q (F0 m (pc + 3) ls (.long x :: rest))) : W p l e R s m args below meth c H locs cells slots Q (F0 m pc ls (.int b1 :: .int b0 :: rv a :: rest)) := by
  have q := ht
  exact X_callU hC hX (by rw [q]; decide) (by rw [q]; rfl) (As := [.int b0, .int b1]) (m_X2_sum l D a b0 b1 h _ hcF) (va_cwU 2 hC.2.2.2.2.1 (lw_U (owner := "BlindCards$Runs") q724 q725 q726 q718 q130 q719) rfl rfl rfl rfl (by decide +kernel) ⟨Nat.le_trans (Nat.le_of_ble_eq_true rfl) hRf, Nat.le_trans (Nat.le_of_ble_eq_true rfl) hRl⟩) rfl rfl hl hW hdg kk
theorem gX_X3_22 {p : Program} {l : Launch} {e : Env} {R : Room} {s : State} {m : MethodId} {args : Array Value} {below : List Frame} {meth : Method} {c : Code} {H : Heap} {locs : List Loc} {cells slots nL : Nat} {Q : State → Prop} {D : XD} {h0 h : TH} {cc : ByteArray} {pc : Nat} {ls : Array Slot} {rest : List Value} (hC : XCx D cc nL RX3 h0 p R s m args meth c) (hX : XSt D s h0 h H locs cells slots) {a : Nat} (hf : hasF (hT h a) 52 = true) (hdg : decode cc pc = .ok (.getfield 22, 3)) (kk : W p l e R s m args below meth c H locs cells slots Q (F0 m (pc + 3) ls (rv (hR h 52 a) :: rest))) : W p l e R s m args below meth c H locs cells slots Q (F0 m pc ls (rv a :: rest)) :=
  X_getr hC hX 52 hf rfl (fun q => absurd q (by decide)) q273 (fun _ h => h) hdg kk
theorem iX_X3_67 {p : Program} {l : Launch} {e : Env} {R : Room} {s : State} {m : MethodId} {args : Array Value} {below : List Frame} {meth : Method} {c : Code} {H : Heap} {locs : List Loc} {cells slots nL : Nat} {Q : State → Prop} {D : XD} {h0 h : TH} {cc : ByteArray} {pc : Nat} {ls : Array Slot} {rest : List Value} (hC : XCx D cc nL RX3 h0 p R s m args meth c) (hX : XSt D s h0 h H locs cells slots) {a : Nat} {b0 : Int32} {b1 : Nat} {b2 : Int32} {x : Int32} (ht : hT h a = 4) (hcF : F_X2_answers D.2.2.2 h a b0 b1 b2 = some x) (hl : ls.size = nL) (hW : (rest.map fun v => v.category).sum ≤ 8) (hRf : 2 + 1 ≤ R.frames) (hRl : 69 ≤ R.locals) (hdg : decode cc pc = .ok (.invokevirtual 67, 3)) (kk : ∀ (H1 : Heap) (locs1 : List Loc) (cells1 slots1 : Nat), XSt D s h0 h H1 locs1 cells1 slots1 → W p l e R s m args below meth c H1 locs1 cells1 slots1 Q (F0 m (pc + 3) ls (.int x :: rest))) : W p l e R s m args below meth c H locs cells slots Q (F0 m pc ls (.int b2 :: rv b1 :: .int b0 :: rv a :: rest)) := by
  have q := ht
  exact X_callU hC hX (by rw [q]; decide) (by rw [q]; rfl) (As := [.int b0, rv b1, .int b2]) (m_X2_answers l D a b0 b1 b2 h _ hcF) (va_cwU 3 hC.2.2.2.2.1 (lw_U (owner := "BlindCards$Runs") q727 q728 q729 q632 q130 q633) rfl rfl rfl rfl (by decide +kernel) ⟨Nat.le_trans (Nat.le_of_ble_eq_true rfl) hRf, Nat.le_trans (Nat.le_of_ble_eq_true rfl) hRl⟩) rfl rfl hl hW hdg kk
theorem iX_X3_71 {p : Program} {l : Launch} {e : Env} {R : Room} {s : State} {m : MethodId} {args : Array Value} {below : List Frame} {meth : Method} {c : Code} {H : Heap} {locs : List Loc} {cells slots nL : Nat} {Q : State → Prop} {D : XD} {h0 h : TH} {cc : ByteArray} {pc : Nat} {ls : Array Slot} {rest : List Value} (hC : XCx D cc nL RX3 h0 p R s m args meth c) (hX : XSt D s h0 h H locs cells slots) {a : Nat} {b0 : Int32} {b1 : Nat} {b2 : Int32} {x : Int32} (ht : hT h a = 4) (hcF : F_X3_isRight D.2.2.2 h a b0 b1 b2 = some x) (hl : ls.size = nL) (hW : (rest.map fun v => v.category).sum ≤ 8) (hRf : 453 + 1 ≤ R.frames) (hRl : 10439 ≤ R.locals) (hdg : decode cc pc = .ok (.invokevirtual 71, 3)) (kk : ∀ (H1 : Heap) (locs1 : List Loc) (cells1 slots1 : Nat), XSt D s h0 h H1 locs1 cells1 slots1 → W p l e R s m args below meth c H1 locs1 cells1 slots1 Q (F0 m (pc + 3) ls (.int x :: rest))) : W p l e R s m args below meth c H locs cells slots Q (F0 m pc ls (.int b2 :: rv b1 :: .int b0 :: rv a :: rest)) := by
  have q := ht
  exact X_callV hC hX (by rw [q]; decide) (by rw [q]; rfl) (As := [.int b0, rv b1, .int b2]) (m_X3_isRight l D a b0 b1 b2 h _ hcF) (cwV 3 hC.2.2.2.2.1 (lw_V q730 q732 qs4 q131 q733) rfl rfl rfl (by decide +kernel) ⟨Nat.le_trans (Nat.le_of_ble_eq_true rfl) hRf, Nat.le_trans (Nat.le_of_ble_eq_true rfl) hRl⟩) rfl rfl hl hW hdg kk
theorem gX_X3_36 {p : Program} {l : Launch} {e : Env} {R : Room} {s : State} {m : MethodId} {args : Array Value} {below : List Frame} {meth : Method} {c : Code} {H : Heap} {locs : List Loc} {cells slots nL : Nat} {Q : State → Prop} {D : XD} {h0 h : TH} {cc : ByteArray} {pc : Nat} {ls : Array Slot} {rest : List Value} (hC : XCx D cc nL RX3 h0 p R s m args meth c) (hX : XSt D s h0 h H locs cells slots) {a : Nat} (hf : hasF (hT h a) 56 = true) (hdg : decode cc pc = .ok (.getfield 36, 3)) (kk : W p l e R s m args below meth c H locs cells slots Q (F0 m (pc + 3) ls (.int (hI h 56 a) :: rest))) : W p l e R s m args below meth c H locs cells slots Q (F0 m pc ls (rv a :: rest)) :=
  X_geti hC hX 56 hf rfl q281 (fun _ h => h) hdg kk
theorem pX_X3_36 {p : Program} {l : Launch} {e : Env} {R : Room} {s : State} {m : MethodId} {args : Array Value} {below : List Frame} {meth : Method} {c : Code} {H : Heap} {locs : List Loc} {cells slots nL : Nat} {Q : State → Prop} {D : XD} {h0 h : TH} {cc : ByteArray} {pc : Nat} {ls : Array Slot} {rest : List Value} (hC : XCx D cc nL RX3 h0 p R s m args meth c) (hX : XSt D s h0 h H locs cells slots) {a : Nat} {v : Int32} (hf : hasF (hT h a) 56 = true) (hw : hT h a ≤ 24) (hdg : decode cc pc = .ok (.putfield 36, 3)) (kk : ∀ (H1 : Heap) (locs1 : List Loc), XSt D s h0 (uI h 56 a v) H1 locs1 cells slots → W p l e R s m args below meth c H1 locs1 cells slots Q (F0 m (pc + 3) ls rest)) : W p l e R s m args below meth c H locs cells slots Q (F0 m pc ls (.int v :: rv a :: rest)) :=
  X_puti hC hX 56 hf hw rfl rfl q281 (fun _ h => h) ⟨rfl, rfl⟩ hdg kk
theorem pX_X3_32 {p : Program} {l : Launch} {e : Env} {R : Room} {s : State} {m : MethodId} {args : Array Value} {below : List Frame} {meth : Method} {c : Code} {H : Heap} {locs : List Loc} {cells slots nL : Nat} {Q : State → Prop} {D : XD} {h0 h : TH} {cc : ByteArray} {pc : Nat} {ls : Array Slot} {rest : List Value} (hC : XCx D cc nL RX3 h0 p R s m args meth c) (hX : XSt D s h0 h H locs cells slots) {a : Nat} {v : Int32} (hf : hasF (hT h a) 55 = true) (hw : hT h a ≤ 24) (hdg : decode cc pc = .ok (.putfield 32, 3)) (kk : ∀ (H1 : Heap) (locs1 : List Loc), XSt D s h0 (uI h 55 a v) H1 locs1 cells slots → W p l e R s m args below meth c H1 locs1 cells slots Q (F0 m (pc + 3) ls rest)) : W p l e R s m args below meth c H locs cells slots Q (F0 m pc ls (.int v :: rv a :: rest)) :=
  X_puti hC hX 55 hf hw rfl rfl q279 (fun _ h => h) ⟨rfl, rfl⟩ hdg kk
/-! BlindCards$Keeper.end -/
def F_X3_end_b192 (K : Nat → Nat) (x0 : Nat) (h : TH) : Option TH :=
  gd (hasF (hT h x0) 55 = true) <|
  gd (hasF (hT h x0) 55 = true) <|
  gd (hT h x0 ≤ 24) <|
  lt (uI h 55 x0 ((hI h 55 x0) + (1 : Int32))) fun h_4 =>
  some h_4
set_option maxHeartbeats 4000000 in
theorem w_X3_end_b192 {p : Program} {l : Launch} {e : Env} {s : State} {m : MethodId} {args : Array Value} {below : List Frame} {meth : Method} {c : Code} {D : XD} {h0 : TH} (hC : XCx D cX3_end 6 RX3 h0 p (xRm 454 10439 h0) s m args meth c) (hr : meth.sig.returnType = none) (hnh : c.exceptionTable.isEmpty = true) (hin : meth.name = "end") {x : TH} :
    ∀ (x0 : Nat) (h : TH), F_X3_end_b192 D.2.2.2 x0 h = some x → XJ p l e (xRm 454 10439 h0) s m args below meth c D 6 (.returned none) h0 x 192 [(0, rv x0)] [] h := by
  have hx := hC.1
  have hb := hC.2.1
  intro x0 h hF H locs cells slots ls hX hl
  rw [F_X3_end_b192] at hF
  refine X_aload_n hx hb dX3_end_192 rfl (lv_at hl 0 rfl) ?_
  refine lv_dup hx hb dX3_end_193 (rv_cat _) ?_
  obtain ⟨h_1, hF⟩ := gd_ok hF
  refine gX_X3_32 hC hX h_1 dX3_end_194 ?_
  refine lv_iconst (v := 1) hx hb dX3_end_197 (by decide) ?_
  refine lv_iadd hx hb dX3_end_198 ?_
  obtain ⟨h_2, hF⟩ := gd_ok hF
  obtain ⟨h_3, hF⟩ := gd_ok hF
  refine pX_X3_32 hC hX h_2 h_3 dX3_end_199 (fun H locs hX => ?_)
  obtain ⟨h_4, eh_4, hF⟩ := lt_ok hF
  rw [← eh_4] at hX
  exact x_retv hC hX hr (Option.some.inj hF) dX3_end_202
def F_X3_end_b186 (K : Nat → Nat) (k93 : Nat → Int32 → Nat → Int32 → TH → Option TH) (x0 : Nat) (x1 : Int32) (x2 : Nat) (x5 : Int32) (h : TH) : Option TH :=
  lt (x5 + (1 : Int32)) fun x5_1 =>
  k93 x0 x1 x2 x5_1 h
set_option maxHeartbeats 4000000 in
theorem w_X3_end_b186 {p : Program} {l : Launch} {e : Env} {s : State} {m : MethodId} {args : Array Value} {below : List Frame} {meth : Method} {c : Code} {D : XD} {h0 : TH} (hC : XCx D cX3_end 6 RX3 h0 p (xRm 454 10439 h0) s m args meth c) (hr : meth.sig.returnType = none) (hnh : c.exceptionTable.isEmpty = true) (hin : meth.name = "end") {x : TH} (k93 : Nat → Int32 → Nat → Int32 → TH → Option TH) (hk93 : ∀ (x0 : Nat) (x1 : Int32) (x2 : Nat) (x5 : Int32) (h : TH), k93 x0 x1 x2 x5 h = some x → XJ p l e (xRm 454 10439 h0) s m args below meth c D 6 (.returned none) h0 x 93 [(0, rv x0), (1, .int x1), (2, rv x2), (5, .int x5)] [] h) :
    ∀ (x0 : Nat) (x1 : Int32) (x2 : Nat) (x5 : Int32) (h : TH), F_X3_end_b186 D.2.2.2 k93 x0 x1 x2 x5 h = some x → XJ p l e (xRm 454 10439 h0) s m args below meth c D 6 (.returned none) h0 x 186 [(0, rv x0), (1, .int x1), (2, rv x2), (5, .int x5)] [] h := by
  have hx := hC.1
  have hb := hC.2.1
  intro x0 x1 x2 x5 h hF H locs cells slots ls hX hl
  rw [F_X3_end_b186] at hF
  obtain ⟨x5_1, ex5_1, hF⟩ := lt_ok hF
  refine lv_iinc (v := x5_1) (lv' := [(5, .int x5_1), (0, rv x0), (1, .int x1), (2, rv x2)]) hx hb dX3_end_186 hl (k := 3) rfl (by rw [ex5_1]; rfl) (by decide) rfl (fun ls hl => ?_)
  refine lv_goto (tgt := 93) hx hb dX3_end_189 (by decide) ?_
  exact hk93 x0 x1 x2 x5_1 h hF H locs cells slots ls hX (lv_sub hl [1, 2, 3, 0] rfl)
def F_X3_end_b180 (K : Nat → Nat) (k186 : Nat → Int32 → Nat → Int32 → TH → Option TH) (x0 : Nat) (x1 : Int32) (x2 : Nat) (x5 : Int32) (h : TH) : Option TH :=
  gd (hasF (hT h x0) 56 = true) <|
  gd (hT h x0 ≤ 24) <|
  lt (uI h 56 x0 x5) fun h_3 =>
  k186 x0 x1 x2 x5 h_3
set_option maxHeartbeats 4000000 in
theorem w_X3_end_b180 {p : Program} {l : Launch} {e : Env} {s : State} {m : MethodId} {args : Array Value} {below : List Frame} {meth : Method} {c : Code} {D : XD} {h0 : TH} (hC : XCx D cX3_end 6 RX3 h0 p (xRm 454 10439 h0) s m args meth c) (hr : meth.sig.returnType = none) (hnh : c.exceptionTable.isEmpty = true) (hin : meth.name = "end") {x : TH} (k186 : Nat → Int32 → Nat → Int32 → TH → Option TH) (hk186 : ∀ (x0 : Nat) (x1 : Int32) (x2 : Nat) (x5 : Int32) (h : TH), k186 x0 x1 x2 x5 h = some x → XJ p l e (xRm 454 10439 h0) s m args below meth c D 6 (.returned none) h0 x 186 [(0, rv x0), (1, .int x1), (2, rv x2), (5, .int x5)] [] h) :
    ∀ (x0 : Nat) (x1 : Int32) (x2 : Nat) (x5 : Int32) (h : TH), F_X3_end_b180 D.2.2.2 k186 x0 x1 x2 x5 h = some x → XJ p l e (xRm 454 10439 h0) s m args below meth c D 6 (.returned none) h0 x 180 [(0, rv x0), (1, .int x1), (2, rv x2), (5, .int x5)] [] h := by
  have hx := hC.1
  have hb := hC.2.1
  intro x0 x1 x2 x5 h hF H locs cells slots ls hX hl
  rw [F_X3_end_b180] at hF
  refine X_aload_n hx hb dX3_end_180 rfl (lv_at hl 0 rfl) ?_
  refine lv_iload hx hb dX3_end_181 (lv_at hl 3 rfl) ?_
  obtain ⟨h_1, hF⟩ := gd_ok hF
  obtain ⟨h_2, hF⟩ := gd_ok hF
  refine pX_X3_36 hC hX h_1 h_2 dX3_end_183 (fun H locs hX => ?_)
  obtain ⟨h_3, eh_3, hF⟩ := lt_ok hF
  rw [← eh_3] at hX
  exact hk186 x0 x1 x2 x5 h_3 hF H locs cells slots ls hX (lv_sub hl [0, 1, 2, 3] rfl)
def F_X3_end_L93 (K : Nat → Nat) : Nat → Nat → Int32 → Nat → Int32 → TH → Option TH
  | 0, _, _, _, _, _ => none
  | fu + 1, x0, x1, x2, x5, h =>
    gd (hasF (hT h x0) 58 = true) <|
    lt (hR h 58 x0) fun r_2 =>
    gd (hasF (hT h r_2) 7 = true) <|
    lt (hR h 7 r_2) fun r_4 =>
    gd (hT h r_4 = 2) <|
    bd (F_X1_inputs K h r_4) fun r_7 =>
    if r_7 ≤ x5 then
      F_X3_end_b192 K x0 h
    else
      gd (hasF (hT h x0) 53 = true) <|
      lt (hR h 53 x0) fun r_10 =>
      gd (hasF (hT h x0) 55 = true) <|
      gd (hT h x0 = 4) <|
      bd (F_X2_sum K h x0 x1 x5) fun r_14 =>
      gd (hT h r_10 = 34) <|
      gd (inb (((8 : Int32) * (hI h 55 x0)) + x5) (hN h r_10)) <|
      lt (uL h r_10 (Int32.toNatClampNeg (((8 : Int32) * (hI h 55 x0)) + x5)) r_14) fun h_17 =>
      gd (hasF (hT h_17 x0) 52 = true) <|
      lt (hR h_17 52 x0) fun r_19 =>
      gd (hasF (hT h_17 x0) 55 = true) <|
      gd (hT h_17 x0 = 4) <|
      bd (F_X2_answers K h_17 x0 x1 x2 x5) fun r_23 =>
      gd (hT h_17 r_19 = 31) <|
      gd (inb (((8 : Int32) * (hI h_17 55 x0)) + x5) (hN h_17 r_19)) <|
      lt (uA h_17 r_19 (Int32.toNatClampNeg (((8 : Int32) * (hI h_17 55 x0)) + x5)) r_23) fun h_26 =>
      gd (hT h_26 x0 = 4) <|
      bd (F_X3_isRight K h_26 x0 x1 x2 x5) fun r_29 =>
      if r_29 = 0 then
        gd (hasF (hT h_26 x0) 56 = true) <|
        if (hI h_26 56 x0) < 0 then
          F_X3_end_b180 K (F_X3_end_b186 K (F_X3_end_L93 K fu)) x0 x1 x2 x5 h_26
        else
          gd (hasF (hT h_26 x0) 56 = true) <|
          if (hI h_26 56 x0) ≤ x5 then
            F_X3_end_b186 K (F_X3_end_L93 K fu) x0 x1 x2 x5 h_26
          else
            F_X3_end_b180 K (F_X3_end_b186 K (F_X3_end_L93 K fu)) x0 x1 x2 x5 h_26
      else
        F_X3_end_b186 K (F_X3_end_L93 K fu) x0 x1 x2 x5 h_26
set_option maxHeartbeats 4000000 in
theorem w_X3_end_L93 {p : Program} {l : Launch} {e : Env} {s : State} {m : MethodId} {args : Array Value} {below : List Frame} {meth : Method} {c : Code} {D : XD} {h0 : TH} (hC : XCx D cX3_end 6 RX3 h0 p (xRm 454 10439 h0) s m args meth c) (hr : meth.sig.returnType = none) (hnh : c.exceptionTable.isEmpty = true) (hin : meth.name = "end") {x : TH} :
    ∀ (fu : Nat) (x0 : Nat) (x1 : Int32) (x2 : Nat) (x5 : Int32) (h : TH), F_X3_end_L93 D.2.2.2 fu x0 x1 x2 x5 h = some x → XJ p l e (xRm 454 10439 h0) s m args below meth c D 6 (.returned none) h0 x 93 [(0, rv x0), (1, .int x1), (2, rv x2), (5, .int x5)] [] h := by
  have hx := hC.1
  have hb := hC.2.1
  intro fu
  induction fu with
  | zero => intro x0 x1 x2 x5 h hF; exact nm_none hF
  | succ fu ih =>
    intro x0 x1 x2 x5 h hF H locs cells slots ls hX hl
    rw [F_X3_end_L93] at hF
    refine lv_iload hx hb dX3_end_93 (lv_at hl 3 rfl) ?_
    refine X_aload_n hx hb dX3_end_95 rfl (lv_at hl 0 rfl) ?_
    obtain ⟨h_1, hF⟩ := gd_ok hF
    refine gX_X3_3 hC hX h_1 dX3_end_96 ?_
    refine lv_topr (fun r_2 er_2 => ?_)
    replace hF := lt_at hF er_2
    obtain ⟨h_3, hF⟩ := gd_ok hF
    refine gX_X3_53 hC hX h_3 dX3_end_99 ?_
    refine lv_topr (fun r_4 er_4 => ?_)
    replace hF := lt_at hF er_4
    obtain ⟨h_5, hF⟩ := gd_ok hF
    obtain ⟨r_7, hc_6, hF⟩ := bd_ok hF
    refine iX_X3_57 hC hX h_5 hc_6 hl.1 (Nat.le_of_ble_eq_true rfl) (Nat.le_of_ble_eq_true rfl) (Nat.le_of_ble_eq_true rfl) dX3_end_102 (fun H locs cells slots hX => ?_)
    refine lv_icmp_ge (tgt := 192) hx hb dX3_end_105 (by decide) (fun c_8 => ?_) (fun c_8 => ?_)
    · replace hF := it_t hF c_8
      exact w_X3_end_b192 hC hr hnh hin x0 h hF H locs cells slots ls hX (lv_sub hl [0] rfl)
    · replace hF := it_f hF c_8
      refine X_aload_n hx hb dX3_end_108 rfl (lv_at hl 0 rfl) ?_
      obtain ⟨h_9, hF⟩ := gd_ok hF
      refine gX_X3_25 hC hX h_9 dX3_end_109 ?_
      refine lv_topr (fun r_10 er_10 => ?_)
      replace hF := lt_at hF er_10
      refine lv_bipush (v := 8) hx hb dX3_end_112 (by decide) ?_
      refine X_aload_n hx hb dX3_end_114 rfl (lv_at hl 0 rfl) ?_
      obtain ⟨h_11, hF⟩ := gd_ok hF
      refine gX_X3_32 hC hX h_11 dX3_end_115 ?_
      refine lv_imul hx hb dX3_end_118 ?_
      refine lv_iload hx hb dX3_end_119 (lv_at hl 3 rfl) ?_
      refine lv_iadd hx hb dX3_end_121 ?_
      refine X_aload_n hx hb dX3_end_122 rfl (lv_at hl 0 rfl) ?_
      refine lv_iload_n hx hb dX3_end_123 rfl (lv_at hl 1 rfl) ?_
      refine lv_iload hx hb dX3_end_124 (lv_at hl 3 rfl) ?_
      obtain ⟨h_12, hF⟩ := gd_ok hF
      obtain ⟨r_14, hc_13, hF⟩ := bd_ok hF
      refine iX_X3_63 hC hX h_12 hc_13 hl.1 (cat4 (Nat.le_of_ble_eq_true rfl)) (Nat.le_of_ble_eq_true rfl) (Nat.le_of_ble_eq_true rfl) dX3_end_126 (fun H locs cells slots hX => ?_)
      obtain ⟨h_15, hF⟩ := gd_ok hF
      obtain ⟨h_16, hF⟩ := gd_ok hF
      refine X_last hC hX h_15 h_16 dX3_end_129 (fun H locs hX => ?_)
      obtain ⟨h_17, eh_17, hF⟩ := lt_ok hF
      rw [← eh_17] at hX
      refine X_aload_n hx hb dX3_end_130 rfl (lv_at hl 0 rfl) ?_
      obtain ⟨h_18, hF⟩ := gd_ok hF
      refine gX_X3_22 hC hX h_18 dX3_end_131 ?_
      refine lv_topr (fun r_19 er_19 => ?_)
      replace hF := lt_at hF er_19
      refine lv_bipush (v := 8) hx hb dX3_end_134 (by decide) ?_
      refine X_aload_n hx hb dX3_end_136 rfl (lv_at hl 0 rfl) ?_
      obtain ⟨h_20, hF⟩ := gd_ok hF
      refine gX_X3_32 hC hX h_20 dX3_end_137 ?_
      refine lv_imul hx hb dX3_end_140 ?_
      refine lv_iload hx hb dX3_end_141 (lv_at hl 3 rfl) ?_
      refine lv_iadd hx hb dX3_end_143 ?_
      refine X_aload_n hx hb dX3_end_144 rfl (lv_at hl 0 rfl) ?_
      refine lv_iload_n hx hb dX3_end_145 rfl (lv_at hl 1 rfl) ?_
      refine X_aload_n hx hb dX3_end_146 rfl (lv_at hl 2 rfl) ?_
      refine lv_iload hx hb dX3_end_147 (lv_at hl 3 rfl) ?_
      obtain ⟨h_21, hF⟩ := gd_ok hF
      obtain ⟨r_23, hc_22, hF⟩ := bd_ok hF
      refine iX_X3_67 hC hX h_21 hc_22 hl.1 (cat4 (Nat.le_of_ble_eq_true rfl)) (Nat.le_of_ble_eq_true rfl) (Nat.le_of_ble_eq_true rfl) dX3_end_149 (fun H locs cells slots hX => ?_)
      obtain ⟨h_24, hF⟩ := gd_ok hF
      obtain ⟨h_25, hF⟩ := gd_ok hF
      refine X_iast hC hX h_24 h_25 dX3_end_152 (fun H locs hX => ?_)
      obtain ⟨h_26, eh_26, hF⟩ := lt_ok hF
      rw [← eh_26] at hX
      refine X_aload_n hx hb dX3_end_153 rfl (lv_at hl 0 rfl) ?_
      refine lv_iload_n hx hb dX3_end_154 rfl (lv_at hl 1 rfl) ?_
      refine X_aload_n hx hb dX3_end_155 rfl (lv_at hl 2 rfl) ?_
      refine lv_iload hx hb dX3_end_156 (lv_at hl 3 rfl) ?_
      obtain ⟨h_27, hF⟩ := gd_ok hF
      obtain ⟨r_29, hc_28, hF⟩ := bd_ok hF
      refine iX_X3_71 hC hX h_27 hc_28 hl.1 (Nat.le_of_ble_eq_true rfl) (Nat.le_of_ble_eq_true rfl) (Nat.le_of_ble_eq_true rfl) dX3_end_158 (fun H locs cells slots hX => ?_)
      refine lv_if_ne (tgt := 186) hx hb dX3_end_161 (by decide) (fun c_30 => ?_) (fun c_30 => ?_)
      · replace hF := it_f hF c_30
        exact w_X3_end_b186 hC hr hnh hin (F_X3_end_L93 D.2.2.2 fu) ih x0 x1 x2 x5 h_26 hF H locs cells slots ls hX (lv_sub hl [0, 1, 2, 3] rfl)
      · replace hF := it_t hF c_30
        refine X_aload_n hx hb dX3_end_164 rfl (lv_at hl 0 rfl) ?_
        obtain ⟨h_31, hF⟩ := gd_ok hF
        refine gX_X3_36 hC hX h_31 dX3_end_165 ?_
        refine lv_if_lt (tgt := 180) hx hb dX3_end_168 (by decide) (fun c_32 => ?_) (fun c_32 => ?_)
        · replace hF := it_t hF c_32
          exact w_X3_end_b180 hC hr hnh hin (F_X3_end_b186 D.2.2.2 (F_X3_end_L93 D.2.2.2 fu)) (w_X3_end_b186 hC hr hnh hin (F_X3_end_L93 D.2.2.2 fu) ih) x0 x1 x2 x5 h_26 hF H locs cells slots ls hX (lv_sub hl [0, 1, 2, 3] rfl)
        · replace hF := it_f hF c_32
          refine lv_iload hx hb dX3_end_171 (lv_at hl 3 rfl) ?_
          refine X_aload_n hx hb dX3_end_173 rfl (lv_at hl 0 rfl) ?_
          obtain ⟨h_33, hF⟩ := gd_ok hF
          refine gX_X3_36 hC hX h_33 dX3_end_174 ?_
          refine lv_icmp_ge (tgt := 186) hx hb dX3_end_177 (by decide) (fun c_34 => ?_) (fun c_34 => ?_)
          · replace hF := it_t hF c_34
            exact w_X3_end_b186 hC hr hnh hin (F_X3_end_L93 D.2.2.2 fu) ih x0 x1 x2 x5 h_26 hF H locs cells slots ls hX (lv_sub hl [0, 1, 2, 3] rfl)
          · replace hF := it_f hF c_34
            exact w_X3_end_b180 hC hr hnh hin (F_X3_end_b186 D.2.2.2 (F_X3_end_L93 D.2.2.2 fu)) (w_X3_end_b186 hC hr hnh hin (F_X3_end_L93 D.2.2.2 fu) ih) x0 x1 x2 x5 h_26 hF H locs cells slots ls hX (lv_sub hl [0, 1, 2, 3] rfl)
def F_X3_end_b67 (K : Nat → Nat) (x0 : Nat) (x1 : Int32) (x2 : Nat) (x3 : Int64) (h : TH) : Option TH :=
  gd (hasF (hT h x0) 51 = true) <|
  lt (hR h 51 x0) fun r_2 =>
  gd (hasF (hT h x0) 55 = true) <|
  gd (hasF (hT h x0) 48 = true) <|
  gd (hT h r_2 = 31) <|
  gd (inb (hI h 55 x0) (hN h r_2)) <|
  lt (uA h r_2 (Int32.toNatClampNeg (hI h 55 x0)) (hI h 48 x0)) fun h_7 =>
  gd (hasF (hT h_7 x0) 54 = true) <|
  lt (hR h_7 54 x0) fun r_9 =>
  gd (hasF (hT h_7 x0) 55 = true) <|
  gd (hT h_7 r_9 = 34) <|
  gd (inb (hI h_7 55 x0) (hN h_7 r_9)) <|
  lt (uL h_7 r_9 (Int32.toNatClampNeg (hI h_7 55 x0)) x3) fun h_13 =>
  F_X3_end_L93 K MN x0 x1 x2 (0 : Int32) h_13
set_option maxHeartbeats 4000000 in
theorem w_X3_end_b67 {p : Program} {l : Launch} {e : Env} {s : State} {m : MethodId} {args : Array Value} {below : List Frame} {meth : Method} {c : Code} {D : XD} {h0 : TH} (hC : XCx D cX3_end 6 RX3 h0 p (xRm 454 10439 h0) s m args meth c) (hr : meth.sig.returnType = none) (hnh : c.exceptionTable.isEmpty = true) (hin : meth.name = "end") {x : TH} :
    ∀ (x0 : Nat) (x1 : Int32) (x2 : Nat) (x3 : Int64) (h : TH), F_X3_end_b67 D.2.2.2 x0 x1 x2 x3 h = some x → XJ p l e (xRm 454 10439 h0) s m args below meth c D 6 (.returned none) h0 x 67 [(0, rv x0), (1, .int x1), (2, rv x2), (3, .long x3)] [] h := by
  have hx := hC.1
  have hb := hC.2.1
  intro x0 x1 x2 x3 h hF H locs cells slots ls hX hl
  rw [F_X3_end_b67] at hF
  refine X_aload_n hx hb dX3_end_67 rfl (lv_at hl 0 rfl) ?_
  obtain ⟨h_1, hF⟩ := gd_ok hF
  refine gX_X3_19 hC hX h_1 dX3_end_68 ?_
  refine lv_topr (fun r_2 er_2 => ?_)
  replace hF := lt_at hF er_2
  refine X_aload_n hx hb dX3_end_71 rfl (lv_at hl 0 rfl) ?_
  obtain ⟨h_3, hF⟩ := gd_ok hF
  refine gX_X3_32 hC hX h_3 dX3_end_72 ?_
  refine X_aload_n hx hb dX3_end_75 rfl (lv_at hl 0 rfl) ?_
  obtain ⟨h_4, hF⟩ := gd_ok hF
  refine gX_X3_47 hC hX h_4 dX3_end_76 ?_
  obtain ⟨h_5, hF⟩ := gd_ok hF
  obtain ⟨h_6, hF⟩ := gd_ok hF
  refine X_iast hC hX h_5 h_6 dX3_end_79 (fun H locs hX => ?_)
  obtain ⟨h_7, eh_7, hF⟩ := lt_ok hF
  rw [← eh_7] at hX
  refine X_aload_n hx hb dX3_end_80 rfl (lv_at hl 0 rfl) ?_
  obtain ⟨h_8, hF⟩ := gd_ok hF
  refine gX_X3_29 hC hX h_8 dX3_end_81 ?_
  refine lv_topr (fun r_9 er_9 => ?_)
  replace hF := lt_at hF er_9
  refine X_aload_n hx hb dX3_end_84 rfl (lv_at hl 0 rfl) ?_
  obtain ⟨h_10, hF⟩ := gd_ok hF
  refine gX_X3_32 hC hX h_10 dX3_end_85 ?_
  refine lv_lload_n hx hb dX3_end_88 rfl (lv_at hl 3 rfl) ?_
  obtain ⟨h_11, hF⟩ := gd_ok hF
  obtain ⟨h_12, hF⟩ := gd_ok hF
  refine X_last hC hX h_11 h_12 dX3_end_89 (fun H locs hX => ?_)
  obtain ⟨h_13, eh_13, hF⟩ := lt_ok hF
  rw [← eh_13] at hX
  refine lv_iconst (v := 0) hx hb dX3_end_90 (by decide) ?_
  refine lv_istore (lv' := [(5, .int (0 : Int32)), (0, rv x0), (1, .int x1), (2, rv x2), (3, .long x3)]) hx hb dX3_end_91 hl (by decide) rfl (fun ls hl => ?_)
  exact w_X3_end_L93 hC hr hnh hin MN x0 x1 x2 (0 : Int32) h_13 hF H locs cells slots ls hX (lv_sub hl [1, 2, 3, 0] rfl)
def F_X3_end_L30 (K : Nat → Nat) : Nat → Nat → Int32 → Nat → Int64 → Int32 → TH → Option TH
  | 0, _, _, _, _, _, _ => none
  | fu + 1, x0, x1, x2, x3, x5, h =>
    gd (hasF (hT h x0) 48 = true) <|
    if (hI h 48 x0) ≤ x5 then
      F_X3_end_b67 K x0 x1 x2 x3 h
    else
      gd (hasF (hT h x0) 50 = true) <|
      lt (hR h 50 x0) fun r_4 =>
      gd (hasF (hT h x0) 55 = true) <|
      gd (hasF (hT h x0) 47 = true) <|
      lt (hR h 47 x0) fun r_7 =>
      gd (hT h r_7 = 31 ∨ hT h r_7 = 43) <|
      gd (inb x5 (hN h r_7)) <|
      gd (hT h r_4 = 31) <|
      gd (inb (((6 : Int32) * (hI h 55 x0)) + x5) (hN h r_4)) <|
      lt (uA h r_4 (Int32.toNatClampNeg (((6 : Int32) * (hI h 55 x0)) + x5)) (hA h r_7 (Int32.toNatClampNeg x5))) fun h_12 =>
      lt (x5 + (1 : Int32)) fun x5_13 =>
      F_X3_end_L30 K fu x0 x1 x2 x3 x5_13 h_12
set_option maxHeartbeats 4000000 in
theorem w_X3_end_L30 {p : Program} {l : Launch} {e : Env} {s : State} {m : MethodId} {args : Array Value} {below : List Frame} {meth : Method} {c : Code} {D : XD} {h0 : TH} (hC : XCx D cX3_end 6 RX3 h0 p (xRm 454 10439 h0) s m args meth c) (hr : meth.sig.returnType = none) (hnh : c.exceptionTable.isEmpty = true) (hin : meth.name = "end") {x : TH} :
    ∀ (fu : Nat) (x0 : Nat) (x1 : Int32) (x2 : Nat) (x3 : Int64) (x5 : Int32) (h : TH), F_X3_end_L30 D.2.2.2 fu x0 x1 x2 x3 x5 h = some x → XJ p l e (xRm 454 10439 h0) s m args below meth c D 6 (.returned none) h0 x 30 [(0, rv x0), (1, .int x1), (2, rv x2), (3, .long x3), (5, .int x5)] [] h := by
  have hx := hC.1
  have hb := hC.2.1
  intro fu
  induction fu with
  | zero => intro x0 x1 x2 x3 x5 h hF; exact nm_none hF
  | succ fu ih =>
    intro x0 x1 x2 x3 x5 h hF H locs cells slots ls hX hl
    rw [F_X3_end_L30] at hF
    refine lv_iload hx hb dX3_end_30 (lv_at hl 4 rfl) ?_
    refine X_aload_n hx hb dX3_end_32 rfl (lv_at hl 0 rfl) ?_
    obtain ⟨h_1, hF⟩ := gd_ok hF
    refine gX_X3_47 hC hX h_1 dX3_end_33 ?_
    refine lv_icmp_ge (tgt := 67) hx hb dX3_end_36 (by decide) (fun c_2 => ?_) (fun c_2 => ?_)
    · replace hF := it_t hF c_2
      exact w_X3_end_b67 hC hr hnh hin x0 x1 x2 x3 h hF H locs cells slots ls hX (lv_sub hl [0, 1, 2, 3] rfl)
    · replace hF := it_f hF c_2
      refine X_aload_n hx hb dX3_end_39 rfl (lv_at hl 0 rfl) ?_
      obtain ⟨h_3, hF⟩ := gd_ok hF
      refine gX_X3_15 hC hX h_3 dX3_end_40 ?_
      refine lv_topr (fun r_4 er_4 => ?_)
      replace hF := lt_at hF er_4
      refine lv_bipush (v := 6) hx hb dX3_end_43 (by decide) ?_
      refine X_aload_n hx hb dX3_end_45 rfl (lv_at hl 0 rfl) ?_
      obtain ⟨h_5, hF⟩ := gd_ok hF
      refine gX_X3_32 hC hX h_5 dX3_end_46 ?_
      refine lv_imul hx hb dX3_end_49 ?_
      refine lv_iload hx hb dX3_end_50 (lv_at hl 4 rfl) ?_
      refine lv_iadd hx hb dX3_end_52 ?_
      refine X_aload_n hx hb dX3_end_53 rfl (lv_at hl 0 rfl) ?_
      obtain ⟨h_6, hF⟩ := gd_ok hF
      refine gX_X3_50 hC hX h_6 dX3_end_54 ?_
      refine lv_topr (fun r_7 er_7 => ?_)
      replace hF := lt_at hF er_7
      refine lv_iload hx hb dX3_end_57 (lv_at hl 4 rfl) ?_
      obtain ⟨h_8, hF⟩ := gd_ok hF
      obtain ⟨h_9, hF⟩ := gd_ok hF
      refine X_iald hC hX h_8 h_9 dX3_end_59 ?_
      obtain ⟨h_10, hF⟩ := gd_ok hF
      obtain ⟨h_11, hF⟩ := gd_ok hF
      refine X_iast hC hX h_10 h_11 dX3_end_60 (fun H locs hX => ?_)
      obtain ⟨h_12, eh_12, hF⟩ := lt_ok hF
      rw [← eh_12] at hX
      obtain ⟨x5_13, ex5_13, hF⟩ := lt_ok hF
      refine lv_iinc (v := x5_13) (lv' := [(5, .int x5_13), (0, rv x0), (1, .int x1), (2, rv x2), (3, .long x3)]) hx hb dX3_end_61 hl (k := 4) rfl (by rw [ex5_13]; rfl) (by decide) rfl (fun ls hl => ?_)
      refine lv_goto (tgt := 30) hx hb dX3_end_64 (by decide) ?_
      exact ih x0 x1 x2 x3 x5_13 h_12 hF H locs cells slots ls hX (lv_sub hl [1, 2, 3, 4, 0] rfl)
def F_X3_end_b16 (K : Nat → Nat) (x0 : Nat) (x1 : Int32) (x2 : Nat) (x3 : Int64) (y0 : Int32) (y1 : Nat) (h : TH) : Option TH :=
  gd (hasF (hT h y1) 57 = true) <|
  gd (hT h y1 ≤ 24) <|
  gd (y0 = 0 ∨ y0 = 1) <|
  lt (uI h 57 y1 y0) fun h_4 =>
  gd (hasF (hT h_4 x0) 57 = true) <|
  if (hI h_4 57 x0) = 0 then
    F_X3_end_L30 K MN x0 x1 x2 x3 (0 : Int32) h_4
  else
    some h_4
set_option maxHeartbeats 4000000 in
theorem w_X3_end_b16 {p : Program} {l : Launch} {e : Env} {s : State} {m : MethodId} {args : Array Value} {below : List Frame} {meth : Method} {c : Code} {D : XD} {h0 : TH} (hC : XCx D cX3_end 6 RX3 h0 p (xRm 454 10439 h0) s m args meth c) (hr : meth.sig.returnType = none) (hnh : c.exceptionTable.isEmpty = true) (hin : meth.name = "end") {x : TH} :
    ∀ (x0 : Nat) (x1 : Int32) (x2 : Nat) (x3 : Int64) (y0 : Int32) (y1 : Nat) (h : TH), F_X3_end_b16 D.2.2.2 x0 x1 x2 x3 y0 y1 h = some x → XJ p l e (xRm 454 10439 h0) s m args below meth c D 6 (.returned none) h0 x 16 [(0, rv x0), (1, .int x1), (2, rv x2), (3, .long x3)] [.int y0, rv y1] h := by
  have hx := hC.1
  have hb := hC.2.1
  intro x0 x1 x2 x3 y0 y1 h hF H locs cells slots ls hX hl
  rw [F_X3_end_b16] at hF
  obtain ⟨h_1, hF⟩ := gd_ok hF
  obtain ⟨h_2, hF⟩ := gd_ok hF
  obtain ⟨h_3, hF⟩ := gd_ok hF
  refine pX_X3_39 hC hX h_1 h_2 h_3 dX3_end_16 (fun H locs hX => ?_)
  obtain ⟨h_4, eh_4, hF⟩ := lt_ok hF
  rw [← eh_4] at hX
  refine X_aload_n hx hb dX3_end_19 rfl (lv_at hl 0 rfl) ?_
  obtain ⟨h_5, hF⟩ := gd_ok hF
  refine gX_X3_39 hC hX h_5 dX3_end_20 ?_
  refine lv_if_eq (tgt := 27) hx hb dX3_end_23 (by decide) (fun c_6 => ?_) (fun c_6 => ?_)
  · replace hF := it_t hF c_6
    refine lv_iconst (v := 0) hx hb dX3_end_27 (by decide) ?_
    refine lv_istore (lv' := [(5, .int (0 : Int32)), (0, rv x0), (1, .int x1), (2, rv x2), (3, .long x3)]) hx hb dX3_end_28 hl (by decide) rfl (fun ls hl => ?_)
    exact w_X3_end_L30 hC hr hnh hin MN x0 x1 x2 x3 (0 : Int32) h_4 hF H locs cells slots ls hX (lv_sub hl [1, 2, 3, 4, 0] rfl)
  · replace hF := it_f hF c_6
    exact x_retv hC hX hr (Option.some.inj hF) dX3_end_26
def F_X3_end (K : Nat → Nat) (a0 : Nat) (b0 : Int32) (b1 : Nat) (b2 : Int64) (h : TH) : Option TH :=
  gd (hasF (hT h a0) 55 = true) <|
  if (hI h 55 a0) = (200 : Int32) then
    F_X3_end_b16 K a0 b0 b1 b2 (1 : Int32) a0 h
  else
    F_X3_end_b16 K a0 b0 b1 b2 (0 : Int32) a0 h
set_option maxHeartbeats 4000000 in
theorem w_X3_end {p : Program} {l : Launch} {e : Env} {s : State} {m : MethodId} {args : Array Value} {below : List Frame} {meth : Method} {c : Code} {D : XD} {h0 : TH} (hC : XCx D cX3_end 6 RX3 h0 p (xRm 454 10439 h0) s m args meth c) (hr : meth.sig.returnType = none) (hnh : c.exceptionTable.isEmpty = true) (hin : meth.name = "end") {x : TH} :
    ∀ (a0 : Nat) (b0 : Int32) (b1 : Nat) (b2 : Int64) (h : TH), F_X3_end D.2.2.2 a0 b0 b1 b2 h = some x → XJ p l e (xRm 454 10439 h0) s m args below meth c D 6 (.returned none) h0 x 0 [(0, rv a0), (1, .int b0), (2, rv b1), (3, .long b2)] [] h := by
  have hx := hC.1
  have hb := hC.2.1
  intro a0 b0 b1 b2 h hF H locs cells slots ls hX hl
  rw [F_X3_end] at hF
  refine X_aload_n hx hb dX3_end_0 rfl (lv_at hl 0 rfl) ?_
  refine X_aload_n hx hb dX3_end_1 rfl (lv_at hl 0 rfl) ?_
  obtain ⟨h_1, hF⟩ := gd_ok hF
  refine gX_X3_32 hC hX h_1 dX3_end_2 ?_
  refine lv_sipush (v := 200) hx hb dX3_end_5 (by decide) ?_
  refine lv_icmp_ne (tgt := 15) hx hb dX3_end_8 (by decide) (fun c_2 => ?_) (fun c_2 => ?_)
  · replace hF := it_f hF c_2
    refine lv_iconst (v := 0) hx hb dX3_end_15 (by decide) ?_
    exact w_X3_end_b16 hC hr hnh hin a0 b0 b1 b2 (0 : Int32) a0 h hF H locs cells slots ls hX (lv_sub hl [0, 1, 2, 3] rfl)
  · replace hF := it_t hF c_2
    refine lv_iconst (v := 1) hx hb dX3_end_11 (by decide) ?_
    refine lv_goto (tgt := 16) hx hb dX3_end_12 (by decide) ?_
    exact w_X3_end_b16 hC hr hnh hin a0 b0 b1 b2 (1 : Int32) a0 h hF H locs cells slots ls hX (lv_sub hl [0, 1, 2, 3] rfl)
theorem m_X3_end (l : Launch) (D : XD) (a0 : Nat) (b0 : Int32) (b1 : Nat) (b2 : Int64) (h : TH) (x : TH) (hF : F_X3_end D.2.2.2 a0 b0 b1 b2 h = some x) : XMt l yX3_end (ws_ yX3_end cX3_end 6 (none)) 454 10439 D [rv a0, .int b0, rv b1, .long b2] h (.returned none) x := by
  refine x_met (by decide +kernel) ?_ ?_
  · simp [lg_sl, rv_cat, cat_i, cat_l]
  intro p e s m below meth c hC hr hnh hin ls hl hX
  replace hl : lv_has ls 6 [(0, rv a0), (1, .int b0), (2, rv b1), (3, .long b2)] := by simpa [lv_args, rv_cat, cat_i, cat_l] using hl
  exact w_X3_end hC hr hnh hin a0 b0 b1 b2 h hF s.heap [] 0 0 ls hX hl
theorem gX_X2_29 {p : Program} {l : Launch} {e : Env} {R : Room} {s : State} {m : MethodId} {args : Array Value} {below : List Frame} {meth : Method} {c : Code} {H : Heap} {locs : List Loc} {cells slots nL : Nat} {Q : State → Prop} {D : XD} {h0 h : TH} {cc : ByteArray} {pc : Nat} {ls : Array Slot} {rest : List Value} (hC : XCx D cc nL RX2 h0 p R s m args meth c) (hX : XSt D s h0 h H locs cells slots) {a : Nat} (hf : hasF (hT h a) 48 = true) (hdg : decode cc pc = .ok (.getfield 29, 3)) (kk : W p l e R s m args below meth c H locs cells slots Q (F0 m (pc + 3) ls (.int (hI h 48 a) :: rest))) : W p l e R s m args below meth c H locs cells slots Q (F0 m pc ls (rv a :: rest)) :=
  X_geti hC hX 48 hf rfl q301 (fun _ h => h) hdg kk
theorem gX_X2_153 {p : Program} {l : Launch} {e : Env} {R : Room} {s : State} {m : MethodId} {args : Array Value} {below : List Frame} {meth : Method} {c : Code} {H : Heap} {locs : List Loc} {cells slots nL : Nat} {Q : State → Prop} {D : XD} {h0 h : TH} {cc : ByteArray} {pc : Nat} {ls : Array Slot} {rest : List Value} (hC : XCx D cc nL RX2 h0 p R s m args meth c) (hX : XSt D s h0 h H locs cells slots) {a : Nat} (hf : hasF (hT h a) 102 = true) (hdg : decode cc pc = .ok (.getfield 153, 3)) (kk : W p l e R s m args below meth c H locs cells slots Q (F0 m (pc + 3) ls (.int (hI h 102 a) :: rest))) : W p l e R s m args below meth c H locs cells slots Q (F0 m pc ls (rv a :: rest)) :=
  X_geti hC hX 102 hf rfl q1380 (fun _ h => h) hdg kk
theorem iX_X2_155 {p : Program} {l : Launch} {e : Env} {R : Room} {s : State} {m : MethodId} {args : Array Value} {below : List Frame} {meth : Method} {c : Code} {H : Heap} {locs : List Loc} {cells slots nL : Nat} {Q : State → Prop} {D : XD} {h0 h : TH} {cc : ByteArray} {pc : Nat} {ls : Array Slot} {rest : List Value} (hC : XCx D cc nL RX2 h0 p R s m args meth c) (hX : XSt D s h0 h H locs cells slots) {a : Nat} {b0 : Int32} {x : Int32} (ht : hT h a = 18) (hcF : F_X18_seen D.2.2.2 h a b0 = some x) (hl : ls.size = nL) (hW : (rest.map fun v => v.category).sum ≤ 8) (hRf : 0 + 1 ≤ R.frames) (hRl : 23 ≤ R.locals) (hdg : decode cc pc = .ok (.invokevirtual 155, 3)) (kk : ∀ (H1 : Heap) (locs1 : List Loc) (cells1 slots1 : Nat), XSt D s h0 h H1 locs1 cells1 slots1 → W p l e R s m args below meth c H1 locs1 cells1 slots1 Q (F0 m (pc + 3) ls (.int x :: rest))) : W p l e R s m args below meth c H locs cells slots Q (F0 m pc ls (.int b0 :: rv a :: rest)) := by
  have q := ht
  exact X_callV hC hX (by rw [q]; decide) (by rw [q]; rfl) (As := [.int b0]) (m_X18_seen l D a b0 h _ hcF) (cwV 1 hC.2.2.2.2.1 (lw_V q614 q615 q616 q162 q617) rfl rfl rfl (by decide +kernel) ⟨Nat.le_trans (Nat.le_of_ble_eq_true rfl) hRf, Nat.le_trans (Nat.le_of_ble_eq_true rfl) hRl⟩) rfl rfl hl hW hdg kk
theorem gX_X2_46 {p : Program} {l : Launch} {e : Env} {R : Room} {s : State} {m : MethodId} {args : Array Value} {below : List Frame} {meth : Method} {c : Code} {H : Heap} {locs : List Loc} {cells slots nL : Nat} {Q : State → Prop} {D : XD} {h0 h : TH} {cc : ByteArray} {pc : Nat} {ls : Array Slot} {rest : List Value} (hC : XCx D cc nL RX2 h0 p R s m args meth c) (hX : XSt D s h0 h H locs cells slots) {a : Nat} (hf : hasF (hT h a) 1 = true) (hdg : decode cc pc = .ok (.getfield 46, 3)) (kk : W p l e R s m args below meth c H locs cells slots Q (F0 m (pc + 3) ls (rv (hR h 1 a) :: rest))) : W p l e R s m args below meth c H locs cells slots Q (F0 m pc ls (rv a :: rest)) :=
  X_getrN hC hX 1 hf rfl (fun q => absurd q (by decide)) (List.mem_of_getElem? (i := 2) rfl) hdg kk
theorem gX_X2_158 {p : Program} {l : Launch} {e : Env} {R : Room} {s : State} {m : MethodId} {args : Array Value} {below : List Frame} {meth : Method} {c : Code} {H : Heap} {locs : List Loc} {cells slots nL : Nat} {Q : State → Prop} {D : XD} {h0 h : TH} {cc : ByteArray} {pc : Nat} {ls : Array Slot} {rest : List Value} (hC : XCx D cc nL RX2 h0 p R s m args meth c) (hX : XSt D s h0 h H locs cells slots) {a : Nat} (hf : hasF (hT h a) 101 = true) (hdg : decode cc pc = .ok (.getfield 158, 3)) (kk : W p l e R s m args below meth c H locs cells slots Q (F0 m (pc + 3) ls (rv (hR h 101 a) :: rest))) : W p l e R s m args below meth c H locs cells slots Q (F0 m pc ls (rv a :: rest)) :=
  X_getr hC hX 101 hf rfl (fun q => absurd q (by decide)) q1376 (fun _ h => h) hdg kk
theorem gX_X2_25 {p : Program} {l : Launch} {e : Env} {R : Room} {s : State} {m : MethodId} {args : Array Value} {below : List Frame} {meth : Method} {c : Code} {H : Heap} {locs : List Loc} {cells slots nL : Nat} {Q : State → Prop} {D : XD} {h0 h : TH} {cc : ByteArray} {pc : Nat} {ls : Array Slot} {rest : List Value} (hC : XCx D cc nL RX2 h0 p R s m args meth c) (hX : XSt D s h0 h H locs cells slots) {a : Nat} (hf : hasF (hT h a) 47 = true) (hdg : decode cc pc = .ok (.getfield 25, 3)) (kk : W p l e R s m args below meth c H locs cells slots Q (F0 m (pc + 3) ls (rv (hR h 47 a) :: rest))) : W p l e R s m args below meth c H locs cells slots Q (F0 m pc ls (rv a :: rest)) :=
  X_getr hC hX 47 hf rfl (fun q => absurd q (by decide)) q298 (fun _ h => h) hdg kk
theorem pX_X2_29 {p : Program} {l : Launch} {e : Env} {R : Room} {s : State} {m : MethodId} {args : Array Value} {below : List Frame} {meth : Method} {c : Code} {H : Heap} {locs : List Loc} {cells slots nL : Nat} {Q : State → Prop} {D : XD} {h0 h : TH} {cc : ByteArray} {pc : Nat} {ls : Array Slot} {rest : List Value} (hC : XCx D cc nL RX2 h0 p R s m args meth c) (hX : XSt D s h0 h H locs cells slots) {a : Nat} {v : Int32} (hf : hasF (hT h a) 48 = true) (hw : hT h a ≤ 24) (hdg : decode cc pc = .ok (.putfield 29, 3)) (kk : ∀ (H1 : Heap) (locs1 : List Loc), XSt D s h0 (uI h 48 a v) H1 locs1 cells slots → W p l e R s m args below meth c H1 locs1 cells slots Q (F0 m (pc + 3) ls rest)) : W p l e R s m args below meth c H locs cells slots Q (F0 m pc ls (.int v :: rv a :: rest)) :=
  X_puti hC hX 48 hf hw rfl rfl q301 (fun _ h => h) ⟨rfl, rfl⟩ hdg kk
theorem iXo_X2_50 {p : Program} {l : Launch} {e : Env} {R : Room} {s : State} {m : MethodId} {args : Array Value} {below : List Frame} {meth : Method} {c : Code} {H : Heap} {locs : List Loc} {cells slots nL : Nat} {Q : State → Prop} {D : XD} {h0 h : TH} {cc : ByteArray} {pc : Nat} {ls : Array Slot} {rest : List Value} (hC : XCx D cc nL RX2 h0 p R s m args meth c) (hX : XSt D s h0 h H locs cells slots) {a : Nat} {b0 : Int32} {b1 : Int32} {b2 : Int32} {b3 : Int64} {b4 : Int32} {x : TH} {fr lo : Nat} (ht : hT h a = 4 ∨ hT h a = 5 ∨ hT h a = 6) (hcF : XMt l yX2_go (ws_ yX2_go cX2_go 14 (none)) fr lo D [rv a, .int b0, .int b1, .int b2, .long b3, .int b4] h (.returned none) x) (hl : ls.size = nL) (hW : (rest.map fun v => v.category).sum ≤ 8) (hRf : fr + 1 ≤ R.frames) (hRl : 8 + (14 + 11) + lo ≤ R.locals) (hdg : decode cc pc = .ok (.invokevirtual 50, 3)) (kk : ∀ (H1 : Heap) (locs1 : List Loc) (cells1 slots1 : Nat), XSt D s h0 x H1 locs1 cells1 slots1 → W p l e R s m args below meth c H1 locs1 cells1 slots1 Q (F0 m (pc + 3) ls (rest))) : W p l e R s m args below meth c H locs cells slots Q (F0 m pc ls (.int b4 :: .long b3 :: .int b2 :: .int b1 :: .int b0 :: rv a :: rest)) := by
  rcases ht with q | q | q
  · exact X_callV hC hX (by rw [q]; decide) (by rw [q]; rfl) (As := [.int b0, .int b1, .int b2, .long b3, .int b4]) hcF ⟨callB_of 5 hC.2.2.2.2.1 (lw_meth q486) rfl rfl rfl (hC.2.2.2.2.1 _ q130) (hC.2.2.2.2.1 _ q483) (by decide +kernel) ⟨hRf, hRl⟩, hC.2.2.2.2.1 _ q485, va_Nw.use rfl (xs0 hC.2.2.2.2.2.2.1)⟩ rfl rfl hl hW hdg kk
  · exact X_callV hC hX (by rw [q]; decide) (by rw [q]; rfl) (As := [.int b0, .int b1, .int b2, .long b3, .int b4]) hcF ⟨callB_of 5 hC.2.2.2.2.1 (lw_meth q486) rfl rfl rfl (hC.2.2.2.2.1 _ q130) (hC.2.2.2.2.1 _ q483) (by decide +kernel) ⟨hRf, hRl⟩, hC.2.2.2.2.1 _ q485, va_Nw.use rfl (xs5 hC.2.2.2.2.2.2.1)⟩ rfl rfl hl hW hdg kk
  · exact X_callV hC hX (by rw [q]; decide) (by rw [q]; rfl) (As := [.int b0, .int b1, .int b2, .long b3, .int b4]) hcF ⟨callB_of 5 hC.2.2.2.2.1 (lw_meth q486) rfl rfl rfl (hC.2.2.2.2.1 _ q130) (hC.2.2.2.2.1 _ q483) (by decide +kernel) ⟨hRf, hRl⟩, hC.2.2.2.2.1 _ q485, va_Nw.use rfl (xs10 hC.2.2.2.2.2.2.1)⟩ rfl rfl hl hW hdg kk
theorem iX_X2_148 {p : Program} {l : Launch} {e : Env} {R : Room} {s : State} {m : MethodId} {args : Array Value} {below : List Frame} {meth : Method} {c : Code} {H : Heap} {locs : List Loc} {cells slots nL : Nat} {Q : State → Prop} {D : XD} {h0 h : TH} {cc : ByteArray} {pc : Nat} {ls : Array Slot} {rest : List Value} (hC : XCx D cc nL RX2 h0 p R s m args meth c) (hX : XSt D s h0 h H locs cells slots) {b0 : Int32} {b1 : Int32} {x : Int32} (hcF : F_J4_max D.2.2.2 h b0 b1 = some x) (hl : ls.size = nL) (hW : (rest.map fun v => v.category).sum ≤ 8) (hRf : 0 + 1 ≤ R.frames) (hRl : 21 ≤ R.locals) (hdg : decode cc pc = .ok (.invokestatic 148, 3)) (kk : ∀ (H1 : Heap) (locs1 : List Loc) (cells1 slots1 : Nat), XSt D s h0 h H1 locs1 cells1 slots1 → W p l e R s m args below meth c H1 locs1 cells1 slots1 Q (F0 m (pc + 3) ls (.int x :: rest))) : W p l e R s m args below meth c H locs cells slots Q (F0 m pc ls (.int b1 :: .int b0 :: rest)) := by
  exact X_callS hC hX (As := [.int b0, .int b1]) (m_J4_max l D b0 b1 h _ hcF) (va_cwS 2 hC.2.2.2.2.1 (lw_S q574 q414 q135 q415) rfl rfl rfl (by decide +kernel) ⟨Nat.le_trans (Nat.le_of_ble_eq_true rfl) hRf, Nat.le_trans (Nat.le_of_ble_eq_true rfl) hRl⟩) rfl rfl hl hW hdg kk
theorem gX_X2_22 {p : Program} {l : Launch} {e : Env} {R : Room} {s : State} {m : MethodId} {args : Array Value} {below : List Frame} {meth : Method} {c : Code} {H : Heap} {locs : List Loc} {cells slots nL : Nat} {Q : State → Prop} {D : XD} {h0 h : TH} {cc : ByteArray} {pc : Nat} {ls : Array Slot} {rest : List Value} (hC : XCx D cc nL RX2 h0 p R s m args meth c) (hX : XSt D s h0 h H locs cells slots) {a : Nat} (hf : hasF (hT h a) 45 = true) (hdg : decode cc pc = .ok (.getfield 22, 3)) (kk : W p l e R s m args below meth c H locs cells slots Q (F0 m (pc + 3) ls (.int (hI h 45 a) :: rest))) : W p l e R s m args below meth c H locs cells slots Q (F0 m pc ls (rv a :: rest)) :=
  X_geti hC hX 45 hf rfl q292 (fun _ h => h) hdg kk
theorem iX_X2_98 {p : Program} {l : Launch} {e : Env} {R : Room} {s : State} {m : MethodId} {args : Array Value} {below : List Frame} {meth : Method} {c : Code} {H : Heap} {locs : List Loc} {cells slots nL : Nat} {Q : State → Prop} {D : XD} {h0 h : TH} {cc : ByteArray} {pc : Nat} {ls : Array Slot} {rest : List Value} (hC : XCx D cc nL RX2 h0 p R s m args meth c) (hX : XSt D s h0 h H locs cells slots) {a : Nat} {b0 : Int32} {b1 : Int32} {x : Int32} (hcF : V_X7_to D.2.2.2 h a b0 b1 = some x) (hl : ls.size = nL) (hW : (rest.map fun v => v.category).sum ≤ 8) (hRf : 2 + 1 ≤ R.frames) (hRl : 72 ≤ R.locals) (hdg : decode cc pc = .ok (.invokevirtual 98, 3)) (kk : ∀ (H1 : Heap) (locs1 : List Loc) (cells1 slots1 : Nat), XSt D s h0 h H1 locs1 cells1 slots1 → W p l e R s m args below meth c H1 locs1 cells1 slots1 Q (F0 m (pc + 3) ls (.int x :: rest))) : W p l e R s m args below meth c H locs cells slots Q (F0 m pc ls (.int b1 :: .int b0 :: rv a :: rest)) := by
  unfold V_X7_to at hcF
  by_cases q : hT h a = 14
  · replace hcF := it_t hcF q
    exact X_callU hC hX (by rw [q]; decide) (by rw [q]; rfl) (As := [.int b0, .int b1]) (m_X16_to l D a b0 b1 h _ hcF) (va_cwA 2 hC.2.2.2.2.1 (lw_U q575 q577 q592 q593 q160 q594) rfl rfl rfl (xd3 hC.2.2.2.2.2.2.1) (by decide +kernel) ⟨Nat.le_trans (Nat.le_of_ble_eq_true rfl) hRf, Nat.le_trans (Nat.le_of_ble_eq_true rfl) hRl⟩) rfl rfl hl hW hdg kk
  replace hcF := it_f hcF q
  by_cases q : hT h a = 15 ∨ hT h a = 16
  · replace hcF := it_t hcF q
    rcases q with q | q
    · exact X_callU hC hX (by rw [q]; decide) (by rw [q]; rfl) (As := [.int b0, .int b1]) (m_X8_to l D a b0 b1 h _ hcF) (va_cwA 2 hC.2.2.2.2.1 (lw_U q575 q577 q581 q579 q142 q580) rfl rfl rfl (xd3 hC.2.2.2.2.2.2.1) (by decide +kernel) ⟨Nat.le_trans (Nat.le_of_ble_eq_true rfl) hRf, Nat.le_trans (Nat.le_of_ble_eq_true rfl) hRl⟩) rfl rfl hl hW hdg kk
    · exact X_callU hC hX (by rw [q]; decide) (by rw [q]; rfl) (As := [.int b0, .int b1]) (m_X8_to l D a b0 b1 h _ hcF) (va_cwA 2 hC.2.2.2.2.1 (lw_U q575 q577 q578 q579 q142 q580) rfl rfl rfl (xd3 hC.2.2.2.2.2.2.1) (by decide +kernel) ⟨Nat.le_trans (Nat.le_of_ble_eq_true rfl) hRf, Nat.le_trans (Nat.le_of_ble_eq_true rfl) hRl⟩) rfl rfl hl hW hdg kk
  replace hcF := it_f hcF q
  by_cases q : hT h a = 17
  · replace hcF := it_t hcF q
    exact X_callU hC hX (by rw [q]; decide) (by rw [q]; rfl) (As := [.int b0, .int b1]) (m_X9_to l D a b0 b1 h _ hcF) (va_cwA 2 hC.2.2.2.2.1 (lw_U q575 q577 q582 q583 q143 q584) rfl rfl rfl (xd3 hC.2.2.2.2.2.2.1) (by decide +kernel) ⟨Nat.le_trans (Nat.le_of_ble_eq_true rfl) hRf, Nat.le_trans (Nat.le_of_ble_eq_true rfl) hRl⟩) rfl rfl hl hW hdg kk
  replace hcF := it_f hcF q
  exact nm_none hcF
theorem gX_X2_54 {p : Program} {l : Launch} {e : Env} {R : Room} {s : State} {m : MethodId} {args : Array Value} {below : List Frame} {meth : Method} {c : Code} {H : Heap} {locs : List Loc} {cells slots nL : Nat} {Q : State → Prop} {D : XD} {h0 h : TH} {cc : ByteArray} {pc : Nat} {ls : Array Slot} {rest : List Value} (hC : XCx D cc nL RX2 h0 p R s m args meth c) (hX : XSt D s h0 h H locs cells slots) {a : Nat} (hf : hasF (hT h a) 30 = true) (hdg : decode cc pc = .ok (.getfield 54, 3)) (kk : W p l e R s m args below meth c H locs cells slots Q (F0 m (pc + 3) ls (rv (hR h 30 a) :: rest))) : W p l e R s m args below meth c H locs cells slots Q (F0 m pc ls (rv a :: rest)) :=
  X_getr hC hX 30 hf rfl (fun q => absurd q (by decide)) q219 (fun _ h => h) hdg kk
theorem iX_X2_58 {p : Program} {l : Launch} {e : Env} {R : Room} {s : State} {m : MethodId} {args : Array Value} {below : List Frame} {meth : Method} {c : Code} {H : Heap} {locs : List Loc} {cells slots nL : Nat} {Q : State → Prop} {D : XD} {h0 h : TH} {cc : ByteArray} {pc : Nat} {ls : Array Slot} {rest : List Value} (hC : XCx D cc nL RX2 h0 p R s m args meth c) (hX : XSt D s h0 h H locs cells slots) {a : Nat} {x : Int32} (ht : hT h a = 3) (hcF : F_J2_size D.2.2.2 h a = some x) (hl : ls.size = nL) (hW : (rest.map fun v => v.category).sum ≤ 8) (hRf : 0 + 1 ≤ R.frames) (hRl : 20 ≤ R.locals) (hdg : decode cc pc = .ok (.invokevirtual 58, 3)) (kk : ∀ (H1 : Heap) (locs1 : List Loc) (cells1 slots1 : Nat), XSt D s h0 h H1 locs1 cells1 slots1 → W p l e R s m args below meth c H1 locs1 cells1 slots1 Q (F0 m (pc + 3) ls (.int x :: rest))) : W p l e R s m args below meth c H locs cells slots Q (F0 m pc ls (rv a :: rest)) := by
  have q := ht
  exact X_callV hC hX (by rw [q]; decide) (by rw [q]; rfl) (As := []) (m_J2_size l D a h _ hcF) (cwV 0 hC.2.2.2.2.1 (lw_V q487 q488 q489 q129 q490) rfl rfl rfl (by decide +kernel) ⟨Nat.le_trans (Nat.le_of_ble_eq_true rfl) hRf, Nat.le_trans (Nat.le_of_ble_eq_true rfl) hRl⟩) rfl rfl hl hW hdg kk
def V_X2_isDone (K : Nat → Nat) (h : TH) (a : Nat) : Option Int32 :=
  if hT h a = 4 then F_X3_isDone K h a else
  if hT h a = 5 then F_X4_isDone K h a else
  if hT h a = 6 then F_X5_isDone K h a else
  none
theorem iX_X2_63 {p : Program} {l : Launch} {e : Env} {R : Room} {s : State} {m : MethodId} {args : Array Value} {below : List Frame} {meth : Method} {c : Code} {H : Heap} {locs : List Loc} {cells slots nL : Nat} {Q : State → Prop} {D : XD} {h0 h : TH} {cc : ByteArray} {pc : Nat} {ls : Array Slot} {rest : List Value} (hC : XCx D cc nL RX2 h0 p R s m args meth c) (hX : XSt D s h0 h H locs cells slots) {a : Nat} {x : Int32} (hcF : V_X2_isDone D.2.2.2 h a = some x) (hl : ls.size = nL) (hW : (rest.map fun v => v.category).sum ≤ 8) (hRf : 0 + 1 ≤ R.frames) (hRl : 20 ≤ R.locals) (hdg : decode cc pc = .ok (.invokevirtual 63, 3)) (kk : ∀ (H1 : Heap) (locs1 : List Loc) (cells1 slots1 : Nat), XSt D s h0 h H1 locs1 cells1 slots1 → W p l e R s m args below meth c H1 locs1 cells1 slots1 Q (F0 m (pc + 3) ls (.int x :: rest))) : W p l e R s m args below meth c H locs cells slots Q (F0 m pc ls (rv a :: rest)) := by
  unfold V_X2_isDone at hcF
  by_cases q : hT h a = 4
  · replace hcF := it_t hcF q
    exact X_callU hC hX (by rw [q]; decide) (by rw [q]; rfl) (As := []) (m_X3_isDone l D a h _ hcF) (va_cwA 0 hC.2.2.2.2.1 (lw_U q491 q493 q500 q501 q131 q502) rfl rfl rfl (xd1 hC.2.2.2.2.2.2.1) (by decide +kernel) ⟨Nat.le_trans (Nat.le_of_ble_eq_true rfl) hRf, Nat.le_trans (Nat.le_of_ble_eq_true rfl) hRl⟩) rfl rfl hl hW hdg kk
  replace hcF := it_f hcF q
  by_cases q : hT h a = 5
  · replace hcF := it_t hcF q
    exact X_callU hC hX (by rw [q]; decide) (by rw [q]; rfl) (As := []) (m_X4_isDone l D a h _ hcF) (va_cwA 0 hC.2.2.2.2.1 (lw_U q491 q493 q497 q498 q132 q499) rfl rfl rfl (xd1 hC.2.2.2.2.2.2.1) (by decide +kernel) ⟨Nat.le_trans (Nat.le_of_ble_eq_true rfl) hRf, Nat.le_trans (Nat.le_of_ble_eq_true rfl) hRl⟩) rfl rfl hl hW hdg kk
  replace hcF := it_f hcF q
  by_cases q : hT h a = 6
  · replace hcF := it_t hcF q
    exact X_callU hC hX (by rw [q]; decide) (by rw [q]; rfl) (As := []) (m_X5_isDone l D a h _ hcF) (va_cwA 0 hC.2.2.2.2.1 (lw_U q491 q493 q494 q495 q133 q496) rfl rfl rfl (xd1 hC.2.2.2.2.2.2.1) (by decide +kernel) ⟨Nat.le_trans (Nat.le_of_ble_eq_true rfl) hRf, Nat.le_trans (Nat.le_of_ble_eq_true rfl) hRl⟩) rfl rfl hl hW hdg kk
  replace hcF := it_f hcF q
  exact nm_none hcF
theorem iX_X2_67 {p : Program} {l : Launch} {e : Env} {R : Room} {s : State} {m : MethodId} {args : Array Value} {below : List Frame} {meth : Method} {c : Code} {H : Heap} {locs : List Loc} {cells slots nL : Nat} {Q : State → Prop} {D : XD} {h0 h : TH} {cc : ByteArray} {pc : Nat} {ls : Array Slot} {rest : List Value} (hC : XCx D cc nL RX2 h0 p R s m args meth c) (hX : XSt D s h0 h H locs cells slots) {a : Nat} {b0 : Int32} {x : Nat} (ht : hT h a = 3) (hcF : F_J2_get D.2.2.2 h a b0 = some x) (hl : ls.size = nL) (hW : (rest.map fun v => v.category).sum ≤ 8) (hRf : 2 + 1 ≤ R.frames) (hRl : 64 ≤ R.locals) (hdg : decode cc pc = .ok (.invokevirtual 67, 3)) (kk : ∀ (H1 : Heap) (locs1 : List Loc) (cells1 slots1 : Nat), XSt D s h0 h H1 locs1 cells1 slots1 → W p l e R s m args below meth c H1 locs1 cells1 slots1 Q (F0 m (pc + 3) ls (rv x :: rest))) : W p l e R s m args below meth c H locs cells slots Q (F0 m pc ls (.int b0 :: rv a :: rest)) := by
  have q := ht
  exact X_callV hC hX (by rw [q]; decide) (by rw [q]; rfl) (As := [.int b0]) (m_J2_get l D a b0 h _ hcF) (cwV 1 hC.2.2.2.2.1 (lw_V q503 q504 q505 q129 q506) rfl rfl rfl (by decide +kernel) ⟨Nat.le_trans (Nat.le_of_ble_eq_true rfl) hRf, Nat.le_trans (Nat.le_of_ble_eq_true rfl) hRl⟩) rfl rfl hl hW hdg kk
theorem iX_X2_73 {p : Program} {l : Launch} {e : Env} {R : Room} {s : State} {m : MethodId} {args : Array Value} {below : List Frame} {meth : Method} {c : Code} {H : Heap} {locs : List Loc} {cells slots nL : Nat} {Q : State → Prop} {D : XD} {h0 h : TH} {cc : ByteArray} {pc : Nat} {ls : Array Slot} {rest : List Value} (hC : XCx D cc nL RX2 h0 p R s m args meth c) (hX : XSt D s h0 h H locs cells slots) {a : Nat} {x : Int32} (hcF : V_X6_needs D.2.2.2 h a = some x) (hl : ls.size = nL) (hW : (rest.map fun v => v.category).sum ≤ 8) (hRf : 1 + 1 ≤ R.frames) (hRl : 41 ≤ R.locals) (hdg : decode cc pc = .ok (.invokevirtual 73, 3)) (kk : ∀ (H1 : Heap) (locs1 : List Loc) (cells1 slots1 : Nat), XSt D s h0 h H1 locs1 cells1 slots1 → W p l e R s m args below meth c H1 locs1 cells1 slots1 Q (F0 m (pc + 3) ls (.int x :: rest))) : W p l e R s m args below meth c H locs cells slots Q (F0 m pc ls (rv a :: rest)) := by
  unfold V_X6_needs at hcF
  by_cases q : hT h a = 14
  · replace hcF := it_t hcF q
    exact X_callU hC hX (by rw [q]; decide) (by rw [q]; rfl) (As := []) (m_X16_needs l D a h _ hcF) (va_cwO 0 hC.2.2.2.2.1 (lw_O (owner := "BlindCards$Step") q518 q520 q519 q537 q538 q160 q539) rfl rfl rfl q540 (by decide +kernel) ⟨Nat.le_trans (Nat.le_of_ble_eq_true rfl) hRf, Nat.le_trans (Nat.le_of_ble_eq_true rfl) hRl⟩) rfl rfl hl hW hdg kk
  replace hcF := it_f hcF q
  by_cases q : hT h a = 15 ∨ hT h a = 16 ∨ hT h a = 17
  · replace hcF := it_t hcF q
    rcases q with q | q | q
    · exact X_callU hC hX (by rw [q]; decide) (by rw [q]; rfl) (As := []) (m_X8_needs l D a h _ hcF) (va_cwO 0 hC.2.2.2.2.1 (lw_O (owner := "BlindCards$Step") q518 q520 q519 q528 q522 q142 q523) rfl rfl rfl q540 (by decide +kernel) ⟨Nat.le_trans (Nat.le_of_ble_eq_true rfl) hRf, Nat.le_trans (Nat.le_of_ble_eq_true rfl) hRl⟩) rfl rfl hl hW hdg kk
    · exact X_callU hC hX (by rw [q]; decide) (by rw [q]; rfl) (As := []) (m_X8_needs l D a h _ hcF) (va_cwO 0 hC.2.2.2.2.1 (lw_O (owner := "BlindCards$Step") q518 q520 q519 q521 q522 q142 q523) rfl rfl rfl q540 (by decide +kernel) ⟨Nat.le_trans (Nat.le_of_ble_eq_true rfl) hRf, Nat.le_trans (Nat.le_of_ble_eq_true rfl) hRl⟩) rfl rfl hl hW hdg kk
    · exact X_callU hC hX (by rw [q]; decide) (by rw [q]; rfl) (As := []) (m_X8_needs l D a h _ hcF) (va_cwO 0 hC.2.2.2.2.1 (lw_O (owner := "BlindCards$Step") q518 q520 q519 q532 q522 q142 q523) rfl rfl rfl q540 (by decide +kernel) ⟨Nat.le_trans (Nat.le_of_ble_eq_true rfl) hRf, Nat.le_trans (Nat.le_of_ble_eq_true rfl) hRl⟩) rfl rfl hl hW hdg kk
  replace hcF := it_f hcF q
  by_cases q : hT h a = 18
  · replace hcF := it_t hcF q
    exact X_callU hC hX (by rw [q]; decide) (by rw [q]; rfl) (As := []) (m_X18_needs l D a h _ hcF) (va_cwO 0 hC.2.2.2.2.1 (lw_O (owner := "BlindCards$Step") q518 q520 q519 q533 q534 q162 q535) rfl rfl rfl q540 (by decide +kernel) ⟨Nat.le_trans (Nat.le_of_ble_eq_true rfl) hRf, Nat.le_trans (Nat.le_of_ble_eq_true rfl) hRl⟩) rfl rfl hl hW hdg kk
  replace hcF := it_f hcF q
  by_cases q : hT h a = 19 ∨ hT h a = 20 ∨ hT h a = 21 ∨ hT h a = 23
  · replace hcF := it_t hcF q
    rcases q with q | q | q | q
    · exact X_callU hC hX (by rw [q]; decide) (by rw [q]; rfl) (As := []) (m_X6_needs l D a h _ hcF) (va_cwU 0 hC.2.2.2.2.1 (lw_U (owner := "BlindCards$Step") q518 q520 q530 q519 q140 q540) rfl rfl rfl rfl (by decide +kernel) ⟨Nat.le_trans (Nat.le_of_ble_eq_true rfl) hRf, Nat.le_trans (Nat.le_of_ble_eq_true rfl) hRl⟩) rfl rfl hl hW hdg kk
    · exact X_callU hC hX (by rw [q]; decide) (by rw [q]; rfl) (As := []) (m_X6_needs l D a h _ hcF) (va_cwU 0 hC.2.2.2.2.1 (lw_U (owner := "BlindCards$Step") q518 q520 q529 q519 q140 q540) rfl rfl rfl rfl (by decide +kernel) ⟨Nat.le_trans (Nat.le_of_ble_eq_true rfl) hRf, Nat.le_trans (Nat.le_of_ble_eq_true rfl) hRl⟩) rfl rfl hl hW hdg kk
    · exact X_callU hC hX (by rw [q]; decide) (by rw [q]; rfl) (As := []) (m_X6_needs l D a h _ hcF) (va_cwU 0 hC.2.2.2.2.1 (lw_U (owner := "BlindCards$Step") q518 q520 q531 q519 q140 q540) rfl rfl rfl rfl (by decide +kernel) ⟨Nat.le_trans (Nat.le_of_ble_eq_true rfl) hRf, Nat.le_trans (Nat.le_of_ble_eq_true rfl) hRl⟩) rfl rfl hl hW hdg kk
    · exact X_callU hC hX (by rw [q]; decide) (by rw [q]; rfl) (As := []) (m_X6_needs l D a h _ hcF) (va_cwU 0 hC.2.2.2.2.1 (lw_U (owner := "BlindCards$Step") q518 q520 q536 q519 q140 q540) rfl rfl rfl rfl (by decide +kernel) ⟨Nat.le_trans (Nat.le_of_ble_eq_true rfl) hRf, Nat.le_trans (Nat.le_of_ble_eq_true rfl) hRl⟩) rfl rfl hl hW hdg kk
  replace hcF := it_f hcF q
  by_cases q : hT h a = 22
  · replace hcF := it_t hcF q
    exact X_callU hC hX (by rw [q]; decide) (by rw [q]; rfl) (As := []) (m_X22_needs l D a h _ hcF) (va_cwO 0 hC.2.2.2.2.1 (lw_O (owner := "BlindCards$Step") q518 q520 q519 q524 q525 q166 q526) rfl rfl rfl q540 (by decide +kernel) ⟨Nat.le_trans (Nat.le_of_ble_eq_true rfl) hRf, Nat.le_trans (Nat.le_of_ble_eq_true rfl) hRl⟩) rfl rfl hl hW hdg kk
  replace hcF := it_f hcF q
  exact nm_none hcF
theorem gX_X2_110 {p : Program} {l : Launch} {e : Env} {R : Room} {s : State} {m : MethodId} {args : Array Value} {below : List Frame} {meth : Method} {c : Code} {H : Heap} {locs : List Loc} {cells slots nL : Nat} {Q : State → Prop} {D : XD} {h0 h : TH} {cc : ByteArray} {pc : Nat} {ls : Array Slot} {rest : List Value} (hC : XCx D cc nL RX2 h0 p R s m args meth c) (hX : XSt D s h0 h H locs cells slots) {a : Nat} (hf : hasF (hT h a) 106 = true) (hdg : decode cc pc = .ok (.getfield 110, 3)) (kk : W p l e R s m args below meth c H locs cells slots Q (F0 m (pc + 3) ls (.int (hI h 106 a) :: rest))) : W p l e R s m args below meth c H locs cells slots Q (F0 m pc ls (rv a :: rest)) :=
  X_geti hC hX 106 hf rfl q1506 (fun _ h => h) hdg kk
theorem gX_X2_113 {p : Program} {l : Launch} {e : Env} {R : Room} {s : State} {m : MethodId} {args : Array Value} {below : List Frame} {meth : Method} {c : Code} {H : Heap} {locs : List Loc} {cells slots nL : Nat} {Q : State → Prop} {D : XD} {h0 h : TH} {cc : ByteArray} {pc : Nat} {ls : Array Slot} {rest : List Value} (hC : XCx D cc nL RX2 h0 p R s m args meth c) (hX : XSt D s h0 h H locs cells slots) {a : Nat} (hf : hasF (hT h a) 107 = true) (hdg : decode cc pc = .ok (.getfield 113, 3)) (kk : W p l e R s m args below meth c H locs cells slots Q (F0 m (pc + 3) ls (.int (hI h 107 a) :: rest))) : W p l e R s m args below meth c H locs cells slots Q (F0 m pc ls (rv a :: rest)) :=
  X_geti hC hX 107 hf rfl q1509 (fun _ h => h) hdg kk
theorem iX_X2_78 {p : Program} {l : Launch} {e : Env} {R : Room} {s : State} {m : MethodId} {args : Array Value} {below : List Frame} {meth : Method} {c : Code} {H : Heap} {locs : List Loc} {cells slots nL : Nat} {Q : State → Prop} {D : XD} {h0 h : TH} {cc : ByteArray} {pc : Nat} {ls : Array Slot} {rest : List Value} (hC : XCx D cc nL RX2 h0 p R s m args meth c) (hX : XSt D s h0 h H locs cells slots) {a : Nat} {x : Int32} (ht : hT h a = 19) (hcF : F_X19_many D.2.2.2 h a = some x) (hl : ls.size = nL) (hW : (rest.map fun v => v.category).sum ≤ 8) (hRf : 0 + 1 ≤ R.frames) (hRl : 20 ≤ R.locals) (hdg : decode cc pc = .ok (.invokevirtual 78, 3)) (kk : ∀ (H1 : Heap) (locs1 : List Loc) (cells1 slots1 : Nat), XSt D s h0 h H1 locs1 cells1 slots1 → W p l e R s m args below meth c H1 locs1 cells1 slots1 Q (F0 m (pc + 3) ls (.int x :: rest))) : W p l e R s m args below meth c H locs cells slots Q (F0 m pc ls (rv a :: rest)) := by
  have q := ht
  exact X_callV hC hX (by rw [q]; decide) (by rw [q]; rfl) (As := []) (m_X19_many l D a h _ hcF) (cwV 0 hC.2.2.2.2.1 (lw_V q542 q543 q544 q163 q545) rfl rfl rfl (by decide +kernel) ⟨Nat.le_trans (Nat.le_of_ble_eq_true rfl) hRf, Nat.le_trans (Nat.le_of_ble_eq_true rfl) hRl⟩) rfl rfl hl hW hdg kk
theorem gX_X2_19 {p : Program} {l : Launch} {e : Env} {R : Room} {s : State} {m : MethodId} {args : Array Value} {below : List Frame} {meth : Method} {c : Code} {H : Heap} {locs : List Loc} {cells slots nL : Nat} {Q : State → Prop} {D : XD} {h0 h : TH} {cc : ByteArray} {pc : Nat} {ls : Array Slot} {rest : List Value} (hC : XCx D cc nL RX2 h0 p R s m args meth c) (hX : XSt D s h0 h H locs cells slots) {a : Nat} (hf : hasF (hT h a) 44 = true) (hdg : decode cc pc = .ok (.getfield 19, 3)) (kk : W p l e R s m args below meth c H locs cells slots Q (F0 m (pc + 3) ls (.int (hI h 44 a) :: rest))) : W p l e R s m args below meth c H locs cells slots Q (F0 m pc ls (rv a :: rest)) :=
  X_geti hC hX 44 hf rfl q289 (fun _ h => h) hdg kk
theorem iX_X2_81 {p : Program} {l : Launch} {e : Env} {R : Room} {s : State} {m : MethodId} {args : Array Value} {below : List Frame} {meth : Method} {c : Code} {H : Heap} {locs : List Loc} {cells slots nL : Nat} {Q : State → Prop} {D : XD} {h0 h : TH} {cc : ByteArray} {pc : Nat} {ls : Array Slot} {rest : List Value} (hC : XCx D cc nL RX2 h0 p R s m args meth c) (hX : XSt D s h0 h H locs cells slots) {a : Nat} {b0 : Int32} {b1 : Nat} {b2 : Int32} {x : TH} (ht : hT h a = 4 ∨ hT h a = 5 ∨ hT h a = 6) (hcF : F_X2_lay D.2.2.2 a b0 b1 b2 h = some x) (hl : ls.size = nL) (hW : (rest.map fun v => v.category).sum ≤ 8) (hRf : 1 + 1 ≤ R.frames) (hRl : 50 ≤ R.locals) (hdg : decode cc pc = .ok (.invokevirtual 81, 3)) (kk : ∀ (H1 : Heap) (locs1 : List Loc) (cells1 slots1 : Nat), XSt D s h0 x H1 locs1 cells1 slots1 → W p l e R s m args below meth c H1 locs1 cells1 slots1 Q (F0 m (pc + 3) ls (rest))) : W p l e R s m args below meth c H locs cells slots Q (F0 m pc ls (.int b2 :: rv b1 :: .int b0 :: rv a :: rest)) := by
  rcases ht with q | q | q
  · exact X_callV hC hX (by rw [q]; decide) (by rw [q]; rfl) (As := [.int b0, rv b1, .int b2]) (m_X2_lay l D a b0 b1 b2 h _ hcF) ⟨callB_of 3 hC.2.2.2.2.1 (lw_meth q549) rfl rfl rfl (hC.2.2.2.2.1 _ q130) (hC.2.2.2.2.1 _ q546) (by decide +kernel) ⟨Nat.le_trans (Nat.le_of_ble_eq_true rfl) hRf, Nat.le_trans (Nat.le_of_ble_eq_true rfl) hRl⟩, hC.2.2.2.2.1 _ q548, va_Nw.use rfl (xs1 hC.2.2.2.2.2.2.1)⟩ rfl rfl hl hW hdg kk
  · exact X_callV hC hX (by rw [q]; decide) (by rw [q]; rfl) (As := [.int b0, rv b1, .int b2]) (m_X2_lay l D a b0 b1 b2 h _ hcF) ⟨callB_of 3 hC.2.2.2.2.1 (lw_meth q549) rfl rfl rfl (hC.2.2.2.2.1 _ q130) (hC.2.2.2.2.1 _ q546) (by decide +kernel) ⟨Nat.le_trans (Nat.le_of_ble_eq_true rfl) hRf, Nat.le_trans (Nat.le_of_ble_eq_true rfl) hRl⟩, hC.2.2.2.2.1 _ q548, va_Nw.use rfl (xs6 hC.2.2.2.2.2.2.1)⟩ rfl rfl hl hW hdg kk
  · exact X_callV hC hX (by rw [q]; decide) (by rw [q]; rfl) (As := [.int b0, rv b1, .int b2]) (m_X2_lay l D a b0 b1 b2 h _ hcF) ⟨callB_of 3 hC.2.2.2.2.1 (lw_meth q549) rfl rfl rfl (hC.2.2.2.2.1 _ q130) (hC.2.2.2.2.1 _ q546) (by decide +kernel) ⟨Nat.le_trans (Nat.le_of_ble_eq_true rfl) hRf, Nat.le_trans (Nat.le_of_ble_eq_true rfl) hRl⟩, hC.2.2.2.2.1 _ q548, va_Nw.use rfl (xs11 hC.2.2.2.2.2.2.1)⟩ rfl rfl hl hW hdg kk
theorem iX_X2_94 {p : Program} {l : Launch} {e : Env} {R : Room} {s : State} {m : MethodId} {args : Array Value} {below : List Frame} {meth : Method} {c : Code} {H : Heap} {locs : List Loc} {cells slots nL : Nat} {Q : State → Prop} {D : XD} {h0 h : TH} {cc : ByteArray} {pc : Nat} {ls : Array Slot} {rest : List Value} (hC : XCx D cc nL RX2 h0 p R s m args meth c) (hX : XSt D s h0 h H locs cells slots) {a : Nat} {b0 : Int32} {b1 : Nat} {x : TH} (ht : hT h a = 4 ∨ hT h a = 5 ∨ hT h a = 6) (hcF : F_X2_move D.2.2.2 a b0 b1 h = some x) (hl : ls.size = nL) (hW : (rest.map fun v => v.category).sum ≤ 8) (hRf : 4 + 1 ≤ R.frames) (hRl : 121 ≤ R.locals) (hdg : decode cc pc = .ok (.invokevirtual 94, 3)) (kk : ∀ (H1 : Heap) (locs1 : List Loc) (cells1 slots1 : Nat), XSt D s h0 x H1 locs1 cells1 slots1 → W p l e R s m args below meth c H1 locs1 cells1 slots1 Q (F0 m (pc + 3) ls (rest))) : W p l e R s m args below meth c H locs cells slots Q (F0 m pc ls (rv b1 :: .int b0 :: rv a :: rest)) := by
  rcases ht with q | q | q
  · exact X_callV hC hX (by rw [q]; decide) (by rw [q]; rfl) (As := [.int b0, rv b1]) (m_X2_move l D a b0 b1 h _ hcF) ⟨callB_of 2 hC.2.2.2.2.1 (lw_meth q608) rfl rfl rfl (hC.2.2.2.2.1 _ q130) (hC.2.2.2.2.1 _ q605) (by decide +kernel) ⟨Nat.le_trans (Nat.le_of_ble_eq_true rfl) hRf, Nat.le_trans (Nat.le_of_ble_eq_true rfl) hRl⟩, hC.2.2.2.2.1 _ q607, va_Nw.use rfl (xs2 hC.2.2.2.2.2.2.1)⟩ rfl rfl hl hW hdg kk
  · exact X_callV hC hX (by rw [q]; decide) (by rw [q]; rfl) (As := [.int b0, rv b1]) (m_X2_move l D a b0 b1 h _ hcF) ⟨callB_of 2 hC.2.2.2.2.1 (lw_meth q608) rfl rfl rfl (hC.2.2.2.2.1 _ q130) (hC.2.2.2.2.1 _ q605) (by decide +kernel) ⟨Nat.le_trans (Nat.le_of_ble_eq_true rfl) hRf, Nat.le_trans (Nat.le_of_ble_eq_true rfl) hRl⟩, hC.2.2.2.2.1 _ q607, va_Nw.use rfl (xs7 hC.2.2.2.2.2.2.1)⟩ rfl rfl hl hW hdg kk
  · exact X_callV hC hX (by rw [q]; decide) (by rw [q]; rfl) (As := [.int b0, rv b1]) (m_X2_move l D a b0 b1 h _ hcF) ⟨callB_of 2 hC.2.2.2.2.1 (lw_meth q608) rfl rfl rfl (hC.2.2.2.2.1 _ q130) (hC.2.2.2.2.1 _ q605) (by decide +kernel) ⟨Nat.le_trans (Nat.le_of_ble_eq_true rfl) hRf, Nat.le_trans (Nat.le_of_ble_eq_true rfl) hRl⟩, hC.2.2.2.2.1 _ q607, va_Nw.use rfl (xs12 hC.2.2.2.2.2.2.1)⟩ rfl rfl hl hW hdg kk
theorem iXo_X2_90 {p : Program} {l : Launch} {e : Env} {R : Room} {s : State} {m : MethodId} {args : Array Value} {below : List Frame} {meth : Method} {c : Code} {H : Heap} {locs : List Loc} {cells slots nL : Nat} {Q : State → Prop} {D : XD} {h0 h : TH} {cc : ByteArray} {pc : Nat} {ls : Array Slot} {rest : List Value} (hC : XCx D cc nL RX2 h0 p R s m args meth c) (hX : XSt D s h0 h H locs cells slots) {a : Nat} {b0 : Int32} {b1 : Int32} {b2 : Nat} {b3 : Int32} {b4 : Int64} {b5 : Int32} {x : TH} {fr lo : Nat} (ht : hT h a = 4 ∨ hT h a = 5 ∨ hT h a = 6) (hcF : XMt l yX2_part (ws_ yX2_part cX2_part 14 (none)) fr lo D [rv a, .int b0, .int b1, rv b2, .int b3, .long b4, .int b5] h (.returned none) x) (hl : ls.size = nL) (hW : (rest.map fun v => v.category).sum ≤ 8) (hRf : fr + 1 ≤ R.frames) (hRl : 8 + (14 + 11) + lo ≤ R.locals) (hdg : decode cc pc = .ok (.invokevirtual 90, 3)) (kk : ∀ (H1 : Heap) (locs1 : List Loc) (cells1 slots1 : Nat), XSt D s h0 x H1 locs1 cells1 slots1 → W p l e R s m args below meth c H1 locs1 cells1 slots1 Q (F0 m (pc + 3) ls (rest))) : W p l e R s m args below meth c H locs cells slots Q (F0 m pc ls (.int b5 :: .long b4 :: .int b3 :: rv b2 :: .int b1 :: .int b0 :: rv a :: rest)) := by
  rcases ht with q | q | q
  · exact X_callV hC hX (by rw [q]; decide) (by rw [q]; rfl) (As := [.int b0, .int b1, rv b2, .int b3, .long b4, .int b5]) hcF ⟨callB_of 6 hC.2.2.2.2.1 (lw_meth q573) rfl rfl rfl (hC.2.2.2.2.1 _ q130) (hC.2.2.2.2.1 _ q570) (by decide +kernel) ⟨hRf, hRl⟩, hC.2.2.2.2.1 _ q572, va_Nw.use rfl (xs3 hC.2.2.2.2.2.2.1)⟩ rfl rfl hl hW hdg kk
  · exact X_callV hC hX (by rw [q]; decide) (by rw [q]; rfl) (As := [.int b0, .int b1, rv b2, .int b3, .long b4, .int b5]) hcF ⟨callB_of 6 hC.2.2.2.2.1 (lw_meth q573) rfl rfl rfl (hC.2.2.2.2.1 _ q130) (hC.2.2.2.2.1 _ q570) (by decide +kernel) ⟨hRf, hRl⟩, hC.2.2.2.2.1 _ q572, va_Nw.use rfl (xs8 hC.2.2.2.2.2.2.1)⟩ rfl rfl hl hW hdg kk
  · exact X_callV hC hX (by rw [q]; decide) (by rw [q]; rfl) (As := [.int b0, .int b1, rv b2, .int b3, .long b4, .int b5]) hcF ⟨callB_of 6 hC.2.2.2.2.1 (lw_meth q573) rfl rfl rfl (hC.2.2.2.2.1 _ q130) (hC.2.2.2.2.1 _ q570) (by decide +kernel) ⟨hRf, hRl⟩, hC.2.2.2.2.1 _ q572, va_Nw.use rfl (xs13 hC.2.2.2.2.2.2.1)⟩ rfl rfl hl hW hdg kk
theorem iXo_X2_104 {p : Program} {l : Launch} {e : Env} {R : Room} {s : State} {m : MethodId} {args : Array Value} {below : List Frame} {meth : Method} {c : Code} {H : Heap} {locs : List Loc} {cells slots nL : Nat} {Q : State → Prop} {D : XD} {h0 h : TH} {cc : ByteArray} {pc : Nat} {ls : Array Slot} {rest : List Value} (hC : XCx D cc nL RX2 h0 p R s m args meth c) (hX : XSt D s h0 h H locs cells slots) {a : Nat} {b0 : Int32} {b1 : Int32} {b2 : Nat} {b3 : Int32} {b4 : Int64} {b5 : Int32} {x : TH} {fr lo : Nat} (ht : hT h a = 4 ∨ hT h a = 5 ∨ hT h a = 6) (hcF : XMt l yX2_see (ws_ yX2_see cX2_see 14 (none)) fr lo D [rv a, .int b0, .int b1, rv b2, .int b3, .long b4, .int b5] h (.returned none) x) (hl : ls.size = nL) (hW : (rest.map fun v => v.category).sum ≤ 8) (hRf : fr + 1 ≤ R.frames) (hRl : 8 + (14 + 11) + lo ≤ R.locals) (hdg : decode cc pc = .ok (.invokevirtual 104, 3)) (kk : ∀ (H1 : Heap) (locs1 : List Loc) (cells1 slots1 : Nat), XSt D s h0 x H1 locs1 cells1 slots1 → W p l e R s m args below meth c H1 locs1 cells1 slots1 Q (F0 m (pc + 3) ls (rest))) : W p l e R s m args below meth c H locs cells slots Q (F0 m pc ls (.int b5 :: .long b4 :: .int b3 :: rv b2 :: .int b1 :: .int b0 :: rv a :: rest)) := by
  rcases ht with q | q | q
  · exact X_callV hC hX (by rw [q]; decide) (by rw [q]; rfl) (As := [.int b0, .int b1, rv b2, .int b3, .long b4, .int b5]) hcF ⟨callB_of 6 hC.2.2.2.2.1 (lw_meth q613) rfl rfl rfl (hC.2.2.2.2.1 _ q130) (hC.2.2.2.2.1 _ q610) (by decide +kernel) ⟨hRf, hRl⟩, hC.2.2.2.2.1 _ q612, va_Nw.use rfl (xs4 hC.2.2.2.2.2.2.1)⟩ rfl rfl hl hW hdg kk
  · exact X_callV hC hX (by rw [q]; decide) (by rw [q]; rfl) (As := [.int b0, .int b1, rv b2, .int b3, .long b4, .int b5]) hcF ⟨callB_of 6 hC.2.2.2.2.1 (lw_meth q613) rfl rfl rfl (hC.2.2.2.2.1 _ q130) (hC.2.2.2.2.1 _ q610) (by decide +kernel) ⟨hRf, hRl⟩, hC.2.2.2.2.1 _ q612, va_Nw.use rfl (xs9 hC.2.2.2.2.2.2.1)⟩ rfl rfl hl hW hdg kk
  · exact X_callV hC hX (by rw [q]; decide) (by rw [q]; rfl) (As := [.int b0, .int b1, rv b2, .int b3, .long b4, .int b5]) hcF ⟨callB_of 6 hC.2.2.2.2.1 (lw_meth q613) rfl rfl rfl (hC.2.2.2.2.1 _ q130) (hC.2.2.2.2.1 _ q610) (by decide +kernel) ⟨hRf, hRl⟩, hC.2.2.2.2.1 _ q612, va_Nw.use rfl (xs14 hC.2.2.2.2.2.2.1)⟩ rfl rfl hl hW hdg kk
theorem gX_X2_117 {p : Program} {l : Launch} {e : Env} {R : Room} {s : State} {m : MethodId} {args : Array Value} {below : List Frame} {meth : Method} {c : Code} {H : Heap} {locs : List Loc} {cells slots nL : Nat} {Q : State → Prop} {D : XD} {h0 h : TH} {cc : ByteArray} {pc : Nat} {ls : Array Slot} {rest : List Value} (hC : XCx D cc nL RX2 h0 p R s m args meth c) (hX : XSt D s h0 h H locs cells slots) {a : Nat} (hf : hasF (hT h a) 110 = true) (hdg : decode cc pc = .ok (.getfield 117, 3)) (kk : W p l e R s m args below meth c H locs cells slots Q (F0 m (pc + 3) ls (.int (hI h 110 a) :: rest))) : W p l e R s m args below meth c H locs cells slots Q (F0 m pc ls (rv a :: rest)) :=
  X_geti hC hX 110 hf rfl q1516 (fun _ h => h) hdg kk
def V_X2_end (K : Nat → Nat) (a : Nat) (b0 : Int32) (b1 : Nat) (b2 : Int64) (h : TH) : Option TH :=
  if hT h a = 4 then F_X3_end K a b0 b1 b2 h else
  if hT h a = 5 then F_X4_end K a b0 b1 b2 h else
  if hT h a = 6 then F_X5_end K a b0 b1 b2 h else
  none
theorem iX_X2_124 {p : Program} {l : Launch} {e : Env} {R : Room} {s : State} {m : MethodId} {args : Array Value} {below : List Frame} {meth : Method} {c : Code} {H : Heap} {locs : List Loc} {cells slots nL : Nat} {Q : State → Prop} {D : XD} {h0 h : TH} {cc : ByteArray} {pc : Nat} {ls : Array Slot} {rest : List Value} (hC : XCx D cc nL RX2 h0 p R s m args meth c) (hX : XSt D s h0 h H locs cells slots) {a : Nat} {b0 : Int32} {b1 : Nat} {b2 : Int64} {x : TH} (hcF : V_X2_end D.2.2.2 a b0 b1 b2 h = some x) (hl : ls.size = nL) (hW : (rest.map fun v => v.category).sum ≤ 8) (hRf : 454 + 1 ≤ R.frames) (hRl : 10464 ≤ R.locals) (hdg : decode cc pc = .ok (.invokevirtual 124, 3)) (kk : ∀ (H1 : Heap) (locs1 : List Loc) (cells1 slots1 : Nat), XSt D s h0 x H1 locs1 cells1 slots1 → W p l e R s m args below meth c H1 locs1 cells1 slots1 Q (F0 m (pc + 3) ls (rest))) : W p l e R s m args below meth c H locs cells slots Q (F0 m pc ls (.long b2 :: rv b1 :: .int b0 :: rv a :: rest)) := by
  unfold V_X2_end at hcF
  by_cases q : hT h a = 4
  · replace hcF := it_t hcF q
    exact X_callU hC hX (by rw [q]; decide) (by rw [q]; rfl) (As := [.int b0, rv b1, .long b2]) (m_X3_end l D a b0 b1 b2 h _ hcF) (va_cwA 3 hC.2.2.2.2.1 (lw_U q621 q623 q720 q721 q131 q722) rfl rfl rfl (xd4 hC.2.2.2.2.2.2.1) (by decide +kernel) ⟨Nat.le_trans (Nat.le_of_ble_eq_true rfl) hRf, Nat.le_trans (Nat.le_of_ble_eq_true rfl) hRl⟩) rfl rfl hl hW hdg kk
  replace hcF := it_f hcF q
  by_cases q : hT h a = 5
  · replace hcF := it_t hcF q
    exact X_callU hC hX (by rw [q]; decide) (by rw [q]; rfl) (As := [.int b0, rv b1, .long b2]) (m_X4_end l D a b0 b1 b2 h _ hcF) (va_cwA 3 hC.2.2.2.2.1 (lw_U q621 q623 q646 q647 q132 q648) rfl rfl rfl (xd4 hC.2.2.2.2.2.2.1) (by decide +kernel) ⟨Nat.le_trans (Nat.le_of_ble_eq_true rfl) hRf, Nat.le_trans (Nat.le_of_ble_eq_true rfl) hRl⟩) rfl rfl hl hW hdg kk
  replace hcF := it_f hcF q
  by_cases q : hT h a = 6
  · replace hcF := it_t hcF q
    exact X_callU hC hX (by rw [q]; decide) (by rw [q]; rfl) (As := [.int b0, rv b1, .long b2]) (m_X5_end l D a b0 b1 b2 h _ hcF) (va_cwA 3 hC.2.2.2.2.1 (lw_U q621 q623 q624 q625 q133 q626) rfl rfl rfl (xd4 hC.2.2.2.2.2.2.1) (by decide +kernel) ⟨Nat.le_trans (Nat.le_of_ble_eq_true rfl) hRf, Nat.le_trans (Nat.le_of_ble_eq_true rfl) hRl⟩) rfl rfl hl hW hdg kk
  replace hcF := it_f hcF q
  exact nm_none hcF
/-! BlindCards$Runs.see BlindCards$Runs.part BlindCards$Runs.go -/
def B_X2_see_b290 (K : Nat → Nat) (o_X2_see : Nat → Int32 → Int32 → Nat → Int32 → Int64 → Int32 → TH → Option TH) (o_X2_part : Nat → Int32 → Int32 → Nat → Int32 → Int64 → Int32 → TH → Option TH) (o_X2_go : Nat → Int32 → Int32 → Int32 → Int64 → Int32 → TH → Option TH) (x0 : Nat) (x8 : Int32) (h : TH) : Option TH :=
  gd (hasF (hT h x0) 48 = true) <|
  gd (hT h x0 ≤ 24) <|
  lt (uI h 48 x0 x8) fun h_3 =>
  some h_3
set_option maxHeartbeats 4000000 in
theorem w_X2_see_b290_g {p : Program} {l : Launch} {e : Env} {s : State} {m : MethodId} {args : Array Value} {below : List Frame} {meth : Method} {c : Code} {D : XD} {h0 : TH} {fr lo : Nat} (hC : XCx D cX2_see 14 RX2 h0 p (xRm (fr + 1) (lo + 33) h0) s m args meth c) (hr : meth.sig.returnType = none) (hnh : c.exceptionTable.isEmpty = true) (hin : meth.name = "see") (hfr : 455 ≤ fr) (hlo : 10464 ≤ lo) (o_X2_see : Nat → Int32 → Int32 → Nat → Int32 → Int64 → Int32 → TH → Option TH) (ho_X2_see : ∀ (a : Nat) (b0 : Int32) (b1 : Int32) (b2 : Nat) (b3 : Int32) (b4 : Int64) (b5 : Int32) (h : TH) (x : TH), o_X2_see a b0 b1 b2 b3 b4 b5 h = some x → XMt l yX2_see (ws_ yX2_see cX2_see 14 (none)) fr lo D [rv a, .int b0, .int b1, rv b2, .int b3, .long b4, .int b5] h (.returned none) x) (o_X2_part : Nat → Int32 → Int32 → Nat → Int32 → Int64 → Int32 → TH → Option TH) (ho_X2_part : ∀ (a : Nat) (b0 : Int32) (b1 : Int32) (b2 : Nat) (b3 : Int32) (b4 : Int64) (b5 : Int32) (h : TH) (x : TH), o_X2_part a b0 b1 b2 b3 b4 b5 h = some x → XMt l yX2_part (ws_ yX2_part cX2_part 14 (none)) fr lo D [rv a, .int b0, .int b1, rv b2, .int b3, .long b4, .int b5] h (.returned none) x) (o_X2_go : Nat → Int32 → Int32 → Int32 → Int64 → Int32 → TH → Option TH) (ho_X2_go : ∀ (a : Nat) (b0 : Int32) (b1 : Int32) (b2 : Int32) (b3 : Int64) (b4 : Int32) (h : TH) (x : TH), o_X2_go a b0 b1 b2 b3 b4 h = some x → XMt l yX2_go (ws_ yX2_go cX2_go 14 (none)) fr lo D [rv a, .int b0, .int b1, .int b2, .long b3, .int b4] h (.returned none) x) {x : TH} :
    ∀ (x0 : Nat) (x8 : Int32) (h : TH), B_X2_see_b290 D.2.2.2 o_X2_see o_X2_part o_X2_go x0 x8 h = some x → XJ p l e (xRm (fr + 1) (lo + 33) h0) s m args below meth c D 14 (.returned none) h0 x 290 [(0, rv x0), (8, .int x8)] [] h := by
  have hx := hC.1
  have hb := hC.2.1
  intro x0 x8 h hF H locs cells slots ls hX hl
  rw [B_X2_see_b290] at hF
  refine X_aload_n hx hb dX2_see_290 rfl (lv_at hl 0 rfl) ?_
  refine lv_iload hx hb dX2_see_291 (lv_at hl 1 rfl) ?_
  obtain ⟨h_1, hF⟩ := gd_ok hF
  obtain ⟨h_2, hF⟩ := gd_ok hF
  refine pX_X2_29 hC hX h_1 h_2 dX2_see_293 (fun H locs hX => ?_)
  obtain ⟨h_3, eh_3, hF⟩ := lt_ok hF
  rw [← eh_3] at hX
  exact x_retv hC hX hr (Option.some.inj hF) dX2_see_296
def B_X2_see_b284 (K : Nat → Nat) (o_X2_see : Nat → Int32 → Int32 → Nat → Int32 → Int64 → Int32 → TH → Option TH) (o_X2_part : Nat → Int32 → Int32 → Nat → Int32 → Int64 → Int32 → TH → Option TH) (o_X2_go : Nat → Int32 → Int32 → Int32 → Int64 → Int32 → TH → Option TH) (k9 : Nat → Int32 → Int32 → Nat → Int32 → Int64 → Int32 → Int32 → Int32 → TH → Option TH) (x0 : Nat) (x1 : Int32) (x2 : Int32) (x3 : Nat) (x4 : Int32) (x5 : Int64) (x7 : Int32) (x8 : Int32) (x9 : Int32) (h : TH) : Option TH :=
  lt (x9 + (1 : Int32)) fun x9_1 =>
  k9 x0 x1 x2 x3 x4 x5 x7 x8 x9_1 h
set_option maxHeartbeats 4000000 in
theorem w_X2_see_b284_g {p : Program} {l : Launch} {e : Env} {s : State} {m : MethodId} {args : Array Value} {below : List Frame} {meth : Method} {c : Code} {D : XD} {h0 : TH} {fr lo : Nat} (hC : XCx D cX2_see 14 RX2 h0 p (xRm (fr + 1) (lo + 33) h0) s m args meth c) (hr : meth.sig.returnType = none) (hnh : c.exceptionTable.isEmpty = true) (hin : meth.name = "see") (hfr : 455 ≤ fr) (hlo : 10464 ≤ lo) (o_X2_see : Nat → Int32 → Int32 → Nat → Int32 → Int64 → Int32 → TH → Option TH) (ho_X2_see : ∀ (a : Nat) (b0 : Int32) (b1 : Int32) (b2 : Nat) (b3 : Int32) (b4 : Int64) (b5 : Int32) (h : TH) (x : TH), o_X2_see a b0 b1 b2 b3 b4 b5 h = some x → XMt l yX2_see (ws_ yX2_see cX2_see 14 (none)) fr lo D [rv a, .int b0, .int b1, rv b2, .int b3, .long b4, .int b5] h (.returned none) x) (o_X2_part : Nat → Int32 → Int32 → Nat → Int32 → Int64 → Int32 → TH → Option TH) (ho_X2_part : ∀ (a : Nat) (b0 : Int32) (b1 : Int32) (b2 : Nat) (b3 : Int32) (b4 : Int64) (b5 : Int32) (h : TH) (x : TH), o_X2_part a b0 b1 b2 b3 b4 b5 h = some x → XMt l yX2_part (ws_ yX2_part cX2_part 14 (none)) fr lo D [rv a, .int b0, .int b1, rv b2, .int b3, .long b4, .int b5] h (.returned none) x) (o_X2_go : Nat → Int32 → Int32 → Int32 → Int64 → Int32 → TH → Option TH) (ho_X2_go : ∀ (a : Nat) (b0 : Int32) (b1 : Int32) (b2 : Int32) (b3 : Int64) (b4 : Int32) (h : TH) (x : TH), o_X2_go a b0 b1 b2 b3 b4 h = some x → XMt l yX2_go (ws_ yX2_go cX2_go 14 (none)) fr lo D [rv a, .int b0, .int b1, .int b2, .long b3, .int b4] h (.returned none) x) {x : TH} (k9 : Nat → Int32 → Int32 → Nat → Int32 → Int64 → Int32 → Int32 → Int32 → TH → Option TH) (hk9 : ∀ (x0 : Nat) (x1 : Int32) (x2 : Int32) (x3 : Nat) (x4 : Int32) (x5 : Int64) (x7 : Int32) (x8 : Int32) (x9 : Int32) (h : TH), k9 x0 x1 x2 x3 x4 x5 x7 x8 x9 h = some x → XJ p l e (xRm (fr + 1) (lo + 33) h0) s m args below meth c D 14 (.returned none) h0 x 9 [(0, rv x0), (1, .int x1), (2, .int x2), (3, rv x3), (4, .int x4), (5, .long x5), (7, .int x7), (8, .int x8), (9, .int x9)] [] h) :
    ∀ (x0 : Nat) (x1 : Int32) (x2 : Int32) (x3 : Nat) (x4 : Int32) (x5 : Int64) (x7 : Int32) (x8 : Int32) (x9 : Int32) (h : TH), B_X2_see_b284 D.2.2.2 o_X2_see o_X2_part o_X2_go k9 x0 x1 x2 x3 x4 x5 x7 x8 x9 h = some x → XJ p l e (xRm (fr + 1) (lo + 33) h0) s m args below meth c D 14 (.returned none) h0 x 284 [(0, rv x0), (1, .int x1), (2, .int x2), (3, rv x3), (4, .int x4), (5, .long x5), (7, .int x7), (8, .int x8), (9, .int x9)] [] h := by
  have hx := hC.1
  have hb := hC.2.1
  intro x0 x1 x2 x3 x4 x5 x7 x8 x9 h hF H locs cells slots ls hX hl
  rw [B_X2_see_b284] at hF
  obtain ⟨x9_1, ex9_1, hF⟩ := lt_ok hF
  refine lv_iinc (v := x9_1) (lv' := [(9, .int x9_1), (0, rv x0), (1, .int x1), (2, .int x2), (3, rv x3), (4, .int x4), (5, .long x5), (7, .int x7), (8, .int x8)]) hx hb dX2_see_284 hl (k := 8) rfl (by rw [ex9_1]; rfl) (by decide) rfl (fun ls hl => ?_)
  refine lv_goto (tgt := 9) hx hb dX2_see_287 (by decide) ?_
  exact hk9 x0 x1 x2 x3 x4 x5 x7 x8 x9_1 h hF H locs cells slots ls hX (lv_sub hl [1, 2, 3, 4, 5, 6, 7, 8, 0] rfl)
def B_X2_see_b251 (K : Nat → Nat) (o_X2_see : Nat → Int32 → Int32 → Nat → Int32 → Int64 → Int32 → TH → Option TH) (o_X2_part : Nat → Int32 → Int32 → Nat → Int32 → Int64 → Int32 → TH → Option TH) (o_X2_go : Nat → Int32 → Int32 → Int32 → Int64 → Int32 → TH → Option TH) (k284 : Nat → Int32 → Int32 → Nat → Int32 → Int64 → Int32 → Int32 → Int32 → TH → Option TH) (x0 : Nat) (x1 : Int32) (x2 : Int32) (x3 : Nat) (x4 : Int32) (x5 : Int64) (x7 : Int32) (x8 : Int32) (x9 : Int32) (h : TH) : Option TH :=
  gd (hasF (hT h x0) 47 = true) <|
  lt (hR h 47 x0) fun r_2 =>
  gd (hT h r_2 = 31) <|
  gd (inb x8 (hN h r_2)) <|
  lt (uA h r_2 (Int32.toNatClampNeg x8) x9) fun h_5 =>
  gd (hasF (hT h_5 x0) 48 = true) <|
  gd (hT h_5 x0 ≤ 24) <|
  lt (uI h_5 48 x0 (x8 + (1 : Int32))) fun h_8 =>
  gd (hT h_8 x0 = 4 ∨ hT h_8 x0 = 5 ∨ hT h_8 x0 = 6) <|
  bd (o_X2_go x0 (x1 + (1 : Int32)) (x2 + (1 : Int32)) x4 x5 x7 h_8) fun h_11 =>
  k284 x0 x1 x2 x3 x4 x5 x7 x8 x9 h_11
set_option maxHeartbeats 4000000 in
theorem w_X2_see_b251_g {p : Program} {l : Launch} {e : Env} {s : State} {m : MethodId} {args : Array Value} {below : List Frame} {meth : Method} {c : Code} {D : XD} {h0 : TH} {fr lo : Nat} (hC : XCx D cX2_see 14 RX2 h0 p (xRm (fr + 1) (lo + 33) h0) s m args meth c) (hr : meth.sig.returnType = none) (hnh : c.exceptionTable.isEmpty = true) (hin : meth.name = "see") (hfr : 455 ≤ fr) (hlo : 10464 ≤ lo) (o_X2_see : Nat → Int32 → Int32 → Nat → Int32 → Int64 → Int32 → TH → Option TH) (ho_X2_see : ∀ (a : Nat) (b0 : Int32) (b1 : Int32) (b2 : Nat) (b3 : Int32) (b4 : Int64) (b5 : Int32) (h : TH) (x : TH), o_X2_see a b0 b1 b2 b3 b4 b5 h = some x → XMt l yX2_see (ws_ yX2_see cX2_see 14 (none)) fr lo D [rv a, .int b0, .int b1, rv b2, .int b3, .long b4, .int b5] h (.returned none) x) (o_X2_part : Nat → Int32 → Int32 → Nat → Int32 → Int64 → Int32 → TH → Option TH) (ho_X2_part : ∀ (a : Nat) (b0 : Int32) (b1 : Int32) (b2 : Nat) (b3 : Int32) (b4 : Int64) (b5 : Int32) (h : TH) (x : TH), o_X2_part a b0 b1 b2 b3 b4 b5 h = some x → XMt l yX2_part (ws_ yX2_part cX2_part 14 (none)) fr lo D [rv a, .int b0, .int b1, rv b2, .int b3, .long b4, .int b5] h (.returned none) x) (o_X2_go : Nat → Int32 → Int32 → Int32 → Int64 → Int32 → TH → Option TH) (ho_X2_go : ∀ (a : Nat) (b0 : Int32) (b1 : Int32) (b2 : Int32) (b3 : Int64) (b4 : Int32) (h : TH) (x : TH), o_X2_go a b0 b1 b2 b3 b4 h = some x → XMt l yX2_go (ws_ yX2_go cX2_go 14 (none)) fr lo D [rv a, .int b0, .int b1, .int b2, .long b3, .int b4] h (.returned none) x) {x : TH} (k284 : Nat → Int32 → Int32 → Nat → Int32 → Int64 → Int32 → Int32 → Int32 → TH → Option TH) (hk284 : ∀ (x0 : Nat) (x1 : Int32) (x2 : Int32) (x3 : Nat) (x4 : Int32) (x5 : Int64) (x7 : Int32) (x8 : Int32) (x9 : Int32) (h : TH), k284 x0 x1 x2 x3 x4 x5 x7 x8 x9 h = some x → XJ p l e (xRm (fr + 1) (lo + 33) h0) s m args below meth c D 14 (.returned none) h0 x 284 [(0, rv x0), (1, .int x1), (2, .int x2), (3, rv x3), (4, .int x4), (5, .long x5), (7, .int x7), (8, .int x8), (9, .int x9)] [] h) :
    ∀ (x0 : Nat) (x1 : Int32) (x2 : Int32) (x3 : Nat) (x4 : Int32) (x5 : Int64) (x7 : Int32) (x8 : Int32) (x9 : Int32) (h : TH), B_X2_see_b251 D.2.2.2 o_X2_see o_X2_part o_X2_go k284 x0 x1 x2 x3 x4 x5 x7 x8 x9 h = some x → XJ p l e (xRm (fr + 1) (lo + 33) h0) s m args below meth c D 14 (.returned none) h0 x 251 [(0, rv x0), (1, .int x1), (2, .int x2), (3, rv x3), (4, .int x4), (5, .long x5), (7, .int x7), (8, .int x8), (9, .int x9)] [] h := by
  have hx := hC.1
  have hb := hC.2.1
  intro x0 x1 x2 x3 x4 x5 x7 x8 x9 h hF H locs cells slots ls hX hl
  rw [B_X2_see_b251] at hF
  refine X_aload_n hx hb dX2_see_251 rfl (lv_at hl 0 rfl) ?_
  obtain ⟨h_1, hF⟩ := gd_ok hF
  refine gX_X2_25 hC hX h_1 dX2_see_252 ?_
  refine lv_topr (fun r_2 er_2 => ?_)
  replace hF := lt_at hF er_2
  refine lv_iload hx hb dX2_see_255 (lv_at hl 7 rfl) ?_
  refine lv_iload hx hb dX2_see_257 (lv_at hl 8 rfl) ?_
  obtain ⟨h_3, hF⟩ := gd_ok hF
  obtain ⟨h_4, hF⟩ := gd_ok hF
  refine X_iast hC hX h_3 h_4 dX2_see_259 (fun H locs hX => ?_)
  obtain ⟨h_5, eh_5, hF⟩ := lt_ok hF
  rw [← eh_5] at hX
  refine X_aload_n hx hb dX2_see_260 rfl (lv_at hl 0 rfl) ?_
  refine lv_iload hx hb dX2_see_261 (lv_at hl 7 rfl) ?_
  refine lv_iconst (v := 1) hx hb dX2_see_263 (by decide) ?_
  refine lv_iadd hx hb dX2_see_264 ?_
  obtain ⟨h_6, hF⟩ := gd_ok hF
  obtain ⟨h_7, hF⟩ := gd_ok hF
  refine pX_X2_29 hC hX h_6 h_7 dX2_see_265 (fun H locs hX => ?_)
  obtain ⟨h_8, eh_8, hF⟩ := lt_ok hF
  rw [← eh_8] at hX
  refine X_aload_n hx hb dX2_see_268 rfl (lv_at hl 0 rfl) ?_
  refine lv_iload_n hx hb dX2_see_269 rfl (lv_at hl 1 rfl) ?_
  refine lv_iconst (v := 1) hx hb dX2_see_270 (by decide) ?_
  refine lv_iadd hx hb dX2_see_271 ?_
  refine lv_iload_n hx hb dX2_see_272 rfl (lv_at hl 2 rfl) ?_
  refine lv_iconst (v := 1) hx hb dX2_see_273 (by decide) ?_
  refine lv_iadd hx hb dX2_see_274 ?_
  refine lv_iload hx hb dX2_see_275 (lv_at hl 4 rfl) ?_
  refine lv_lload hx hb dX2_see_277 (lv_at hl 5 rfl) ?_
  refine lv_iload hx hb dX2_see_279 (lv_at hl 6 rfl) ?_
  obtain ⟨h_9, hF⟩ := gd_ok hF
  obtain ⟨h_11, hc_10, hF⟩ := bd_ok hF
  refine iXo_X2_50 hC hX h_9 (ho_X2_go x0 (x1 + (1 : Int32)) (x2 + (1 : Int32)) x4 x5 x7 h_8 _ hc_10) hl.1 (Nat.le_of_ble_eq_true rfl) (by show _ ≤ fr + 1; omega) (by show _ ≤ lo + 33; omega) dX2_see_281 (fun H locs cells slots hX => ?_)
  exact hk284 x0 x1 x2 x3 x4 x5 x7 x8 x9 h_11 hF H locs cells slots ls hX (lv_sub hl [0, 1, 2, 3, 4, 5, 6, 7, 8] rfl)
def B_X2_see_L210 (K : Nat → Nat) (o_X2_see : Nat → Int32 → Int32 → Nat → Int32 → Int64 → Int32 → TH → Option TH) (o_X2_part : Nat → Int32 → Int32 → Nat → Int32 → Int64 → Int32 → TH → Option TH) (o_X2_go : Nat → Int32 → Int32 → Int32 → Int64 → Int32 → TH → Option TH) (k284 : Nat → Int32 → Int32 → Nat → Int32 → Int64 → Int32 → Int32 → Int32 → TH → Option TH) : Nat → Nat → Int32 → Int32 → Nat → Int32 → Int64 → Int32 → Int32 → Int32 → Int32 → TH → Option TH
  | 0, _, _, _, _, _, _, _, _, _, _, _ => none
  | fu + 1, x0, x1, x2, x3, x4, x5, x7, x8, x9, x11, h =>
    gd (hasF (hT h x3) 102 = true) <|
    if (hI h 102 x3) ≤ x11 then
      B_X2_see_b251 K o_X2_see o_X2_part o_X2_go k284 x0 x1 x2 x3 x4 x5 x7 x8 x9 h
    else
      gd (hasF (hT h x0) 49 = true) <|
      gd (hR h 49 x0 ≠ 0) <|
      lt (hR h 49 x0) fun r_5 =>
      gd (hasF (hT h r_5) 1 = true) <|
      lt (hR h 1 r_5) fun r_7 =>
      gd (hT h r_7 = 35 ∨ hT h r_7 = 36 ∨ hT h r_7 = 37 ∨ hT h r_7 = 48) <|
      gd (inb (x1 + (1 : Int32)) (hN h r_7)) <|
      lt (hY h r_7 (Int32.toNatClampNeg (x1 + (1 : Int32)))) fun r_10 =>
      gd (hasF (hT h x3) 101 = true) <|
      lt (hR h 101 x3) fun r_12 =>
      gd (hT h r_12 = 31 ∨ hT h r_12 = 43) <|
      gd (inb x11 (hN h r_12)) <|
      gd (hT h r_10 = 31) <|
      gd (inb (hA h r_12 (Int32.toNatClampNeg x11)) (hN h r_10)) <|
      lt (uA h r_10 (Int32.toNatClampNeg (hA h r_12 (Int32.toNatClampNeg x11))) ((x9 >>> (x11 &&& 31)) &&& (1 : Int32))) fun h_17 =>
      lt (x11 + (1 : Int32)) fun x11_18 =>
      B_X2_see_L210 K o_X2_see o_X2_part o_X2_go k284 fu x0 x1 x2 x3 x4 x5 x7 x8 x9 x11_18 h_17
set_option maxHeartbeats 4000000 in
theorem w_X2_see_L210_g {p : Program} {l : Launch} {e : Env} {s : State} {m : MethodId} {args : Array Value} {below : List Frame} {meth : Method} {c : Code} {D : XD} {h0 : TH} {fr lo : Nat} (hC : XCx D cX2_see 14 RX2 h0 p (xRm (fr + 1) (lo + 33) h0) s m args meth c) (hr : meth.sig.returnType = none) (hnh : c.exceptionTable.isEmpty = true) (hin : meth.name = "see") (hfr : 455 ≤ fr) (hlo : 10464 ≤ lo) (o_X2_see : Nat → Int32 → Int32 → Nat → Int32 → Int64 → Int32 → TH → Option TH) (ho_X2_see : ∀ (a : Nat) (b0 : Int32) (b1 : Int32) (b2 : Nat) (b3 : Int32) (b4 : Int64) (b5 : Int32) (h : TH) (x : TH), o_X2_see a b0 b1 b2 b3 b4 b5 h = some x → XMt l yX2_see (ws_ yX2_see cX2_see 14 (none)) fr lo D [rv a, .int b0, .int b1, rv b2, .int b3, .long b4, .int b5] h (.returned none) x) (o_X2_part : Nat → Int32 → Int32 → Nat → Int32 → Int64 → Int32 → TH → Option TH) (ho_X2_part : ∀ (a : Nat) (b0 : Int32) (b1 : Int32) (b2 : Nat) (b3 : Int32) (b4 : Int64) (b5 : Int32) (h : TH) (x : TH), o_X2_part a b0 b1 b2 b3 b4 b5 h = some x → XMt l yX2_part (ws_ yX2_part cX2_part 14 (none)) fr lo D [rv a, .int b0, .int b1, rv b2, .int b3, .long b4, .int b5] h (.returned none) x) (o_X2_go : Nat → Int32 → Int32 → Int32 → Int64 → Int32 → TH → Option TH) (ho_X2_go : ∀ (a : Nat) (b0 : Int32) (b1 : Int32) (b2 : Int32) (b3 : Int64) (b4 : Int32) (h : TH) (x : TH), o_X2_go a b0 b1 b2 b3 b4 h = some x → XMt l yX2_go (ws_ yX2_go cX2_go 14 (none)) fr lo D [rv a, .int b0, .int b1, .int b2, .long b3, .int b4] h (.returned none) x) {x : TH} (k284 : Nat → Int32 → Int32 → Nat → Int32 → Int64 → Int32 → Int32 → Int32 → TH → Option TH) (hk284 : ∀ (x0 : Nat) (x1 : Int32) (x2 : Int32) (x3 : Nat) (x4 : Int32) (x5 : Int64) (x7 : Int32) (x8 : Int32) (x9 : Int32) (h : TH), k284 x0 x1 x2 x3 x4 x5 x7 x8 x9 h = some x → XJ p l e (xRm (fr + 1) (lo + 33) h0) s m args below meth c D 14 (.returned none) h0 x 284 [(0, rv x0), (1, .int x1), (2, .int x2), (3, rv x3), (4, .int x4), (5, .long x5), (7, .int x7), (8, .int x8), (9, .int x9)] [] h) :
    ∀ (fu : Nat) (x0 : Nat) (x1 : Int32) (x2 : Int32) (x3 : Nat) (x4 : Int32) (x5 : Int64) (x7 : Int32) (x8 : Int32) (x9 : Int32) (x11 : Int32) (h : TH), B_X2_see_L210 D.2.2.2 o_X2_see o_X2_part o_X2_go k284 fu x0 x1 x2 x3 x4 x5 x7 x8 x9 x11 h = some x → XJ p l e (xRm (fr + 1) (lo + 33) h0) s m args below meth c D 14 (.returned none) h0 x 210 [(0, rv x0), (1, .int x1), (2, .int x2), (3, rv x3), (4, .int x4), (5, .long x5), (7, .int x7), (8, .int x8), (9, .int x9), (11, .int x11)] [] h := by
  have hx := hC.1
  have hb := hC.2.1
  intro fu
  induction fu with
  | zero => intro x0 x1 x2 x3 x4 x5 x7 x8 x9 x11 h hF; exact nm_none hF
  | succ fu ih =>
    intro x0 x1 x2 x3 x4 x5 x7 x8 x9 x11 h hF H locs cells slots ls hX hl
    rw [B_X2_see_L210] at hF
    refine lv_iload hx hb dX2_see_210 (lv_at hl 9 rfl) ?_
    refine X_aload_n hx hb dX2_see_212 rfl (lv_at hl 3 rfl) ?_
    obtain ⟨h_1, hF⟩ := gd_ok hF
    refine gX_X2_153 hC hX h_1 dX2_see_213 ?_
    refine lv_icmp_ge (tgt := 251) hx hb dX2_see_216 (by decide) (fun c_2 => ?_) (fun c_2 => ?_)
    · replace hF := it_t hF c_2
      exact w_X2_see_b251_g hC hr hnh hin hfr hlo o_X2_see ho_X2_see o_X2_part ho_X2_part o_X2_go ho_X2_go k284 hk284 x0 x1 x2 x3 x4 x5 x7 x8 x9 h hF H locs cells slots ls hX (lv_sub hl [0, 1, 2, 3, 4, 5, 6, 7, 8] rfl)
    · replace hF := it_f hF c_2
      refine X_aload_n hx hb dX2_see_219 rfl (lv_at hl 0 rfl) ?_
      obtain ⟨h_3, hF⟩ := gd_ok hF
      obtain ⟨h_4, hF⟩ := gd_ok hF
      refine gX_X2_3 hC hX h_3 h_4 dX2_see_220 ?_
      refine lv_topr (fun r_5 er_5 => ?_)
      replace hF := lt_at hF er_5
      obtain ⟨h_6, hF⟩ := gd_ok hF
      refine gX_X2_46 hC hX h_6 dX2_see_223 ?_
      refine lv_topr (fun r_7 er_7 => ?_)
      replace hF := lt_at hF er_7
      refine lv_iload_n hx hb dX2_see_226 rfl (lv_at hl 1 rfl) ?_
      refine lv_iconst (v := 1) hx hb dX2_see_227 (by decide) ?_
      refine lv_iadd hx hb dX2_see_228 ?_
      obtain ⟨h_8, hF⟩ := gd_ok hF
      obtain ⟨h_9, hF⟩ := gd_ok hF
      refine X_aald hC hX h_8 h_9 dX2_see_229 ?_
      refine lv_topr (fun r_10 er_10 => ?_)
      replace hF := lt_at hF er_10
      refine X_aload_n hx hb dX2_see_230 rfl (lv_at hl 3 rfl) ?_
      obtain ⟨h_11, hF⟩ := gd_ok hF
      refine gX_X2_158 hC hX h_11 dX2_see_231 ?_
      refine lv_topr (fun r_12 er_12 => ?_)
      replace hF := lt_at hF er_12
      refine lv_iload hx hb dX2_see_234 (lv_at hl 9 rfl) ?_
      obtain ⟨h_13, hF⟩ := gd_ok hF
      obtain ⟨h_14, hF⟩ := gd_ok hF
      refine X_iald hC hX h_13 h_14 dX2_see_236 ?_
      refine lv_iload hx hb dX2_see_237 (lv_at hl 8 rfl) ?_
      refine lv_iload hx hb dX2_see_239 (lv_at hl 9 rfl) ?_
      refine lv_ishr hx hb dX2_see_241 ?_
      refine lv_iconst (v := 1) hx hb dX2_see_242 (by decide) ?_
      refine lv_iand hx hb dX2_see_243 ?_
      obtain ⟨h_15, hF⟩ := gd_ok hF
      obtain ⟨h_16, hF⟩ := gd_ok hF
      refine X_iast hC hX h_15 h_16 dX2_see_244 (fun H locs hX => ?_)
      obtain ⟨h_17, eh_17, hF⟩ := lt_ok hF
      rw [← eh_17] at hX
      obtain ⟨x11_18, ex11_18, hF⟩ := lt_ok hF
      refine lv_iinc (v := x11_18) (lv' := [(11, .int x11_18), (0, rv x0), (1, .int x1), (2, .int x2), (3, rv x3), (4, .int x4), (5, .long x5), (7, .int x7), (8, .int x8), (9, .int x9)]) hx hb dX2_see_245 hl (k := 9) rfl (by rw [ex11_18]; rfl) (by decide) rfl (fun ls hl => ?_)
      refine lv_goto (tgt := 210) hx hb dX2_see_248 (by decide) ?_
      exact ih x0 x1 x2 x3 x4 x5 x7 x8 x9 x11_18 h_17 hF H locs cells slots ls hX (lv_sub hl [1, 2, 3, 4, 5, 6, 7, 8, 9, 0] rfl)
def B_X2_see_b172 (K : Nat → Nat) (o_X2_see : Nat → Int32 → Int32 → Nat → Int32 → Int64 → Int32 → TH → Option TH) (o_X2_part : Nat → Int32 → Int32 → Nat → Int32 → Int64 → Int32 → TH → Option TH) (o_X2_go : Nat → Int32 → Int32 → Int32 → Int64 → Int32 → TH → Option TH) (k9 : Nat → Int32 → Int32 → Nat → Int32 → Int64 → Int32 → Int32 → Int32 → TH → Option TH) (x0 : Nat) (x1 : Int32) (x2 : Int32) (x3 : Nat) (x4 : Int32) (x5 : Int64) (x7 : Int32) (x8 : Int32) (x9 : Int32) (x10 : Int32) (h : TH) : Option TH :=
  if x10 = 0 then
    B_X2_see_b284 K o_X2_see o_X2_part o_X2_go k9 x0 x1 x2 x3 x4 x5 x7 x8 x9 h
  else
    gd (hasF (hT h x0) 49 = true) <|
    gd (hR h 49 x0 ≠ 0) <|
    lt (hR h 49 x0) fun r_4 =>
    gd (hasF (hT h r_4) 1 = true) <|
    lt (hR h 1 r_4) fun r_6 =>
    gd (hT h r_6 = 35 ∨ hT h r_6 = 36 ∨ hT h r_6 = 37 ∨ hT h r_6 = 48) <|
    gd (inb x1 (hN h r_6)) <|
    lt (hY h r_6 (Int32.toNatClampNeg x1)) fun r_9 =>
    gd (hasF (hT h x0) 49 = true) <|
    gd (hR h 49 x0 ≠ 0) <|
    lt (hR h 49 x0) fun r_12 =>
    gd (hasF (hT h r_12) 1 = true) <|
    lt (hR h 1 r_12) fun r_14 =>
    gd (hT h r_14 = 35 ∨ hT h r_14 = 36 ∨ hT h r_14 = 37 ∨ hT h r_14 = 48) <|
    gd (inb (x1 + (1 : Int32)) (hN h r_14)) <|
    lt (hY h r_14 (Int32.toNatClampNeg (x1 + (1 : Int32)))) fun r_17 =>
    gd (hT h r_9 = 31 ∧ hT h r_17 = 31) <|
    gd (¬ (0 : Int32) < 0 ∧ ¬ (0 : Int32) < 0 ∧ ¬ (8 : Int32) < 0 ∧ (Int32.toNatClampNeg (0 : Int32)) + (Int32.toNatClampNeg (8 : Int32)) ≤ hN h r_9 ∧ (Int32.toNatClampNeg (0 : Int32)) + (Int32.toNatClampNeg (8 : Int32)) ≤ hN h r_17) <|
    lt (cpA h r_9 (Int32.toNatClampNeg (0 : Int32)) r_17 (Int32.toNatClampNeg (0 : Int32)) (Int32.toNatClampNeg (8 : Int32))) fun h_20 =>
    B_X2_see_L210 K o_X2_see o_X2_part o_X2_go (B_X2_see_b284 K o_X2_see o_X2_part o_X2_go k9) MN x0 x1 x2 x3 x4 x5 x7 x8 x9 (0 : Int32) h_20
set_option maxHeartbeats 4000000 in
theorem w_X2_see_b172_g {p : Program} {l : Launch} {e : Env} {s : State} {m : MethodId} {args : Array Value} {below : List Frame} {meth : Method} {c : Code} {D : XD} {h0 : TH} {fr lo : Nat} (hC : XCx D cX2_see 14 RX2 h0 p (xRm (fr + 1) (lo + 33) h0) s m args meth c) (hr : meth.sig.returnType = none) (hnh : c.exceptionTable.isEmpty = true) (hin : meth.name = "see") (hfr : 455 ≤ fr) (hlo : 10464 ≤ lo) (o_X2_see : Nat → Int32 → Int32 → Nat → Int32 → Int64 → Int32 → TH → Option TH) (ho_X2_see : ∀ (a : Nat) (b0 : Int32) (b1 : Int32) (b2 : Nat) (b3 : Int32) (b4 : Int64) (b5 : Int32) (h : TH) (x : TH), o_X2_see a b0 b1 b2 b3 b4 b5 h = some x → XMt l yX2_see (ws_ yX2_see cX2_see 14 (none)) fr lo D [rv a, .int b0, .int b1, rv b2, .int b3, .long b4, .int b5] h (.returned none) x) (o_X2_part : Nat → Int32 → Int32 → Nat → Int32 → Int64 → Int32 → TH → Option TH) (ho_X2_part : ∀ (a : Nat) (b0 : Int32) (b1 : Int32) (b2 : Nat) (b3 : Int32) (b4 : Int64) (b5 : Int32) (h : TH) (x : TH), o_X2_part a b0 b1 b2 b3 b4 b5 h = some x → XMt l yX2_part (ws_ yX2_part cX2_part 14 (none)) fr lo D [rv a, .int b0, .int b1, rv b2, .int b3, .long b4, .int b5] h (.returned none) x) (o_X2_go : Nat → Int32 → Int32 → Int32 → Int64 → Int32 → TH → Option TH) (ho_X2_go : ∀ (a : Nat) (b0 : Int32) (b1 : Int32) (b2 : Int32) (b3 : Int64) (b4 : Int32) (h : TH) (x : TH), o_X2_go a b0 b1 b2 b3 b4 h = some x → XMt l yX2_go (ws_ yX2_go cX2_go 14 (none)) fr lo D [rv a, .int b0, .int b1, .int b2, .long b3, .int b4] h (.returned none) x) {x : TH} (k9 : Nat → Int32 → Int32 → Nat → Int32 → Int64 → Int32 → Int32 → Int32 → TH → Option TH) (hk9 : ∀ (x0 : Nat) (x1 : Int32) (x2 : Int32) (x3 : Nat) (x4 : Int32) (x5 : Int64) (x7 : Int32) (x8 : Int32) (x9 : Int32) (h : TH), k9 x0 x1 x2 x3 x4 x5 x7 x8 x9 h = some x → XJ p l e (xRm (fr + 1) (lo + 33) h0) s m args below meth c D 14 (.returned none) h0 x 9 [(0, rv x0), (1, .int x1), (2, .int x2), (3, rv x3), (4, .int x4), (5, .long x5), (7, .int x7), (8, .int x8), (9, .int x9)] [] h) :
    ∀ (x0 : Nat) (x1 : Int32) (x2 : Int32) (x3 : Nat) (x4 : Int32) (x5 : Int64) (x7 : Int32) (x8 : Int32) (x9 : Int32) (x10 : Int32) (h : TH), B_X2_see_b172 D.2.2.2 o_X2_see o_X2_part o_X2_go k9 x0 x1 x2 x3 x4 x5 x7 x8 x9 x10 h = some x → XJ p l e (xRm (fr + 1) (lo + 33) h0) s m args below meth c D 14 (.returned none) h0 x 172 [(0, rv x0), (1, .int x1), (2, .int x2), (3, rv x3), (4, .int x4), (5, .long x5), (7, .int x7), (8, .int x8), (9, .int x9), (10, .int x10)] [] h := by
  have hx := hC.1
  have hb := hC.2.1
  intro x0 x1 x2 x3 x4 x5 x7 x8 x9 x10 h hF H locs cells slots ls hX hl
  rw [B_X2_see_b172] at hF
  refine lv_iload hx hb dX2_see_172 (lv_at hl 9 rfl) ?_
  refine lv_if_ne (tgt := 180) hx hb dX2_see_174 (by decide) (fun c_1 => ?_) (fun c_1 => ?_)
  · replace hF := it_f hF c_1
    refine X_aload_n hx hb dX2_see_180 rfl (lv_at hl 0 rfl) ?_
    obtain ⟨h_2, hF⟩ := gd_ok hF
    obtain ⟨h_3, hF⟩ := gd_ok hF
    refine gX_X2_3 hC hX h_2 h_3 dX2_see_181 ?_
    refine lv_topr (fun r_4 er_4 => ?_)
    replace hF := lt_at hF er_4
    obtain ⟨h_5, hF⟩ := gd_ok hF
    refine gX_X2_46 hC hX h_5 dX2_see_184 ?_
    refine lv_topr (fun r_6 er_6 => ?_)
    replace hF := lt_at hF er_6
    refine lv_iload_n hx hb dX2_see_187 rfl (lv_at hl 1 rfl) ?_
    obtain ⟨h_7, hF⟩ := gd_ok hF
    obtain ⟨h_8, hF⟩ := gd_ok hF
    refine X_aald hC hX h_7 h_8 dX2_see_188 ?_
    refine lv_topr (fun r_9 er_9 => ?_)
    replace hF := lt_at hF er_9
    refine lv_iconst (v := 0) hx hb dX2_see_189 (by decide) ?_
    refine X_aload_n hx hb dX2_see_190 rfl (lv_at hl 0 rfl) ?_
    obtain ⟨h_10, hF⟩ := gd_ok hF
    obtain ⟨h_11, hF⟩ := gd_ok hF
    refine gX_X2_3 hC hX h_10 h_11 dX2_see_191 ?_
    refine lv_topr (fun r_12 er_12 => ?_)
    replace hF := lt_at hF er_12
    obtain ⟨h_13, hF⟩ := gd_ok hF
    refine gX_X2_46 hC hX h_13 dX2_see_194 ?_
    refine lv_topr (fun r_14 er_14 => ?_)
    replace hF := lt_at hF er_14
    refine lv_iload_n hx hb dX2_see_197 rfl (lv_at hl 1 rfl) ?_
    refine lv_iconst (v := 1) hx hb dX2_see_198 (by decide) ?_
    refine lv_iadd hx hb dX2_see_199 ?_
    obtain ⟨h_15, hF⟩ := gd_ok hF
    obtain ⟨h_16, hF⟩ := gd_ok hF
    refine X_aald hC hX h_15 h_16 dX2_see_200 ?_
    refine lv_topr (fun r_17 er_17 => ?_)
    replace hF := lt_at hF er_17
    refine lv_iconst (v := 0) hx hb dX2_see_201 (by decide) ?_
    refine lv_bipush (v := 8) hx hb dX2_see_202 (by decide) ?_
    obtain ⟨h_18, hF⟩ := gd_ok hF
    obtain ⟨h_19, hF⟩ := gd_ok hF
    refine X_copyA hC hX (Or.inl h_18) h_19 q604 q467 q466 q137 hl.1 (by show _ ≤ fr + 1; omega) (cplo (Nat.le_of_ble_eq_true rfl) (Nat.le_trans (Nat.le_of_ble_eq_true rfl : _ ≤ 60) (by show 60 ≤ lo + 33; omega))) dX2_see_204 (fun H locs hX => ?_)
    obtain ⟨h_20, eh_20, hF⟩ := lt_ok hF
    rw [← eh_20] at hX
    refine lv_iconst (v := 0) hx hb dX2_see_207 (by decide) ?_
    refine lv_istore (lv' := [(11, .int (0 : Int32)), (0, rv x0), (1, .int x1), (2, .int x2), (3, rv x3), (4, .int x4), (5, .long x5), (7, .int x7), (8, .int x8), (9, .int x9), (10, .int x10)]) hx hb dX2_see_208 hl (by decide) rfl (fun ls hl => ?_)
    exact w_X2_see_L210_g hC hr hnh hin hfr hlo o_X2_see ho_X2_see o_X2_part ho_X2_part o_X2_go ho_X2_go (B_X2_see_b284 D.2.2.2 o_X2_see o_X2_part o_X2_go k9) (w_X2_see_b284_g hC hr hnh hin hfr hlo o_X2_see ho_X2_see o_X2_part ho_X2_part o_X2_go ho_X2_go k9 hk9) MN x0 x1 x2 x3 x4 x5 x7 x8 x9 (0 : Int32) h_20 hF H locs cells slots ls hX (lv_sub hl [1, 2, 3, 4, 5, 6, 7, 8, 9, 0] rfl)
  · replace hF := it_t hF c_1
    refine lv_goto (tgt := 284) hx hb dX2_see_177 (by decide) ?_
    exact w_X2_see_b284_g hC hr hnh hin hfr hlo o_X2_see ho_X2_see o_X2_part ho_X2_part o_X2_go ho_X2_go k9 hk9 x0 x1 x2 x3 x4 x5 x7 x8 x9 h hF H locs cells slots ls hX (lv_sub hl [0, 1, 2, 3, 4, 5, 6, 7, 8] rfl)
def B_X2_see_b166 (K : Nat → Nat) (o_X2_see : Nat → Int32 → Int32 → Nat → Int32 → Int64 → Int32 → TH → Option TH) (o_X2_part : Nat → Int32 → Int32 → Nat → Int32 → Int64 → Int32 → TH → Option TH) (o_X2_go : Nat → Int32 → Int32 → Int32 → Int64 → Int32 → TH → Option TH) (k26 : Nat → Int32 → Int32 → Nat → Int32 → Int64 → Int32 → Int32 → Int32 → Int32 → Int32 → TH → Option TH) (x0 : Nat) (x1 : Int32) (x2 : Int32) (x3 : Nat) (x4 : Int32) (x5 : Int64) (x7 : Int32) (x8 : Int32) (x9 : Int32) (x10 : Int32) (x11 : Int32) (h : TH) : Option TH :=
  lt (x11 + (1 : Int32)) fun x11_1 =>
  k26 x0 x1 x2 x3 x4 x5 x7 x8 x9 x10 x11_1 h
set_option maxHeartbeats 4000000 in
theorem w_X2_see_b166_g {p : Program} {l : Launch} {e : Env} {s : State} {m : MethodId} {args : Array Value} {below : List Frame} {meth : Method} {c : Code} {D : XD} {h0 : TH} {fr lo : Nat} (hC : XCx D cX2_see 14 RX2 h0 p (xRm (fr + 1) (lo + 33) h0) s m args meth c) (hr : meth.sig.returnType = none) (hnh : c.exceptionTable.isEmpty = true) (hin : meth.name = "see") (hfr : 455 ≤ fr) (hlo : 10464 ≤ lo) (o_X2_see : Nat → Int32 → Int32 → Nat → Int32 → Int64 → Int32 → TH → Option TH) (ho_X2_see : ∀ (a : Nat) (b0 : Int32) (b1 : Int32) (b2 : Nat) (b3 : Int32) (b4 : Int64) (b5 : Int32) (h : TH) (x : TH), o_X2_see a b0 b1 b2 b3 b4 b5 h = some x → XMt l yX2_see (ws_ yX2_see cX2_see 14 (none)) fr lo D [rv a, .int b0, .int b1, rv b2, .int b3, .long b4, .int b5] h (.returned none) x) (o_X2_part : Nat → Int32 → Int32 → Nat → Int32 → Int64 → Int32 → TH → Option TH) (ho_X2_part : ∀ (a : Nat) (b0 : Int32) (b1 : Int32) (b2 : Nat) (b3 : Int32) (b4 : Int64) (b5 : Int32) (h : TH) (x : TH), o_X2_part a b0 b1 b2 b3 b4 b5 h = some x → XMt l yX2_part (ws_ yX2_part cX2_part 14 (none)) fr lo D [rv a, .int b0, .int b1, rv b2, .int b3, .long b4, .int b5] h (.returned none) x) (o_X2_go : Nat → Int32 → Int32 → Int32 → Int64 → Int32 → TH → Option TH) (ho_X2_go : ∀ (a : Nat) (b0 : Int32) (b1 : Int32) (b2 : Int32) (b3 : Int64) (b4 : Int32) (h : TH) (x : TH), o_X2_go a b0 b1 b2 b3 b4 h = some x → XMt l yX2_go (ws_ yX2_go cX2_go 14 (none)) fr lo D [rv a, .int b0, .int b1, .int b2, .long b3, .int b4] h (.returned none) x) {x : TH} (k26 : Nat → Int32 → Int32 → Nat → Int32 → Int64 → Int32 → Int32 → Int32 → Int32 → Int32 → TH → Option TH) (hk26 : ∀ (x0 : Nat) (x1 : Int32) (x2 : Int32) (x3 : Nat) (x4 : Int32) (x5 : Int64) (x7 : Int32) (x8 : Int32) (x9 : Int32) (x10 : Int32) (x11 : Int32) (h : TH), k26 x0 x1 x2 x3 x4 x5 x7 x8 x9 x10 x11 h = some x → XJ p l e (xRm (fr + 1) (lo + 33) h0) s m args below meth c D 14 (.returned none) h0 x 26 [(0, rv x0), (1, .int x1), (2, .int x2), (3, rv x3), (4, .int x4), (5, .long x5), (7, .int x7), (8, .int x8), (9, .int x9), (10, .int x10), (11, .int x11)] [] h) :
    ∀ (x0 : Nat) (x1 : Int32) (x2 : Int32) (x3 : Nat) (x4 : Int32) (x5 : Int64) (x7 : Int32) (x8 : Int32) (x9 : Int32) (x10 : Int32) (x11 : Int32) (h : TH), B_X2_see_b166 D.2.2.2 o_X2_see o_X2_part o_X2_go k26 x0 x1 x2 x3 x4 x5 x7 x8 x9 x10 x11 h = some x → XJ p l e (xRm (fr + 1) (lo + 33) h0) s m args below meth c D 14 (.returned none) h0 x 166 [(0, rv x0), (1, .int x1), (2, .int x2), (3, rv x3), (4, .int x4), (5, .long x5), (7, .int x7), (8, .int x8), (9, .int x9), (10, .int x10), (11, .int x11)] [] h := by
  have hx := hC.1
  have hb := hC.2.1
  intro x0 x1 x2 x3 x4 x5 x7 x8 x9 x10 x11 h hF H locs cells slots ls hX hl
  rw [B_X2_see_b166] at hF
  obtain ⟨x11_1, ex11_1, hF⟩ := lt_ok hF
  refine lv_iinc (v := x11_1) (lv' := [(11, .int x11_1), (0, rv x0), (1, .int x1), (2, .int x2), (3, rv x3), (4, .int x4), (5, .long x5), (7, .int x7), (8, .int x8), (9, .int x9), (10, .int x10)]) hx hb dX2_see_166 hl (k := 10) rfl (by rw [ex11_1]; rfl) (by decide) rfl (fun ls hl => ?_)
  refine lv_goto (tgt := 26) hx hb dX2_see_169 (by decide) ?_
  exact hk26 x0 x1 x2 x3 x4 x5 x7 x8 x9 x10 x11_1 h hF H locs cells slots ls hX (lv_sub hl [1, 2, 3, 4, 5, 6, 7, 8, 9, 10, 0] rfl)
def B_X2_see_b159 (K : Nat → Nat) (o_X2_see : Nat → Int32 → Int32 → Nat → Int32 → Int64 → Int32 → TH → Option TH) (o_X2_part : Nat → Int32 → Int32 → Nat → Int32 → Int64 → Int32 → TH → Option TH) (o_X2_go : Nat → Int32 → Int32 → Int32 → Int64 → Int32 → TH → Option TH) (k44 : Nat → Int32 → Int32 → Nat → Int32 → Int64 → Int32 → Int32 → Int32 → Int32 → Int32 → Int32 → TH → Option TH) (x0 : Nat) (x1 : Int32) (x2 : Int32) (x3 : Nat) (x4 : Int32) (x5 : Int64) (x7 : Int32) (x8 : Int32) (x9 : Int32) (x10 : Int32) (x11 : Int32) (x12 : Int32) (y0 : Int64) (y1 : Int32) (y2 : Nat) (h : TH) : Option TH :=
  gd (hT h y2 = 34) <|
  gd (inb y1 (hN h y2)) <|
  lt (uL h y2 (Int32.toNatClampNeg y1) y0) fun h_3 =>
  lt (x12 + (1 : Int32)) fun x12_4 =>
  k44 x0 x1 x2 x3 x4 x5 x7 x8 x9 x10 x11 x12_4 h_3
set_option maxHeartbeats 4000000 in
theorem w_X2_see_b159_g {p : Program} {l : Launch} {e : Env} {s : State} {m : MethodId} {args : Array Value} {below : List Frame} {meth : Method} {c : Code} {D : XD} {h0 : TH} {fr lo : Nat} (hC : XCx D cX2_see 14 RX2 h0 p (xRm (fr + 1) (lo + 33) h0) s m args meth c) (hr : meth.sig.returnType = none) (hnh : c.exceptionTable.isEmpty = true) (hin : meth.name = "see") (hfr : 455 ≤ fr) (hlo : 10464 ≤ lo) (o_X2_see : Nat → Int32 → Int32 → Nat → Int32 → Int64 → Int32 → TH → Option TH) (ho_X2_see : ∀ (a : Nat) (b0 : Int32) (b1 : Int32) (b2 : Nat) (b3 : Int32) (b4 : Int64) (b5 : Int32) (h : TH) (x : TH), o_X2_see a b0 b1 b2 b3 b4 b5 h = some x → XMt l yX2_see (ws_ yX2_see cX2_see 14 (none)) fr lo D [rv a, .int b0, .int b1, rv b2, .int b3, .long b4, .int b5] h (.returned none) x) (o_X2_part : Nat → Int32 → Int32 → Nat → Int32 → Int64 → Int32 → TH → Option TH) (ho_X2_part : ∀ (a : Nat) (b0 : Int32) (b1 : Int32) (b2 : Nat) (b3 : Int32) (b4 : Int64) (b5 : Int32) (h : TH) (x : TH), o_X2_part a b0 b1 b2 b3 b4 b5 h = some x → XMt l yX2_part (ws_ yX2_part cX2_part 14 (none)) fr lo D [rv a, .int b0, .int b1, rv b2, .int b3, .long b4, .int b5] h (.returned none) x) (o_X2_go : Nat → Int32 → Int32 → Int32 → Int64 → Int32 → TH → Option TH) (ho_X2_go : ∀ (a : Nat) (b0 : Int32) (b1 : Int32) (b2 : Int32) (b3 : Int64) (b4 : Int32) (h : TH) (x : TH), o_X2_go a b0 b1 b2 b3 b4 h = some x → XMt l yX2_go (ws_ yX2_go cX2_go 14 (none)) fr lo D [rv a, .int b0, .int b1, .int b2, .long b3, .int b4] h (.returned none) x) {x : TH} (k44 : Nat → Int32 → Int32 → Nat → Int32 → Int64 → Int32 → Int32 → Int32 → Int32 → Int32 → Int32 → TH → Option TH) (hk44 : ∀ (x0 : Nat) (x1 : Int32) (x2 : Int32) (x3 : Nat) (x4 : Int32) (x5 : Int64) (x7 : Int32) (x8 : Int32) (x9 : Int32) (x10 : Int32) (x11 : Int32) (x12 : Int32) (h : TH), k44 x0 x1 x2 x3 x4 x5 x7 x8 x9 x10 x11 x12 h = some x → XJ p l e (xRm (fr + 1) (lo + 33) h0) s m args below meth c D 14 (.returned none) h0 x 44 [(0, rv x0), (1, .int x1), (2, .int x2), (3, rv x3), (4, .int x4), (5, .long x5), (7, .int x7), (8, .int x8), (9, .int x9), (10, .int x10), (11, .int x11), (12, .int x12)] [] h) :
    ∀ (x0 : Nat) (x1 : Int32) (x2 : Int32) (x3 : Nat) (x4 : Int32) (x5 : Int64) (x7 : Int32) (x8 : Int32) (x9 : Int32) (x10 : Int32) (x11 : Int32) (x12 : Int32) (y0 : Int64) (y1 : Int32) (y2 : Nat) (h : TH), B_X2_see_b159 D.2.2.2 o_X2_see o_X2_part o_X2_go k44 x0 x1 x2 x3 x4 x5 x7 x8 x9 x10 x11 x12 y0 y1 y2 h = some x → XJ p l e (xRm (fr + 1) (lo + 33) h0) s m args below meth c D 14 (.returned none) h0 x 159 [(0, rv x0), (1, .int x1), (2, .int x2), (3, rv x3), (4, .int x4), (5, .long x5), (7, .int x7), (8, .int x8), (9, .int x9), (10, .int x10), (11, .int x11), (12, .int x12)] [.long y0, .int y1, rv y2] h := by
  have hx := hC.1
  have hb := hC.2.1
  intro x0 x1 x2 x3 x4 x5 x7 x8 x9 x10 x11 x12 y0 y1 y2 h hF H locs cells slots ls hX hl
  rw [B_X2_see_b159] at hF
  obtain ⟨h_1, hF⟩ := gd_ok hF
  obtain ⟨h_2, hF⟩ := gd_ok hF
  refine X_last hC hX h_1 h_2 dX2_see_159 (fun H locs hX => ?_)
  obtain ⟨h_3, eh_3, hF⟩ := lt_ok hF
  rw [← eh_3] at hX
  obtain ⟨x12_4, ex12_4, hF⟩ := lt_ok hF
  refine lv_iinc (v := x12_4) (lv' := [(12, .int x12_4), (0, rv x0), (1, .int x1), (2, .int x2), (3, rv x3), (4, .int x4), (5, .long x5), (7, .int x7), (8, .int x8), (9, .int x9), (10, .int x10), (11, .int x11)]) hx hb dX2_see_160 hl (k := 11) rfl (by rw [ex12_4]; rfl) (by decide) rfl (fun ls hl => ?_)
  refine lv_goto (tgt := 44) hx hb dX2_see_163 (by decide) ?_
  exact hk44 x0 x1 x2 x3 x4 x5 x7 x8 x9 x10 x11 x12_4 h_3 hF H locs cells slots ls hX (lv_sub hl [1, 2, 3, 4, 5, 6, 7, 8, 9, 10, 11, 0] rfl)
def B_X2_see_b109 (K : Nat → Nat) (o_X2_see : Nat → Int32 → Int32 → Nat → Int32 → Int64 → Int32 → TH → Option TH) (o_X2_part : Nat → Int32 → Int32 → Nat → Int32 → Int64 → Int32 → TH → Option TH) (o_X2_go : Nat → Int32 → Int32 → Int32 → Int64 → Int32 → TH → Option TH) (k44 : Nat → Int32 → Int32 → Nat → Int32 → Int64 → Int32 → Int32 → Int32 → Int32 → Int32 → Int32 → TH → Option TH) (x0 : Nat) (x1 : Int32) (x2 : Int32) (x3 : Nat) (x4 : Int32) (x5 : Int64) (x7 : Int32) (x8 : Int32) (x9 : Int32) (x11 : Int32) (x12 : Int32) (x13 : Int32) (y0 : Int32) (h : TH) : Option TH :=
  gd (hasF (hT h x0) 49 = true) <|
  gd (hR h 49 x0 ≠ 0) <|
  lt (hR h 49 x0) fun r_3 =>
  gd (hasF (hT h r_3) 0 = true) <|
  lt (hR h 0 r_3) fun r_5 =>
  gd (hT h r_5 = 35 ∨ hT h r_5 = 36 ∨ hT h r_5 = 37 ∨ hT h r_5 = 48) <|
  gd (inb (x1 + (1 : Int32)) (hN h r_5)) <|
  lt (hY h r_5 (Int32.toNatClampNeg (x1 + (1 : Int32)))) fun r_8 =>
  if x13 = 0 then
    B_X2_see_b159 K o_X2_see o_X2_part o_X2_go k44 x0 x1 x2 x3 x4 x5 x7 x8 x9 y0 x11 x12 (0 : Int64) (((256 : Int32) * x11) + x12) r_8 h
  else
    gd (hasF (hT h x0) 49 = true) <|
    gd (hR h 49 x0 ≠ 0) <|
    lt (hR h 49 x0) fun r_12 =>
    gd (hasF (hT h r_12) 0 = true) <|
    lt (hR h 0 r_12) fun r_14 =>
    gd (hT h r_14 = 35 ∨ hT h r_14 = 36 ∨ hT h r_14 = 37 ∨ hT h r_14 = 48) <|
    gd (inb x1 (hN h r_14)) <|
    lt (hY h r_14 (Int32.toNatClampNeg x1)) fun r_17 =>
    gd (hT h r_17 = 34) <|
    gd (inb (((256 : Int32) * x11) + x12) (hN h r_17)) <|
    B_X2_see_b159 K o_X2_see o_X2_part o_X2_go k44 x0 x1 x2 x3 x4 x5 x7 x8 x9 y0 x11 x12 (hL h r_17 (Int32.toNatClampNeg (((256 : Int32) * x11) + x12))) (((256 : Int32) * x11) + x12) r_8 h
set_option maxHeartbeats 4000000 in
theorem w_X2_see_b109_g {p : Program} {l : Launch} {e : Env} {s : State} {m : MethodId} {args : Array Value} {below : List Frame} {meth : Method} {c : Code} {D : XD} {h0 : TH} {fr lo : Nat} (hC : XCx D cX2_see 14 RX2 h0 p (xRm (fr + 1) (lo + 33) h0) s m args meth c) (hr : meth.sig.returnType = none) (hnh : c.exceptionTable.isEmpty = true) (hin : meth.name = "see") (hfr : 455 ≤ fr) (hlo : 10464 ≤ lo) (o_X2_see : Nat → Int32 → Int32 → Nat → Int32 → Int64 → Int32 → TH → Option TH) (ho_X2_see : ∀ (a : Nat) (b0 : Int32) (b1 : Int32) (b2 : Nat) (b3 : Int32) (b4 : Int64) (b5 : Int32) (h : TH) (x : TH), o_X2_see a b0 b1 b2 b3 b4 b5 h = some x → XMt l yX2_see (ws_ yX2_see cX2_see 14 (none)) fr lo D [rv a, .int b0, .int b1, rv b2, .int b3, .long b4, .int b5] h (.returned none) x) (o_X2_part : Nat → Int32 → Int32 → Nat → Int32 → Int64 → Int32 → TH → Option TH) (ho_X2_part : ∀ (a : Nat) (b0 : Int32) (b1 : Int32) (b2 : Nat) (b3 : Int32) (b4 : Int64) (b5 : Int32) (h : TH) (x : TH), o_X2_part a b0 b1 b2 b3 b4 b5 h = some x → XMt l yX2_part (ws_ yX2_part cX2_part 14 (none)) fr lo D [rv a, .int b0, .int b1, rv b2, .int b3, .long b4, .int b5] h (.returned none) x) (o_X2_go : Nat → Int32 → Int32 → Int32 → Int64 → Int32 → TH → Option TH) (ho_X2_go : ∀ (a : Nat) (b0 : Int32) (b1 : Int32) (b2 : Int32) (b3 : Int64) (b4 : Int32) (h : TH) (x : TH), o_X2_go a b0 b1 b2 b3 b4 h = some x → XMt l yX2_go (ws_ yX2_go cX2_go 14 (none)) fr lo D [rv a, .int b0, .int b1, .int b2, .long b3, .int b4] h (.returned none) x) {x : TH} (k44 : Nat → Int32 → Int32 → Nat → Int32 → Int64 → Int32 → Int32 → Int32 → Int32 → Int32 → Int32 → TH → Option TH) (hk44 : ∀ (x0 : Nat) (x1 : Int32) (x2 : Int32) (x3 : Nat) (x4 : Int32) (x5 : Int64) (x7 : Int32) (x8 : Int32) (x9 : Int32) (x10 : Int32) (x11 : Int32) (x12 : Int32) (h : TH), k44 x0 x1 x2 x3 x4 x5 x7 x8 x9 x10 x11 x12 h = some x → XJ p l e (xRm (fr + 1) (lo + 33) h0) s m args below meth c D 14 (.returned none) h0 x 44 [(0, rv x0), (1, .int x1), (2, .int x2), (3, rv x3), (4, .int x4), (5, .long x5), (7, .int x7), (8, .int x8), (9, .int x9), (10, .int x10), (11, .int x11), (12, .int x12)] [] h) :
    ∀ (x0 : Nat) (x1 : Int32) (x2 : Int32) (x3 : Nat) (x4 : Int32) (x5 : Int64) (x7 : Int32) (x8 : Int32) (x9 : Int32) (x11 : Int32) (x12 : Int32) (x13 : Int32) (y0 : Int32) (h : TH), B_X2_see_b109 D.2.2.2 o_X2_see o_X2_part o_X2_go k44 x0 x1 x2 x3 x4 x5 x7 x8 x9 x11 x12 x13 y0 h = some x → XJ p l e (xRm (fr + 1) (lo + 33) h0) s m args below meth c D 14 (.returned none) h0 x 109 [(0, rv x0), (1, .int x1), (2, .int x2), (3, rv x3), (4, .int x4), (5, .long x5), (7, .int x7), (8, .int x8), (9, .int x9), (11, .int x11), (12, .int x12), (13, .int x13)] [.int y0] h := by
  have hx := hC.1
  have hb := hC.2.1
  intro x0 x1 x2 x3 x4 x5 x7 x8 x9 x11 x12 x13 y0 h hF H locs cells slots ls hX hl
  rw [B_X2_see_b109] at hF
  refine lv_istore (lv' := [(10, .int y0), (0, rv x0), (1, .int x1), (2, .int x2), (3, rv x3), (4, .int x4), (5, .long x5), (7, .int x7), (8, .int x8), (9, .int x9), (11, .int x11), (12, .int x12), (13, .int x13)]) hx hb dX2_see_109 hl (by decide) rfl (fun ls hl => ?_)
  refine X_aload_n hx hb dX2_see_111 rfl (lv_at hl 1 rfl) ?_
  obtain ⟨h_1, hF⟩ := gd_ok hF
  obtain ⟨h_2, hF⟩ := gd_ok hF
  refine gX_X2_3 hC hX h_1 h_2 dX2_see_112 ?_
  refine lv_topr (fun r_3 er_3 => ?_)
  replace hF := lt_at hF er_3
  obtain ⟨h_4, hF⟩ := gd_ok hF
  refine gX_X2_32 hC hX h_4 dX2_see_115 ?_
  refine lv_topr (fun r_5 er_5 => ?_)
  replace hF := lt_at hF er_5
  refine lv_iload_n hx hb dX2_see_118 rfl (lv_at hl 2 rfl) ?_
  refine lv_iconst (v := 1) hx hb dX2_see_119 (by decide) ?_
  refine lv_iadd hx hb dX2_see_120 ?_
  obtain ⟨h_6, hF⟩ := gd_ok hF
  obtain ⟨h_7, hF⟩ := gd_ok hF
  refine X_aald hC hX h_6 h_7 dX2_see_121 ?_
  refine lv_topr (fun r_8 er_8 => ?_)
  replace hF := lt_at hF er_8
  refine lv_sipush (v := 256) hx hb dX2_see_122 (by decide) ?_
  refine lv_iload hx hb dX2_see_125 (lv_at hl 10 rfl) ?_
  refine lv_imul hx hb dX2_see_127 ?_
  refine lv_iload hx hb dX2_see_128 (lv_at hl 11 rfl) ?_
  refine lv_iadd hx hb dX2_see_130 ?_
  refine lv_iload hx hb dX2_see_131 (lv_at hl 12 rfl) ?_
  refine lv_if_eq (tgt := 158) hx hb dX2_see_133 (by decide) (fun c_9 => ?_) (fun c_9 => ?_)
  · replace hF := it_t hF c_9
    refine lv_lconst (v := 0) hx hb dX2_see_158 (by decide) ?_
    exact w_X2_see_b159_g hC hr hnh hin hfr hlo o_X2_see ho_X2_see o_X2_part ho_X2_part o_X2_go ho_X2_go k44 hk44 x0 x1 x2 x3 x4 x5 x7 x8 x9 y0 x11 x12 (0 : Int64) (((256 : Int32) * x11) + x12) r_8 h hF H locs cells slots ls hX (lv_sub hl [1, 2, 3, 4, 5, 6, 7, 8, 9, 0, 10, 11] rfl)
  · replace hF := it_f hF c_9
    refine X_aload_n hx hb dX2_see_136 rfl (lv_at hl 1 rfl) ?_
    obtain ⟨h_10, hF⟩ := gd_ok hF
    obtain ⟨h_11, hF⟩ := gd_ok hF
    refine gX_X2_3 hC hX h_10 h_11 dX2_see_137 ?_
    refine lv_topr (fun r_12 er_12 => ?_)
    replace hF := lt_at hF er_12
    obtain ⟨h_13, hF⟩ := gd_ok hF
    refine gX_X2_32 hC hX h_13 dX2_see_140 ?_
    refine lv_topr (fun r_14 er_14 => ?_)
    replace hF := lt_at hF er_14
    refine lv_iload_n hx hb dX2_see_143 rfl (lv_at hl 2 rfl) ?_
    obtain ⟨h_15, hF⟩ := gd_ok hF
    obtain ⟨h_16, hF⟩ := gd_ok hF
    refine X_aald hC hX h_15 h_16 dX2_see_144 ?_
    refine lv_topr (fun r_17 er_17 => ?_)
    replace hF := lt_at hF er_17
    refine lv_sipush (v := 256) hx hb dX2_see_145 (by decide) ?_
    refine lv_iload hx hb dX2_see_148 (lv_at hl 10 rfl) ?_
    refine lv_imul hx hb dX2_see_150 ?_
    refine lv_iload hx hb dX2_see_151 (lv_at hl 11 rfl) ?_
    refine lv_iadd hx hb dX2_see_153 ?_
    obtain ⟨h_18, hF⟩ := gd_ok hF
    obtain ⟨h_19, hF⟩ := gd_ok hF
    refine X_lald hC hX h_18 h_19 dX2_see_154 ?_
    refine lv_goto (tgt := 159) hx hb dX2_see_155 (by decide) ?_
    exact w_X2_see_b159_g hC hr hnh hin hfr hlo o_X2_see ho_X2_see o_X2_part ho_X2_part o_X2_go ho_X2_go k44 hk44 x0 x1 x2 x3 x4 x5 x7 x8 x9 y0 x11 x12 (hL h r_17 (Int32.toNatClampNeg (((256 : Int32) * x11) + x12))) (((256 : Int32) * x11) + x12) r_8 h hF H locs cells slots ls hX (lv_sub hl [1, 2, 3, 4, 5, 6, 7, 8, 9, 0, 10, 11] rfl)
def B_X2_see_b108 (K : Nat → Nat) (o_X2_see : Nat → Int32 → Int32 → Nat → Int32 → Int64 → Int32 → TH → Option TH) (o_X2_part : Nat → Int32 → Int32 → Nat → Int32 → Int64 → Int32 → TH → Option TH) (o_X2_go : Nat → Int32 → Int32 → Int32 → Int64 → Int32 → TH → Option TH) (k109 : Nat → Int32 → Int32 → Nat → Int32 → Int64 → Int32 → Int32 → Int32 → Int32 → Int32 → Int32 → Int32 → TH → Option TH) (x0 : Nat) (x1 : Int32) (x2 : Int32) (x3 : Nat) (x4 : Int32) (x5 : Int64) (x7 : Int32) (x8 : Int32) (x9 : Int32) (x11 : Int32) (x12 : Int32) (x13 : Int32) (h : TH) : Option TH :=
  k109 x0 x1 x2 x3 x4 x5 x7 x8 x9 x11 x12 x13 (0 : Int32) h
set_option maxHeartbeats 4000000 in
theorem w_X2_see_b108_g {p : Program} {l : Launch} {e : Env} {s : State} {m : MethodId} {args : Array Value} {below : List Frame} {meth : Method} {c : Code} {D : XD} {h0 : TH} {fr lo : Nat} (hC : XCx D cX2_see 14 RX2 h0 p (xRm (fr + 1) (lo + 33) h0) s m args meth c) (hr : meth.sig.returnType = none) (hnh : c.exceptionTable.isEmpty = true) (hin : meth.name = "see") (hfr : 455 ≤ fr) (hlo : 10464 ≤ lo) (o_X2_see : Nat → Int32 → Int32 → Nat → Int32 → Int64 → Int32 → TH → Option TH) (ho_X2_see : ∀ (a : Nat) (b0 : Int32) (b1 : Int32) (b2 : Nat) (b3 : Int32) (b4 : Int64) (b5 : Int32) (h : TH) (x : TH), o_X2_see a b0 b1 b2 b3 b4 b5 h = some x → XMt l yX2_see (ws_ yX2_see cX2_see 14 (none)) fr lo D [rv a, .int b0, .int b1, rv b2, .int b3, .long b4, .int b5] h (.returned none) x) (o_X2_part : Nat → Int32 → Int32 → Nat → Int32 → Int64 → Int32 → TH → Option TH) (ho_X2_part : ∀ (a : Nat) (b0 : Int32) (b1 : Int32) (b2 : Nat) (b3 : Int32) (b4 : Int64) (b5 : Int32) (h : TH) (x : TH), o_X2_part a b0 b1 b2 b3 b4 b5 h = some x → XMt l yX2_part (ws_ yX2_part cX2_part 14 (none)) fr lo D [rv a, .int b0, .int b1, rv b2, .int b3, .long b4, .int b5] h (.returned none) x) (o_X2_go : Nat → Int32 → Int32 → Int32 → Int64 → Int32 → TH → Option TH) (ho_X2_go : ∀ (a : Nat) (b0 : Int32) (b1 : Int32) (b2 : Int32) (b3 : Int64) (b4 : Int32) (h : TH) (x : TH), o_X2_go a b0 b1 b2 b3 b4 h = some x → XMt l yX2_go (ws_ yX2_go cX2_go 14 (none)) fr lo D [rv a, .int b0, .int b1, .int b2, .long b3, .int b4] h (.returned none) x) {x : TH} (k109 : Nat → Int32 → Int32 → Nat → Int32 → Int64 → Int32 → Int32 → Int32 → Int32 → Int32 → Int32 → Int32 → TH → Option TH) (hk109 : ∀ (x0 : Nat) (x1 : Int32) (x2 : Int32) (x3 : Nat) (x4 : Int32) (x5 : Int64) (x7 : Int32) (x8 : Int32) (x9 : Int32) (x11 : Int32) (x12 : Int32) (x13 : Int32) (y0 : Int32) (h : TH), k109 x0 x1 x2 x3 x4 x5 x7 x8 x9 x11 x12 x13 y0 h = some x → XJ p l e (xRm (fr + 1) (lo + 33) h0) s m args below meth c D 14 (.returned none) h0 x 109 [(0, rv x0), (1, .int x1), (2, .int x2), (3, rv x3), (4, .int x4), (5, .long x5), (7, .int x7), (8, .int x8), (9, .int x9), (11, .int x11), (12, .int x12), (13, .int x13)] [.int y0] h) :
    ∀ (x0 : Nat) (x1 : Int32) (x2 : Int32) (x3 : Nat) (x4 : Int32) (x5 : Int64) (x7 : Int32) (x8 : Int32) (x9 : Int32) (x11 : Int32) (x12 : Int32) (x13 : Int32) (h : TH), B_X2_see_b108 D.2.2.2 o_X2_see o_X2_part o_X2_go k109 x0 x1 x2 x3 x4 x5 x7 x8 x9 x11 x12 x13 h = some x → XJ p l e (xRm (fr + 1) (lo + 33) h0) s m args below meth c D 14 (.returned none) h0 x 108 [(0, rv x0), (1, .int x1), (2, .int x2), (3, rv x3), (4, .int x4), (5, .long x5), (7, .int x7), (8, .int x8), (9, .int x9), (11, .int x11), (12, .int x12), (13, .int x13)] [] h := by
  have hx := hC.1
  have hb := hC.2.1
  intro x0 x1 x2 x3 x4 x5 x7 x8 x9 x11 x12 x13 h hF H locs cells slots ls hX hl
  rw [B_X2_see_b108] at hF
  refine lv_iconst (v := 0) hx hb dX2_see_108 (by decide) ?_
  exact hk109 x0 x1 x2 x3 x4 x5 x7 x8 x9 x11 x12 x13 (0 : Int32) h hF H locs cells slots ls hX (lv_sub hl [0, 1, 2, 3, 4, 5, 6, 7, 8, 9, 10, 11] rfl)
def B_X2_see_b104 (K : Nat → Nat) (o_X2_see : Nat → Int32 → Int32 → Nat → Int32 → Int64 → Int32 → TH → Option TH) (o_X2_part : Nat → Int32 → Int32 → Nat → Int32 → Int64 → Int32 → TH → Option TH) (o_X2_go : Nat → Int32 → Int32 → Int32 → Int64 → Int32 → TH → Option TH) (k109 : Nat → Int32 → Int32 → Nat → Int32 → Int64 → Int32 → Int32 → Int32 → Int32 → Int32 → Int32 → Int32 → TH → Option TH) (x0 : Nat) (x1 : Int32) (x2 : Int32) (x3 : Nat) (x4 : Int32) (x5 : Int64) (x7 : Int32) (x8 : Int32) (x9 : Int32) (x11 : Int32) (x12 : Int32) (x13 : Int32) (h : TH) : Option TH :=
  k109 x0 x1 x2 x3 x4 x5 x7 x8 x9 x11 x12 x13 (1 : Int32) h
set_option maxHeartbeats 4000000 in
theorem w_X2_see_b104_g {p : Program} {l : Launch} {e : Env} {s : State} {m : MethodId} {args : Array Value} {below : List Frame} {meth : Method} {c : Code} {D : XD} {h0 : TH} {fr lo : Nat} (hC : XCx D cX2_see 14 RX2 h0 p (xRm (fr + 1) (lo + 33) h0) s m args meth c) (hr : meth.sig.returnType = none) (hnh : c.exceptionTable.isEmpty = true) (hin : meth.name = "see") (hfr : 455 ≤ fr) (hlo : 10464 ≤ lo) (o_X2_see : Nat → Int32 → Int32 → Nat → Int32 → Int64 → Int32 → TH → Option TH) (ho_X2_see : ∀ (a : Nat) (b0 : Int32) (b1 : Int32) (b2 : Nat) (b3 : Int32) (b4 : Int64) (b5 : Int32) (h : TH) (x : TH), o_X2_see a b0 b1 b2 b3 b4 b5 h = some x → XMt l yX2_see (ws_ yX2_see cX2_see 14 (none)) fr lo D [rv a, .int b0, .int b1, rv b2, .int b3, .long b4, .int b5] h (.returned none) x) (o_X2_part : Nat → Int32 → Int32 → Nat → Int32 → Int64 → Int32 → TH → Option TH) (ho_X2_part : ∀ (a : Nat) (b0 : Int32) (b1 : Int32) (b2 : Nat) (b3 : Int32) (b4 : Int64) (b5 : Int32) (h : TH) (x : TH), o_X2_part a b0 b1 b2 b3 b4 b5 h = some x → XMt l yX2_part (ws_ yX2_part cX2_part 14 (none)) fr lo D [rv a, .int b0, .int b1, rv b2, .int b3, .long b4, .int b5] h (.returned none) x) (o_X2_go : Nat → Int32 → Int32 → Int32 → Int64 → Int32 → TH → Option TH) (ho_X2_go : ∀ (a : Nat) (b0 : Int32) (b1 : Int32) (b2 : Int32) (b3 : Int64) (b4 : Int32) (h : TH) (x : TH), o_X2_go a b0 b1 b2 b3 b4 h = some x → XMt l yX2_go (ws_ yX2_go cX2_go 14 (none)) fr lo D [rv a, .int b0, .int b1, .int b2, .long b3, .int b4] h (.returned none) x) {x : TH} (k109 : Nat → Int32 → Int32 → Nat → Int32 → Int64 → Int32 → Int32 → Int32 → Int32 → Int32 → Int32 → Int32 → TH → Option TH) (hk109 : ∀ (x0 : Nat) (x1 : Int32) (x2 : Int32) (x3 : Nat) (x4 : Int32) (x5 : Int64) (x7 : Int32) (x8 : Int32) (x9 : Int32) (x11 : Int32) (x12 : Int32) (x13 : Int32) (y0 : Int32) (h : TH), k109 x0 x1 x2 x3 x4 x5 x7 x8 x9 x11 x12 x13 y0 h = some x → XJ p l e (xRm (fr + 1) (lo + 33) h0) s m args below meth c D 14 (.returned none) h0 x 109 [(0, rv x0), (1, .int x1), (2, .int x2), (3, rv x3), (4, .int x4), (5, .long x5), (7, .int x7), (8, .int x8), (9, .int x9), (11, .int x11), (12, .int x12), (13, .int x13)] [.int y0] h) :
    ∀ (x0 : Nat) (x1 : Int32) (x2 : Int32) (x3 : Nat) (x4 : Int32) (x5 : Int64) (x7 : Int32) (x8 : Int32) (x9 : Int32) (x11 : Int32) (x12 : Int32) (x13 : Int32) (h : TH), B_X2_see_b104 D.2.2.2 o_X2_see o_X2_part o_X2_go k109 x0 x1 x2 x3 x4 x5 x7 x8 x9 x11 x12 x13 h = some x → XJ p l e (xRm (fr + 1) (lo + 33) h0) s m args below meth c D 14 (.returned none) h0 x 104 [(0, rv x0), (1, .int x1), (2, .int x2), (3, rv x3), (4, .int x4), (5, .long x5), (7, .int x7), (8, .int x8), (9, .int x9), (11, .int x11), (12, .int x12), (13, .int x13)] [] h := by
  have hx := hC.1
  have hb := hC.2.1
  intro x0 x1 x2 x3 x4 x5 x7 x8 x9 x11 x12 x13 h hF H locs cells slots ls hX hl
  rw [B_X2_see_b104] at hF
  refine lv_iconst (v := 1) hx hb dX2_see_104 (by decide) ?_
  refine lv_goto (tgt := 109) hx hb dX2_see_105 (by decide) ?_
  exact hk109 x0 x1 x2 x3 x4 x5 x7 x8 x9 x11 x12 x13 (1 : Int32) h hF H locs cells slots ls hX (lv_sub hl [0, 1, 2, 3, 4, 5, 6, 7, 8, 9, 10, 11] rfl)
def B_X2_see_b68 (K : Nat → Nat) (o_X2_see : Nat → Int32 → Int32 → Nat → Int32 → Int64 → Int32 → TH → Option TH) (o_X2_part : Nat → Int32 → Int32 → Nat → Int32 → Int64 → Int32 → TH → Option TH) (o_X2_go : Nat → Int32 → Int32 → Int32 → Int64 → Int32 → TH → Option TH) (k44 : Nat → Int32 → Int32 → Nat → Int32 → Int64 → Int32 → Int32 → Int32 → Int32 → Int32 → Int32 → TH → Option TH) (x0 : Nat) (x1 : Int32) (x2 : Int32) (x3 : Nat) (x4 : Int32) (x5 : Int64) (x7 : Int32) (x8 : Int32) (x9 : Int32) (x10 : Int32) (x11 : Int32) (x12 : Int32) (y0 : Int32) (h : TH) : Option TH :=
  if x10 = 0 then
    if y0 = 0 then
      B_X2_see_b108 K o_X2_see o_X2_part o_X2_go (B_X2_see_b109 K o_X2_see o_X2_part o_X2_go k44) x0 x1 x2 x3 x4 x5 x7 x8 x9 x11 x12 y0 h
    else
      gd (hasF (hT h x0) 49 = true) <|
      gd (hR h 49 x0 ≠ 0) <|
      lt (hR h 49 x0) fun r_5 =>
      gd (hasF (hT h r_5) 0 = true) <|
      lt (hR h 0 r_5) fun r_7 =>
      gd (hT h r_7 = 35 ∨ hT h r_7 = 36 ∨ hT h r_7 = 37 ∨ hT h r_7 = 48) <|
      gd (inb x1 (hN h r_7)) <|
      lt (hY h r_7 (Int32.toNatClampNeg x1)) fun r_10 =>
      gd (hT h r_10 = 34) <|
      gd (inb (((256 : Int32) * x11) + x12) (hN h r_10)) <|
      if (lg_cmp (hL h r_10 (Int32.toNatClampNeg (((256 : Int32) * x11) + x12))) (0 : Int64)) ≤ 0 then
        B_X2_see_b108 K o_X2_see o_X2_part o_X2_go (B_X2_see_b109 K o_X2_see o_X2_part o_X2_go k44) x0 x1 x2 x3 x4 x5 x7 x8 x9 x11 x12 y0 h
      else
        B_X2_see_b104 K o_X2_see o_X2_part o_X2_go (B_X2_see_b109 K o_X2_see o_X2_part o_X2_go k44) x0 x1 x2 x3 x4 x5 x7 x8 x9 x11 x12 y0 h
  else
    B_X2_see_b104 K o_X2_see o_X2_part o_X2_go (B_X2_see_b109 K o_X2_see o_X2_part o_X2_go k44) x0 x1 x2 x3 x4 x5 x7 x8 x9 x11 x12 y0 h
set_option maxHeartbeats 4000000 in
theorem w_X2_see_b68_g {p : Program} {l : Launch} {e : Env} {s : State} {m : MethodId} {args : Array Value} {below : List Frame} {meth : Method} {c : Code} {D : XD} {h0 : TH} {fr lo : Nat} (hC : XCx D cX2_see 14 RX2 h0 p (xRm (fr + 1) (lo + 33) h0) s m args meth c) (hr : meth.sig.returnType = none) (hnh : c.exceptionTable.isEmpty = true) (hin : meth.name = "see") (hfr : 455 ≤ fr) (hlo : 10464 ≤ lo) (o_X2_see : Nat → Int32 → Int32 → Nat → Int32 → Int64 → Int32 → TH → Option TH) (ho_X2_see : ∀ (a : Nat) (b0 : Int32) (b1 : Int32) (b2 : Nat) (b3 : Int32) (b4 : Int64) (b5 : Int32) (h : TH) (x : TH), o_X2_see a b0 b1 b2 b3 b4 b5 h = some x → XMt l yX2_see (ws_ yX2_see cX2_see 14 (none)) fr lo D [rv a, .int b0, .int b1, rv b2, .int b3, .long b4, .int b5] h (.returned none) x) (o_X2_part : Nat → Int32 → Int32 → Nat → Int32 → Int64 → Int32 → TH → Option TH) (ho_X2_part : ∀ (a : Nat) (b0 : Int32) (b1 : Int32) (b2 : Nat) (b3 : Int32) (b4 : Int64) (b5 : Int32) (h : TH) (x : TH), o_X2_part a b0 b1 b2 b3 b4 b5 h = some x → XMt l yX2_part (ws_ yX2_part cX2_part 14 (none)) fr lo D [rv a, .int b0, .int b1, rv b2, .int b3, .long b4, .int b5] h (.returned none) x) (o_X2_go : Nat → Int32 → Int32 → Int32 → Int64 → Int32 → TH → Option TH) (ho_X2_go : ∀ (a : Nat) (b0 : Int32) (b1 : Int32) (b2 : Int32) (b3 : Int64) (b4 : Int32) (h : TH) (x : TH), o_X2_go a b0 b1 b2 b3 b4 h = some x → XMt l yX2_go (ws_ yX2_go cX2_go 14 (none)) fr lo D [rv a, .int b0, .int b1, .int b2, .long b3, .int b4] h (.returned none) x) {x : TH} (k44 : Nat → Int32 → Int32 → Nat → Int32 → Int64 → Int32 → Int32 → Int32 → Int32 → Int32 → Int32 → TH → Option TH) (hk44 : ∀ (x0 : Nat) (x1 : Int32) (x2 : Int32) (x3 : Nat) (x4 : Int32) (x5 : Int64) (x7 : Int32) (x8 : Int32) (x9 : Int32) (x10 : Int32) (x11 : Int32) (x12 : Int32) (h : TH), k44 x0 x1 x2 x3 x4 x5 x7 x8 x9 x10 x11 x12 h = some x → XJ p l e (xRm (fr + 1) (lo + 33) h0) s m args below meth c D 14 (.returned none) h0 x 44 [(0, rv x0), (1, .int x1), (2, .int x2), (3, rv x3), (4, .int x4), (5, .long x5), (7, .int x7), (8, .int x8), (9, .int x9), (10, .int x10), (11, .int x11), (12, .int x12)] [] h) :
    ∀ (x0 : Nat) (x1 : Int32) (x2 : Int32) (x3 : Nat) (x4 : Int32) (x5 : Int64) (x7 : Int32) (x8 : Int32) (x9 : Int32) (x10 : Int32) (x11 : Int32) (x12 : Int32) (y0 : Int32) (h : TH), B_X2_see_b68 D.2.2.2 o_X2_see o_X2_part o_X2_go k44 x0 x1 x2 x3 x4 x5 x7 x8 x9 x10 x11 x12 y0 h = some x → XJ p l e (xRm (fr + 1) (lo + 33) h0) s m args below meth c D 14 (.returned none) h0 x 68 [(0, rv x0), (1, .int x1), (2, .int x2), (3, rv x3), (4, .int x4), (5, .long x5), (7, .int x7), (8, .int x8), (9, .int x9), (10, .int x10), (11, .int x11), (12, .int x12)] [.int y0] h := by
  have hx := hC.1
  have hb := hC.2.1
  intro x0 x1 x2 x3 x4 x5 x7 x8 x9 x10 x11 x12 y0 h hF H locs cells slots ls hX hl
  rw [B_X2_see_b68] at hF
  refine lv_istore (lv' := [(13, .int y0), (0, rv x0), (1, .int x1), (2, .int x2), (3, rv x3), (4, .int x4), (5, .long x5), (7, .int x7), (8, .int x8), (9, .int x9), (10, .int x10), (11, .int x11), (12, .int x12)]) hx hb dX2_see_68 hl (by decide) rfl (fun ls hl => ?_)
  refine lv_iload hx hb dX2_see_70 (lv_at hl 10 rfl) ?_
  refine lv_if_ne (tgt := 104) hx hb dX2_see_72 (by decide) (fun c_1 => ?_) (fun c_1 => ?_)
  · replace hF := it_f hF c_1
    exact w_X2_see_b104_g hC hr hnh hin hfr hlo o_X2_see ho_X2_see o_X2_part ho_X2_part o_X2_go ho_X2_go (B_X2_see_b109 D.2.2.2 o_X2_see o_X2_part o_X2_go k44) (w_X2_see_b109_g hC hr hnh hin hfr hlo o_X2_see ho_X2_see o_X2_part ho_X2_part o_X2_go ho_X2_go k44 hk44) x0 x1 x2 x3 x4 x5 x7 x8 x9 x11 x12 y0 h hF H locs cells slots ls hX (lv_sub hl [1, 2, 3, 4, 5, 6, 7, 8, 9, 11, 12, 0] rfl)
  · replace hF := it_t hF c_1
    refine lv_iload hx hb dX2_see_75 (lv_at hl 0 rfl) ?_
    refine lv_if_eq (tgt := 108) hx hb dX2_see_77 (by decide) (fun c_2 => ?_) (fun c_2 => ?_)
    · replace hF := it_t hF c_2
      exact w_X2_see_b108_g hC hr hnh hin hfr hlo o_X2_see ho_X2_see o_X2_part ho_X2_part o_X2_go ho_X2_go (B_X2_see_b109 D.2.2.2 o_X2_see o_X2_part o_X2_go k44) (w_X2_see_b109_g hC hr hnh hin hfr hlo o_X2_see ho_X2_see o_X2_part ho_X2_part o_X2_go ho_X2_go k44 hk44) x0 x1 x2 x3 x4 x5 x7 x8 x9 x11 x12 y0 h hF H locs cells slots ls hX (lv_sub hl [1, 2, 3, 4, 5, 6, 7, 8, 9, 11, 12, 0] rfl)
    · replace hF := it_f hF c_2
      refine X_aload_n hx hb dX2_see_80 rfl (lv_at hl 1 rfl) ?_
      obtain ⟨h_3, hF⟩ := gd_ok hF
      obtain ⟨h_4, hF⟩ := gd_ok hF
      refine gX_X2_3 hC hX h_3 h_4 dX2_see_81 ?_
      refine lv_topr (fun r_5 er_5 => ?_)
      replace hF := lt_at hF er_5
      obtain ⟨h_6, hF⟩ := gd_ok hF
      refine gX_X2_32 hC hX h_6 dX2_see_84 ?_
      refine lv_topr (fun r_7 er_7 => ?_)
      replace hF := lt_at hF er_7
      refine lv_iload_n hx hb dX2_see_87 rfl (lv_at hl 2 rfl) ?_
      obtain ⟨h_8, hF⟩ := gd_ok hF
      obtain ⟨h_9, hF⟩ := gd_ok hF
      refine X_aald hC hX h_8 h_9 dX2_see_88 ?_
      refine lv_topr (fun r_10 er_10 => ?_)
      replace hF := lt_at hF er_10
      refine lv_sipush (v := 256) hx hb dX2_see_89 (by decide) ?_
      refine lv_iload hx hb dX2_see_92 (lv_at hl 11 rfl) ?_
      refine lv_imul hx hb dX2_see_94 ?_
      refine lv_iload hx hb dX2_see_95 (lv_at hl 12 rfl) ?_
      refine lv_iadd hx hb dX2_see_97 ?_
      obtain ⟨h_11, hF⟩ := gd_ok hF
      obtain ⟨h_12, hF⟩ := gd_ok hF
      refine X_lald hC hX h_11 h_12 dX2_see_98 ?_
      refine lv_lconst (v := 0) hx hb dX2_see_99 (by decide) ?_
      refine W.lcmp hx hb dX2_see_100 ?_
      refine lv_if_le (tgt := 108) hx hb dX2_see_101 (by decide) (fun c_13 => ?_) (fun c_13 => ?_)
      · replace hF := it_t hF c_13
        exact w_X2_see_b108_g hC hr hnh hin hfr hlo o_X2_see ho_X2_see o_X2_part ho_X2_part o_X2_go ho_X2_go (B_X2_see_b109 D.2.2.2 o_X2_see o_X2_part o_X2_go k44) (w_X2_see_b109_g hC hr hnh hin hfr hlo o_X2_see ho_X2_see o_X2_part ho_X2_part o_X2_go ho_X2_go k44 hk44) x0 x1 x2 x3 x4 x5 x7 x8 x9 x11 x12 y0 h hF H locs cells slots ls hX (lv_sub hl [1, 2, 3, 4, 5, 6, 7, 8, 9, 11, 12, 0] rfl)
      · replace hF := it_f hF c_13
        exact w_X2_see_b104_g hC hr hnh hin hfr hlo o_X2_see ho_X2_see o_X2_part ho_X2_part o_X2_go ho_X2_go (B_X2_see_b109 D.2.2.2 o_X2_see o_X2_part o_X2_go k44) (w_X2_see_b109_g hC hr hnh hin hfr hlo o_X2_see ho_X2_see o_X2_part ho_X2_part o_X2_go ho_X2_go k44 hk44) x0 x1 x2 x3 x4 x5 x7 x8 x9 x11 x12 y0 h hF H locs cells slots ls hX (lv_sub hl [1, 2, 3, 4, 5, 6, 7, 8, 9, 11, 12, 0] rfl)
def B_X2_see_L44 (K : Nat → Nat) (o_X2_see : Nat → Int32 → Int32 → Nat → Int32 → Int64 → Int32 → TH → Option TH) (o_X2_part : Nat → Int32 → Int32 → Nat → Int32 → Int64 → Int32 → TH → Option TH) (o_X2_go : Nat → Int32 → Int32 → Int32 → Int64 → Int32 → TH → Option TH) (k26 : Nat → Int32 → Int32 → Nat → Int32 → Int64 → Int32 → Int32 → Int32 → Int32 → Int32 → TH → Option TH) : Nat → Nat → Int32 → Int32 → Nat → Int32 → Int64 → Int32 → Int32 → Int32 → Int32 → Int32 → Int32 → TH → Option TH
  | 0, _, _, _, _, _, _, _, _, _, _, _, _, _ => none
  | fu + 1, x0, x1, x2, x3, x4, x5, x7, x8, x9, x10, x11, x12, h =>
    if (256 : Int32) ≤ x12 then
      B_X2_see_b166 K o_X2_see o_X2_part o_X2_go k26 x0 x1 x2 x3 x4 x5 x7 x8 x9 x10 x11 h
    else
      gd (hT h x3 = 18) <|
      bd (F_X18_seen K h x3 x12) fun r_4 =>
      if r_4 = x9 then
        B_X2_see_b68 K o_X2_see o_X2_part o_X2_go (B_X2_see_L44 K o_X2_see o_X2_part o_X2_go k26 fu) x0 x1 x2 x3 x4 x5 x7 x8 x9 x10 x11 x12 (1 : Int32) h
      else
        B_X2_see_b68 K o_X2_see o_X2_part o_X2_go (B_X2_see_L44 K o_X2_see o_X2_part o_X2_go k26 fu) x0 x1 x2 x3 x4 x5 x7 x8 x9 x10 x11 x12 (0 : Int32) h
set_option maxHeartbeats 4000000 in
theorem w_X2_see_L44_g {p : Program} {l : Launch} {e : Env} {s : State} {m : MethodId} {args : Array Value} {below : List Frame} {meth : Method} {c : Code} {D : XD} {h0 : TH} {fr lo : Nat} (hC : XCx D cX2_see 14 RX2 h0 p (xRm (fr + 1) (lo + 33) h0) s m args meth c) (hr : meth.sig.returnType = none) (hnh : c.exceptionTable.isEmpty = true) (hin : meth.name = "see") (hfr : 455 ≤ fr) (hlo : 10464 ≤ lo) (o_X2_see : Nat → Int32 → Int32 → Nat → Int32 → Int64 → Int32 → TH → Option TH) (ho_X2_see : ∀ (a : Nat) (b0 : Int32) (b1 : Int32) (b2 : Nat) (b3 : Int32) (b4 : Int64) (b5 : Int32) (h : TH) (x : TH), o_X2_see a b0 b1 b2 b3 b4 b5 h = some x → XMt l yX2_see (ws_ yX2_see cX2_see 14 (none)) fr lo D [rv a, .int b0, .int b1, rv b2, .int b3, .long b4, .int b5] h (.returned none) x) (o_X2_part : Nat → Int32 → Int32 → Nat → Int32 → Int64 → Int32 → TH → Option TH) (ho_X2_part : ∀ (a : Nat) (b0 : Int32) (b1 : Int32) (b2 : Nat) (b3 : Int32) (b4 : Int64) (b5 : Int32) (h : TH) (x : TH), o_X2_part a b0 b1 b2 b3 b4 b5 h = some x → XMt l yX2_part (ws_ yX2_part cX2_part 14 (none)) fr lo D [rv a, .int b0, .int b1, rv b2, .int b3, .long b4, .int b5] h (.returned none) x) (o_X2_go : Nat → Int32 → Int32 → Int32 → Int64 → Int32 → TH → Option TH) (ho_X2_go : ∀ (a : Nat) (b0 : Int32) (b1 : Int32) (b2 : Int32) (b3 : Int64) (b4 : Int32) (h : TH) (x : TH), o_X2_go a b0 b1 b2 b3 b4 h = some x → XMt l yX2_go (ws_ yX2_go cX2_go 14 (none)) fr lo D [rv a, .int b0, .int b1, .int b2, .long b3, .int b4] h (.returned none) x) {x : TH} (k26 : Nat → Int32 → Int32 → Nat → Int32 → Int64 → Int32 → Int32 → Int32 → Int32 → Int32 → TH → Option TH) (hk26 : ∀ (x0 : Nat) (x1 : Int32) (x2 : Int32) (x3 : Nat) (x4 : Int32) (x5 : Int64) (x7 : Int32) (x8 : Int32) (x9 : Int32) (x10 : Int32) (x11 : Int32) (h : TH), k26 x0 x1 x2 x3 x4 x5 x7 x8 x9 x10 x11 h = some x → XJ p l e (xRm (fr + 1) (lo + 33) h0) s m args below meth c D 14 (.returned none) h0 x 26 [(0, rv x0), (1, .int x1), (2, .int x2), (3, rv x3), (4, .int x4), (5, .long x5), (7, .int x7), (8, .int x8), (9, .int x9), (10, .int x10), (11, .int x11)] [] h) :
    ∀ (fu : Nat) (x0 : Nat) (x1 : Int32) (x2 : Int32) (x3 : Nat) (x4 : Int32) (x5 : Int64) (x7 : Int32) (x8 : Int32) (x9 : Int32) (x10 : Int32) (x11 : Int32) (x12 : Int32) (h : TH), B_X2_see_L44 D.2.2.2 o_X2_see o_X2_part o_X2_go k26 fu x0 x1 x2 x3 x4 x5 x7 x8 x9 x10 x11 x12 h = some x → XJ p l e (xRm (fr + 1) (lo + 33) h0) s m args below meth c D 14 (.returned none) h0 x 44 [(0, rv x0), (1, .int x1), (2, .int x2), (3, rv x3), (4, .int x4), (5, .long x5), (7, .int x7), (8, .int x8), (9, .int x9), (10, .int x10), (11, .int x11), (12, .int x12)] [] h := by
  have hx := hC.1
  have hb := hC.2.1
  intro fu
  induction fu with
  | zero => intro x0 x1 x2 x3 x4 x5 x7 x8 x9 x10 x11 x12 h hF; exact nm_none hF
  | succ fu ih =>
    intro x0 x1 x2 x3 x4 x5 x7 x8 x9 x10 x11 x12 h hF H locs cells slots ls hX hl
    rw [B_X2_see_L44] at hF
    refine lv_iload hx hb dX2_see_44 (lv_at hl 11 rfl) ?_
    refine lv_sipush (v := 256) hx hb dX2_see_46 (by decide) ?_
    refine lv_icmp_ge (tgt := 166) hx hb dX2_see_49 (by decide) (fun c_1 => ?_) (fun c_1 => ?_)
    · replace hF := it_t hF c_1
      exact w_X2_see_b166_g hC hr hnh hin hfr hlo o_X2_see ho_X2_see o_X2_part ho_X2_part o_X2_go ho_X2_go k26 hk26 x0 x1 x2 x3 x4 x5 x7 x8 x9 x10 x11 h hF H locs cells slots ls hX (lv_sub hl [0, 1, 2, 3, 4, 5, 6, 7, 8, 9, 10] rfl)
    · replace hF := it_f hF c_1
      refine X_aload_n hx hb dX2_see_52 rfl (lv_at hl 3 rfl) ?_
      refine lv_iload hx hb dX2_see_53 (lv_at hl 11 rfl) ?_
      obtain ⟨h_2, hF⟩ := gd_ok hF
      obtain ⟨r_4, hc_3, hF⟩ := bd_ok hF
      refine iX_X2_155 hC hX h_2 hc_3 hl.1 (Nat.le_of_ble_eq_true rfl) (by show _ ≤ fr + 1; omega) (by show _ ≤ lo + 33; omega) dX2_see_55 (fun H locs cells slots hX => ?_)
      refine lv_iload hx hb dX2_see_58 (lv_at hl 8 rfl) ?_
      refine lv_icmp_ne (tgt := 67) hx hb dX2_see_60 (by decide) (fun c_5 => ?_) (fun c_5 => ?_)
      · replace hF := it_f hF c_5
        refine lv_iconst (v := 0) hx hb dX2_see_67 (by decide) ?_
        exact w_X2_see_b68_g hC hr hnh hin hfr hlo o_X2_see ho_X2_see o_X2_part ho_X2_part o_X2_go ho_X2_go (B_X2_see_L44 D.2.2.2 o_X2_see o_X2_part o_X2_go k26 fu) ih x0 x1 x2 x3 x4 x5 x7 x8 x9 x10 x11 x12 (0 : Int32) h hF H locs cells slots ls hX (lv_sub hl [0, 1, 2, 3, 4, 5, 6, 7, 8, 9, 10, 11] rfl)
      · replace hF := it_t hF c_5
        refine lv_iconst (v := 1) hx hb dX2_see_63 (by decide) ?_
        refine lv_goto (tgt := 68) hx hb dX2_see_64 (by decide) ?_
        exact w_X2_see_b68_g hC hr hnh hin hfr hlo o_X2_see ho_X2_see o_X2_part ho_X2_part o_X2_go ho_X2_go (B_X2_see_L44 D.2.2.2 o_X2_see o_X2_part o_X2_go k26 fu) ih x0 x1 x2 x3 x4 x5 x7 x8 x9 x10 x11 x12 (1 : Int32) h hF H locs cells slots ls hX (lv_sub hl [0, 1, 2, 3, 4, 5, 6, 7, 8, 9, 10, 11] rfl)
def B_X2_see_L26 (K : Nat → Nat) (o_X2_see : Nat → Int32 → Int32 → Nat → Int32 → Int64 → Int32 → TH → Option TH) (o_X2_part : Nat → Int32 → Int32 → Nat → Int32 → Int64 → Int32 → TH → Option TH) (o_X2_go : Nat → Int32 → Int32 → Int32 → Int64 → Int32 → TH → Option TH) (k9 : Nat → Int32 → Int32 → Nat → Int32 → Int64 → Int32 → Int32 → Int32 → TH → Option TH) : Nat → Nat → Int32 → Int32 → Nat → Int32 → Int64 → Int32 → Int32 → Int32 → Int32 → Int32 → TH → Option TH
  | 0, _, _, _, _, _, _, _, _, _, _, _, _ => none
  | fu + 1, x0, x1, x2, x3, x4, x5, x7, x8, x9, x10, x11, h =>
    gd (hasF (hT h x0) 49 = true) <|
    gd (hR h 49 x0 ≠ 0) <|
    lt (hR h 49 x0) fun r_3 =>
    gd (hasF (hT h r_3) 7 = true) <|
    lt (hR h 7 r_3) fun r_5 =>
    gd (hT h r_5 = 2) <|
    bd (F_X1_inputs K h r_5) fun r_8 =>
    if r_8 ≤ x11 then
      B_X2_see_b172 K o_X2_see o_X2_part o_X2_go k9 x0 x1 x2 x3 x4 x5 x7 x8 x9 x10 h
    else
      B_X2_see_L44 K o_X2_see o_X2_part o_X2_go (B_X2_see_L26 K o_X2_see o_X2_part o_X2_go k9 fu) MN x0 x1 x2 x3 x4 x5 x7 x8 x9 x10 x11 (0 : Int32) h
set_option maxHeartbeats 4000000 in
theorem w_X2_see_L26_g {p : Program} {l : Launch} {e : Env} {s : State} {m : MethodId} {args : Array Value} {below : List Frame} {meth : Method} {c : Code} {D : XD} {h0 : TH} {fr lo : Nat} (hC : XCx D cX2_see 14 RX2 h0 p (xRm (fr + 1) (lo + 33) h0) s m args meth c) (hr : meth.sig.returnType = none) (hnh : c.exceptionTable.isEmpty = true) (hin : meth.name = "see") (hfr : 455 ≤ fr) (hlo : 10464 ≤ lo) (o_X2_see : Nat → Int32 → Int32 → Nat → Int32 → Int64 → Int32 → TH → Option TH) (ho_X2_see : ∀ (a : Nat) (b0 : Int32) (b1 : Int32) (b2 : Nat) (b3 : Int32) (b4 : Int64) (b5 : Int32) (h : TH) (x : TH), o_X2_see a b0 b1 b2 b3 b4 b5 h = some x → XMt l yX2_see (ws_ yX2_see cX2_see 14 (none)) fr lo D [rv a, .int b0, .int b1, rv b2, .int b3, .long b4, .int b5] h (.returned none) x) (o_X2_part : Nat → Int32 → Int32 → Nat → Int32 → Int64 → Int32 → TH → Option TH) (ho_X2_part : ∀ (a : Nat) (b0 : Int32) (b1 : Int32) (b2 : Nat) (b3 : Int32) (b4 : Int64) (b5 : Int32) (h : TH) (x : TH), o_X2_part a b0 b1 b2 b3 b4 b5 h = some x → XMt l yX2_part (ws_ yX2_part cX2_part 14 (none)) fr lo D [rv a, .int b0, .int b1, rv b2, .int b3, .long b4, .int b5] h (.returned none) x) (o_X2_go : Nat → Int32 → Int32 → Int32 → Int64 → Int32 → TH → Option TH) (ho_X2_go : ∀ (a : Nat) (b0 : Int32) (b1 : Int32) (b2 : Int32) (b3 : Int64) (b4 : Int32) (h : TH) (x : TH), o_X2_go a b0 b1 b2 b3 b4 h = some x → XMt l yX2_go (ws_ yX2_go cX2_go 14 (none)) fr lo D [rv a, .int b0, .int b1, .int b2, .long b3, .int b4] h (.returned none) x) {x : TH} (k9 : Nat → Int32 → Int32 → Nat → Int32 → Int64 → Int32 → Int32 → Int32 → TH → Option TH) (hk9 : ∀ (x0 : Nat) (x1 : Int32) (x2 : Int32) (x3 : Nat) (x4 : Int32) (x5 : Int64) (x7 : Int32) (x8 : Int32) (x9 : Int32) (h : TH), k9 x0 x1 x2 x3 x4 x5 x7 x8 x9 h = some x → XJ p l e (xRm (fr + 1) (lo + 33) h0) s m args below meth c D 14 (.returned none) h0 x 9 [(0, rv x0), (1, .int x1), (2, .int x2), (3, rv x3), (4, .int x4), (5, .long x5), (7, .int x7), (8, .int x8), (9, .int x9)] [] h) :
    ∀ (fu : Nat) (x0 : Nat) (x1 : Int32) (x2 : Int32) (x3 : Nat) (x4 : Int32) (x5 : Int64) (x7 : Int32) (x8 : Int32) (x9 : Int32) (x10 : Int32) (x11 : Int32) (h : TH), B_X2_see_L26 D.2.2.2 o_X2_see o_X2_part o_X2_go k9 fu x0 x1 x2 x3 x4 x5 x7 x8 x9 x10 x11 h = some x → XJ p l e (xRm (fr + 1) (lo + 33) h0) s m args below meth c D 14 (.returned none) h0 x 26 [(0, rv x0), (1, .int x1), (2, .int x2), (3, rv x3), (4, .int x4), (5, .long x5), (7, .int x7), (8, .int x8), (9, .int x9), (10, .int x10), (11, .int x11)] [] h := by
  have hx := hC.1
  have hb := hC.2.1
  intro fu
  induction fu with
  | zero => intro x0 x1 x2 x3 x4 x5 x7 x8 x9 x10 x11 h hF; exact nm_none hF
  | succ fu ih =>
    intro x0 x1 x2 x3 x4 x5 x7 x8 x9 x10 x11 h hF H locs cells slots ls hX hl
    rw [B_X2_see_L26] at hF
    refine lv_iload hx hb dX2_see_26 (lv_at hl 10 rfl) ?_
    refine X_aload_n hx hb dX2_see_28 rfl (lv_at hl 0 rfl) ?_
    obtain ⟨h_1, hF⟩ := gd_ok hF
    obtain ⟨h_2, hF⟩ := gd_ok hF
    refine gX_X2_3 hC hX h_1 h_2 dX2_see_29 ?_
    refine lv_topr (fun r_3 er_3 => ?_)
    replace hF := lt_at hF er_3
    obtain ⟨h_4, hF⟩ := gd_ok hF
    refine gX_X2_36 hC hX h_4 dX2_see_32 ?_
    refine lv_topr (fun r_5 er_5 => ?_)
    replace hF := lt_at hF er_5
    obtain ⟨h_6, hF⟩ := gd_ok hF
    obtain ⟨r_8, hc_7, hF⟩ := bd_ok hF
    refine iX_X2_40 hC hX h_6 hc_7 hl.1 (Nat.le_of_ble_eq_true rfl) (by show _ ≤ fr + 1; omega) (by show _ ≤ lo + 33; omega) dX2_see_35 (fun H locs cells slots hX => ?_)
    refine lv_icmp_ge (tgt := 172) hx hb dX2_see_38 (by decide) (fun c_9 => ?_) (fun c_9 => ?_)
    · replace hF := it_t hF c_9
      exact w_X2_see_b172_g hC hr hnh hin hfr hlo o_X2_see ho_X2_see o_X2_part ho_X2_part o_X2_go ho_X2_go k9 hk9 x0 x1 x2 x3 x4 x5 x7 x8 x9 x10 h hF H locs cells slots ls hX (lv_sub hl [0, 1, 2, 3, 4, 5, 6, 7, 8, 9] rfl)
    · replace hF := it_f hF c_9
      refine lv_iconst (v := 0) hx hb dX2_see_41 (by decide) ?_
      refine lv_istore (lv' := [(12, .int (0 : Int32)), (0, rv x0), (1, .int x1), (2, .int x2), (3, rv x3), (4, .int x4), (5, .long x5), (7, .int x7), (8, .int x8), (9, .int x9), (10, .int x10), (11, .int x11)]) hx hb dX2_see_42 hl (by decide) rfl (fun ls hl => ?_)
      exact w_X2_see_L44_g hC hr hnh hin hfr hlo o_X2_see ho_X2_see o_X2_part ho_X2_part o_X2_go ho_X2_go (B_X2_see_L26 D.2.2.2 o_X2_see o_X2_part o_X2_go k9 fu) ih MN x0 x1 x2 x3 x4 x5 x7 x8 x9 x10 x11 (0 : Int32) h hF H locs cells slots ls hX (lv_sub hl [1, 2, 3, 4, 5, 6, 7, 8, 9, 10, 11, 0] rfl)
def B_X2_see_L9 (K : Nat → Nat) (o_X2_see : Nat → Int32 → Int32 → Nat → Int32 → Int64 → Int32 → TH → Option TH) (o_X2_part : Nat → Int32 → Int32 → Nat → Int32 → Int64 → Int32 → TH → Option TH) (o_X2_go : Nat → Int32 → Int32 → Int32 → Int64 → Int32 → TH → Option TH) : Nat → Nat → Int32 → Int32 → Nat → Int32 → Int64 → Int32 → Int32 → Int32 → TH → Option TH
  | 0, _, _, _, _, _, _, _, _, _, _ => none
  | fu + 1, x0, x1, x2, x3, x4, x5, x7, x8, x9, h =>
    gd (hasF (hT h x3) 102 = true) <|
    if ((1 : Int32) <<< ((hI h 102 x3) &&& 31)) ≤ x9 then
      B_X2_see_b290 K o_X2_see o_X2_part o_X2_go x0 x8 h
    else
      B_X2_see_L26 K o_X2_see o_X2_part o_X2_go (B_X2_see_L9 K o_X2_see o_X2_part o_X2_go fu) MN x0 x1 x2 x3 x4 x5 x7 x8 x9 (0 : Int32) (0 : Int32) h
set_option maxHeartbeats 4000000 in
theorem w_X2_see_L9_g {p : Program} {l : Launch} {e : Env} {s : State} {m : MethodId} {args : Array Value} {below : List Frame} {meth : Method} {c : Code} {D : XD} {h0 : TH} {fr lo : Nat} (hC : XCx D cX2_see 14 RX2 h0 p (xRm (fr + 1) (lo + 33) h0) s m args meth c) (hr : meth.sig.returnType = none) (hnh : c.exceptionTable.isEmpty = true) (hin : meth.name = "see") (hfr : 455 ≤ fr) (hlo : 10464 ≤ lo) (o_X2_see : Nat → Int32 → Int32 → Nat → Int32 → Int64 → Int32 → TH → Option TH) (ho_X2_see : ∀ (a : Nat) (b0 : Int32) (b1 : Int32) (b2 : Nat) (b3 : Int32) (b4 : Int64) (b5 : Int32) (h : TH) (x : TH), o_X2_see a b0 b1 b2 b3 b4 b5 h = some x → XMt l yX2_see (ws_ yX2_see cX2_see 14 (none)) fr lo D [rv a, .int b0, .int b1, rv b2, .int b3, .long b4, .int b5] h (.returned none) x) (o_X2_part : Nat → Int32 → Int32 → Nat → Int32 → Int64 → Int32 → TH → Option TH) (ho_X2_part : ∀ (a : Nat) (b0 : Int32) (b1 : Int32) (b2 : Nat) (b3 : Int32) (b4 : Int64) (b5 : Int32) (h : TH) (x : TH), o_X2_part a b0 b1 b2 b3 b4 b5 h = some x → XMt l yX2_part (ws_ yX2_part cX2_part 14 (none)) fr lo D [rv a, .int b0, .int b1, rv b2, .int b3, .long b4, .int b5] h (.returned none) x) (o_X2_go : Nat → Int32 → Int32 → Int32 → Int64 → Int32 → TH → Option TH) (ho_X2_go : ∀ (a : Nat) (b0 : Int32) (b1 : Int32) (b2 : Int32) (b3 : Int64) (b4 : Int32) (h : TH) (x : TH), o_X2_go a b0 b1 b2 b3 b4 h = some x → XMt l yX2_go (ws_ yX2_go cX2_go 14 (none)) fr lo D [rv a, .int b0, .int b1, .int b2, .long b3, .int b4] h (.returned none) x) {x : TH} :
    ∀ (fu : Nat) (x0 : Nat) (x1 : Int32) (x2 : Int32) (x3 : Nat) (x4 : Int32) (x5 : Int64) (x7 : Int32) (x8 : Int32) (x9 : Int32) (h : TH), B_X2_see_L9 D.2.2.2 o_X2_see o_X2_part o_X2_go fu x0 x1 x2 x3 x4 x5 x7 x8 x9 h = some x → XJ p l e (xRm (fr + 1) (lo + 33) h0) s m args below meth c D 14 (.returned none) h0 x 9 [(0, rv x0), (1, .int x1), (2, .int x2), (3, rv x3), (4, .int x4), (5, .long x5), (7, .int x7), (8, .int x8), (9, .int x9)] [] h := by
  have hx := hC.1
  have hb := hC.2.1
  intro fu
  induction fu with
  | zero => intro x0 x1 x2 x3 x4 x5 x7 x8 x9 h hF; exact nm_none hF
  | succ fu ih =>
    intro x0 x1 x2 x3 x4 x5 x7 x8 x9 h hF H locs cells slots ls hX hl
    rw [B_X2_see_L9] at hF
    refine lv_iload hx hb dX2_see_9 (lv_at hl 8 rfl) ?_
    refine lv_iconst (v := 1) hx hb dX2_see_11 (by decide) ?_
    refine X_aload_n hx hb dX2_see_12 rfl (lv_at hl 3 rfl) ?_
    obtain ⟨h_1, hF⟩ := gd_ok hF
    refine gX_X2_153 hC hX h_1 dX2_see_13 ?_
    refine lv_ishl hx hb dX2_see_16 ?_
    refine lv_icmp_ge (tgt := 290) hx hb dX2_see_17 (by decide) (fun c_2 => ?_) (fun c_2 => ?_)
    · replace hF := it_t hF c_2
      exact w_X2_see_b290_g hC hr hnh hin hfr hlo o_X2_see ho_X2_see o_X2_part ho_X2_part o_X2_go ho_X2_go x0 x8 h hF H locs cells slots ls hX (lv_sub hl [0, 7] rfl)
    · replace hF := it_f hF c_2
      refine lv_iconst (v := 0) hx hb dX2_see_20 (by decide) ?_
      refine lv_istore (lv' := [(10, .int (0 : Int32)), (0, rv x0), (1, .int x1), (2, .int x2), (3, rv x3), (4, .int x4), (5, .long x5), (7, .int x7), (8, .int x8), (9, .int x9)]) hx hb dX2_see_21 hl (by decide) rfl (fun ls hl => ?_)
      refine lv_iconst (v := 0) hx hb dX2_see_23 (by decide) ?_
      refine lv_istore (lv' := [(11, .int (0 : Int32)), (10, .int (0 : Int32)), (0, rv x0), (1, .int x1), (2, .int x2), (3, rv x3), (4, .int x4), (5, .long x5), (7, .int x7), (8, .int x8), (9, .int x9)]) hx hb dX2_see_24 hl (by decide) rfl (fun ls hl => ?_)
      exact w_X2_see_L26_g hC hr hnh hin hfr hlo o_X2_see ho_X2_see o_X2_part ho_X2_part o_X2_go ho_X2_go (B_X2_see_L9 D.2.2.2 o_X2_see o_X2_part o_X2_go fu) ih MN x0 x1 x2 x3 x4 x5 x7 x8 x9 (0 : Int32) (0 : Int32) h hF H locs cells slots ls hX (lv_sub hl [2, 3, 4, 5, 6, 7, 8, 9, 10, 1, 0] rfl)
def B_X2_see (K : Nat → Nat) (o_X2_see : Nat → Int32 → Int32 → Nat → Int32 → Int64 → Int32 → TH → Option TH) (o_X2_part : Nat → Int32 → Int32 → Nat → Int32 → Int64 → Int32 → TH → Option TH) (o_X2_go : Nat → Int32 → Int32 → Int32 → Int64 → Int32 → TH → Option TH) (a0 : Nat) (b0 : Int32) (b1 : Int32) (b2 : Nat) (b3 : Int32) (b4 : Int64) (b5 : Int32) (h : TH) : Option TH :=
  gd (hasF (hT h a0) 48 = true) <|
  lt ((hI h 48 a0)) fun x_2 =>
  B_X2_see_L9 K o_X2_see o_X2_part o_X2_go MN a0 b0 b1 b2 b3 b4 b5 x_2 (0 : Int32) h
set_option maxHeartbeats 4000000 in
theorem w_X2_see_g {p : Program} {l : Launch} {e : Env} {s : State} {m : MethodId} {args : Array Value} {below : List Frame} {meth : Method} {c : Code} {D : XD} {h0 : TH} {fr lo : Nat} (hC : XCx D cX2_see 14 RX2 h0 p (xRm (fr + 1) (lo + 33) h0) s m args meth c) (hr : meth.sig.returnType = none) (hnh : c.exceptionTable.isEmpty = true) (hin : meth.name = "see") (hfr : 455 ≤ fr) (hlo : 10464 ≤ lo) (o_X2_see : Nat → Int32 → Int32 → Nat → Int32 → Int64 → Int32 → TH → Option TH) (ho_X2_see : ∀ (a : Nat) (b0 : Int32) (b1 : Int32) (b2 : Nat) (b3 : Int32) (b4 : Int64) (b5 : Int32) (h : TH) (x : TH), o_X2_see a b0 b1 b2 b3 b4 b5 h = some x → XMt l yX2_see (ws_ yX2_see cX2_see 14 (none)) fr lo D [rv a, .int b0, .int b1, rv b2, .int b3, .long b4, .int b5] h (.returned none) x) (o_X2_part : Nat → Int32 → Int32 → Nat → Int32 → Int64 → Int32 → TH → Option TH) (ho_X2_part : ∀ (a : Nat) (b0 : Int32) (b1 : Int32) (b2 : Nat) (b3 : Int32) (b4 : Int64) (b5 : Int32) (h : TH) (x : TH), o_X2_part a b0 b1 b2 b3 b4 b5 h = some x → XMt l yX2_part (ws_ yX2_part cX2_part 14 (none)) fr lo D [rv a, .int b0, .int b1, rv b2, .int b3, .long b4, .int b5] h (.returned none) x) (o_X2_go : Nat → Int32 → Int32 → Int32 → Int64 → Int32 → TH → Option TH) (ho_X2_go : ∀ (a : Nat) (b0 : Int32) (b1 : Int32) (b2 : Int32) (b3 : Int64) (b4 : Int32) (h : TH) (x : TH), o_X2_go a b0 b1 b2 b3 b4 h = some x → XMt l yX2_go (ws_ yX2_go cX2_go 14 (none)) fr lo D [rv a, .int b0, .int b1, .int b2, .long b3, .int b4] h (.returned none) x) {x : TH} :
    ∀ (a0 : Nat) (b0 : Int32) (b1 : Int32) (b2 : Nat) (b3 : Int32) (b4 : Int64) (b5 : Int32) (h : TH), B_X2_see D.2.2.2 o_X2_see o_X2_part o_X2_go a0 b0 b1 b2 b3 b4 b5 h = some x → XJ p l e (xRm (fr + 1) (lo + 33) h0) s m args below meth c D 14 (.returned none) h0 x 0 [(0, rv a0), (1, .int b0), (2, .int b1), (3, rv b2), (4, .int b3), (5, .long b4), (7, .int b5)] [] h := by
  have hx := hC.1
  have hb := hC.2.1
  intro a0 b0 b1 b2 b3 b4 b5 h hF H locs cells slots ls hX hl
  rw [B_X2_see] at hF
  refine X_aload_n hx hb dX2_see_0 rfl (lv_at hl 0 rfl) ?_
  obtain ⟨h_1, hF⟩ := gd_ok hF
  refine gX_X2_29 hC hX h_1 dX2_see_1 ?_
  refine lv_topi (fun x_2 ex_2 => ?_)
  replace hF := lt_at hF ex_2
  refine lv_istore (lv' := [(8, .int x_2), (0, rv a0), (1, .int b0), (2, .int b1), (3, rv b2), (4, .int b3), (5, .long b4), (7, .int b5)]) hx hb dX2_see_4 hl (by decide) rfl (fun ls hl => ?_)
  refine lv_iconst (v := 0) hx hb dX2_see_6 (by decide) ?_
  refine lv_istore (lv' := [(9, .int (0 : Int32)), (8, .int x_2), (0, rv a0), (1, .int b0), (2, .int b1), (3, rv b2), (4, .int b3), (5, .long b4), (7, .int b5)]) hx hb dX2_see_7 hl (by decide) rfl (fun ls hl => ?_)
  exact w_X2_see_L9_g hC hr hnh hin hfr hlo o_X2_see ho_X2_see o_X2_part ho_X2_part o_X2_go ho_X2_go MN a0 b0 b1 b2 b3 b4 b5 x_2 (0 : Int32) h hF H locs cells slots ls hX (lv_sub hl [2, 3, 4, 5, 6, 7, 8, 1, 0] rfl)
theorem mb_X2_see (l : Launch) (D : XD) {fr lo : Nat} (hfr : 455 ≤ fr) (hlo : 10464 ≤ lo) (o_X2_see : Nat → Int32 → Int32 → Nat → Int32 → Int64 → Int32 → TH → Option TH) (ho_X2_see : ∀ (a : Nat) (b0 : Int32) (b1 : Int32) (b2 : Nat) (b3 : Int32) (b4 : Int64) (b5 : Int32) (h : TH) (x : TH), o_X2_see a b0 b1 b2 b3 b4 b5 h = some x → XMt l yX2_see (ws_ yX2_see cX2_see 14 (none)) fr lo D [rv a, .int b0, .int b1, rv b2, .int b3, .long b4, .int b5] h (.returned none) x) (o_X2_part : Nat → Int32 → Int32 → Nat → Int32 → Int64 → Int32 → TH → Option TH) (ho_X2_part : ∀ (a : Nat) (b0 : Int32) (b1 : Int32) (b2 : Nat) (b3 : Int32) (b4 : Int64) (b5 : Int32) (h : TH) (x : TH), o_X2_part a b0 b1 b2 b3 b4 b5 h = some x → XMt l yX2_part (ws_ yX2_part cX2_part 14 (none)) fr lo D [rv a, .int b0, .int b1, rv b2, .int b3, .long b4, .int b5] h (.returned none) x) (o_X2_go : Nat → Int32 → Int32 → Int32 → Int64 → Int32 → TH → Option TH) (ho_X2_go : ∀ (a : Nat) (b0 : Int32) (b1 : Int32) (b2 : Int32) (b3 : Int64) (b4 : Int32) (h : TH) (x : TH), o_X2_go a b0 b1 b2 b3 b4 h = some x → XMt l yX2_go (ws_ yX2_go cX2_go 14 (none)) fr lo D [rv a, .int b0, .int b1, .int b2, .long b3, .int b4] h (.returned none) x) (a0 : Nat) (b0 : Int32) (b1 : Int32) (b2 : Nat) (b3 : Int32) (b4 : Int64) (b5 : Int32) (h : TH) (x : TH) (hF : B_X2_see D.2.2.2 o_X2_see o_X2_part o_X2_go a0 b0 b1 b2 b3 b4 b5 h = some x) : XMt l yX2_see (ws_ yX2_see cX2_see 14 (none)) (fr + 1) (lo + 33) D [rv a0, .int b0, .int b1, rv b2, .int b3, .long b4, .int b5] h (.returned none) x := by
  refine x_met (by decide +kernel) ?_ ?_
  · simp [lg_sl, rv_cat, cat_i, cat_l]
  intro p e s m below meth c hC hr hnh hin ls hl hX
  replace hl : lv_has ls 14 [(0, rv a0), (1, .int b0), (2, .int b1), (3, rv b2), (4, .int b3), (5, .long b4), (7, .int b5)] := by simpa [lv_args, rv_cat, cat_i, cat_l] using hl
  exact w_X2_see_g hC hr hnh hin hfr hlo o_X2_see ho_X2_see o_X2_part ho_X2_part o_X2_go ho_X2_go a0 b0 b1 b2 b3 b4 b5 h hF s.heap [] 0 0 ls hX hl
def B_X2_part_b294 (K : Nat → Nat) (o_X2_see : Nat → Int32 → Int32 → Nat → Int32 → Int64 → Int32 → TH → Option TH) (o_X2_part : Nat → Int32 → Int32 → Nat → Int32 → Int64 → Int32 → TH → Option TH) (o_X2_go : Nat → Int32 → Int32 → Int32 → Int64 → Int32 → TH → Option TH) (k3 : Nat → Int32 → Int32 → Nat → Int32 → Int64 → Int32 → Int32 → TH → Option TH) (x0 : Nat) (x1 : Int32) (x2 : Int32) (x3 : Nat) (x4 : Int32) (x5 : Int64) (x7 : Int32) (x8 : Int32) (h : TH) : Option TH :=
  lt (x8 + (1 : Int32)) fun x8_1 =>
  k3 x0 x1 x2 x3 x4 x5 x7 x8_1 h
set_option maxHeartbeats 4000000 in
theorem w_X2_part_b294_g {p : Program} {l : Launch} {e : Env} {s : State} {m : MethodId} {args : Array Value} {below : List Frame} {meth : Method} {c : Code} {D : XD} {h0 : TH} {fr lo : Nat} (hC : XCx D cX2_part 14 RX2 h0 p (xRm (fr + 1) (lo + 33) h0) s m args meth c) (hr : meth.sig.returnType = none) (hnh : c.exceptionTable.isEmpty = true) (hin : meth.name = "part") (hfr : 455 ≤ fr) (hlo : 10464 ≤ lo) (o_X2_see : Nat → Int32 → Int32 → Nat → Int32 → Int64 → Int32 → TH → Option TH) (ho_X2_see : ∀ (a : Nat) (b0 : Int32) (b1 : Int32) (b2 : Nat) (b3 : Int32) (b4 : Int64) (b5 : Int32) (h : TH) (x : TH), o_X2_see a b0 b1 b2 b3 b4 b5 h = some x → XMt l yX2_see (ws_ yX2_see cX2_see 14 (none)) fr lo D [rv a, .int b0, .int b1, rv b2, .int b3, .long b4, .int b5] h (.returned none) x) (o_X2_part : Nat → Int32 → Int32 → Nat → Int32 → Int64 → Int32 → TH → Option TH) (ho_X2_part : ∀ (a : Nat) (b0 : Int32) (b1 : Int32) (b2 : Nat) (b3 : Int32) (b4 : Int64) (b5 : Int32) (h : TH) (x : TH), o_X2_part a b0 b1 b2 b3 b4 b5 h = some x → XMt l yX2_part (ws_ yX2_part cX2_part 14 (none)) fr lo D [rv a, .int b0, .int b1, rv b2, .int b3, .long b4, .int b5] h (.returned none) x) (o_X2_go : Nat → Int32 → Int32 → Int32 → Int64 → Int32 → TH → Option TH) (ho_X2_go : ∀ (a : Nat) (b0 : Int32) (b1 : Int32) (b2 : Int32) (b3 : Int64) (b4 : Int32) (h : TH) (x : TH), o_X2_go a b0 b1 b2 b3 b4 h = some x → XMt l yX2_go (ws_ yX2_go cX2_go 14 (none)) fr lo D [rv a, .int b0, .int b1, .int b2, .long b3, .int b4] h (.returned none) x) {x : TH} (k3 : Nat → Int32 → Int32 → Nat → Int32 → Int64 → Int32 → Int32 → TH → Option TH) (hk3 : ∀ (x0 : Nat) (x1 : Int32) (x2 : Int32) (x3 : Nat) (x4 : Int32) (x5 : Int64) (x7 : Int32) (x8 : Int32) (h : TH), k3 x0 x1 x2 x3 x4 x5 x7 x8 h = some x → XJ p l e (xRm (fr + 1) (lo + 33) h0) s m args below meth c D 14 (.returned none) h0 x 3 [(0, rv x0), (1, .int x1), (2, .int x2), (3, rv x3), (4, .int x4), (5, .long x5), (7, .int x7), (8, .int x8)] [] h) :
    ∀ (x0 : Nat) (x1 : Int32) (x2 : Int32) (x3 : Nat) (x4 : Int32) (x5 : Int64) (x7 : Int32) (x8 : Int32) (h : TH), B_X2_part_b294 D.2.2.2 o_X2_see o_X2_part o_X2_go k3 x0 x1 x2 x3 x4 x5 x7 x8 h = some x → XJ p l e (xRm (fr + 1) (lo + 33) h0) s m args below meth c D 14 (.returned none) h0 x 294 [(0, rv x0), (1, .int x1), (2, .int x2), (3, rv x3), (4, .int x4), (5, .long x5), (7, .int x7), (8, .int x8)] [] h := by
  have hx := hC.1
  have hb := hC.2.1
  intro x0 x1 x2 x3 x4 x5 x7 x8 h hF H locs cells slots ls hX hl
  rw [B_X2_part_b294] at hF
  obtain ⟨x8_1, ex8_1, hF⟩ := lt_ok hF
  refine lv_iinc (v := x8_1) (lv' := [(8, .int x8_1), (0, rv x0), (1, .int x1), (2, .int x2), (3, rv x3), (4, .int x4), (5, .long x5), (7, .int x7)]) hx hb dX2_part_294 hl (k := 7) rfl (by rw [ex8_1]; rfl) (by decide) rfl (fun ls hl => ?_)
  refine lv_goto (tgt := 3) hx hb dX2_part_297 (by decide) ?_
  exact hk3 x0 x1 x2 x3 x4 x5 x7 x8_1 h hF H locs cells slots ls hX (lv_sub hl [1, 2, 3, 4, 5, 6, 7, 0] rfl)
def B_X2_part_b243 (K : Nat → Nat) (o_X2_see : Nat → Int32 → Int32 → Nat → Int32 → Int64 → Int32 → TH → Option TH) (o_X2_part : Nat → Int32 → Int32 → Nat → Int32 → Int64 → Int32 → TH → Option TH) (o_X2_go : Nat → Int32 → Int32 → Int32 → Int64 → Int32 → TH → Option TH) (k3 : Nat → Int32 → Int32 → Nat → Int32 → Int64 → Int32 → Int32 → TH → Option TH) (x0 : Nat) (x1 : Int32) (x2 : Int32) (x3 : Nat) (x4 : Int32) (x5 : Int64) (x7 : Int32) (x8 : Int32) (x9 : Int32) (x10 : Int32) (h : TH) : Option TH :=
  if x9 = 0 then
    B_X2_part_b294 K o_X2_see o_X2_part o_X2_go k3 x0 x1 x2 x3 x4 x5 x7 x8 h
  else
    gd (hasF (hT h x0) 49 = true) <|
    gd (hR h 49 x0 ≠ 0) <|
    lt (hR h 49 x0) fun r_4 =>
    gd (hasF (hT h r_4) 1 = true) <|
    lt (hR h 1 r_4) fun r_6 =>
    gd (hT h r_6 = 35 ∨ hT h r_6 = 36 ∨ hT h r_6 = 37 ∨ hT h r_6 = 48) <|
    gd (inb x1 (hN h r_6)) <|
    lt (hY h r_6 (Int32.toNatClampNeg x1)) fun r_9 =>
    gd (hasF (hT h x0) 49 = true) <|
    gd (hR h 49 x0 ≠ 0) <|
    lt (hR h 49 x0) fun r_12 =>
    gd (hasF (hT h r_12) 1 = true) <|
    lt (hR h 1 r_12) fun r_14 =>
    gd (hT h r_14 = 35 ∨ hT h r_14 = 36 ∨ hT h r_14 = 37 ∨ hT h r_14 = 48) <|
    gd (inb (x1 + (1 : Int32)) (hN h r_14)) <|
    lt (hY h r_14 (Int32.toNatClampNeg (x1 + (1 : Int32)))) fun r_17 =>
    gd (hT h r_9 = 31 ∧ hT h r_17 = 31) <|
    gd (¬ (0 : Int32) < 0 ∧ ¬ (0 : Int32) < 0 ∧ ¬ (8 : Int32) < 0 ∧ (Int32.toNatClampNeg (0 : Int32)) + (Int32.toNatClampNeg (8 : Int32)) ≤ hN h r_9 ∧ (Int32.toNatClampNeg (0 : Int32)) + (Int32.toNatClampNeg (8 : Int32)) ≤ hN h r_17) <|
    lt (cpA h r_9 (Int32.toNatClampNeg (0 : Int32)) r_17 (Int32.toNatClampNeg (0 : Int32)) (Int32.toNatClampNeg (8 : Int32))) fun h_20 =>
    gd (hT h_20 x0 = 4 ∨ hT h_20 x0 = 5 ∨ hT h_20 x0 = 6) <|
    bd (o_X2_go x0 (x1 + (1 : Int32)) (x2 + (1 : Int32)) x4 x5 x10 h_20) fun h_23 =>
    B_X2_part_b294 K o_X2_see o_X2_part o_X2_go k3 x0 x1 x2 x3 x4 x5 x7 x8 h_23
set_option maxHeartbeats 4000000 in
theorem w_X2_part_b243_g {p : Program} {l : Launch} {e : Env} {s : State} {m : MethodId} {args : Array Value} {below : List Frame} {meth : Method} {c : Code} {D : XD} {h0 : TH} {fr lo : Nat} (hC : XCx D cX2_part 14 RX2 h0 p (xRm (fr + 1) (lo + 33) h0) s m args meth c) (hr : meth.sig.returnType = none) (hnh : c.exceptionTable.isEmpty = true) (hin : meth.name = "part") (hfr : 455 ≤ fr) (hlo : 10464 ≤ lo) (o_X2_see : Nat → Int32 → Int32 → Nat → Int32 → Int64 → Int32 → TH → Option TH) (ho_X2_see : ∀ (a : Nat) (b0 : Int32) (b1 : Int32) (b2 : Nat) (b3 : Int32) (b4 : Int64) (b5 : Int32) (h : TH) (x : TH), o_X2_see a b0 b1 b2 b3 b4 b5 h = some x → XMt l yX2_see (ws_ yX2_see cX2_see 14 (none)) fr lo D [rv a, .int b0, .int b1, rv b2, .int b3, .long b4, .int b5] h (.returned none) x) (o_X2_part : Nat → Int32 → Int32 → Nat → Int32 → Int64 → Int32 → TH → Option TH) (ho_X2_part : ∀ (a : Nat) (b0 : Int32) (b1 : Int32) (b2 : Nat) (b3 : Int32) (b4 : Int64) (b5 : Int32) (h : TH) (x : TH), o_X2_part a b0 b1 b2 b3 b4 b5 h = some x → XMt l yX2_part (ws_ yX2_part cX2_part 14 (none)) fr lo D [rv a, .int b0, .int b1, rv b2, .int b3, .long b4, .int b5] h (.returned none) x) (o_X2_go : Nat → Int32 → Int32 → Int32 → Int64 → Int32 → TH → Option TH) (ho_X2_go : ∀ (a : Nat) (b0 : Int32) (b1 : Int32) (b2 : Int32) (b3 : Int64) (b4 : Int32) (h : TH) (x : TH), o_X2_go a b0 b1 b2 b3 b4 h = some x → XMt l yX2_go (ws_ yX2_go cX2_go 14 (none)) fr lo D [rv a, .int b0, .int b1, .int b2, .long b3, .int b4] h (.returned none) x) {x : TH} (k3 : Nat → Int32 → Int32 → Nat → Int32 → Int64 → Int32 → Int32 → TH → Option TH) (hk3 : ∀ (x0 : Nat) (x1 : Int32) (x2 : Int32) (x3 : Nat) (x4 : Int32) (x5 : Int64) (x7 : Int32) (x8 : Int32) (h : TH), k3 x0 x1 x2 x3 x4 x5 x7 x8 h = some x → XJ p l e (xRm (fr + 1) (lo + 33) h0) s m args below meth c D 14 (.returned none) h0 x 3 [(0, rv x0), (1, .int x1), (2, .int x2), (3, rv x3), (4, .int x4), (5, .long x5), (7, .int x7), (8, .int x8)] [] h) :
    ∀ (x0 : Nat) (x1 : Int32) (x2 : Int32) (x3 : Nat) (x4 : Int32) (x5 : Int64) (x7 : Int32) (x8 : Int32) (x9 : Int32) (x10 : Int32) (h : TH), B_X2_part_b243 D.2.2.2 o_X2_see o_X2_part o_X2_go k3 x0 x1 x2 x3 x4 x5 x7 x8 x9 x10 h = some x → XJ p l e (xRm (fr + 1) (lo + 33) h0) s m args below meth c D 14 (.returned none) h0 x 243 [(0, rv x0), (1, .int x1), (2, .int x2), (3, rv x3), (4, .int x4), (5, .long x5), (7, .int x7), (8, .int x8), (9, .int x9), (10, .int x10)] [] h := by
  have hx := hC.1
  have hb := hC.2.1
  intro x0 x1 x2 x3 x4 x5 x7 x8 x9 x10 h hF H locs cells slots ls hX hl
  rw [B_X2_part_b243] at hF
  refine lv_iload hx hb dX2_part_243 (lv_at hl 8 rfl) ?_
  refine lv_if_ne (tgt := 251) hx hb dX2_part_245 (by decide) (fun c_1 => ?_) (fun c_1 => ?_)
  · replace hF := it_f hF c_1
    refine X_aload_n hx hb dX2_part_251 rfl (lv_at hl 0 rfl) ?_
    obtain ⟨h_2, hF⟩ := gd_ok hF
    obtain ⟨h_3, hF⟩ := gd_ok hF
    refine gX_X2_3 hC hX h_2 h_3 dX2_part_252 ?_
    refine lv_topr (fun r_4 er_4 => ?_)
    replace hF := lt_at hF er_4
    obtain ⟨h_5, hF⟩ := gd_ok hF
    refine gX_X2_46 hC hX h_5 dX2_part_255 ?_
    refine lv_topr (fun r_6 er_6 => ?_)
    replace hF := lt_at hF er_6
    refine lv_iload_n hx hb dX2_part_258 rfl (lv_at hl 1 rfl) ?_
    obtain ⟨h_7, hF⟩ := gd_ok hF
    obtain ⟨h_8, hF⟩ := gd_ok hF
    refine X_aald hC hX h_7 h_8 dX2_part_259 ?_
    refine lv_topr (fun r_9 er_9 => ?_)
    replace hF := lt_at hF er_9
    refine lv_iconst (v := 0) hx hb dX2_part_260 (by decide) ?_
    refine X_aload_n hx hb dX2_part_261 rfl (lv_at hl 0 rfl) ?_
    obtain ⟨h_10, hF⟩ := gd_ok hF
    obtain ⟨h_11, hF⟩ := gd_ok hF
    refine gX_X2_3 hC hX h_10 h_11 dX2_part_262 ?_
    refine lv_topr (fun r_12 er_12 => ?_)
    replace hF := lt_at hF er_12
    obtain ⟨h_13, hF⟩ := gd_ok hF
    refine gX_X2_46 hC hX h_13 dX2_part_265 ?_
    refine lv_topr (fun r_14 er_14 => ?_)
    replace hF := lt_at hF er_14
    refine lv_iload_n hx hb dX2_part_268 rfl (lv_at hl 1 rfl) ?_
    refine lv_iconst (v := 1) hx hb dX2_part_269 (by decide) ?_
    refine lv_iadd hx hb dX2_part_270 ?_
    obtain ⟨h_15, hF⟩ := gd_ok hF
    obtain ⟨h_16, hF⟩ := gd_ok hF
    refine X_aald hC hX h_15 h_16 dX2_part_271 ?_
    refine lv_topr (fun r_17 er_17 => ?_)
    replace hF := lt_at hF er_17
    refine lv_iconst (v := 0) hx hb dX2_part_272 (by decide) ?_
    refine lv_bipush (v := 8) hx hb dX2_part_273 (by decide) ?_
    obtain ⟨h_18, hF⟩ := gd_ok hF
    obtain ⟨h_19, hF⟩ := gd_ok hF
    refine X_copyA hC hX (Or.inl h_18) h_19 q604 q467 q466 q137 hl.1 (by show _ ≤ fr + 1; omega) (cplo (Nat.le_of_ble_eq_true rfl) (Nat.le_trans (Nat.le_of_ble_eq_true rfl : _ ≤ 60) (by show 60 ≤ lo + 33; omega))) dX2_part_275 (fun H locs hX => ?_)
    obtain ⟨h_20, eh_20, hF⟩ := lt_ok hF
    rw [← eh_20] at hX
    refine X_aload_n hx hb dX2_part_278 rfl (lv_at hl 0 rfl) ?_
    refine lv_iload_n hx hb dX2_part_279 rfl (lv_at hl 1 rfl) ?_
    refine lv_iconst (v := 1) hx hb dX2_part_280 (by decide) ?_
    refine lv_iadd hx hb dX2_part_281 ?_
    refine lv_iload_n hx hb dX2_part_282 rfl (lv_at hl 2 rfl) ?_
    refine lv_iconst (v := 1) hx hb dX2_part_283 (by decide) ?_
    refine lv_iadd hx hb dX2_part_284 ?_
    refine lv_iload hx hb dX2_part_285 (lv_at hl 4 rfl) ?_
    refine lv_lload hx hb dX2_part_287 (lv_at hl 5 rfl) ?_
    refine lv_iload hx hb dX2_part_289 (lv_at hl 9 rfl) ?_
    obtain ⟨h_21, hF⟩ := gd_ok hF
    obtain ⟨h_23, hc_22, hF⟩ := bd_ok hF
    refine iXo_X2_50 hC hX h_21 (ho_X2_go x0 (x1 + (1 : Int32)) (x2 + (1 : Int32)) x4 x5 x10 h_20 _ hc_22) hl.1 (Nat.le_of_ble_eq_true rfl) (by show _ ≤ fr + 1; omega) (by show _ ≤ lo + 33; omega) dX2_part_291 (fun H locs cells slots hX => ?_)
    exact w_X2_part_b294_g hC hr hnh hin hfr hlo o_X2_see ho_X2_see o_X2_part ho_X2_part o_X2_go ho_X2_go k3 hk3 x0 x1 x2 x3 x4 x5 x7 x8 h_23 hF H locs cells slots ls hX (lv_sub hl [0, 1, 2, 3, 4, 5, 6, 7] rfl)
  · replace hF := it_t hF c_1
    refine lv_goto (tgt := 294) hx hb dX2_part_248 (by decide) ?_
    exact w_X2_part_b294_g hC hr hnh hin hfr hlo o_X2_see ho_X2_see o_X2_part ho_X2_part o_X2_go ho_X2_go k3 hk3 x0 x1 x2 x3 x4 x5 x7 x8 h hF H locs cells slots ls hX (lv_sub hl [0, 1, 2, 3, 4, 5, 6, 7] rfl)
def B_X2_part_b237 (K : Nat → Nat) (o_X2_see : Nat → Int32 → Int32 → Nat → Int32 → Int64 → Int32 → TH → Option TH) (o_X2_part : Nat → Int32 → Int32 → Nat → Int32 → Int64 → Int32 → TH → Option TH) (o_X2_go : Nat → Int32 → Int32 → Int32 → Int64 → Int32 → TH → Option TH) (k58 : Nat → Int32 → Int32 → Nat → Int32 → Int64 → Int32 → Int32 → Int32 → Int32 → Int32 → TH → Option TH) (x0 : Nat) (x1 : Int32) (x2 : Int32) (x3 : Nat) (x4 : Int32) (x5 : Int64) (x7 : Int32) (x8 : Int32) (x9 : Int32) (x10 : Int32) (x11 : Int32) (h : TH) : Option TH :=
  lt (x11 + (1 : Int32)) fun x11_1 =>
  k58 x0 x1 x2 x3 x4 x5 x7 x8 x9 x10 x11_1 h
set_option maxHeartbeats 4000000 in
theorem w_X2_part_b237_g {p : Program} {l : Launch} {e : Env} {s : State} {m : MethodId} {args : Array Value} {below : List Frame} {meth : Method} {c : Code} {D : XD} {h0 : TH} {fr lo : Nat} (hC : XCx D cX2_part 14 RX2 h0 p (xRm (fr + 1) (lo + 33) h0) s m args meth c) (hr : meth.sig.returnType = none) (hnh : c.exceptionTable.isEmpty = true) (hin : meth.name = "part") (hfr : 455 ≤ fr) (hlo : 10464 ≤ lo) (o_X2_see : Nat → Int32 → Int32 → Nat → Int32 → Int64 → Int32 → TH → Option TH) (ho_X2_see : ∀ (a : Nat) (b0 : Int32) (b1 : Int32) (b2 : Nat) (b3 : Int32) (b4 : Int64) (b5 : Int32) (h : TH) (x : TH), o_X2_see a b0 b1 b2 b3 b4 b5 h = some x → XMt l yX2_see (ws_ yX2_see cX2_see 14 (none)) fr lo D [rv a, .int b0, .int b1, rv b2, .int b3, .long b4, .int b5] h (.returned none) x) (o_X2_part : Nat → Int32 → Int32 → Nat → Int32 → Int64 → Int32 → TH → Option TH) (ho_X2_part : ∀ (a : Nat) (b0 : Int32) (b1 : Int32) (b2 : Nat) (b3 : Int32) (b4 : Int64) (b5 : Int32) (h : TH) (x : TH), o_X2_part a b0 b1 b2 b3 b4 b5 h = some x → XMt l yX2_part (ws_ yX2_part cX2_part 14 (none)) fr lo D [rv a, .int b0, .int b1, rv b2, .int b3, .long b4, .int b5] h (.returned none) x) (o_X2_go : Nat → Int32 → Int32 → Int32 → Int64 → Int32 → TH → Option TH) (ho_X2_go : ∀ (a : Nat) (b0 : Int32) (b1 : Int32) (b2 : Int32) (b3 : Int64) (b4 : Int32) (h : TH) (x : TH), o_X2_go a b0 b1 b2 b3 b4 h = some x → XMt l yX2_go (ws_ yX2_go cX2_go 14 (none)) fr lo D [rv a, .int b0, .int b1, .int b2, .long b3, .int b4] h (.returned none) x) {x : TH} (k58 : Nat → Int32 → Int32 → Nat → Int32 → Int64 → Int32 → Int32 → Int32 → Int32 → Int32 → TH → Option TH) (hk58 : ∀ (x0 : Nat) (x1 : Int32) (x2 : Int32) (x3 : Nat) (x4 : Int32) (x5 : Int64) (x7 : Int32) (x8 : Int32) (x9 : Int32) (x10 : Int32) (x11 : Int32) (h : TH), k58 x0 x1 x2 x3 x4 x5 x7 x8 x9 x10 x11 h = some x → XJ p l e (xRm (fr + 1) (lo + 33) h0) s m args below meth c D 14 (.returned none) h0 x 58 [(0, rv x0), (1, .int x1), (2, .int x2), (3, rv x3), (4, .int x4), (5, .long x5), (7, .int x7), (8, .int x8), (9, .int x9), (10, .int x10), (11, .int x11)] [] h) :
    ∀ (x0 : Nat) (x1 : Int32) (x2 : Int32) (x3 : Nat) (x4 : Int32) (x5 : Int64) (x7 : Int32) (x8 : Int32) (x9 : Int32) (x10 : Int32) (x11 : Int32) (h : TH), B_X2_part_b237 D.2.2.2 o_X2_see o_X2_part o_X2_go k58 x0 x1 x2 x3 x4 x5 x7 x8 x9 x10 x11 h = some x → XJ p l e (xRm (fr + 1) (lo + 33) h0) s m args below meth c D 14 (.returned none) h0 x 237 [(0, rv x0), (1, .int x1), (2, .int x2), (3, rv x3), (4, .int x4), (5, .long x5), (7, .int x7), (8, .int x8), (9, .int x9), (10, .int x10), (11, .int x11)] [] h := by
  have hx := hC.1
  have hb := hC.2.1
  intro x0 x1 x2 x3 x4 x5 x7 x8 x9 x10 x11 h hF H locs cells slots ls hX hl
  rw [B_X2_part_b237] at hF
  obtain ⟨x11_1, ex11_1, hF⟩ := lt_ok hF
  refine lv_iinc (v := x11_1) (lv' := [(11, .int x11_1), (0, rv x0), (1, .int x1), (2, .int x2), (3, rv x3), (4, .int x4), (5, .long x5), (7, .int x7), (8, .int x8), (9, .int x9), (10, .int x10)]) hx hb dX2_part_237 hl (k := 10) rfl (by rw [ex11_1]; rfl) (by decide) rfl (fun ls hl => ?_)
  refine lv_goto (tgt := 58) hx hb dX2_part_240 (by decide) ?_
  exact hk58 x0 x1 x2 x3 x4 x5 x7 x8 x9 x10 x11_1 h hF H locs cells slots ls hX (lv_sub hl [1, 2, 3, 4, 5, 6, 7, 8, 9, 10, 0] rfl)
def B_X2_part_b231 (K : Nat → Nat) (o_X2_see : Nat → Int32 → Int32 → Nat → Int32 → Int64 → Int32 → TH → Option TH) (o_X2_part : Nat → Int32 → Int32 → Nat → Int32 → Int64 → Int32 → TH → Option TH) (o_X2_go : Nat → Int32 → Int32 → Int32 → Int64 → Int32 → TH → Option TH) (k126 : Nat → Int32 → Int32 → Nat → Int32 → Int64 → Int32 → Int32 → Int32 → Int32 → Int32 → Int32 → TH → Option TH) (x0 : Nat) (x1 : Int32) (x2 : Int32) (x3 : Nat) (x4 : Int32) (x5 : Int64) (x7 : Int32) (x8 : Int32) (x9 : Int32) (x10 : Int32) (x11 : Int32) (x12 : Int32) (h : TH) : Option TH :=
  lt (x12 + (1 : Int32)) fun x12_1 =>
  k126 x0 x1 x2 x3 x4 x5 x7 x8 x9 x10 x11 x12_1 h
set_option maxHeartbeats 4000000 in
theorem w_X2_part_b231_g {p : Program} {l : Launch} {e : Env} {s : State} {m : MethodId} {args : Array Value} {below : List Frame} {meth : Method} {c : Code} {D : XD} {h0 : TH} {fr lo : Nat} (hC : XCx D cX2_part 14 RX2 h0 p (xRm (fr + 1) (lo + 33) h0) s m args meth c) (hr : meth.sig.returnType = none) (hnh : c.exceptionTable.isEmpty = true) (hin : meth.name = "part") (hfr : 455 ≤ fr) (hlo : 10464 ≤ lo) (o_X2_see : Nat → Int32 → Int32 → Nat → Int32 → Int64 → Int32 → TH → Option TH) (ho_X2_see : ∀ (a : Nat) (b0 : Int32) (b1 : Int32) (b2 : Nat) (b3 : Int32) (b4 : Int64) (b5 : Int32) (h : TH) (x : TH), o_X2_see a b0 b1 b2 b3 b4 b5 h = some x → XMt l yX2_see (ws_ yX2_see cX2_see 14 (none)) fr lo D [rv a, .int b0, .int b1, rv b2, .int b3, .long b4, .int b5] h (.returned none) x) (o_X2_part : Nat → Int32 → Int32 → Nat → Int32 → Int64 → Int32 → TH → Option TH) (ho_X2_part : ∀ (a : Nat) (b0 : Int32) (b1 : Int32) (b2 : Nat) (b3 : Int32) (b4 : Int64) (b5 : Int32) (h : TH) (x : TH), o_X2_part a b0 b1 b2 b3 b4 b5 h = some x → XMt l yX2_part (ws_ yX2_part cX2_part 14 (none)) fr lo D [rv a, .int b0, .int b1, rv b2, .int b3, .long b4, .int b5] h (.returned none) x) (o_X2_go : Nat → Int32 → Int32 → Int32 → Int64 → Int32 → TH → Option TH) (ho_X2_go : ∀ (a : Nat) (b0 : Int32) (b1 : Int32) (b2 : Int32) (b3 : Int64) (b4 : Int32) (h : TH) (x : TH), o_X2_go a b0 b1 b2 b3 b4 h = some x → XMt l yX2_go (ws_ yX2_go cX2_go 14 (none)) fr lo D [rv a, .int b0, .int b1, .int b2, .long b3, .int b4] h (.returned none) x) {x : TH} (k126 : Nat → Int32 → Int32 → Nat → Int32 → Int64 → Int32 → Int32 → Int32 → Int32 → Int32 → Int32 → TH → Option TH) (hk126 : ∀ (x0 : Nat) (x1 : Int32) (x2 : Int32) (x3 : Nat) (x4 : Int32) (x5 : Int64) (x7 : Int32) (x8 : Int32) (x9 : Int32) (x10 : Int32) (x11 : Int32) (x12 : Int32) (h : TH), k126 x0 x1 x2 x3 x4 x5 x7 x8 x9 x10 x11 x12 h = some x → XJ p l e (xRm (fr + 1) (lo + 33) h0) s m args below meth c D 14 (.returned none) h0 x 126 [(0, rv x0), (1, .int x1), (2, .int x2), (3, rv x3), (4, .int x4), (5, .long x5), (7, .int x7), (8, .int x8), (9, .int x9), (10, .int x10), (11, .int x11), (12, .int x12)] [] h) :
    ∀ (x0 : Nat) (x1 : Int32) (x2 : Int32) (x3 : Nat) (x4 : Int32) (x5 : Int64) (x7 : Int32) (x8 : Int32) (x9 : Int32) (x10 : Int32) (x11 : Int32) (x12 : Int32) (h : TH), B_X2_part_b231 D.2.2.2 o_X2_see o_X2_part o_X2_go k126 x0 x1 x2 x3 x4 x5 x7 x8 x9 x10 x11 x12 h = some x → XJ p l e (xRm (fr + 1) (lo + 33) h0) s m args below meth c D 14 (.returned none) h0 x 231 [(0, rv x0), (1, .int x1), (2, .int x2), (3, rv x3), (4, .int x4), (5, .long x5), (7, .int x7), (8, .int x8), (9, .int x9), (10, .int x10), (11, .int x11), (12, .int x12)] [] h := by
  have hx := hC.1
  have hb := hC.2.1
  intro x0 x1 x2 x3 x4 x5 x7 x8 x9 x10 x11 x12 h hF H locs cells slots ls hX hl
  rw [B_X2_part_b231] at hF
  obtain ⟨x12_1, ex12_1, hF⟩ := lt_ok hF
  refine lv_iinc (v := x12_1) (lv' := [(12, .int x12_1), (0, rv x0), (1, .int x1), (2, .int x2), (3, rv x3), (4, .int x4), (5, .long x5), (7, .int x7), (8, .int x8), (9, .int x9), (10, .int x10), (11, .int x11)]) hx hb dX2_part_231 hl (k := 11) rfl (by rw [ex12_1]; rfl) (by decide) rfl (fun ls hl => ?_)
  refine lv_goto (tgt := 126) hx hb dX2_part_234 (by decide) ?_
  exact hk126 x0 x1 x2 x3 x4 x5 x7 x8 x9 x10 x11 x12_1 h hF H locs cells slots ls hX (lv_sub hl [1, 2, 3, 4, 5, 6, 7, 8, 9, 10, 11, 0] rfl)
def B_X2_part_b225 (K : Nat → Nat) (o_X2_see : Nat → Int32 → Int32 → Nat → Int32 → Int64 → Int32 → TH → Option TH) (o_X2_part : Nat → Int32 → Int32 → Nat → Int32 → Int64 → Int32 → TH → Option TH) (o_X2_go : Nat → Int32 → Int32 → Int32 → Int64 → Int32 → TH → Option TH) (k144 : Nat → Int32 → Int32 → Nat → Int32 → Int64 → Int32 → Int32 → Int32 → Int32 → Int32 → Int32 → Int32 → TH → Option TH) (x0 : Nat) (x1 : Int32) (x2 : Int32) (x3 : Nat) (x4 : Int32) (x5 : Int64) (x7 : Int32) (x8 : Int32) (x9 : Int32) (x10 : Int32) (x11 : Int32) (x12 : Int32) (x13 : Int32) (h : TH) : Option TH :=
  lt (x13 + (1 : Int32)) fun x13_1 =>
  k144 x0 x1 x2 x3 x4 x5 x7 x8 x9 x10 x11 x12 x13_1 h
set_option maxHeartbeats 4000000 in
theorem w_X2_part_b225_g {p : Program} {l : Launch} {e : Env} {s : State} {m : MethodId} {args : Array Value} {below : List Frame} {meth : Method} {c : Code} {D : XD} {h0 : TH} {fr lo : Nat} (hC : XCx D cX2_part 14 RX2 h0 p (xRm (fr + 1) (lo + 33) h0) s m args meth c) (hr : meth.sig.returnType = none) (hnh : c.exceptionTable.isEmpty = true) (hin : meth.name = "part") (hfr : 455 ≤ fr) (hlo : 10464 ≤ lo) (o_X2_see : Nat → Int32 → Int32 → Nat → Int32 → Int64 → Int32 → TH → Option TH) (ho_X2_see : ∀ (a : Nat) (b0 : Int32) (b1 : Int32) (b2 : Nat) (b3 : Int32) (b4 : Int64) (b5 : Int32) (h : TH) (x : TH), o_X2_see a b0 b1 b2 b3 b4 b5 h = some x → XMt l yX2_see (ws_ yX2_see cX2_see 14 (none)) fr lo D [rv a, .int b0, .int b1, rv b2, .int b3, .long b4, .int b5] h (.returned none) x) (o_X2_part : Nat → Int32 → Int32 → Nat → Int32 → Int64 → Int32 → TH → Option TH) (ho_X2_part : ∀ (a : Nat) (b0 : Int32) (b1 : Int32) (b2 : Nat) (b3 : Int32) (b4 : Int64) (b5 : Int32) (h : TH) (x : TH), o_X2_part a b0 b1 b2 b3 b4 b5 h = some x → XMt l yX2_part (ws_ yX2_part cX2_part 14 (none)) fr lo D [rv a, .int b0, .int b1, rv b2, .int b3, .long b4, .int b5] h (.returned none) x) (o_X2_go : Nat → Int32 → Int32 → Int32 → Int64 → Int32 → TH → Option TH) (ho_X2_go : ∀ (a : Nat) (b0 : Int32) (b1 : Int32) (b2 : Int32) (b3 : Int64) (b4 : Int32) (h : TH) (x : TH), o_X2_go a b0 b1 b2 b3 b4 h = some x → XMt l yX2_go (ws_ yX2_go cX2_go 14 (none)) fr lo D [rv a, .int b0, .int b1, .int b2, .long b3, .int b4] h (.returned none) x) {x : TH} (k144 : Nat → Int32 → Int32 → Nat → Int32 → Int64 → Int32 → Int32 → Int32 → Int32 → Int32 → Int32 → Int32 → TH → Option TH) (hk144 : ∀ (x0 : Nat) (x1 : Int32) (x2 : Int32) (x3 : Nat) (x4 : Int32) (x5 : Int64) (x7 : Int32) (x8 : Int32) (x9 : Int32) (x10 : Int32) (x11 : Int32) (x12 : Int32) (x13 : Int32) (h : TH), k144 x0 x1 x2 x3 x4 x5 x7 x8 x9 x10 x11 x12 x13 h = some x → XJ p l e (xRm (fr + 1) (lo + 33) h0) s m args below meth c D 14 (.returned none) h0 x 144 [(0, rv x0), (1, .int x1), (2, .int x2), (3, rv x3), (4, .int x4), (5, .long x5), (7, .int x7), (8, .int x8), (9, .int x9), (10, .int x10), (11, .int x11), (12, .int x12), (13, .int x13)] [] h) :
    ∀ (x0 : Nat) (x1 : Int32) (x2 : Int32) (x3 : Nat) (x4 : Int32) (x5 : Int64) (x7 : Int32) (x8 : Int32) (x9 : Int32) (x10 : Int32) (x11 : Int32) (x12 : Int32) (x13 : Int32) (h : TH), B_X2_part_b225 D.2.2.2 o_X2_see o_X2_part o_X2_go k144 x0 x1 x2 x3 x4 x5 x7 x8 x9 x10 x11 x12 x13 h = some x → XJ p l e (xRm (fr + 1) (lo + 33) h0) s m args below meth c D 14 (.returned none) h0 x 225 [(0, rv x0), (1, .int x1), (2, .int x2), (3, rv x3), (4, .int x4), (5, .long x5), (7, .int x7), (8, .int x8), (9, .int x9), (10, .int x10), (11, .int x11), (12, .int x12), (13, .int x13)] [] h := by
  have hx := hC.1
  have hb := hC.2.1
  intro x0 x1 x2 x3 x4 x5 x7 x8 x9 x10 x11 x12 x13 h hF H locs cells slots ls hX hl
  rw [B_X2_part_b225] at hF
  obtain ⟨x13_1, ex13_1, hF⟩ := lt_ok hF
  refine lv_iinc (v := x13_1) (lv' := [(13, .int x13_1), (0, rv x0), (1, .int x1), (2, .int x2), (3, rv x3), (4, .int x4), (5, .long x5), (7, .int x7), (8, .int x8), (9, .int x9), (10, .int x10), (11, .int x11), (12, .int x12)]) hx hb dX2_part_225 hl (k := 12) rfl (by rw [ex13_1]; rfl) (by decide) rfl (fun ls hl => ?_)
  refine lv_goto (tgt := 144) hx hb dX2_part_228 (by decide) ?_
  exact hk144 x0 x1 x2 x3 x4 x5 x7 x8 x9 x10 x11 x12 x13_1 h hF H locs cells slots ls hX (lv_sub hl [1, 2, 3, 4, 5, 6, 7, 8, 9, 10, 11, 12, 0] rfl)
def B_X2_part_L144 (K : Nat → Nat) (o_X2_see : Nat → Int32 → Int32 → Nat → Int32 → Int64 → Int32 → TH → Option TH) (o_X2_part : Nat → Int32 → Int32 → Nat → Int32 → Int64 → Int32 → TH → Option TH) (o_X2_go : Nat → Int32 → Int32 → Int32 → Int64 → Int32 → TH → Option TH) (k126 : Nat → Int32 → Int32 → Nat → Int32 → Int64 → Int32 → Int32 → Int32 → Int32 → Int32 → Int32 → TH → Option TH) : Nat → Nat → Int32 → Int32 → Nat → Int32 → Int64 → Int32 → Int32 → Int32 → Int32 → Int32 → Int32 → Int32 → TH → Option TH
  | 0, _, _, _, _, _, _, _, _, _, _, _, _, _, _ => none
  | fu + 1, x0, x1, x2, x3, x4, x5, x7, x8, x9, x10, x11, x12, x13, h =>
    if (256 : Int32) ≤ x13 then
      B_X2_part_b231 K o_X2_see o_X2_part o_X2_go k126 x0 x1 x2 x3 x4 x5 x7 x8 x9 x10 x11 x12 h
    else
      gd (hasF (hT h x0) 49 = true) <|
      gd (hR h 49 x0 ≠ 0) <|
      lt (hR h 49 x0) fun r_4 =>
      gd (hasF (hT h r_4) 0 = true) <|
      lt (hR h 0 r_4) fun r_6 =>
      gd (hT h r_6 = 35 ∨ hT h r_6 = 36 ∨ hT h r_6 = 37 ∨ hT h r_6 = 48) <|
      gd (inb x1 (hN h r_6)) <|
      lt (hY h r_6 (Int32.toNatClampNeg x1)) fun r_9 =>
      gd (hT h r_9 = 34) <|
      gd (inb (((256 : Int32) * x12) + x13) (hN h r_9)) <|
      if (lg_cmp (hL h r_9 (Int32.toNatClampNeg (((256 : Int32) * x12) + x13))) (0 : Int64)) ≤ 0 then
        B_X2_part_b225 K o_X2_see o_X2_part o_X2_go (B_X2_part_L144 K o_X2_see o_X2_part o_X2_go k126 fu) x0 x1 x2 x3 x4 x5 x7 x8 x9 x10 x11 x12 x13 h
      else
        gd (hasF (hT h x0) 49 = true) <|
        gd (hR h 49 x0 ≠ 0) <|
        lt (hR h 49 x0) fun r_15 =>
        gd (hasF (hT h r_15) 0 = true) <|
        lt (hR h 0 r_15) fun r_17 =>
        gd (hT h r_17 = 35 ∨ hT h r_17 = 36 ∨ hT h r_17 = 37 ∨ hT h r_17 = 48) <|
        gd (inb (x1 + (1 : Int32)) (hN h r_17)) <|
        lt (hY h r_17 (Int32.toNatClampNeg (x1 + (1 : Int32)))) fun r_20 =>
        gd (hT h x3 = 14 ∨ hT h x3 = 15 ∨ hT h x3 = 16 ∨ hT h x3 = 17) <|
        bd (F_X7_row K h x3 x13 x11) fun r_23 =>
        gd (hT h r_20 = 34) <|
        gd (inb (((256 : Int32) * x12) + r_23) (hN h r_20)) <|
        gd (hasF (hT h x0) 49 = true) <|
        gd (hR h 49 x0 ≠ 0) <|
        lt (hR h 49 x0) fun r_28 =>
        gd (hasF (hT h r_28) 0 = true) <|
        lt (hR h 0 r_28) fun r_30 =>
        gd (hT h r_30 = 35 ∨ hT h r_30 = 36 ∨ hT h r_30 = 37 ∨ hT h r_30 = 48) <|
        gd (inb x1 (hN h r_30)) <|
        lt (hY h r_30 (Int32.toNatClampNeg x1)) fun r_33 =>
        gd (hT h r_33 = 34) <|
        gd (inb (((256 : Int32) * x12) + x13) (hN h r_33)) <|
        gd (hT h r_20 = 34) <|
        gd (inb (((256 : Int32) * x12) + r_23) (hN h r_20)) <|
        lt (uL h r_20 (Int32.toNatClampNeg (((256 : Int32) * x12) + r_23)) ((hL h r_20 (Int32.toNatClampNeg (((256 : Int32) * x12) + r_23))) + (hL h r_33 (Int32.toNatClampNeg (((256 : Int32) * x12) + x13))))) fun h_38 =>
        B_X2_part_b225 K o_X2_see o_X2_part o_X2_go (B_X2_part_L144 K o_X2_see o_X2_part o_X2_go k126 fu) x0 x1 x2 x3 x4 x5 x7 x8 x9 x10 x11 x12 x13 h_38
set_option maxHeartbeats 4000000 in
theorem w_X2_part_L144_g {p : Program} {l : Launch} {e : Env} {s : State} {m : MethodId} {args : Array Value} {below : List Frame} {meth : Method} {c : Code} {D : XD} {h0 : TH} {fr lo : Nat} (hC : XCx D cX2_part 14 RX2 h0 p (xRm (fr + 1) (lo + 33) h0) s m args meth c) (hr : meth.sig.returnType = none) (hnh : c.exceptionTable.isEmpty = true) (hin : meth.name = "part") (hfr : 455 ≤ fr) (hlo : 10464 ≤ lo) (o_X2_see : Nat → Int32 → Int32 → Nat → Int32 → Int64 → Int32 → TH → Option TH) (ho_X2_see : ∀ (a : Nat) (b0 : Int32) (b1 : Int32) (b2 : Nat) (b3 : Int32) (b4 : Int64) (b5 : Int32) (h : TH) (x : TH), o_X2_see a b0 b1 b2 b3 b4 b5 h = some x → XMt l yX2_see (ws_ yX2_see cX2_see 14 (none)) fr lo D [rv a, .int b0, .int b1, rv b2, .int b3, .long b4, .int b5] h (.returned none) x) (o_X2_part : Nat → Int32 → Int32 → Nat → Int32 → Int64 → Int32 → TH → Option TH) (ho_X2_part : ∀ (a : Nat) (b0 : Int32) (b1 : Int32) (b2 : Nat) (b3 : Int32) (b4 : Int64) (b5 : Int32) (h : TH) (x : TH), o_X2_part a b0 b1 b2 b3 b4 b5 h = some x → XMt l yX2_part (ws_ yX2_part cX2_part 14 (none)) fr lo D [rv a, .int b0, .int b1, rv b2, .int b3, .long b4, .int b5] h (.returned none) x) (o_X2_go : Nat → Int32 → Int32 → Int32 → Int64 → Int32 → TH → Option TH) (ho_X2_go : ∀ (a : Nat) (b0 : Int32) (b1 : Int32) (b2 : Int32) (b3 : Int64) (b4 : Int32) (h : TH) (x : TH), o_X2_go a b0 b1 b2 b3 b4 h = some x → XMt l yX2_go (ws_ yX2_go cX2_go 14 (none)) fr lo D [rv a, .int b0, .int b1, .int b2, .long b3, .int b4] h (.returned none) x) {x : TH} (k126 : Nat → Int32 → Int32 → Nat → Int32 → Int64 → Int32 → Int32 → Int32 → Int32 → Int32 → Int32 → TH → Option TH) (hk126 : ∀ (x0 : Nat) (x1 : Int32) (x2 : Int32) (x3 : Nat) (x4 : Int32) (x5 : Int64) (x7 : Int32) (x8 : Int32) (x9 : Int32) (x10 : Int32) (x11 : Int32) (x12 : Int32) (h : TH), k126 x0 x1 x2 x3 x4 x5 x7 x8 x9 x10 x11 x12 h = some x → XJ p l e (xRm (fr + 1) (lo + 33) h0) s m args below meth c D 14 (.returned none) h0 x 126 [(0, rv x0), (1, .int x1), (2, .int x2), (3, rv x3), (4, .int x4), (5, .long x5), (7, .int x7), (8, .int x8), (9, .int x9), (10, .int x10), (11, .int x11), (12, .int x12)] [] h) :
    ∀ (fu : Nat) (x0 : Nat) (x1 : Int32) (x2 : Int32) (x3 : Nat) (x4 : Int32) (x5 : Int64) (x7 : Int32) (x8 : Int32) (x9 : Int32) (x10 : Int32) (x11 : Int32) (x12 : Int32) (x13 : Int32) (h : TH), B_X2_part_L144 D.2.2.2 o_X2_see o_X2_part o_X2_go k126 fu x0 x1 x2 x3 x4 x5 x7 x8 x9 x10 x11 x12 x13 h = some x → XJ p l e (xRm (fr + 1) (lo + 33) h0) s m args below meth c D 14 (.returned none) h0 x 144 [(0, rv x0), (1, .int x1), (2, .int x2), (3, rv x3), (4, .int x4), (5, .long x5), (7, .int x7), (8, .int x8), (9, .int x9), (10, .int x10), (11, .int x11), (12, .int x12), (13, .int x13)] [] h := by
  have hx := hC.1
  have hb := hC.2.1
  intro fu
  induction fu with
  | zero => intro x0 x1 x2 x3 x4 x5 x7 x8 x9 x10 x11 x12 x13 h hF; exact nm_none hF
  | succ fu ih =>
    intro x0 x1 x2 x3 x4 x5 x7 x8 x9 x10 x11 x12 x13 h hF H locs cells slots ls hX hl
    rw [B_X2_part_L144] at hF
    refine lv_iload hx hb dX2_part_144 (lv_at hl 12 rfl) ?_
    refine lv_sipush (v := 256) hx hb dX2_part_146 (by decide) ?_
    refine lv_icmp_ge (tgt := 231) hx hb dX2_part_149 (by decide) (fun c_1 => ?_) (fun c_1 => ?_)
    · replace hF := it_t hF c_1
      exact w_X2_part_b231_g hC hr hnh hin hfr hlo o_X2_see ho_X2_see o_X2_part ho_X2_part o_X2_go ho_X2_go k126 hk126 x0 x1 x2 x3 x4 x5 x7 x8 x9 x10 x11 x12 h hF H locs cells slots ls hX (lv_sub hl [0, 1, 2, 3, 4, 5, 6, 7, 8, 9, 10, 11] rfl)
    · replace hF := it_f hF c_1
      refine X_aload_n hx hb dX2_part_152 rfl (lv_at hl 0 rfl) ?_
      obtain ⟨h_2, hF⟩ := gd_ok hF
      obtain ⟨h_3, hF⟩ := gd_ok hF
      refine gX_X2_3 hC hX h_2 h_3 dX2_part_153 ?_
      refine lv_topr (fun r_4 er_4 => ?_)
      replace hF := lt_at hF er_4
      obtain ⟨h_5, hF⟩ := gd_ok hF
      refine gX_X2_32 hC hX h_5 dX2_part_156 ?_
      refine lv_topr (fun r_6 er_6 => ?_)
      replace hF := lt_at hF er_6
      refine lv_iload_n hx hb dX2_part_159 rfl (lv_at hl 1 rfl) ?_
      obtain ⟨h_7, hF⟩ := gd_ok hF
      obtain ⟨h_8, hF⟩ := gd_ok hF
      refine X_aald hC hX h_7 h_8 dX2_part_160 ?_
      refine lv_topr (fun r_9 er_9 => ?_)
      replace hF := lt_at hF er_9
      refine lv_sipush (v := 256) hx hb dX2_part_161 (by decide) ?_
      refine lv_iload hx hb dX2_part_164 (lv_at hl 11 rfl) ?_
      refine lv_imul hx hb dX2_part_166 ?_
      refine lv_iload hx hb dX2_part_167 (lv_at hl 12 rfl) ?_
      refine lv_iadd hx hb dX2_part_169 ?_
      obtain ⟨h_10, hF⟩ := gd_ok hF
      obtain ⟨h_11, hF⟩ := gd_ok hF
      refine X_lald hC hX h_10 h_11 dX2_part_170 ?_
      refine lv_lconst (v := 0) hx hb dX2_part_171 (by decide) ?_
      refine W.lcmp hx hb dX2_part_172 ?_
      refine lv_if_le (tgt := 225) hx hb dX2_part_173 (by decide) (fun c_12 => ?_) (fun c_12 => ?_)
      · replace hF := it_t hF c_12
        exact w_X2_part_b225_g hC hr hnh hin hfr hlo o_X2_see ho_X2_see o_X2_part ho_X2_part o_X2_go ho_X2_go (B_X2_part_L144 D.2.2.2 o_X2_see o_X2_part o_X2_go k126 fu) ih x0 x1 x2 x3 x4 x5 x7 x8 x9 x10 x11 x12 x13 h hF H locs cells slots ls hX (lv_sub hl [0, 1, 2, 3, 4, 5, 6, 7, 8, 9, 10, 11, 12] rfl)
      · replace hF := it_f hF c_12
        refine X_aload_n hx hb dX2_part_176 rfl (lv_at hl 0 rfl) ?_
        obtain ⟨h_13, hF⟩ := gd_ok hF
        obtain ⟨h_14, hF⟩ := gd_ok hF
        refine gX_X2_3 hC hX h_13 h_14 dX2_part_177 ?_
        refine lv_topr (fun r_15 er_15 => ?_)
        replace hF := lt_at hF er_15
        obtain ⟨h_16, hF⟩ := gd_ok hF
        refine gX_X2_32 hC hX h_16 dX2_part_180 ?_
        refine lv_topr (fun r_17 er_17 => ?_)
        replace hF := lt_at hF er_17
        refine lv_iload_n hx hb dX2_part_183 rfl (lv_at hl 1 rfl) ?_
        refine lv_iconst (v := 1) hx hb dX2_part_184 (by decide) ?_
        refine lv_iadd hx hb dX2_part_185 ?_
        obtain ⟨h_18, hF⟩ := gd_ok hF
        obtain ⟨h_19, hF⟩ := gd_ok hF
        refine X_aald hC hX h_18 h_19 dX2_part_186 ?_
        refine lv_topr (fun r_20 er_20 => ?_)
        replace hF := lt_at hF er_20
        refine lv_sipush (v := 256) hx hb dX2_part_187 (by decide) ?_
        refine lv_iload hx hb dX2_part_190 (lv_at hl 11 rfl) ?_
        refine lv_imul hx hb dX2_part_192 ?_
        refine X_aload_n hx hb dX2_part_193 rfl (lv_at hl 3 rfl) ?_
        refine lv_iload hx hb dX2_part_194 (lv_at hl 12 rfl) ?_
        refine lv_iload hx hb dX2_part_196 (lv_at hl 10 rfl) ?_
        obtain ⟨h_21, hF⟩ := gd_ok hF
        obtain ⟨r_23, hc_22, hF⟩ := bd_ok hF
        refine iX_X2_139 hC hX h_21 hc_22 hl.1 (cat4 (Nat.le_of_ble_eq_true rfl)) (by show _ ≤ fr + 1; omega) (by show _ ≤ lo + 33; omega) dX2_part_198 (fun H locs cells slots hX => ?_)
        refine lv_iadd hx hb dX2_part_201 ?_
        refine lv_dup2_11 hx hb dX2_part_202 rfl (rv_cat _) ?_
        obtain ⟨h_24, hF⟩ := gd_ok hF
        obtain ⟨h_25, hF⟩ := gd_ok hF
        refine X_lald hC hX h_24 h_25 dX2_part_203 ?_
        refine X_aload_n hx hb dX2_part_204 rfl (lv_at hl 0 rfl) ?_
        obtain ⟨h_26, hF⟩ := gd_ok hF
        obtain ⟨h_27, hF⟩ := gd_ok hF
        refine gX_X2_3 hC hX h_26 h_27 dX2_part_205 ?_
        refine lv_topr (fun r_28 er_28 => ?_)
        replace hF := lt_at hF er_28
        obtain ⟨h_29, hF⟩ := gd_ok hF
        refine gX_X2_32 hC hX h_29 dX2_part_208 ?_
        refine lv_topr (fun r_30 er_30 => ?_)
        replace hF := lt_at hF er_30
        refine lv_iload_n hx hb dX2_part_211 rfl (lv_at hl 1 rfl) ?_
        obtain ⟨h_31, hF⟩ := gd_ok hF
        obtain ⟨h_32, hF⟩ := gd_ok hF
        refine X_aald hC hX h_31 h_32 dX2_part_212 ?_
        refine lv_topr (fun r_33 er_33 => ?_)
        replace hF := lt_at hF er_33
        refine lv_sipush (v := 256) hx hb dX2_part_213 (by decide) ?_
        refine lv_iload hx hb dX2_part_216 (lv_at hl 11 rfl) ?_
        refine lv_imul hx hb dX2_part_218 ?_
        refine lv_iload hx hb dX2_part_219 (lv_at hl 12 rfl) ?_
        refine lv_iadd hx hb dX2_part_221 ?_
        obtain ⟨h_34, hF⟩ := gd_ok hF
        obtain ⟨h_35, hF⟩ := gd_ok hF
        refine X_lald hC hX h_34 h_35 dX2_part_222 ?_
        refine lv_ladd hx hb dX2_part_223 ?_
        obtain ⟨h_36, hF⟩ := gd_ok hF
        obtain ⟨h_37, hF⟩ := gd_ok hF
        refine X_last hC hX h_36 h_37 dX2_part_224 (fun H locs hX => ?_)
        obtain ⟨h_38, eh_38, hF⟩ := lt_ok hF
        rw [← eh_38] at hX
        exact w_X2_part_b225_g hC hr hnh hin hfr hlo o_X2_see ho_X2_see o_X2_part ho_X2_part o_X2_go ho_X2_go (B_X2_part_L144 D.2.2.2 o_X2_see o_X2_part o_X2_go k126 fu) ih x0 x1 x2 x3 x4 x5 x7 x8 x9 x10 x11 x12 x13 h_38 hF H locs cells slots ls hX (lv_sub hl [0, 1, 2, 3, 4, 5, 6, 7, 8, 9, 10, 11, 12] rfl)
def B_X2_part_L126 (K : Nat → Nat) (o_X2_see : Nat → Int32 → Int32 → Nat → Int32 → Int64 → Int32 → TH → Option TH) (o_X2_part : Nat → Int32 → Int32 → Nat → Int32 → Int64 → Int32 → TH → Option TH) (o_X2_go : Nat → Int32 → Int32 → Int32 → Int64 → Int32 → TH → Option TH) (k237 : Nat → Int32 → Int32 → Nat → Int32 → Int64 → Int32 → Int32 → Int32 → Int32 → Int32 → TH → Option TH) : Nat → Nat → Int32 → Int32 → Nat → Int32 → Int64 → Int32 → Int32 → Int32 → Int32 → Int32 → Int32 → TH → Option TH
  | 0, _, _, _, _, _, _, _, _, _, _, _, _, _ => none
  | fu + 1, x0, x1, x2, x3, x4, x5, x7, x8, x9, x10, x11, x12, h =>
    gd (hasF (hT h x0) 49 = true) <|
    gd (hR h 49 x0 ≠ 0) <|
    lt (hR h 49 x0) fun r_3 =>
    gd (hasF (hT h r_3) 7 = true) <|
    lt (hR h 7 r_3) fun r_5 =>
    gd (hT h r_5 = 2) <|
    bd (F_X1_inputs K h r_5) fun r_8 =>
    if r_8 ≤ x12 then
      k237 x0 x1 x2 x3 x4 x5 x7 x8 x9 x10 x11 h
    else
      B_X2_part_L144 K o_X2_see o_X2_part o_X2_go (B_X2_part_L126 K o_X2_see o_X2_part o_X2_go k237 fu) MN x0 x1 x2 x3 x4 x5 x7 x8 x9 x10 x11 x12 (0 : Int32) h
set_option maxHeartbeats 4000000 in
theorem w_X2_part_L126_g {p : Program} {l : Launch} {e : Env} {s : State} {m : MethodId} {args : Array Value} {below : List Frame} {meth : Method} {c : Code} {D : XD} {h0 : TH} {fr lo : Nat} (hC : XCx D cX2_part 14 RX2 h0 p (xRm (fr + 1) (lo + 33) h0) s m args meth c) (hr : meth.sig.returnType = none) (hnh : c.exceptionTable.isEmpty = true) (hin : meth.name = "part") (hfr : 455 ≤ fr) (hlo : 10464 ≤ lo) (o_X2_see : Nat → Int32 → Int32 → Nat → Int32 → Int64 → Int32 → TH → Option TH) (ho_X2_see : ∀ (a : Nat) (b0 : Int32) (b1 : Int32) (b2 : Nat) (b3 : Int32) (b4 : Int64) (b5 : Int32) (h : TH) (x : TH), o_X2_see a b0 b1 b2 b3 b4 b5 h = some x → XMt l yX2_see (ws_ yX2_see cX2_see 14 (none)) fr lo D [rv a, .int b0, .int b1, rv b2, .int b3, .long b4, .int b5] h (.returned none) x) (o_X2_part : Nat → Int32 → Int32 → Nat → Int32 → Int64 → Int32 → TH → Option TH) (ho_X2_part : ∀ (a : Nat) (b0 : Int32) (b1 : Int32) (b2 : Nat) (b3 : Int32) (b4 : Int64) (b5 : Int32) (h : TH) (x : TH), o_X2_part a b0 b1 b2 b3 b4 b5 h = some x → XMt l yX2_part (ws_ yX2_part cX2_part 14 (none)) fr lo D [rv a, .int b0, .int b1, rv b2, .int b3, .long b4, .int b5] h (.returned none) x) (o_X2_go : Nat → Int32 → Int32 → Int32 → Int64 → Int32 → TH → Option TH) (ho_X2_go : ∀ (a : Nat) (b0 : Int32) (b1 : Int32) (b2 : Int32) (b3 : Int64) (b4 : Int32) (h : TH) (x : TH), o_X2_go a b0 b1 b2 b3 b4 h = some x → XMt l yX2_go (ws_ yX2_go cX2_go 14 (none)) fr lo D [rv a, .int b0, .int b1, .int b2, .long b3, .int b4] h (.returned none) x) {x : TH} (k237 : Nat → Int32 → Int32 → Nat → Int32 → Int64 → Int32 → Int32 → Int32 → Int32 → Int32 → TH → Option TH) (hk237 : ∀ (x0 : Nat) (x1 : Int32) (x2 : Int32) (x3 : Nat) (x4 : Int32) (x5 : Int64) (x7 : Int32) (x8 : Int32) (x9 : Int32) (x10 : Int32) (x11 : Int32) (h : TH), k237 x0 x1 x2 x3 x4 x5 x7 x8 x9 x10 x11 h = some x → XJ p l e (xRm (fr + 1) (lo + 33) h0) s m args below meth c D 14 (.returned none) h0 x 237 [(0, rv x0), (1, .int x1), (2, .int x2), (3, rv x3), (4, .int x4), (5, .long x5), (7, .int x7), (8, .int x8), (9, .int x9), (10, .int x10), (11, .int x11)] [] h) :
    ∀ (fu : Nat) (x0 : Nat) (x1 : Int32) (x2 : Int32) (x3 : Nat) (x4 : Int32) (x5 : Int64) (x7 : Int32) (x8 : Int32) (x9 : Int32) (x10 : Int32) (x11 : Int32) (x12 : Int32) (h : TH), B_X2_part_L126 D.2.2.2 o_X2_see o_X2_part o_X2_go k237 fu x0 x1 x2 x3 x4 x5 x7 x8 x9 x10 x11 x12 h = some x → XJ p l e (xRm (fr + 1) (lo + 33) h0) s m args below meth c D 14 (.returned none) h0 x 126 [(0, rv x0), (1, .int x1), (2, .int x2), (3, rv x3), (4, .int x4), (5, .long x5), (7, .int x7), (8, .int x8), (9, .int x9), (10, .int x10), (11, .int x11), (12, .int x12)] [] h := by
  have hx := hC.1
  have hb := hC.2.1
  intro fu
  induction fu with
  | zero => intro x0 x1 x2 x3 x4 x5 x7 x8 x9 x10 x11 x12 h hF; exact nm_none hF
  | succ fu ih =>
    intro x0 x1 x2 x3 x4 x5 x7 x8 x9 x10 x11 x12 h hF H locs cells slots ls hX hl
    rw [B_X2_part_L126] at hF
    refine lv_iload hx hb dX2_part_126 (lv_at hl 11 rfl) ?_
    refine X_aload_n hx hb dX2_part_128 rfl (lv_at hl 0 rfl) ?_
    obtain ⟨h_1, hF⟩ := gd_ok hF
    obtain ⟨h_2, hF⟩ := gd_ok hF
    refine gX_X2_3 hC hX h_1 h_2 dX2_part_129 ?_
    refine lv_topr (fun r_3 er_3 => ?_)
    replace hF := lt_at hF er_3
    obtain ⟨h_4, hF⟩ := gd_ok hF
    refine gX_X2_36 hC hX h_4 dX2_part_132 ?_
    refine lv_topr (fun r_5 er_5 => ?_)
    replace hF := lt_at hF er_5
    obtain ⟨h_6, hF⟩ := gd_ok hF
    obtain ⟨r_8, hc_7, hF⟩ := bd_ok hF
    refine iX_X2_40 hC hX h_6 hc_7 hl.1 (Nat.le_of_ble_eq_true rfl) (by show _ ≤ fr + 1; omega) (by show _ ≤ lo + 33; omega) dX2_part_135 (fun H locs cells slots hX => ?_)
    refine lv_icmp_ge (tgt := 237) hx hb dX2_part_138 (by decide) (fun c_9 => ?_) (fun c_9 => ?_)
    · replace hF := it_t hF c_9
      exact hk237 x0 x1 x2 x3 x4 x5 x7 x8 x9 x10 x11 h hF H locs cells slots ls hX (lv_sub hl [0, 1, 2, 3, 4, 5, 6, 7, 8, 9, 10] rfl)
    · replace hF := it_f hF c_9
      refine lv_iconst (v := 0) hx hb dX2_part_141 (by decide) ?_
      refine lv_istore (lv' := [(13, .int (0 : Int32)), (0, rv x0), (1, .int x1), (2, .int x2), (3, rv x3), (4, .int x4), (5, .long x5), (7, .int x7), (8, .int x8), (9, .int x9), (10, .int x10), (11, .int x11), (12, .int x12)]) hx hb dX2_part_142 hl (by decide) rfl (fun ls hl => ?_)
      exact w_X2_part_L144_g hC hr hnh hin hfr hlo o_X2_see ho_X2_see o_X2_part ho_X2_part o_X2_go ho_X2_go (B_X2_part_L126 D.2.2.2 o_X2_see o_X2_part o_X2_go k237 fu) ih MN x0 x1 x2 x3 x4 x5 x7 x8 x9 x10 x11 x12 (0 : Int32) h hF H locs cells slots ls hX (lv_sub hl [1, 2, 3, 4, 5, 6, 7, 8, 9, 10, 11, 12, 0] rfl)
def B_X2_part_b121 (K : Nat → Nat) (o_X2_see : Nat → Int32 → Int32 → Nat → Int32 → Int64 → Int32 → TH → Option TH) (o_X2_part : Nat → Int32 → Int32 → Nat → Int32 → Int64 → Int32 → TH → Option TH) (o_X2_go : Nat → Int32 → Int32 → Int32 → Int64 → Int32 → TH → Option TH) (k237 : Nat → Int32 → Int32 → Nat → Int32 → Int64 → Int32 → Int32 → Int32 → Int32 → Int32 → TH → Option TH) (x0 : Nat) (x1 : Int32) (x2 : Int32) (x3 : Nat) (x4 : Int32) (x5 : Int64) (x7 : Int32) (x8 : Int32) (x9 : Int32) (x11 : Int32) (y0 : Int32) (h : TH) : Option TH :=
  B_X2_part_L126 K o_X2_see o_X2_part o_X2_go k237 MN x0 x1 x2 x3 x4 x5 x7 x8 x9 y0 x11 (0 : Int32) h
set_option maxHeartbeats 4000000 in
theorem w_X2_part_b121_g {p : Program} {l : Launch} {e : Env} {s : State} {m : MethodId} {args : Array Value} {below : List Frame} {meth : Method} {c : Code} {D : XD} {h0 : TH} {fr lo : Nat} (hC : XCx D cX2_part 14 RX2 h0 p (xRm (fr + 1) (lo + 33) h0) s m args meth c) (hr : meth.sig.returnType = none) (hnh : c.exceptionTable.isEmpty = true) (hin : meth.name = "part") (hfr : 455 ≤ fr) (hlo : 10464 ≤ lo) (o_X2_see : Nat → Int32 → Int32 → Nat → Int32 → Int64 → Int32 → TH → Option TH) (ho_X2_see : ∀ (a : Nat) (b0 : Int32) (b1 : Int32) (b2 : Nat) (b3 : Int32) (b4 : Int64) (b5 : Int32) (h : TH) (x : TH), o_X2_see a b0 b1 b2 b3 b4 b5 h = some x → XMt l yX2_see (ws_ yX2_see cX2_see 14 (none)) fr lo D [rv a, .int b0, .int b1, rv b2, .int b3, .long b4, .int b5] h (.returned none) x) (o_X2_part : Nat → Int32 → Int32 → Nat → Int32 → Int64 → Int32 → TH → Option TH) (ho_X2_part : ∀ (a : Nat) (b0 : Int32) (b1 : Int32) (b2 : Nat) (b3 : Int32) (b4 : Int64) (b5 : Int32) (h : TH) (x : TH), o_X2_part a b0 b1 b2 b3 b4 b5 h = some x → XMt l yX2_part (ws_ yX2_part cX2_part 14 (none)) fr lo D [rv a, .int b0, .int b1, rv b2, .int b3, .long b4, .int b5] h (.returned none) x) (o_X2_go : Nat → Int32 → Int32 → Int32 → Int64 → Int32 → TH → Option TH) (ho_X2_go : ∀ (a : Nat) (b0 : Int32) (b1 : Int32) (b2 : Int32) (b3 : Int64) (b4 : Int32) (h : TH) (x : TH), o_X2_go a b0 b1 b2 b3 b4 h = some x → XMt l yX2_go (ws_ yX2_go cX2_go 14 (none)) fr lo D [rv a, .int b0, .int b1, .int b2, .long b3, .int b4] h (.returned none) x) {x : TH} (k237 : Nat → Int32 → Int32 → Nat → Int32 → Int64 → Int32 → Int32 → Int32 → Int32 → Int32 → TH → Option TH) (hk237 : ∀ (x0 : Nat) (x1 : Int32) (x2 : Int32) (x3 : Nat) (x4 : Int32) (x5 : Int64) (x7 : Int32) (x8 : Int32) (x9 : Int32) (x10 : Int32) (x11 : Int32) (h : TH), k237 x0 x1 x2 x3 x4 x5 x7 x8 x9 x10 x11 h = some x → XJ p l e (xRm (fr + 1) (lo + 33) h0) s m args below meth c D 14 (.returned none) h0 x 237 [(0, rv x0), (1, .int x1), (2, .int x2), (3, rv x3), (4, .int x4), (5, .long x5), (7, .int x7), (8, .int x8), (9, .int x9), (10, .int x10), (11, .int x11)] [] h) :
    ∀ (x0 : Nat) (x1 : Int32) (x2 : Int32) (x3 : Nat) (x4 : Int32) (x5 : Int64) (x7 : Int32) (x8 : Int32) (x9 : Int32) (x11 : Int32) (y0 : Int32) (h : TH), B_X2_part_b121 D.2.2.2 o_X2_see o_X2_part o_X2_go k237 x0 x1 x2 x3 x4 x5 x7 x8 x9 x11 y0 h = some x → XJ p l e (xRm (fr + 1) (lo + 33) h0) s m args below meth c D 14 (.returned none) h0 x 121 [(0, rv x0), (1, .int x1), (2, .int x2), (3, rv x3), (4, .int x4), (5, .long x5), (7, .int x7), (8, .int x8), (9, .int x9), (11, .int x11)] [.int y0] h := by
  have hx := hC.1
  have hb := hC.2.1
  intro x0 x1 x2 x3 x4 x5 x7 x8 x9 x11 y0 h hF H locs cells slots ls hX hl
  rw [B_X2_part_b121] at hF
  refine lv_istore (lv' := [(10, .int y0), (0, rv x0), (1, .int x1), (2, .int x2), (3, rv x3), (4, .int x4), (5, .long x5), (7, .int x7), (8, .int x8), (9, .int x9), (11, .int x11)]) hx hb dX2_part_121 hl (by decide) rfl (fun ls hl => ?_)
  refine lv_iconst (v := 0) hx hb dX2_part_123 (by decide) ?_
  refine lv_istore (lv' := [(12, .int (0 : Int32)), (10, .int y0), (0, rv x0), (1, .int x1), (2, .int x2), (3, rv x3), (4, .int x4), (5, .long x5), (7, .int x7), (8, .int x8), (9, .int x9), (11, .int x11)]) hx hb dX2_part_124 hl (by decide) rfl (fun ls hl => ?_)
  exact w_X2_part_L126_g hC hr hnh hin hfr hlo o_X2_see ho_X2_see o_X2_part ho_X2_part o_X2_go ho_X2_go k237 hk237 MN x0 x1 x2 x3 x4 x5 x7 x8 x9 y0 x11 (0 : Int32) h hF H locs cells slots ls hX (lv_sub hl [2, 3, 4, 5, 6, 7, 8, 9, 10, 1, 11, 0] rfl)
def B_X2_part_b101 (K : Nat → Nat) (o_X2_see : Nat → Int32 → Int32 → Nat → Int32 → Int64 → Int32 → TH → Option TH) (o_X2_part : Nat → Int32 → Int32 → Nat → Int32 → Int64 → Int32 → TH → Option TH) (o_X2_go : Nat → Int32 → Int32 → Int32 → Int64 → Int32 → TH → Option TH) (k237 : Nat → Int32 → Int32 → Nat → Int32 → Int64 → Int32 → Int32 → Int32 → Int32 → Int32 → TH → Option TH) (x0 : Nat) (x1 : Int32) (x2 : Int32) (x3 : Nat) (x4 : Int32) (x5 : Int64) (x7 : Int32) (x8 : Int32) (x11 : Int32) (h : TH) : Option TH :=
  if 0 ≤ x7 then
    bd (V_X7_to K h x3 x7 x11) fun r_3 =>
    B_X2_part_b121 K o_X2_see o_X2_part o_X2_go k237 x0 x1 x2 x3 x4 x5 x7 x8 (1 : Int32) x11 r_3 h
  else
    B_X2_part_b121 K o_X2_see o_X2_part o_X2_go k237 x0 x1 x2 x3 x4 x5 x7 x8 (1 : Int32) x11 (-1 : Int32) h
set_option maxHeartbeats 4000000 in
theorem w_X2_part_b101_g {p : Program} {l : Launch} {e : Env} {s : State} {m : MethodId} {args : Array Value} {below : List Frame} {meth : Method} {c : Code} {D : XD} {h0 : TH} {fr lo : Nat} (hC : XCx D cX2_part 14 RX2 h0 p (xRm (fr + 1) (lo + 33) h0) s m args meth c) (hr : meth.sig.returnType = none) (hnh : c.exceptionTable.isEmpty = true) (hin : meth.name = "part") (hfr : 455 ≤ fr) (hlo : 10464 ≤ lo) (o_X2_see : Nat → Int32 → Int32 → Nat → Int32 → Int64 → Int32 → TH → Option TH) (ho_X2_see : ∀ (a : Nat) (b0 : Int32) (b1 : Int32) (b2 : Nat) (b3 : Int32) (b4 : Int64) (b5 : Int32) (h : TH) (x : TH), o_X2_see a b0 b1 b2 b3 b4 b5 h = some x → XMt l yX2_see (ws_ yX2_see cX2_see 14 (none)) fr lo D [rv a, .int b0, .int b1, rv b2, .int b3, .long b4, .int b5] h (.returned none) x) (o_X2_part : Nat → Int32 → Int32 → Nat → Int32 → Int64 → Int32 → TH → Option TH) (ho_X2_part : ∀ (a : Nat) (b0 : Int32) (b1 : Int32) (b2 : Nat) (b3 : Int32) (b4 : Int64) (b5 : Int32) (h : TH) (x : TH), o_X2_part a b0 b1 b2 b3 b4 b5 h = some x → XMt l yX2_part (ws_ yX2_part cX2_part 14 (none)) fr lo D [rv a, .int b0, .int b1, rv b2, .int b3, .long b4, .int b5] h (.returned none) x) (o_X2_go : Nat → Int32 → Int32 → Int32 → Int64 → Int32 → TH → Option TH) (ho_X2_go : ∀ (a : Nat) (b0 : Int32) (b1 : Int32) (b2 : Int32) (b3 : Int64) (b4 : Int32) (h : TH) (x : TH), o_X2_go a b0 b1 b2 b3 b4 h = some x → XMt l yX2_go (ws_ yX2_go cX2_go 14 (none)) fr lo D [rv a, .int b0, .int b1, .int b2, .long b3, .int b4] h (.returned none) x) {x : TH} (k237 : Nat → Int32 → Int32 → Nat → Int32 → Int64 → Int32 → Int32 → Int32 → Int32 → Int32 → TH → Option TH) (hk237 : ∀ (x0 : Nat) (x1 : Int32) (x2 : Int32) (x3 : Nat) (x4 : Int32) (x5 : Int64) (x7 : Int32) (x8 : Int32) (x9 : Int32) (x10 : Int32) (x11 : Int32) (h : TH), k237 x0 x1 x2 x3 x4 x5 x7 x8 x9 x10 x11 h = some x → XJ p l e (xRm (fr + 1) (lo + 33) h0) s m args below meth c D 14 (.returned none) h0 x 237 [(0, rv x0), (1, .int x1), (2, .int x2), (3, rv x3), (4, .int x4), (5, .long x5), (7, .int x7), (8, .int x8), (9, .int x9), (10, .int x10), (11, .int x11)] [] h) :
    ∀ (x0 : Nat) (x1 : Int32) (x2 : Int32) (x3 : Nat) (x4 : Int32) (x5 : Int64) (x7 : Int32) (x8 : Int32) (x11 : Int32) (h : TH), B_X2_part_b101 D.2.2.2 o_X2_see o_X2_part o_X2_go k237 x0 x1 x2 x3 x4 x5 x7 x8 x11 h = some x → XJ p l e (xRm (fr + 1) (lo + 33) h0) s m args below meth c D 14 (.returned none) h0 x 101 [(0, rv x0), (1, .int x1), (2, .int x2), (3, rv x3), (4, .int x4), (5, .long x5), (7, .int x7), (8, .int x8), (11, .int x11)] [] h := by
  have hx := hC.1
  have hb := hC.2.1
  intro x0 x1 x2 x3 x4 x5 x7 x8 x11 h hF H locs cells slots ls hX hl
  rw [B_X2_part_b101] at hF
  refine lv_iconst (v := 1) hx hb dX2_part_101 (by decide) ?_
  refine lv_istore (lv' := [(9, .int (1 : Int32)), (0, rv x0), (1, .int x1), (2, .int x2), (3, rv x3), (4, .int x4), (5, .long x5), (7, .int x7), (8, .int x8), (11, .int x11)]) hx hb dX2_part_102 hl (by decide) rfl (fun ls hl => ?_)
  refine lv_iload hx hb dX2_part_104 (lv_at hl 7 rfl) ?_
  refine lv_if_ge (tgt := 113) hx hb dX2_part_106 (by decide) (fun c_1 => ?_) (fun c_1 => ?_)
  · replace hF := it_t hF c_1
    refine X_aload_n hx hb dX2_part_113 rfl (lv_at hl 4 rfl) ?_
    refine lv_iload hx hb dX2_part_114 (lv_at hl 7 rfl) ?_
    refine lv_iload hx hb dX2_part_116 (lv_at hl 9 rfl) ?_
    obtain ⟨r_3, hc_2, hF⟩ := bd_ok hF
    refine iX_X2_98 hC hX hc_2 hl.1 (Nat.le_of_ble_eq_true rfl) (by show _ ≤ fr + 1; omega) (by show _ ≤ lo + 33; omega) dX2_part_118 (fun H locs cells slots hX => ?_)
    exact w_X2_part_b121_g hC hr hnh hin hfr hlo o_X2_see ho_X2_see o_X2_part ho_X2_part o_X2_go ho_X2_go k237 hk237 x0 x1 x2 x3 x4 x5 x7 x8 (1 : Int32) x11 r_3 h hF H locs cells slots ls hX (lv_sub hl [1, 2, 3, 4, 5, 6, 7, 8, 0, 9] rfl)
  · replace hF := it_f hF c_1
    refine lv_iconst (v := -1) hx hb dX2_part_109 (by decide) ?_
    refine lv_goto (tgt := 121) hx hb dX2_part_110 (by decide) ?_
    exact w_X2_part_b121_g hC hr hnh hin hfr hlo o_X2_see ho_X2_see o_X2_part ho_X2_part o_X2_go ho_X2_go k237 hk237 x0 x1 x2 x3 x4 x5 x7 x8 (1 : Int32) x11 (-1 : Int32) h hF H locs cells slots ls hX (lv_sub hl [1, 2, 3, 4, 5, 6, 7, 8, 0, 9] rfl)
def B_X2_part_L58 (K : Nat → Nat) (o_X2_see : Nat → Int32 → Int32 → Nat → Int32 → Int64 → Int32 → TH → Option TH) (o_X2_part : Nat → Int32 → Int32 → Nat → Int32 → Int64 → Int32 → TH → Option TH) (o_X2_go : Nat → Int32 → Int32 → Int32 → Int64 → Int32 → TH → Option TH) (k3 : Nat → Int32 → Int32 → Nat → Int32 → Int64 → Int32 → Int32 → TH → Option TH) : Nat → Nat → Int32 → Int32 → Nat → Int32 → Int64 → Int32 → Int32 → Int32 → Int32 → Int32 → TH → Option TH
  | 0, _, _, _, _, _, _, _, _, _, _, _, _ => none
  | fu + 1, x0, x1, x2, x3, x4, x5, x7, x8, x9, x10, x11, h =>
    bd (V_X7_ways K h x3) fun r_2 =>
    if r_2 ≤ x11 then
      B_X2_part_b243 K o_X2_see o_X2_part o_X2_go k3 x0 x1 x2 x3 x4 x5 x7 x8 x9 x10 h
    else
      gd (hasF (hT h x0) 45 = true) <|
      if x2 = (hI h 45 x0) then
        if x11 = x8 then
          B_X2_part_b101 K o_X2_see o_X2_part o_X2_go (B_X2_part_b237 K o_X2_see o_X2_part o_X2_go (B_X2_part_L58 K o_X2_see o_X2_part o_X2_go k3 fu)) x0 x1 x2 x3 x4 x5 x7 x8 x11 h
        else
          B_X2_part_b237 K o_X2_see o_X2_part o_X2_go (B_X2_part_L58 K o_X2_see o_X2_part o_X2_go k3 fu) x0 x1 x2 x3 x4 x5 x7 x8 x9 x10 x11 h
      else
        bd (V_X7_to K h x3 x7 x11) fun r_7 =>
        if r_7 = x8 then
          B_X2_part_b101 K o_X2_see o_X2_part o_X2_go (B_X2_part_b237 K o_X2_see o_X2_part o_X2_go (B_X2_part_L58 K o_X2_see o_X2_part o_X2_go k3 fu)) x0 x1 x2 x3 x4 x5 x7 x8 x11 h
        else
          B_X2_part_b237 K o_X2_see o_X2_part o_X2_go (B_X2_part_L58 K o_X2_see o_X2_part o_X2_go k3 fu) x0 x1 x2 x3 x4 x5 x7 x8 x9 x10 x11 h
set_option maxHeartbeats 4000000 in
theorem w_X2_part_L58_g {p : Program} {l : Launch} {e : Env} {s : State} {m : MethodId} {args : Array Value} {below : List Frame} {meth : Method} {c : Code} {D : XD} {h0 : TH} {fr lo : Nat} (hC : XCx D cX2_part 14 RX2 h0 p (xRm (fr + 1) (lo + 33) h0) s m args meth c) (hr : meth.sig.returnType = none) (hnh : c.exceptionTable.isEmpty = true) (hin : meth.name = "part") (hfr : 455 ≤ fr) (hlo : 10464 ≤ lo) (o_X2_see : Nat → Int32 → Int32 → Nat → Int32 → Int64 → Int32 → TH → Option TH) (ho_X2_see : ∀ (a : Nat) (b0 : Int32) (b1 : Int32) (b2 : Nat) (b3 : Int32) (b4 : Int64) (b5 : Int32) (h : TH) (x : TH), o_X2_see a b0 b1 b2 b3 b4 b5 h = some x → XMt l yX2_see (ws_ yX2_see cX2_see 14 (none)) fr lo D [rv a, .int b0, .int b1, rv b2, .int b3, .long b4, .int b5] h (.returned none) x) (o_X2_part : Nat → Int32 → Int32 → Nat → Int32 → Int64 → Int32 → TH → Option TH) (ho_X2_part : ∀ (a : Nat) (b0 : Int32) (b1 : Int32) (b2 : Nat) (b3 : Int32) (b4 : Int64) (b5 : Int32) (h : TH) (x : TH), o_X2_part a b0 b1 b2 b3 b4 b5 h = some x → XMt l yX2_part (ws_ yX2_part cX2_part 14 (none)) fr lo D [rv a, .int b0, .int b1, rv b2, .int b3, .long b4, .int b5] h (.returned none) x) (o_X2_go : Nat → Int32 → Int32 → Int32 → Int64 → Int32 → TH → Option TH) (ho_X2_go : ∀ (a : Nat) (b0 : Int32) (b1 : Int32) (b2 : Int32) (b3 : Int64) (b4 : Int32) (h : TH) (x : TH), o_X2_go a b0 b1 b2 b3 b4 h = some x → XMt l yX2_go (ws_ yX2_go cX2_go 14 (none)) fr lo D [rv a, .int b0, .int b1, .int b2, .long b3, .int b4] h (.returned none) x) {x : TH} (k3 : Nat → Int32 → Int32 → Nat → Int32 → Int64 → Int32 → Int32 → TH → Option TH) (hk3 : ∀ (x0 : Nat) (x1 : Int32) (x2 : Int32) (x3 : Nat) (x4 : Int32) (x5 : Int64) (x7 : Int32) (x8 : Int32) (h : TH), k3 x0 x1 x2 x3 x4 x5 x7 x8 h = some x → XJ p l e (xRm (fr + 1) (lo + 33) h0) s m args below meth c D 14 (.returned none) h0 x 3 [(0, rv x0), (1, .int x1), (2, .int x2), (3, rv x3), (4, .int x4), (5, .long x5), (7, .int x7), (8, .int x8)] [] h) :
    ∀ (fu : Nat) (x0 : Nat) (x1 : Int32) (x2 : Int32) (x3 : Nat) (x4 : Int32) (x5 : Int64) (x7 : Int32) (x8 : Int32) (x9 : Int32) (x10 : Int32) (x11 : Int32) (h : TH), B_X2_part_L58 D.2.2.2 o_X2_see o_X2_part o_X2_go k3 fu x0 x1 x2 x3 x4 x5 x7 x8 x9 x10 x11 h = some x → XJ p l e (xRm (fr + 1) (lo + 33) h0) s m args below meth c D 14 (.returned none) h0 x 58 [(0, rv x0), (1, .int x1), (2, .int x2), (3, rv x3), (4, .int x4), (5, .long x5), (7, .int x7), (8, .int x8), (9, .int x9), (10, .int x10), (11, .int x11)] [] h := by
  have hx := hC.1
  have hb := hC.2.1
  intro fu
  induction fu with
  | zero => intro x0 x1 x2 x3 x4 x5 x7 x8 x9 x10 x11 h hF; exact nm_none hF
  | succ fu ih =>
    intro x0 x1 x2 x3 x4 x5 x7 x8 x9 x10 x11 h hF H locs cells slots ls hX hl
    rw [B_X2_part_L58] at hF
    refine lv_iload hx hb dX2_part_58 (lv_at hl 10 rfl) ?_
    refine X_aload_n hx hb dX2_part_60 rfl (lv_at hl 3 rfl) ?_
    obtain ⟨r_2, hc_1, hF⟩ := bd_ok hF
    refine iX_X2_87 hC hX hc_1 hl.1 (Nat.le_of_ble_eq_true rfl) (by show _ ≤ fr + 1; omega) (by show _ ≤ lo + 33; omega) dX2_part_61 (fun H locs cells slots hX => ?_)
    refine lv_icmp_ge (tgt := 243) hx hb dX2_part_64 (by decide) (fun c_3 => ?_) (fun c_3 => ?_)
    · replace hF := it_t hF c_3
      exact w_X2_part_b243_g hC hr hnh hin hfr hlo o_X2_see ho_X2_see o_X2_part ho_X2_part o_X2_go ho_X2_go k3 hk3 x0 x1 x2 x3 x4 x5 x7 x8 x9 x10 h hF H locs cells slots ls hX (lv_sub hl [0, 1, 2, 3, 4, 5, 6, 7, 8, 9] rfl)
    · replace hF := it_f hF c_3
      refine lv_iload_n hx hb dX2_part_67 rfl (lv_at hl 2 rfl) ?_
      refine X_aload_n hx hb dX2_part_68 rfl (lv_at hl 0 rfl) ?_
      obtain ⟨h_4, hF⟩ := gd_ok hF
      refine gX_X2_22 hC hX h_4 dX2_part_69 ?_
      refine lv_icmp_ne (tgt := 85) hx hb dX2_part_72 (by decide) (fun c_5 => ?_) (fun c_5 => ?_)
      · replace hF := it_f hF c_5
        refine X_aload_n hx hb dX2_part_85 rfl (lv_at hl 3 rfl) ?_
        refine lv_iload hx hb dX2_part_86 (lv_at hl 6 rfl) ?_
        refine lv_iload hx hb dX2_part_88 (lv_at hl 10 rfl) ?_
        obtain ⟨r_7, hc_6, hF⟩ := bd_ok hF
        refine iX_X2_98 hC hX hc_6 hl.1 (Nat.le_of_ble_eq_true rfl) (by show _ ≤ fr + 1; omega) (by show _ ≤ lo + 33; omega) dX2_part_90 (fun H locs cells slots hX => ?_)
        refine lv_iload hx hb dX2_part_93 (lv_at hl 7 rfl) ?_
        refine lv_icmp_eq (tgt := 101) hx hb dX2_part_95 (by decide) (fun c_8 => ?_) (fun c_8 => ?_)
        · replace hF := it_t hF c_8
          exact w_X2_part_b101_g hC hr hnh hin hfr hlo o_X2_see ho_X2_see o_X2_part ho_X2_part o_X2_go ho_X2_go (B_X2_part_b237 D.2.2.2 o_X2_see o_X2_part o_X2_go (B_X2_part_L58 D.2.2.2 o_X2_see o_X2_part o_X2_go k3 fu)) (w_X2_part_b237_g hC hr hnh hin hfr hlo o_X2_see ho_X2_see o_X2_part ho_X2_part o_X2_go ho_X2_go (B_X2_part_L58 D.2.2.2 o_X2_see o_X2_part o_X2_go k3 fu) ih) x0 x1 x2 x3 x4 x5 x7 x8 x11 h hF H locs cells slots ls hX (lv_sub hl [0, 1, 2, 3, 4, 5, 6, 7, 10] rfl)
        · replace hF := it_f hF c_8
          refine lv_goto (tgt := 237) hx hb dX2_part_98 (by decide) ?_
          exact w_X2_part_b237_g hC hr hnh hin hfr hlo o_X2_see ho_X2_see o_X2_part ho_X2_part o_X2_go ho_X2_go (B_X2_part_L58 D.2.2.2 o_X2_see o_X2_part o_X2_go k3 fu) ih x0 x1 x2 x3 x4 x5 x7 x8 x9 x10 x11 h hF H locs cells slots ls hX (lv_sub hl [0, 1, 2, 3, 4, 5, 6, 7, 8, 9, 10] rfl)
      · replace hF := it_t hF c_5
        refine lv_iload hx hb dX2_part_75 (lv_at hl 10 rfl) ?_
        refine lv_iload hx hb dX2_part_77 (lv_at hl 7 rfl) ?_
        refine lv_icmp_eq (tgt := 101) hx hb dX2_part_79 (by decide) (fun c_9 => ?_) (fun c_9 => ?_)
        · replace hF := it_t hF c_9
          exact w_X2_part_b101_g hC hr hnh hin hfr hlo o_X2_see ho_X2_see o_X2_part ho_X2_part o_X2_go ho_X2_go (B_X2_part_b237 D.2.2.2 o_X2_see o_X2_part o_X2_go (B_X2_part_L58 D.2.2.2 o_X2_see o_X2_part o_X2_go k3 fu)) (w_X2_part_b237_g hC hr hnh hin hfr hlo o_X2_see ho_X2_see o_X2_part ho_X2_part o_X2_go ho_X2_go (B_X2_part_L58 D.2.2.2 o_X2_see o_X2_part o_X2_go k3 fu) ih) x0 x1 x2 x3 x4 x5 x7 x8 x11 h hF H locs cells slots ls hX (lv_sub hl [0, 1, 2, 3, 4, 5, 6, 7, 10] rfl)
        · replace hF := it_f hF c_9
          refine lv_goto (tgt := 237) hx hb dX2_part_82 (by decide) ?_
          exact w_X2_part_b237_g hC hr hnh hin hfr hlo o_X2_see ho_X2_see o_X2_part ho_X2_part o_X2_go ho_X2_go (B_X2_part_L58 D.2.2.2 o_X2_see o_X2_part o_X2_go k3 fu) ih x0 x1 x2 x3 x4 x5 x7 x8 x9 x10 x11 h hF H locs cells slots ls hX (lv_sub hl [0, 1, 2, 3, 4, 5, 6, 7, 8, 9, 10] rfl)
def B_X2_part_b52 (K : Nat → Nat) (o_X2_see : Nat → Int32 → Int32 → Nat → Int32 → Int64 → Int32 → TH → Option TH) (o_X2_part : Nat → Int32 → Int32 → Nat → Int32 → Int64 → Int32 → TH → Option TH) (o_X2_go : Nat → Int32 → Int32 → Int32 → Int64 → Int32 → TH → Option TH) (k3 : Nat → Int32 → Int32 → Nat → Int32 → Int64 → Int32 → Int32 → TH → Option TH) (x0 : Nat) (x1 : Int32) (x2 : Int32) (x3 : Nat) (x4 : Int32) (x5 : Int64) (x7 : Int32) (x8 : Int32) (x9 : Int32) (h : TH) : Option TH :=
  B_X2_part_L58 K o_X2_see o_X2_part o_X2_go k3 MN x0 x1 x2 x3 x4 x5 x7 x8 x9 (-1 : Int32) (0 : Int32) h
set_option maxHeartbeats 4000000 in
theorem w_X2_part_b52_g {p : Program} {l : Launch} {e : Env} {s : State} {m : MethodId} {args : Array Value} {below : List Frame} {meth : Method} {c : Code} {D : XD} {h0 : TH} {fr lo : Nat} (hC : XCx D cX2_part 14 RX2 h0 p (xRm (fr + 1) (lo + 33) h0) s m args meth c) (hr : meth.sig.returnType = none) (hnh : c.exceptionTable.isEmpty = true) (hin : meth.name = "part") (hfr : 455 ≤ fr) (hlo : 10464 ≤ lo) (o_X2_see : Nat → Int32 → Int32 → Nat → Int32 → Int64 → Int32 → TH → Option TH) (ho_X2_see : ∀ (a : Nat) (b0 : Int32) (b1 : Int32) (b2 : Nat) (b3 : Int32) (b4 : Int64) (b5 : Int32) (h : TH) (x : TH), o_X2_see a b0 b1 b2 b3 b4 b5 h = some x → XMt l yX2_see (ws_ yX2_see cX2_see 14 (none)) fr lo D [rv a, .int b0, .int b1, rv b2, .int b3, .long b4, .int b5] h (.returned none) x) (o_X2_part : Nat → Int32 → Int32 → Nat → Int32 → Int64 → Int32 → TH → Option TH) (ho_X2_part : ∀ (a : Nat) (b0 : Int32) (b1 : Int32) (b2 : Nat) (b3 : Int32) (b4 : Int64) (b5 : Int32) (h : TH) (x : TH), o_X2_part a b0 b1 b2 b3 b4 b5 h = some x → XMt l yX2_part (ws_ yX2_part cX2_part 14 (none)) fr lo D [rv a, .int b0, .int b1, rv b2, .int b3, .long b4, .int b5] h (.returned none) x) (o_X2_go : Nat → Int32 → Int32 → Int32 → Int64 → Int32 → TH → Option TH) (ho_X2_go : ∀ (a : Nat) (b0 : Int32) (b1 : Int32) (b2 : Int32) (b3 : Int64) (b4 : Int32) (h : TH) (x : TH), o_X2_go a b0 b1 b2 b3 b4 h = some x → XMt l yX2_go (ws_ yX2_go cX2_go 14 (none)) fr lo D [rv a, .int b0, .int b1, .int b2, .long b3, .int b4] h (.returned none) x) {x : TH} (k3 : Nat → Int32 → Int32 → Nat → Int32 → Int64 → Int32 → Int32 → TH → Option TH) (hk3 : ∀ (x0 : Nat) (x1 : Int32) (x2 : Int32) (x3 : Nat) (x4 : Int32) (x5 : Int64) (x7 : Int32) (x8 : Int32) (h : TH), k3 x0 x1 x2 x3 x4 x5 x7 x8 h = some x → XJ p l e (xRm (fr + 1) (lo + 33) h0) s m args below meth c D 14 (.returned none) h0 x 3 [(0, rv x0), (1, .int x1), (2, .int x2), (3, rv x3), (4, .int x4), (5, .long x5), (7, .int x7), (8, .int x8)] [] h) :
    ∀ (x0 : Nat) (x1 : Int32) (x2 : Int32) (x3 : Nat) (x4 : Int32) (x5 : Int64) (x7 : Int32) (x8 : Int32) (x9 : Int32) (h : TH), B_X2_part_b52 D.2.2.2 o_X2_see o_X2_part o_X2_go k3 x0 x1 x2 x3 x4 x5 x7 x8 x9 h = some x → XJ p l e (xRm (fr + 1) (lo + 33) h0) s m args below meth c D 14 (.returned none) h0 x 52 [(0, rv x0), (1, .int x1), (2, .int x2), (3, rv x3), (4, .int x4), (5, .long x5), (7, .int x7), (8, .int x8), (9, .int x9)] [] h := by
  have hx := hC.1
  have hb := hC.2.1
  intro x0 x1 x2 x3 x4 x5 x7 x8 x9 h hF H locs cells slots ls hX hl
  rw [B_X2_part_b52] at hF
  refine lv_iconst (v := -1) hx hb dX2_part_52 (by decide) ?_
  refine lv_istore (lv' := [(10, .int (-1 : Int32)), (0, rv x0), (1, .int x1), (2, .int x2), (3, rv x3), (4, .int x4), (5, .long x5), (7, .int x7), (8, .int x8), (9, .int x9)]) hx hb dX2_part_53 hl (by decide) rfl (fun ls hl => ?_)
  refine lv_iconst (v := 0) hx hb dX2_part_55 (by decide) ?_
  refine lv_istore (lv' := [(11, .int (0 : Int32)), (10, .int (-1 : Int32)), (0, rv x0), (1, .int x1), (2, .int x2), (3, rv x3), (4, .int x4), (5, .long x5), (7, .int x7), (8, .int x8), (9, .int x9)]) hx hb dX2_part_56 hl (by decide) rfl (fun ls hl => ?_)
  exact w_X2_part_L58_g hC hr hnh hin hfr hlo o_X2_see ho_X2_see o_X2_part ho_X2_part o_X2_go ho_X2_go k3 hk3 MN x0 x1 x2 x3 x4 x5 x7 x8 x9 (-1 : Int32) (0 : Int32) h hF H locs cells slots ls hX (lv_sub hl [2, 3, 4, 5, 6, 7, 8, 9, 10, 1, 0] rfl)
def B_X2_part_L23 (K : Nat → Nat) (o_X2_see : Nat → Int32 → Int32 → Nat → Int32 → Int64 → Int32 → TH → Option TH) (o_X2_part : Nat → Int32 → Int32 → Nat → Int32 → Int64 → Int32 → TH → Option TH) (o_X2_go : Nat → Int32 → Int32 → Int32 → Int64 → Int32 → TH → Option TH) (k3 : Nat → Int32 → Int32 → Nat → Int32 → Int64 → Int32 → Int32 → TH → Option TH) : Nat → Nat → Int32 → Int32 → Nat → Int32 → Int64 → Int32 → Int32 → Int32 → Int32 → TH → Option TH
  | 0, _, _, _, _, _, _, _, _, _, _, _ => none
  | fu + 1, x0, x1, x2, x3, x4, x5, x7, x8, x9, x10, h =>
    if (2048 : Int32) ≤ x10 then
      B_X2_part_b52 K o_X2_see o_X2_part o_X2_go k3 x0 x1 x2 x3 x4 x5 x7 x8 x9 h
    else
      gd (hasF (hT h x0) 49 = true) <|
      gd (hR h 49 x0 ≠ 0) <|
      lt (hR h 49 x0) fun r_4 =>
      gd (hasF (hT h r_4) 0 = true) <|
      lt (hR h 0 r_4) fun r_6 =>
      gd (hT h r_6 = 35 ∨ hT h r_6 = 36 ∨ hT h r_6 = 37 ∨ hT h r_6 = 48) <|
      gd (inb (x1 + (1 : Int32)) (hN h r_6)) <|
      lt (hY h r_6 (Int32.toNatClampNeg (x1 + (1 : Int32)))) fun r_9 =>
      gd (hT h r_9 = 34) <|
      gd (inb x10 (hN h r_9)) <|
      lt (uL h r_9 (Int32.toNatClampNeg x10) (0 : Int64)) fun h_12 =>
      lt (x10 + (1 : Int32)) fun x10_13 =>
      B_X2_part_L23 K o_X2_see o_X2_part o_X2_go k3 fu x0 x1 x2 x3 x4 x5 x7 x8 x9 x10_13 h_12
set_option maxHeartbeats 4000000 in
theorem w_X2_part_L23_g {p : Program} {l : Launch} {e : Env} {s : State} {m : MethodId} {args : Array Value} {below : List Frame} {meth : Method} {c : Code} {D : XD} {h0 : TH} {fr lo : Nat} (hC : XCx D cX2_part 14 RX2 h0 p (xRm (fr + 1) (lo + 33) h0) s m args meth c) (hr : meth.sig.returnType = none) (hnh : c.exceptionTable.isEmpty = true) (hin : meth.name = "part") (hfr : 455 ≤ fr) (hlo : 10464 ≤ lo) (o_X2_see : Nat → Int32 → Int32 → Nat → Int32 → Int64 → Int32 → TH → Option TH) (ho_X2_see : ∀ (a : Nat) (b0 : Int32) (b1 : Int32) (b2 : Nat) (b3 : Int32) (b4 : Int64) (b5 : Int32) (h : TH) (x : TH), o_X2_see a b0 b1 b2 b3 b4 b5 h = some x → XMt l yX2_see (ws_ yX2_see cX2_see 14 (none)) fr lo D [rv a, .int b0, .int b1, rv b2, .int b3, .long b4, .int b5] h (.returned none) x) (o_X2_part : Nat → Int32 → Int32 → Nat → Int32 → Int64 → Int32 → TH → Option TH) (ho_X2_part : ∀ (a : Nat) (b0 : Int32) (b1 : Int32) (b2 : Nat) (b3 : Int32) (b4 : Int64) (b5 : Int32) (h : TH) (x : TH), o_X2_part a b0 b1 b2 b3 b4 b5 h = some x → XMt l yX2_part (ws_ yX2_part cX2_part 14 (none)) fr lo D [rv a, .int b0, .int b1, rv b2, .int b3, .long b4, .int b5] h (.returned none) x) (o_X2_go : Nat → Int32 → Int32 → Int32 → Int64 → Int32 → TH → Option TH) (ho_X2_go : ∀ (a : Nat) (b0 : Int32) (b1 : Int32) (b2 : Int32) (b3 : Int64) (b4 : Int32) (h : TH) (x : TH), o_X2_go a b0 b1 b2 b3 b4 h = some x → XMt l yX2_go (ws_ yX2_go cX2_go 14 (none)) fr lo D [rv a, .int b0, .int b1, .int b2, .long b3, .int b4] h (.returned none) x) {x : TH} (k3 : Nat → Int32 → Int32 → Nat → Int32 → Int64 → Int32 → Int32 → TH → Option TH) (hk3 : ∀ (x0 : Nat) (x1 : Int32) (x2 : Int32) (x3 : Nat) (x4 : Int32) (x5 : Int64) (x7 : Int32) (x8 : Int32) (h : TH), k3 x0 x1 x2 x3 x4 x5 x7 x8 h = some x → XJ p l e (xRm (fr + 1) (lo + 33) h0) s m args below meth c D 14 (.returned none) h0 x 3 [(0, rv x0), (1, .int x1), (2, .int x2), (3, rv x3), (4, .int x4), (5, .long x5), (7, .int x7), (8, .int x8)] [] h) :
    ∀ (fu : Nat) (x0 : Nat) (x1 : Int32) (x2 : Int32) (x3 : Nat) (x4 : Int32) (x5 : Int64) (x7 : Int32) (x8 : Int32) (x9 : Int32) (x10 : Int32) (h : TH), B_X2_part_L23 D.2.2.2 o_X2_see o_X2_part o_X2_go k3 fu x0 x1 x2 x3 x4 x5 x7 x8 x9 x10 h = some x → XJ p l e (xRm (fr + 1) (lo + 33) h0) s m args below meth c D 14 (.returned none) h0 x 23 [(0, rv x0), (1, .int x1), (2, .int x2), (3, rv x3), (4, .int x4), (5, .long x5), (7, .int x7), (8, .int x8), (9, .int x9), (10, .int x10)] [] h := by
  have hx := hC.1
  have hb := hC.2.1
  intro fu
  induction fu with
  | zero => intro x0 x1 x2 x3 x4 x5 x7 x8 x9 x10 h hF; exact nm_none hF
  | succ fu ih =>
    intro x0 x1 x2 x3 x4 x5 x7 x8 x9 x10 h hF H locs cells slots ls hX hl
    rw [B_X2_part_L23] at hF
    refine lv_iload hx hb dX2_part_23 (lv_at hl 9 rfl) ?_
    refine lv_sipush (v := 2048) hx hb dX2_part_25 (by decide) ?_
    refine lv_icmp_ge (tgt := 52) hx hb dX2_part_28 (by decide) (fun c_1 => ?_) (fun c_1 => ?_)
    · replace hF := it_t hF c_1
      exact w_X2_part_b52_g hC hr hnh hin hfr hlo o_X2_see ho_X2_see o_X2_part ho_X2_part o_X2_go ho_X2_go k3 hk3 x0 x1 x2 x3 x4 x5 x7 x8 x9 h hF H locs cells slots ls hX (lv_sub hl [0, 1, 2, 3, 4, 5, 6, 7, 8] rfl)
    · replace hF := it_f hF c_1
      refine X_aload_n hx hb dX2_part_31 rfl (lv_at hl 0 rfl) ?_
      obtain ⟨h_2, hF⟩ := gd_ok hF
      obtain ⟨h_3, hF⟩ := gd_ok hF
      refine gX_X2_3 hC hX h_2 h_3 dX2_part_32 ?_
      refine lv_topr (fun r_4 er_4 => ?_)
      replace hF := lt_at hF er_4
      obtain ⟨h_5, hF⟩ := gd_ok hF
      refine gX_X2_32 hC hX h_5 dX2_part_35 ?_
      refine lv_topr (fun r_6 er_6 => ?_)
      replace hF := lt_at hF er_6
      refine lv_iload_n hx hb dX2_part_38 rfl (lv_at hl 1 rfl) ?_
      refine lv_iconst (v := 1) hx hb dX2_part_39 (by decide) ?_
      refine lv_iadd hx hb dX2_part_40 ?_
      obtain ⟨h_7, hF⟩ := gd_ok hF
      obtain ⟨h_8, hF⟩ := gd_ok hF
      refine X_aald hC hX h_7 h_8 dX2_part_41 ?_
      refine lv_topr (fun r_9 er_9 => ?_)
      replace hF := lt_at hF er_9
      refine lv_iload hx hb dX2_part_42 (lv_at hl 9 rfl) ?_
      refine lv_lconst (v := 0) hx hb dX2_part_44 (by decide) ?_
      obtain ⟨h_10, hF⟩ := gd_ok hF
      obtain ⟨h_11, hF⟩ := gd_ok hF
      refine X_last hC hX h_10 h_11 dX2_part_45 (fun H locs hX => ?_)
      obtain ⟨h_12, eh_12, hF⟩ := lt_ok hF
      rw [← eh_12] at hX
      obtain ⟨x10_13, ex10_13, hF⟩ := lt_ok hF
      refine lv_iinc (v := x10_13) (lv' := [(10, .int x10_13), (0, rv x0), (1, .int x1), (2, .int x2), (3, rv x3), (4, .int x4), (5, .long x5), (7, .int x7), (8, .int x8), (9, .int x9)]) hx hb dX2_part_46 hl (k := 9) rfl (by rw [ex10_13]; rfl) (by decide) rfl (fun ls hl => ?_)
      refine lv_goto (tgt := 23) hx hb dX2_part_49 (by decide) ?_
      exact ih x0 x1 x2 x3 x4 x5 x7 x8 x9 x10_13 h_12 hF H locs cells slots ls hX (lv_sub hl [1, 2, 3, 4, 5, 6, 7, 8, 9, 0] rfl)
def B_X2_part_L3 (K : Nat → Nat) (o_X2_see : Nat → Int32 → Int32 → Nat → Int32 → Int64 → Int32 → TH → Option TH) (o_X2_part : Nat → Int32 → Int32 → Nat → Int32 → Int64 → Int32 → TH → Option TH) (o_X2_go : Nat → Int32 → Int32 → Int32 → Int64 → Int32 → TH → Option TH) : Nat → Nat → Int32 → Int32 → Nat → Int32 → Int64 → Int32 → Int32 → TH → Option TH
  | 0, _, _, _, _, _, _, _, _, _ => none
  | fu + 1, x0, x1, x2, x3, x4, x5, x7, x8, h =>
    bd (V_X7_ways K h x3) fun r_2 =>
    bd (F_J4_max K h r_2 (8 : Int32)) fun r_4 =>
    if r_4 ≤ x8 then
      some h
    else
      B_X2_part_L23 K o_X2_see o_X2_part o_X2_go (B_X2_part_L3 K o_X2_see o_X2_part o_X2_go fu) MN x0 x1 x2 x3 x4 x5 x7 x8 (0 : Int32) (0 : Int32) h
set_option maxHeartbeats 4000000 in
theorem w_X2_part_L3_g {p : Program} {l : Launch} {e : Env} {s : State} {m : MethodId} {args : Array Value} {below : List Frame} {meth : Method} {c : Code} {D : XD} {h0 : TH} {fr lo : Nat} (hC : XCx D cX2_part 14 RX2 h0 p (xRm (fr + 1) (lo + 33) h0) s m args meth c) (hr : meth.sig.returnType = none) (hnh : c.exceptionTable.isEmpty = true) (hin : meth.name = "part") (hfr : 455 ≤ fr) (hlo : 10464 ≤ lo) (o_X2_see : Nat → Int32 → Int32 → Nat → Int32 → Int64 → Int32 → TH → Option TH) (ho_X2_see : ∀ (a : Nat) (b0 : Int32) (b1 : Int32) (b2 : Nat) (b3 : Int32) (b4 : Int64) (b5 : Int32) (h : TH) (x : TH), o_X2_see a b0 b1 b2 b3 b4 b5 h = some x → XMt l yX2_see (ws_ yX2_see cX2_see 14 (none)) fr lo D [rv a, .int b0, .int b1, rv b2, .int b3, .long b4, .int b5] h (.returned none) x) (o_X2_part : Nat → Int32 → Int32 → Nat → Int32 → Int64 → Int32 → TH → Option TH) (ho_X2_part : ∀ (a : Nat) (b0 : Int32) (b1 : Int32) (b2 : Nat) (b3 : Int32) (b4 : Int64) (b5 : Int32) (h : TH) (x : TH), o_X2_part a b0 b1 b2 b3 b4 b5 h = some x → XMt l yX2_part (ws_ yX2_part cX2_part 14 (none)) fr lo D [rv a, .int b0, .int b1, rv b2, .int b3, .long b4, .int b5] h (.returned none) x) (o_X2_go : Nat → Int32 → Int32 → Int32 → Int64 → Int32 → TH → Option TH) (ho_X2_go : ∀ (a : Nat) (b0 : Int32) (b1 : Int32) (b2 : Int32) (b3 : Int64) (b4 : Int32) (h : TH) (x : TH), o_X2_go a b0 b1 b2 b3 b4 h = some x → XMt l yX2_go (ws_ yX2_go cX2_go 14 (none)) fr lo D [rv a, .int b0, .int b1, .int b2, .long b3, .int b4] h (.returned none) x) {x : TH} :
    ∀ (fu : Nat) (x0 : Nat) (x1 : Int32) (x2 : Int32) (x3 : Nat) (x4 : Int32) (x5 : Int64) (x7 : Int32) (x8 : Int32) (h : TH), B_X2_part_L3 D.2.2.2 o_X2_see o_X2_part o_X2_go fu x0 x1 x2 x3 x4 x5 x7 x8 h = some x → XJ p l e (xRm (fr + 1) (lo + 33) h0) s m args below meth c D 14 (.returned none) h0 x 3 [(0, rv x0), (1, .int x1), (2, .int x2), (3, rv x3), (4, .int x4), (5, .long x5), (7, .int x7), (8, .int x8)] [] h := by
  have hx := hC.1
  have hb := hC.2.1
  intro fu
  induction fu with
  | zero => intro x0 x1 x2 x3 x4 x5 x7 x8 h hF; exact nm_none hF
  | succ fu ih =>
    intro x0 x1 x2 x3 x4 x5 x7 x8 h hF H locs cells slots ls hX hl
    rw [B_X2_part_L3] at hF
    refine lv_iload hx hb dX2_part_3 (lv_at hl 7 rfl) ?_
    refine X_aload_n hx hb dX2_part_5 rfl (lv_at hl 3 rfl) ?_
    obtain ⟨r_2, hc_1, hF⟩ := bd_ok hF
    refine iX_X2_87 hC hX hc_1 hl.1 (Nat.le_of_ble_eq_true rfl) (by show _ ≤ fr + 1; omega) (by show _ ≤ lo + 33; omega) dX2_part_6 (fun H locs cells slots hX => ?_)
    refine lv_bipush (v := 8) hx hb dX2_part_9 (by decide) ?_
    obtain ⟨r_4, hc_3, hF⟩ := bd_ok hF
    refine iX_X2_148 hC hX hc_3 hl.1 (Nat.le_of_ble_eq_true rfl) (by show _ ≤ fr + 1; omega) (by show _ ≤ lo + 33; omega) dX2_part_11 (fun H locs cells slots hX => ?_)
    refine lv_icmp_ge (tgt := 300) hx hb dX2_part_14 (by decide) (fun c_5 => ?_) (fun c_5 => ?_)
    · replace hF := it_t hF c_5
      exact x_retv hC hX hr (Option.some.inj hF) dX2_part_300
    · replace hF := it_f hF c_5
      refine lv_iconst (v := 0) hx hb dX2_part_17 (by decide) ?_
      refine lv_istore (lv' := [(9, .int (0 : Int32)), (0, rv x0), (1, .int x1), (2, .int x2), (3, rv x3), (4, .int x4), (5, .long x5), (7, .int x7), (8, .int x8)]) hx hb dX2_part_18 hl (by decide) rfl (fun ls hl => ?_)
      refine lv_iconst (v := 0) hx hb dX2_part_20 (by decide) ?_
      refine lv_istore (lv' := [(10, .int (0 : Int32)), (9, .int (0 : Int32)), (0, rv x0), (1, .int x1), (2, .int x2), (3, rv x3), (4, .int x4), (5, .long x5), (7, .int x7), (8, .int x8)]) hx hb dX2_part_21 hl (by decide) rfl (fun ls hl => ?_)
      exact w_X2_part_L23_g hC hr hnh hin hfr hlo o_X2_see ho_X2_see o_X2_part ho_X2_part o_X2_go ho_X2_go (B_X2_part_L3 D.2.2.2 o_X2_see o_X2_part o_X2_go fu) ih MN x0 x1 x2 x3 x4 x5 x7 x8 (0 : Int32) (0 : Int32) h hF H locs cells slots ls hX (lv_sub hl [2, 3, 4, 5, 6, 7, 8, 9, 1, 0] rfl)
def B_X2_part (K : Nat → Nat) (o_X2_see : Nat → Int32 → Int32 → Nat → Int32 → Int64 → Int32 → TH → Option TH) (o_X2_part : Nat → Int32 → Int32 → Nat → Int32 → Int64 → Int32 → TH → Option TH) (o_X2_go : Nat → Int32 → Int32 → Int32 → Int64 → Int32 → TH → Option TH) (a0 : Nat) (b0 : Int32) (b1 : Int32) (b2 : Nat) (b3 : Int32) (b4 : Int64) (b5 : Int32) (h : TH) : Option TH :=
  B_X2_part_L3 K o_X2_see o_X2_part o_X2_go MN a0 b0 b1 b2 b3 b4 b5 (0 : Int32) h
set_option maxHeartbeats 4000000 in
theorem w_X2_part_g {p : Program} {l : Launch} {e : Env} {s : State} {m : MethodId} {args : Array Value} {below : List Frame} {meth : Method} {c : Code} {D : XD} {h0 : TH} {fr lo : Nat} (hC : XCx D cX2_part 14 RX2 h0 p (xRm (fr + 1) (lo + 33) h0) s m args meth c) (hr : meth.sig.returnType = none) (hnh : c.exceptionTable.isEmpty = true) (hin : meth.name = "part") (hfr : 455 ≤ fr) (hlo : 10464 ≤ lo) (o_X2_see : Nat → Int32 → Int32 → Nat → Int32 → Int64 → Int32 → TH → Option TH) (ho_X2_see : ∀ (a : Nat) (b0 : Int32) (b1 : Int32) (b2 : Nat) (b3 : Int32) (b4 : Int64) (b5 : Int32) (h : TH) (x : TH), o_X2_see a b0 b1 b2 b3 b4 b5 h = some x → XMt l yX2_see (ws_ yX2_see cX2_see 14 (none)) fr lo D [rv a, .int b0, .int b1, rv b2, .int b3, .long b4, .int b5] h (.returned none) x) (o_X2_part : Nat → Int32 → Int32 → Nat → Int32 → Int64 → Int32 → TH → Option TH) (ho_X2_part : ∀ (a : Nat) (b0 : Int32) (b1 : Int32) (b2 : Nat) (b3 : Int32) (b4 : Int64) (b5 : Int32) (h : TH) (x : TH), o_X2_part a b0 b1 b2 b3 b4 b5 h = some x → XMt l yX2_part (ws_ yX2_part cX2_part 14 (none)) fr lo D [rv a, .int b0, .int b1, rv b2, .int b3, .long b4, .int b5] h (.returned none) x) (o_X2_go : Nat → Int32 → Int32 → Int32 → Int64 → Int32 → TH → Option TH) (ho_X2_go : ∀ (a : Nat) (b0 : Int32) (b1 : Int32) (b2 : Int32) (b3 : Int64) (b4 : Int32) (h : TH) (x : TH), o_X2_go a b0 b1 b2 b3 b4 h = some x → XMt l yX2_go (ws_ yX2_go cX2_go 14 (none)) fr lo D [rv a, .int b0, .int b1, .int b2, .long b3, .int b4] h (.returned none) x) {x : TH} :
    ∀ (a0 : Nat) (b0 : Int32) (b1 : Int32) (b2 : Nat) (b3 : Int32) (b4 : Int64) (b5 : Int32) (h : TH), B_X2_part D.2.2.2 o_X2_see o_X2_part o_X2_go a0 b0 b1 b2 b3 b4 b5 h = some x → XJ p l e (xRm (fr + 1) (lo + 33) h0) s m args below meth c D 14 (.returned none) h0 x 0 [(0, rv a0), (1, .int b0), (2, .int b1), (3, rv b2), (4, .int b3), (5, .long b4), (7, .int b5)] [] h := by
  have hx := hC.1
  have hb := hC.2.1
  intro a0 b0 b1 b2 b3 b4 b5 h hF H locs cells slots ls hX hl
  rw [B_X2_part] at hF
  refine lv_iconst (v := 0) hx hb dX2_part_0 (by decide) ?_
  refine lv_istore (lv' := [(8, .int (0 : Int32)), (0, rv a0), (1, .int b0), (2, .int b1), (3, rv b2), (4, .int b3), (5, .long b4), (7, .int b5)]) hx hb dX2_part_1 hl (by decide) rfl (fun ls hl => ?_)
  exact w_X2_part_L3_g hC hr hnh hin hfr hlo o_X2_see ho_X2_see o_X2_part ho_X2_part o_X2_go ho_X2_go MN a0 b0 b1 b2 b3 b4 b5 (0 : Int32) h hF H locs cells slots ls hX (lv_sub hl [1, 2, 3, 4, 5, 6, 7, 0] rfl)
theorem mb_X2_part (l : Launch) (D : XD) {fr lo : Nat} (hfr : 455 ≤ fr) (hlo : 10464 ≤ lo) (o_X2_see : Nat → Int32 → Int32 → Nat → Int32 → Int64 → Int32 → TH → Option TH) (ho_X2_see : ∀ (a : Nat) (b0 : Int32) (b1 : Int32) (b2 : Nat) (b3 : Int32) (b4 : Int64) (b5 : Int32) (h : TH) (x : TH), o_X2_see a b0 b1 b2 b3 b4 b5 h = some x → XMt l yX2_see (ws_ yX2_see cX2_see 14 (none)) fr lo D [rv a, .int b0, .int b1, rv b2, .int b3, .long b4, .int b5] h (.returned none) x) (o_X2_part : Nat → Int32 → Int32 → Nat → Int32 → Int64 → Int32 → TH → Option TH) (ho_X2_part : ∀ (a : Nat) (b0 : Int32) (b1 : Int32) (b2 : Nat) (b3 : Int32) (b4 : Int64) (b5 : Int32) (h : TH) (x : TH), o_X2_part a b0 b1 b2 b3 b4 b5 h = some x → XMt l yX2_part (ws_ yX2_part cX2_part 14 (none)) fr lo D [rv a, .int b0, .int b1, rv b2, .int b3, .long b4, .int b5] h (.returned none) x) (o_X2_go : Nat → Int32 → Int32 → Int32 → Int64 → Int32 → TH → Option TH) (ho_X2_go : ∀ (a : Nat) (b0 : Int32) (b1 : Int32) (b2 : Int32) (b3 : Int64) (b4 : Int32) (h : TH) (x : TH), o_X2_go a b0 b1 b2 b3 b4 h = some x → XMt l yX2_go (ws_ yX2_go cX2_go 14 (none)) fr lo D [rv a, .int b0, .int b1, .int b2, .long b3, .int b4] h (.returned none) x) (a0 : Nat) (b0 : Int32) (b1 : Int32) (b2 : Nat) (b3 : Int32) (b4 : Int64) (b5 : Int32) (h : TH) (x : TH) (hF : B_X2_part D.2.2.2 o_X2_see o_X2_part o_X2_go a0 b0 b1 b2 b3 b4 b5 h = some x) : XMt l yX2_part (ws_ yX2_part cX2_part 14 (none)) (fr + 1) (lo + 33) D [rv a0, .int b0, .int b1, rv b2, .int b3, .long b4, .int b5] h (.returned none) x := by
  refine x_met (by decide +kernel) ?_ ?_
  · simp [lg_sl, rv_cat, cat_i, cat_l]
  intro p e s m below meth c hC hr hnh hin ls hl hX
  replace hl : lv_has ls 14 [(0, rv a0), (1, .int b0), (2, .int b1), (3, rv b2), (4, .int b3), (5, .long b4), (7, .int b5)] := by simpa [lv_args, rv_cat, cat_i, cat_l] using hl
  exact w_X2_part_g hC hr hnh hin hfr hlo o_X2_see ho_X2_see o_X2_part ho_X2_part o_X2_go ho_X2_go a0 b0 b1 b2 b3 b4 b5 h hF s.heap [] 0 0 ls hX hl
def B_X2_go_b371 (K : Nat → Nat) (o_X2_see : Nat → Int32 → Int32 → Nat → Int32 → Int64 → Int32 → TH → Option TH) (o_X2_part : Nat → Int32 → Int32 → Nat → Int32 → Int64 → Int32 → TH → Option TH) (o_X2_go : Nat → Int32 → Int32 → Int32 → Int64 → Int32 → TH → Option TH) (x0 : Nat) (x1 : Int32) (x10 : Int64) (h : TH) : Option TH :=
  bd (V_X2_isDone K h x0) fun r_2 =>
  if r_2 = 0 then
    bd (V_X2_end K x0 x1 0 x10 h) fun h_5 =>
    some h_5
  else
    some h
set_option maxHeartbeats 4000000 in
theorem w_X2_go_b371_g {p : Program} {l : Launch} {e : Env} {s : State} {m : MethodId} {args : Array Value} {below : List Frame} {meth : Method} {c : Code} {D : XD} {h0 : TH} {fr lo : Nat} (hC : XCx D cX2_go 14 RX2 h0 p (xRm (fr + 1) (lo + 33) h0) s m args meth c) (hr : meth.sig.returnType = none) (hnh : c.exceptionTable.isEmpty = true) (hin : meth.name = "go") (hfr : 455 ≤ fr) (hlo : 10464 ≤ lo) (o_X2_see : Nat → Int32 → Int32 → Nat → Int32 → Int64 → Int32 → TH → Option TH) (ho_X2_see : ∀ (a : Nat) (b0 : Int32) (b1 : Int32) (b2 : Nat) (b3 : Int32) (b4 : Int64) (b5 : Int32) (h : TH) (x : TH), o_X2_see a b0 b1 b2 b3 b4 b5 h = some x → XMt l yX2_see (ws_ yX2_see cX2_see 14 (none)) fr lo D [rv a, .int b0, .int b1, rv b2, .int b3, .long b4, .int b5] h (.returned none) x) (o_X2_part : Nat → Int32 → Int32 → Nat → Int32 → Int64 → Int32 → TH → Option TH) (ho_X2_part : ∀ (a : Nat) (b0 : Int32) (b1 : Int32) (b2 : Nat) (b3 : Int32) (b4 : Int64) (b5 : Int32) (h : TH) (x : TH), o_X2_part a b0 b1 b2 b3 b4 b5 h = some x → XMt l yX2_part (ws_ yX2_part cX2_part 14 (none)) fr lo D [rv a, .int b0, .int b1, rv b2, .int b3, .long b4, .int b5] h (.returned none) x) (o_X2_go : Nat → Int32 → Int32 → Int32 → Int64 → Int32 → TH → Option TH) (ho_X2_go : ∀ (a : Nat) (b0 : Int32) (b1 : Int32) (b2 : Int32) (b3 : Int64) (b4 : Int32) (h : TH) (x : TH), o_X2_go a b0 b1 b2 b3 b4 h = some x → XMt l yX2_go (ws_ yX2_go cX2_go 14 (none)) fr lo D [rv a, .int b0, .int b1, .int b2, .long b3, .int b4] h (.returned none) x) {x : TH} :
    ∀ (x0 : Nat) (x1 : Int32) (x10 : Int64) (h : TH), B_X2_go_b371 D.2.2.2 o_X2_see o_X2_part o_X2_go x0 x1 x10 h = some x → XJ p l e (xRm (fr + 1) (lo + 33) h0) s m args below meth c D 14 (.returned none) h0 x 371 [(0, rv x0), (1, .int x1), (10, .long x10)] [] h := by
  have hx := hC.1
  have hb := hC.2.1
  intro x0 x1 x10 h hF H locs cells slots ls hX hl
  rw [B_X2_go_b371] at hF
  refine X_aload_n hx hb dX2_go_371 rfl (lv_at hl 0 rfl) ?_
  obtain ⟨r_2, hc_1, hF⟩ := bd_ok hF
  refine iX_X2_63 hC hX hc_1 hl.1 (Nat.le_of_ble_eq_true rfl) (by show _ ≤ fr + 1; omega) (by show _ ≤ lo + 33; omega) dX2_go_372 (fun H locs cells slots hX => ?_)
  refine lv_if_ne (tgt := 386) hx hb dX2_go_375 (by decide) (fun c_3 => ?_) (fun c_3 => ?_)
  · replace hF := it_f hF c_3
    exact x_retv hC hX hr (Option.some.inj hF) dX2_go_386
  · replace hF := it_t hF c_3
    refine X_aload_n hx hb dX2_go_378 rfl (lv_at hl 0 rfl) ?_
    refine lv_iload_n hx hb dX2_go_379 rfl (lv_at hl 1 rfl) ?_
    refine X_null hx hb dX2_go_380 ?_
    refine lv_lload hx hb dX2_go_381 (lv_at hl 2 rfl) ?_
    obtain ⟨h_5, hc_4, hF⟩ := bd_ok hF
    refine iX_X2_124 hC hX hc_4 hl.1 (Nat.le_of_ble_eq_true rfl) (by show _ ≤ fr + 1; omega) (by show _ ≤ lo + 33; omega) dX2_go_383 (fun H locs cells slots hX => ?_)
    exact x_retv hC hX hr (Option.some.inj hF) dX2_go_386
def B_X2_go_b365 (K : Nat → Nat) (o_X2_see : Nat → Int32 → Int32 → Nat → Int32 → Int64 → Int32 → TH → Option TH) (o_X2_part : Nat → Int32 → Int32 → Nat → Int32 → Int64 → Int32 → TH → Option TH) (o_X2_go : Nat → Int32 → Int32 → Int32 → Int64 → Int32 → TH → Option TH) (k14 : Nat → Int32 → Int32 → Int32 → Int32 → Int64 → TH → Option TH) (x0 : Nat) (x1 : Int32) (x7 : Int32) (x8 : Int32) (x9 : Int32) (x10 : Int64) (h : TH) : Option TH :=
  lt (x9 + (1 : Int32)) fun x9_1 =>
  k14 x0 x1 x7 x8 x9_1 x10 h
set_option maxHeartbeats 4000000 in
theorem w_X2_go_b365_g {p : Program} {l : Launch} {e : Env} {s : State} {m : MethodId} {args : Array Value} {below : List Frame} {meth : Method} {c : Code} {D : XD} {h0 : TH} {fr lo : Nat} (hC : XCx D cX2_go 14 RX2 h0 p (xRm (fr + 1) (lo + 33) h0) s m args meth c) (hr : meth.sig.returnType = none) (hnh : c.exceptionTable.isEmpty = true) (hin : meth.name = "go") (hfr : 455 ≤ fr) (hlo : 10464 ≤ lo) (o_X2_see : Nat → Int32 → Int32 → Nat → Int32 → Int64 → Int32 → TH → Option TH) (ho_X2_see : ∀ (a : Nat) (b0 : Int32) (b1 : Int32) (b2 : Nat) (b3 : Int32) (b4 : Int64) (b5 : Int32) (h : TH) (x : TH), o_X2_see a b0 b1 b2 b3 b4 b5 h = some x → XMt l yX2_see (ws_ yX2_see cX2_see 14 (none)) fr lo D [rv a, .int b0, .int b1, rv b2, .int b3, .long b4, .int b5] h (.returned none) x) (o_X2_part : Nat → Int32 → Int32 → Nat → Int32 → Int64 → Int32 → TH → Option TH) (ho_X2_part : ∀ (a : Nat) (b0 : Int32) (b1 : Int32) (b2 : Nat) (b3 : Int32) (b4 : Int64) (b5 : Int32) (h : TH) (x : TH), o_X2_part a b0 b1 b2 b3 b4 b5 h = some x → XMt l yX2_part (ws_ yX2_part cX2_part 14 (none)) fr lo D [rv a, .int b0, .int b1, rv b2, .int b3, .long b4, .int b5] h (.returned none) x) (o_X2_go : Nat → Int32 → Int32 → Int32 → Int64 → Int32 → TH → Option TH) (ho_X2_go : ∀ (a : Nat) (b0 : Int32) (b1 : Int32) (b2 : Int32) (b3 : Int64) (b4 : Int32) (h : TH) (x : TH), o_X2_go a b0 b1 b2 b3 b4 h = some x → XMt l yX2_go (ws_ yX2_go cX2_go 14 (none)) fr lo D [rv a, .int b0, .int b1, .int b2, .long b3, .int b4] h (.returned none) x) {x : TH} (k14 : Nat → Int32 → Int32 → Int32 → Int32 → Int64 → TH → Option TH) (hk14 : ∀ (x0 : Nat) (x1 : Int32) (x7 : Int32) (x8 : Int32) (x9 : Int32) (x10 : Int64) (h : TH), k14 x0 x1 x7 x8 x9 x10 h = some x → XJ p l e (xRm (fr + 1) (lo + 33) h0) s m args below meth c D 14 (.returned none) h0 x 14 [(0, rv x0), (1, .int x1), (7, .int x7), (8, .int x8), (9, .int x9), (10, .long x10)] [] h) :
    ∀ (x0 : Nat) (x1 : Int32) (x7 : Int32) (x8 : Int32) (x9 : Int32) (x10 : Int64) (h : TH), B_X2_go_b365 D.2.2.2 o_X2_see o_X2_part o_X2_go k14 x0 x1 x7 x8 x9 x10 h = some x → XJ p l e (xRm (fr + 1) (lo + 33) h0) s m args below meth c D 14 (.returned none) h0 x 365 [(0, rv x0), (1, .int x1), (7, .int x7), (8, .int x8), (9, .int x9), (10, .long x10)] [] h := by
  have hx := hC.1
  have hb := hC.2.1
  intro x0 x1 x7 x8 x9 x10 h hF H locs cells slots ls hX hl
  rw [B_X2_go_b365] at hF
  obtain ⟨x9_1, ex9_1, hF⟩ := lt_ok hF
  refine lv_iinc (v := x9_1) (lv' := [(9, .int x9_1), (0, rv x0), (1, .int x1), (7, .int x7), (8, .int x8), (10, .long x10)]) hx hb dX2_go_365 hl (k := 4) rfl (by rw [ex9_1]; rfl) (by decide) rfl (fun ls hl => ?_)
  refine lv_goto (tgt := 14) hx hb dX2_go_368 (by decide) ?_
  exact hk14 x0 x1 x7 x8 x9_1 x10 h hF H locs cells slots ls hX (lv_sub hl [1, 2, 3, 4, 0, 5] rfl)
def B_X2_go_b355 (K : Nat → Nat) (o_X2_see : Nat → Int32 → Int32 → Nat → Int32 → Int64 → Int32 → TH → Option TH) (o_X2_part : Nat → Int32 → Int32 → Nat → Int32 → Int64 → Int32 → TH → Option TH) (o_X2_go : Nat → Int32 → Int32 → Int32 → Int64 → Int32 → TH → Option TH) (x0 : Nat) (x1 : Int32) (x10 : Int64) (x12 : Nat) (h : TH) : Option TH :=
  bd (V_X2_end K x0 x1 x12 x10 h) fun h_2 =>
  some h_2
set_option maxHeartbeats 4000000 in
theorem w_X2_go_b355_g {p : Program} {l : Launch} {e : Env} {s : State} {m : MethodId} {args : Array Value} {below : List Frame} {meth : Method} {c : Code} {D : XD} {h0 : TH} {fr lo : Nat} (hC : XCx D cX2_go 14 RX2 h0 p (xRm (fr + 1) (lo + 33) h0) s m args meth c) (hr : meth.sig.returnType = none) (hnh : c.exceptionTable.isEmpty = true) (hin : meth.name = "go") (hfr : 455 ≤ fr) (hlo : 10464 ≤ lo) (o_X2_see : Nat → Int32 → Int32 → Nat → Int32 → Int64 → Int32 → TH → Option TH) (ho_X2_see : ∀ (a : Nat) (b0 : Int32) (b1 : Int32) (b2 : Nat) (b3 : Int32) (b4 : Int64) (b5 : Int32) (h : TH) (x : TH), o_X2_see a b0 b1 b2 b3 b4 b5 h = some x → XMt l yX2_see (ws_ yX2_see cX2_see 14 (none)) fr lo D [rv a, .int b0, .int b1, rv b2, .int b3, .long b4, .int b5] h (.returned none) x) (o_X2_part : Nat → Int32 → Int32 → Nat → Int32 → Int64 → Int32 → TH → Option TH) (ho_X2_part : ∀ (a : Nat) (b0 : Int32) (b1 : Int32) (b2 : Nat) (b3 : Int32) (b4 : Int64) (b5 : Int32) (h : TH) (x : TH), o_X2_part a b0 b1 b2 b3 b4 b5 h = some x → XMt l yX2_part (ws_ yX2_part cX2_part 14 (none)) fr lo D [rv a, .int b0, .int b1, rv b2, .int b3, .long b4, .int b5] h (.returned none) x) (o_X2_go : Nat → Int32 → Int32 → Int32 → Int64 → Int32 → TH → Option TH) (ho_X2_go : ∀ (a : Nat) (b0 : Int32) (b1 : Int32) (b2 : Int32) (b3 : Int64) (b4 : Int32) (h : TH) (x : TH), o_X2_go a b0 b1 b2 b3 b4 h = some x → XMt l yX2_go (ws_ yX2_go cX2_go 14 (none)) fr lo D [rv a, .int b0, .int b1, .int b2, .long b3, .int b4] h (.returned none) x) {x : TH} :
    ∀ (x0 : Nat) (x1 : Int32) (x10 : Int64) (x12 : Nat) (h : TH), B_X2_go_b355 D.2.2.2 o_X2_see o_X2_part o_X2_go x0 x1 x10 x12 h = some x → XJ p l e (xRm (fr + 1) (lo + 33) h0) s m args below meth c D 14 (.returned none) h0 x 355 [(0, rv x0), (1, .int x1), (10, .long x10), (12, rv x12)] [] h := by
  have hx := hC.1
  have hb := hC.2.1
  intro x0 x1 x10 x12 h hF H locs cells slots ls hX hl
  rw [B_X2_go_b355] at hF
  refine X_aload_n hx hb dX2_go_355 rfl (lv_at hl 0 rfl) ?_
  refine lv_iload_n hx hb dX2_go_356 rfl (lv_at hl 1 rfl) ?_
  refine X_aload hx hb dX2_go_357 (lv_at hl 3 rfl) ?_
  refine lv_lload hx hb dX2_go_359 (lv_at hl 2 rfl) ?_
  obtain ⟨h_2, hc_1, hF⟩ := bd_ok hF
  refine iX_X2_124 hC hX hc_1 hl.1 (Nat.le_of_ble_eq_true rfl) (by show _ ≤ fr + 1; omega) (by show _ ≤ lo + 33; omega) dX2_go_361 (fun H locs cells slots hX => ?_)
  exact x_retv hC hX hr (Option.some.inj hF) dX2_go_364
def B_X2_go_b336 (K : Nat → Nat) (o_X2_see : Nat → Int32 → Int32 → Nat → Int32 → Int64 → Int32 → TH → Option TH) (o_X2_part : Nat → Int32 → Int32 → Nat → Int32 → Int64 → Int32 → TH → Option TH) (o_X2_go : Nat → Int32 → Int32 → Int32 → Int64 → Int32 → TH → Option TH) (k365 : Nat → Int32 → Int32 → Int32 → Int32 → Int64 → TH → Option TH) (x0 : Nat) (x1 : Int32) (x7 : Int32) (x8 : Int32) (x9 : Int32) (x10 : Int64) (h : TH) : Option TH :=
  k365 x0 x1 x7 x8 x9 x10 h
set_option maxHeartbeats 4000000 in
theorem w_X2_go_b336_g {p : Program} {l : Launch} {e : Env} {s : State} {m : MethodId} {args : Array Value} {below : List Frame} {meth : Method} {c : Code} {D : XD} {h0 : TH} {fr lo : Nat} (hC : XCx D cX2_go 14 RX2 h0 p (xRm (fr + 1) (lo + 33) h0) s m args meth c) (hr : meth.sig.returnType = none) (hnh : c.exceptionTable.isEmpty = true) (hin : meth.name = "go") (hfr : 455 ≤ fr) (hlo : 10464 ≤ lo) (o_X2_see : Nat → Int32 → Int32 → Nat → Int32 → Int64 → Int32 → TH → Option TH) (ho_X2_see : ∀ (a : Nat) (b0 : Int32) (b1 : Int32) (b2 : Nat) (b3 : Int32) (b4 : Int64) (b5 : Int32) (h : TH) (x : TH), o_X2_see a b0 b1 b2 b3 b4 b5 h = some x → XMt l yX2_see (ws_ yX2_see cX2_see 14 (none)) fr lo D [rv a, .int b0, .int b1, rv b2, .int b3, .long b4, .int b5] h (.returned none) x) (o_X2_part : Nat → Int32 → Int32 → Nat → Int32 → Int64 → Int32 → TH → Option TH) (ho_X2_part : ∀ (a : Nat) (b0 : Int32) (b1 : Int32) (b2 : Nat) (b3 : Int32) (b4 : Int64) (b5 : Int32) (h : TH) (x : TH), o_X2_part a b0 b1 b2 b3 b4 b5 h = some x → XMt l yX2_part (ws_ yX2_part cX2_part 14 (none)) fr lo D [rv a, .int b0, .int b1, rv b2, .int b3, .long b4, .int b5] h (.returned none) x) (o_X2_go : Nat → Int32 → Int32 → Int32 → Int64 → Int32 → TH → Option TH) (ho_X2_go : ∀ (a : Nat) (b0 : Int32) (b1 : Int32) (b2 : Int32) (b3 : Int64) (b4 : Int32) (h : TH) (x : TH), o_X2_go a b0 b1 b2 b3 b4 h = some x → XMt l yX2_go (ws_ yX2_go cX2_go 14 (none)) fr lo D [rv a, .int b0, .int b1, .int b2, .long b3, .int b4] h (.returned none) x) {x : TH} (k365 : Nat → Int32 → Int32 → Int32 → Int32 → Int64 → TH → Option TH) (hk365 : ∀ (x0 : Nat) (x1 : Int32) (x7 : Int32) (x8 : Int32) (x9 : Int32) (x10 : Int64) (h : TH), k365 x0 x1 x7 x8 x9 x10 h = some x → XJ p l e (xRm (fr + 1) (lo + 33) h0) s m args below meth c D 14 (.returned none) h0 x 365 [(0, rv x0), (1, .int x1), (7, .int x7), (8, .int x8), (9, .int x9), (10, .long x10)] [] h) :
    ∀ (x0 : Nat) (x1 : Int32) (x7 : Int32) (x8 : Int32) (x9 : Int32) (x10 : Int64) (h : TH), B_X2_go_b336 D.2.2.2 o_X2_see o_X2_part o_X2_go k365 x0 x1 x7 x8 x9 x10 h = some x → XJ p l e (xRm (fr + 1) (lo + 33) h0) s m args below meth c D 14 (.returned none) h0 x 336 [(0, rv x0), (1, .int x1), (7, .int x7), (8, .int x8), (9, .int x9), (10, .long x10)] [] h := by
  have hx := hC.1
  have hb := hC.2.1
  intro x0 x1 x7 x8 x9 x10 h hF H locs cells slots ls hX hl
  rw [B_X2_go_b336] at hF
  refine lv_goto (tgt := 365) hx hb dX2_go_336 (by decide) ?_
  exact hk365 x0 x1 x7 x8 x9 x10 h hF H locs cells slots ls hX (lv_sub hl [0, 1, 2, 3, 4, 5] rfl)
def B_X2_go_b326 (K : Nat → Nat) (o_X2_see : Nat → Int32 → Int32 → Nat → Int32 → Int64 → Int32 → TH → Option TH) (o_X2_part : Nat → Int32 → Int32 → Nat → Int32 → Int64 → Int32 → TH → Option TH) (o_X2_go : Nat → Int32 → Int32 → Int32 → Int64 → Int32 → TH → Option TH) (k365 : Nat → Int32 → Int32 → Int32 → Int32 → Int64 → TH → Option TH) (x0 : Nat) (x1 : Int32) (x7 : Int32) (x8 : Int32) (x9 : Int32) (x10 : Int64) (x13 : Nat) (y0 : Int32) (y1 : Int32) (h : TH) : Option TH :=
  if y1 = y0 then
    gd (hasF (hT h x13) 110 = true) <|
    lt ((hI h 110 x13)) fun x_3 =>
    B_X2_go_b336 K o_X2_see o_X2_part o_X2_go k365 x0 x1 x7 x8 x_3 x10 h
  else
    B_X2_go_b336 K o_X2_see o_X2_part o_X2_go k365 x0 x1 x7 x8 x9 x10 h
set_option maxHeartbeats 4000000 in
theorem w_X2_go_b326_g {p : Program} {l : Launch} {e : Env} {s : State} {m : MethodId} {args : Array Value} {below : List Frame} {meth : Method} {c : Code} {D : XD} {h0 : TH} {fr lo : Nat} (hC : XCx D cX2_go 14 RX2 h0 p (xRm (fr + 1) (lo + 33) h0) s m args meth c) (hr : meth.sig.returnType = none) (hnh : c.exceptionTable.isEmpty = true) (hin : meth.name = "go") (hfr : 455 ≤ fr) (hlo : 10464 ≤ lo) (o_X2_see : Nat → Int32 → Int32 → Nat → Int32 → Int64 → Int32 → TH → Option TH) (ho_X2_see : ∀ (a : Nat) (b0 : Int32) (b1 : Int32) (b2 : Nat) (b3 : Int32) (b4 : Int64) (b5 : Int32) (h : TH) (x : TH), o_X2_see a b0 b1 b2 b3 b4 b5 h = some x → XMt l yX2_see (ws_ yX2_see cX2_see 14 (none)) fr lo D [rv a, .int b0, .int b1, rv b2, .int b3, .long b4, .int b5] h (.returned none) x) (o_X2_part : Nat → Int32 → Int32 → Nat → Int32 → Int64 → Int32 → TH → Option TH) (ho_X2_part : ∀ (a : Nat) (b0 : Int32) (b1 : Int32) (b2 : Nat) (b3 : Int32) (b4 : Int64) (b5 : Int32) (h : TH) (x : TH), o_X2_part a b0 b1 b2 b3 b4 b5 h = some x → XMt l yX2_part (ws_ yX2_part cX2_part 14 (none)) fr lo D [rv a, .int b0, .int b1, rv b2, .int b3, .long b4, .int b5] h (.returned none) x) (o_X2_go : Nat → Int32 → Int32 → Int32 → Int64 → Int32 → TH → Option TH) (ho_X2_go : ∀ (a : Nat) (b0 : Int32) (b1 : Int32) (b2 : Int32) (b3 : Int64) (b4 : Int32) (h : TH) (x : TH), o_X2_go a b0 b1 b2 b3 b4 h = some x → XMt l yX2_go (ws_ yX2_go cX2_go 14 (none)) fr lo D [rv a, .int b0, .int b1, .int b2, .long b3, .int b4] h (.returned none) x) {x : TH} (k365 : Nat → Int32 → Int32 → Int32 → Int32 → Int64 → TH → Option TH) (hk365 : ∀ (x0 : Nat) (x1 : Int32) (x7 : Int32) (x8 : Int32) (x9 : Int32) (x10 : Int64) (h : TH), k365 x0 x1 x7 x8 x9 x10 h = some x → XJ p l e (xRm (fr + 1) (lo + 33) h0) s m args below meth c D 14 (.returned none) h0 x 365 [(0, rv x0), (1, .int x1), (7, .int x7), (8, .int x8), (9, .int x9), (10, .long x10)] [] h) :
    ∀ (x0 : Nat) (x1 : Int32) (x7 : Int32) (x8 : Int32) (x9 : Int32) (x10 : Int64) (x13 : Nat) (y0 : Int32) (y1 : Int32) (h : TH), B_X2_go_b326 D.2.2.2 o_X2_see o_X2_part o_X2_go k365 x0 x1 x7 x8 x9 x10 x13 y0 y1 h = some x → XJ p l e (xRm (fr + 1) (lo + 33) h0) s m args below meth c D 14 (.returned none) h0 x 326 [(0, rv x0), (1, .int x1), (7, .int x7), (8, .int x8), (9, .int x9), (10, .long x10), (13, rv x13)] [.int y0, .int y1] h := by
  have hx := hC.1
  have hb := hC.2.1
  intro x0 x1 x7 x8 x9 x10 x13 y0 y1 h hF H locs cells slots ls hX hl
  rw [B_X2_go_b326] at hF
  refine lv_icmp_ne (tgt := 336) hx hb dX2_go_326 (by decide) (fun c_1 => ?_) (fun c_1 => ?_)
  · replace hF := it_f hF c_1
    exact w_X2_go_b336_g hC hr hnh hin hfr hlo o_X2_see ho_X2_see o_X2_part ho_X2_part o_X2_go ho_X2_go k365 hk365 x0 x1 x7 x8 x9 x10 h hF H locs cells slots ls hX (lv_sub hl [0, 1, 2, 3, 4, 5] rfl)
  · replace hF := it_t hF c_1
    refine X_aload hx hb dX2_go_329 (lv_at hl 6 rfl) ?_
    obtain ⟨h_2, hF⟩ := gd_ok hF
    refine gX_X2_117 hC hX h_2 dX2_go_331 ?_
    refine lv_topi (fun x_3 ex_3 => ?_)
    replace hF := lt_at hF ex_3
    refine lv_istore (lv' := [(9, .int x_3), (0, rv x0), (1, .int x1), (7, .int x7), (8, .int x8), (10, .long x10), (13, rv x13)]) hx hb dX2_go_334 hl (by decide) rfl (fun ls hl => ?_)
    exact w_X2_go_b336_g hC hr hnh hin hfr hlo o_X2_see ho_X2_see o_X2_part ho_X2_part o_X2_go ho_X2_go k365 hk365 x0 x1 x7 x8 x_3 x10 h hF H locs cells slots ls hX (lv_sub hl [1, 2, 3, 4, 0, 5] rfl)
def B_X2_go_b264 (K : Nat → Nat) (o_X2_see : Nat → Int32 → Int32 → Nat → Int32 → Int64 → Int32 → TH → Option TH) (o_X2_part : Nat → Int32 → Int32 → Nat → Int32 → Int64 → Int32 → TH → Option TH) (o_X2_go : Nat → Int32 → Int32 → Int32 → Int64 → Int32 → TH → Option TH) (x0 : Nat) (x1 : Int32) (x7 : Int32) (x8 : Int32) (x9 : Int32) (x10 : Int64) (x12 : Nat) (h : TH) : Option TH :=
  gd (x12 = 0 ∨ castB (hT h x12) "BlindCards$Open" = true) <|
  gd (hT h x0 = 4 ∨ hT h x0 = 5 ∨ hT h x0 = 6) <|
  bd (o_X2_see x0 x1 x9 x12 x7 x10 x8 h) fun h_4 =>
  some h_4
set_option maxHeartbeats 4000000 in
theorem w_X2_go_b264_g {p : Program} {l : Launch} {e : Env} {s : State} {m : MethodId} {args : Array Value} {below : List Frame} {meth : Method} {c : Code} {D : XD} {h0 : TH} {fr lo : Nat} (hC : XCx D cX2_go 14 RX2 h0 p (xRm (fr + 1) (lo + 33) h0) s m args meth c) (hr : meth.sig.returnType = none) (hnh : c.exceptionTable.isEmpty = true) (hin : meth.name = "go") (hfr : 455 ≤ fr) (hlo : 10464 ≤ lo) (o_X2_see : Nat → Int32 → Int32 → Nat → Int32 → Int64 → Int32 → TH → Option TH) (ho_X2_see : ∀ (a : Nat) (b0 : Int32) (b1 : Int32) (b2 : Nat) (b3 : Int32) (b4 : Int64) (b5 : Int32) (h : TH) (x : TH), o_X2_see a b0 b1 b2 b3 b4 b5 h = some x → XMt l yX2_see (ws_ yX2_see cX2_see 14 (none)) fr lo D [rv a, .int b0, .int b1, rv b2, .int b3, .long b4, .int b5] h (.returned none) x) (o_X2_part : Nat → Int32 → Int32 → Nat → Int32 → Int64 → Int32 → TH → Option TH) (ho_X2_part : ∀ (a : Nat) (b0 : Int32) (b1 : Int32) (b2 : Nat) (b3 : Int32) (b4 : Int64) (b5 : Int32) (h : TH) (x : TH), o_X2_part a b0 b1 b2 b3 b4 b5 h = some x → XMt l yX2_part (ws_ yX2_part cX2_part 14 (none)) fr lo D [rv a, .int b0, .int b1, rv b2, .int b3, .long b4, .int b5] h (.returned none) x) (o_X2_go : Nat → Int32 → Int32 → Int32 → Int64 → Int32 → TH → Option TH) (ho_X2_go : ∀ (a : Nat) (b0 : Int32) (b1 : Int32) (b2 : Int32) (b3 : Int64) (b4 : Int32) (h : TH) (x : TH), o_X2_go a b0 b1 b2 b3 b4 h = some x → XMt l yX2_go (ws_ yX2_go cX2_go 14 (none)) fr lo D [rv a, .int b0, .int b1, .int b2, .long b3, .int b4] h (.returned none) x) {x : TH} :
    ∀ (x0 : Nat) (x1 : Int32) (x7 : Int32) (x8 : Int32) (x9 : Int32) (x10 : Int64) (x12 : Nat) (h : TH), B_X2_go_b264 D.2.2.2 o_X2_see o_X2_part o_X2_go x0 x1 x7 x8 x9 x10 x12 h = some x → XJ p l e (xRm (fr + 1) (lo + 33) h0) s m args below meth c D 14 (.returned none) h0 x 264 [(0, rv x0), (1, .int x1), (7, .int x7), (8, .int x8), (9, .int x9), (10, .long x10), (12, rv x12)] [] h := by
  have hx := hC.1
  have hb := hC.2.1
  intro x0 x1 x7 x8 x9 x10 x12 h hF H locs cells slots ls hX hl
  rw [B_X2_go_b264] at hF
  refine X_aload_n hx hb dX2_go_264 rfl (lv_at hl 0 rfl) ?_
  refine lv_iload_n hx hb dX2_go_265 rfl (lv_at hl 1 rfl) ?_
  refine lv_iload hx hb dX2_go_266 (lv_at hl 4 rfl) ?_
  refine X_aload hx hb dX2_go_268 (lv_at hl 6 rfl) ?_
  obtain ⟨h_1, hF⟩ := gd_ok hF
  refine X_cast hC hX h_1 q609 dX2_go_270 ?_
  refine lv_iload hx hb dX2_go_273 (lv_at hl 2 rfl) ?_
  refine lv_lload hx hb dX2_go_275 (lv_at hl 5 rfl) ?_
  refine lv_iload hx hb dX2_go_277 (lv_at hl 3 rfl) ?_
  obtain ⟨h_2, hF⟩ := gd_ok hF
  obtain ⟨h_4, hc_3, hF⟩ := bd_ok hF
  refine iXo_X2_104 hC hX h_2 (ho_X2_see x0 x1 x9 x12 x7 x10 x8 h _ hc_3) hl.1 (Nat.le_of_ble_eq_true rfl) (by show _ ≤ fr + 1; omega) (by show _ ≤ lo + 33; omega) dX2_go_279 (fun H locs cells slots hX => ?_)
  exact x_retv hC hX hr (Option.some.inj hF) dX2_go_282
def B_X2_go_b240 (K : Nat → Nat) (o_X2_see : Nat → Int32 → Int32 → Nat → Int32 → Int64 → Int32 → TH → Option TH) (o_X2_part : Nat → Int32 → Int32 → Nat → Int32 → Int64 → Int32 → TH → Option TH) (o_X2_go : Nat → Int32 → Int32 → Int32 → Int64 → Int32 → TH → Option TH) (k365 : Nat → Int32 → Int32 → Int32 → Int32 → Int64 → TH → Option TH) (x0 : Nat) (x1 : Int32) (x7 : Int32) (x9 : Int32) (x10 : Int64) (x13 : Nat) (y0 : Int32) (h : TH) : Option TH :=
  bd (V_X7_ways K h x13) fun r_2 =>
  lt ((x10 * (Int32.toInt64 r_2))) fun x_3 =>
  k365 x0 x1 x7 y0 x9 x_3 h
set_option maxHeartbeats 4000000 in
theorem w_X2_go_b240_g {p : Program} {l : Launch} {e : Env} {s : State} {m : MethodId} {args : Array Value} {below : List Frame} {meth : Method} {c : Code} {D : XD} {h0 : TH} {fr lo : Nat} (hC : XCx D cX2_go 14 RX2 h0 p (xRm (fr + 1) (lo + 33) h0) s m args meth c) (hr : meth.sig.returnType = none) (hnh : c.exceptionTable.isEmpty = true) (hin : meth.name = "go") (hfr : 455 ≤ fr) (hlo : 10464 ≤ lo) (o_X2_see : Nat → Int32 → Int32 → Nat → Int32 → Int64 → Int32 → TH → Option TH) (ho_X2_see : ∀ (a : Nat) (b0 : Int32) (b1 : Int32) (b2 : Nat) (b3 : Int32) (b4 : Int64) (b5 : Int32) (h : TH) (x : TH), o_X2_see a b0 b1 b2 b3 b4 b5 h = some x → XMt l yX2_see (ws_ yX2_see cX2_see 14 (none)) fr lo D [rv a, .int b0, .int b1, rv b2, .int b3, .long b4, .int b5] h (.returned none) x) (o_X2_part : Nat → Int32 → Int32 → Nat → Int32 → Int64 → Int32 → TH → Option TH) (ho_X2_part : ∀ (a : Nat) (b0 : Int32) (b1 : Int32) (b2 : Nat) (b3 : Int32) (b4 : Int64) (b5 : Int32) (h : TH) (x : TH), o_X2_part a b0 b1 b2 b3 b4 b5 h = some x → XMt l yX2_part (ws_ yX2_part cX2_part 14 (none)) fr lo D [rv a, .int b0, .int b1, rv b2, .int b3, .long b4, .int b5] h (.returned none) x) (o_X2_go : Nat → Int32 → Int32 → Int32 → Int64 → Int32 → TH → Option TH) (ho_X2_go : ∀ (a : Nat) (b0 : Int32) (b1 : Int32) (b2 : Int32) (b3 : Int64) (b4 : Int32) (h : TH) (x : TH), o_X2_go a b0 b1 b2 b3 b4 h = some x → XMt l yX2_go (ws_ yX2_go cX2_go 14 (none)) fr lo D [rv a, .int b0, .int b1, .int b2, .long b3, .int b4] h (.returned none) x) {x : TH} (k365 : Nat → Int32 → Int32 → Int32 → Int32 → Int64 → TH → Option TH) (hk365 : ∀ (x0 : Nat) (x1 : Int32) (x7 : Int32) (x8 : Int32) (x9 : Int32) (x10 : Int64) (h : TH), k365 x0 x1 x7 x8 x9 x10 h = some x → XJ p l e (xRm (fr + 1) (lo + 33) h0) s m args below meth c D 14 (.returned none) h0 x 365 [(0, rv x0), (1, .int x1), (7, .int x7), (8, .int x8), (9, .int x9), (10, .long x10)] [] h) :
    ∀ (x0 : Nat) (x1 : Int32) (x7 : Int32) (x9 : Int32) (x10 : Int64) (x13 : Nat) (y0 : Int32) (h : TH), B_X2_go_b240 D.2.2.2 o_X2_see o_X2_part o_X2_go k365 x0 x1 x7 x9 x10 x13 y0 h = some x → XJ p l e (xRm (fr + 1) (lo + 33) h0) s m args below meth c D 14 (.returned none) h0 x 240 [(0, rv x0), (1, .int x1), (7, .int x7), (9, .int x9), (10, .long x10), (13, rv x13)] [.int y0] h := by
  have hx := hC.1
  have hb := hC.2.1
  intro x0 x1 x7 x9 x10 x13 y0 h hF H locs cells slots ls hX hl
  rw [B_X2_go_b240] at hF
  refine lv_istore (lv' := [(8, .int y0), (0, rv x0), (1, .int x1), (7, .int x7), (9, .int x9), (10, .long x10), (13, rv x13)]) hx hb dX2_go_240 hl (by decide) rfl (fun ls hl => ?_)
  refine lv_lload hx hb dX2_go_242 (lv_at hl 5 rfl) ?_
  refine X_aload hx hb dX2_go_244 (lv_at hl 6 rfl) ?_
  obtain ⟨r_2, hc_1, hF⟩ := bd_ok hF
  refine iX_X2_87 hC hX hc_1 hl.1 (Nat.le_of_ble_eq_true rfl) (by show _ ≤ fr + 1; omega) (by show _ ≤ lo + 33; omega) dX2_go_246 (fun H locs cells slots hX => ?_)
  refine lv_i2l hx hb dX2_go_249 rfl ?_
  refine lv_lmul hx hb dX2_go_250 ?_
  refine lv_topl (fun x_3 ex_3 => ?_)
  replace hF := lt_at hF ex_3
  refine lv_lstore (lv' := [(10, .long x_3), (8, .int y0), (0, rv x0), (1, .int x1), (7, .int x7), (9, .int x9), (13, rv x13)]) hx hb dX2_go_251 hl (by decide) rfl (fun ls hl => ?_)
  refine lv_goto (tgt := 365) hx hb dX2_go_253 (by decide) ?_
  exact hk365 x0 x1 x7 y0 x9 x_3 h hF H locs cells slots ls hX (lv_sub hl [2, 3, 4, 1, 5, 0] rfl)
def B_X2_go_b216 (K : Nat → Nat) (o_X2_see : Nat → Int32 → Int32 → Nat → Int32 → Int64 → Int32 → TH → Option TH) (o_X2_part : Nat → Int32 → Int32 → Nat → Int32 → Int64 → Int32 → TH → Option TH) (o_X2_go : Nat → Int32 → Int32 → Int32 → Int64 → Int32 → TH → Option TH) (k365 : Nat → Int32 → Int32 → Int32 → Int32 → Int64 → TH → Option TH) (x0 : Nat) (x1 : Int32) (x7 : Int32) (x8 : Int32) (x9 : Int32) (x10 : Int64) (x13 : Nat) (h : TH) : Option TH :=
  gd (hT h x0 = 4 ∨ hT h x0 = 5 ∨ hT h x0 = 6) <|
  bd (F_X2_move K x0 x1 x13 h) fun h_3 =>
  if 0 ≤ x8 then
    bd (V_X7_to K h_3 x13 x8 (0 : Int32)) fun r_6 =>
    B_X2_go_b240 K o_X2_see o_X2_part o_X2_go k365 x0 x1 x7 x9 x10 x13 r_6 h_3
  else
    B_X2_go_b240 K o_X2_see o_X2_part o_X2_go k365 x0 x1 x7 x9 x10 x13 (-1 : Int32) h_3
set_option maxHeartbeats 4000000 in
theorem w_X2_go_b216_g {p : Program} {l : Launch} {e : Env} {s : State} {m : MethodId} {args : Array Value} {below : List Frame} {meth : Method} {c : Code} {D : XD} {h0 : TH} {fr lo : Nat} (hC : XCx D cX2_go 14 RX2 h0 p (xRm (fr + 1) (lo + 33) h0) s m args meth c) (hr : meth.sig.returnType = none) (hnh : c.exceptionTable.isEmpty = true) (hin : meth.name = "go") (hfr : 455 ≤ fr) (hlo : 10464 ≤ lo) (o_X2_see : Nat → Int32 → Int32 → Nat → Int32 → Int64 → Int32 → TH → Option TH) (ho_X2_see : ∀ (a : Nat) (b0 : Int32) (b1 : Int32) (b2 : Nat) (b3 : Int32) (b4 : Int64) (b5 : Int32) (h : TH) (x : TH), o_X2_see a b0 b1 b2 b3 b4 b5 h = some x → XMt l yX2_see (ws_ yX2_see cX2_see 14 (none)) fr lo D [rv a, .int b0, .int b1, rv b2, .int b3, .long b4, .int b5] h (.returned none) x) (o_X2_part : Nat → Int32 → Int32 → Nat → Int32 → Int64 → Int32 → TH → Option TH) (ho_X2_part : ∀ (a : Nat) (b0 : Int32) (b1 : Int32) (b2 : Nat) (b3 : Int32) (b4 : Int64) (b5 : Int32) (h : TH) (x : TH), o_X2_part a b0 b1 b2 b3 b4 b5 h = some x → XMt l yX2_part (ws_ yX2_part cX2_part 14 (none)) fr lo D [rv a, .int b0, .int b1, rv b2, .int b3, .long b4, .int b5] h (.returned none) x) (o_X2_go : Nat → Int32 → Int32 → Int32 → Int64 → Int32 → TH → Option TH) (ho_X2_go : ∀ (a : Nat) (b0 : Int32) (b1 : Int32) (b2 : Int32) (b3 : Int64) (b4 : Int32) (h : TH) (x : TH), o_X2_go a b0 b1 b2 b3 b4 h = some x → XMt l yX2_go (ws_ yX2_go cX2_go 14 (none)) fr lo D [rv a, .int b0, .int b1, .int b2, .long b3, .int b4] h (.returned none) x) {x : TH} (k365 : Nat → Int32 → Int32 → Int32 → Int32 → Int64 → TH → Option TH) (hk365 : ∀ (x0 : Nat) (x1 : Int32) (x7 : Int32) (x8 : Int32) (x9 : Int32) (x10 : Int64) (h : TH), k365 x0 x1 x7 x8 x9 x10 h = some x → XJ p l e (xRm (fr + 1) (lo + 33) h0) s m args below meth c D 14 (.returned none) h0 x 365 [(0, rv x0), (1, .int x1), (7, .int x7), (8, .int x8), (9, .int x9), (10, .long x10)] [] h) :
    ∀ (x0 : Nat) (x1 : Int32) (x7 : Int32) (x8 : Int32) (x9 : Int32) (x10 : Int64) (x13 : Nat) (h : TH), B_X2_go_b216 D.2.2.2 o_X2_see o_X2_part o_X2_go k365 x0 x1 x7 x8 x9 x10 x13 h = some x → XJ p l e (xRm (fr + 1) (lo + 33) h0) s m args below meth c D 14 (.returned none) h0 x 216 [(0, rv x0), (1, .int x1), (7, .int x7), (8, .int x8), (9, .int x9), (10, .long x10), (13, rv x13)] [] h := by
  have hx := hC.1
  have hb := hC.2.1
  intro x0 x1 x7 x8 x9 x10 x13 h hF H locs cells slots ls hX hl
  rw [B_X2_go_b216] at hF
  refine X_aload_n hx hb dX2_go_216 rfl (lv_at hl 0 rfl) ?_
  refine lv_iload_n hx hb dX2_go_217 rfl (lv_at hl 1 rfl) ?_
  refine X_aload hx hb dX2_go_218 (lv_at hl 6 rfl) ?_
  obtain ⟨h_1, hF⟩ := gd_ok hF
  obtain ⟨h_3, hc_2, hF⟩ := bd_ok hF
  refine iX_X2_94 hC hX h_1 hc_2 hl.1 (Nat.le_of_ble_eq_true rfl) (by show _ ≤ fr + 1; omega) (by show _ ≤ lo + 33; omega) dX2_go_220 (fun H locs cells slots hX => ?_)
  refine lv_iload hx hb dX2_go_223 (lv_at hl 3 rfl) ?_
  refine lv_if_ge (tgt := 232) hx hb dX2_go_225 (by decide) (fun c_4 => ?_) (fun c_4 => ?_)
  · replace hF := it_t hF c_4
    refine X_aload hx hb dX2_go_232 (lv_at hl 6 rfl) ?_
    refine lv_iload hx hb dX2_go_234 (lv_at hl 3 rfl) ?_
    refine lv_iconst (v := 0) hx hb dX2_go_236 (by decide) ?_
    obtain ⟨r_6, hc_5, hF⟩ := bd_ok hF
    refine iX_X2_98 hC hX hc_5 hl.1 (Nat.le_of_ble_eq_true rfl) (by show _ ≤ fr + 1; omega) (by show _ ≤ lo + 33; omega) dX2_go_237 (fun H locs cells slots hX => ?_)
    exact w_X2_go_b240_g hC hr hnh hin hfr hlo o_X2_see ho_X2_see o_X2_part ho_X2_part o_X2_go ho_X2_go k365 hk365 x0 x1 x7 x9 x10 x13 r_6 h_3 hF H locs cells slots ls hX (lv_sub hl [0, 1, 2, 4, 5, 6] rfl)
  · replace hF := it_f hF c_4
    refine lv_iconst (v := -1) hx hb dX2_go_228 (by decide) ?_
    refine lv_goto (tgt := 240) hx hb dX2_go_229 (by decide) ?_
    exact w_X2_go_b240_g hC hr hnh hin hfr hlo o_X2_see ho_X2_see o_X2_part ho_X2_part o_X2_go ho_X2_go k365 hk365 x0 x1 x7 x9 x10 x13 (-1 : Int32) h_3 hF H locs cells slots ls hX (lv_sub hl [0, 1, 2, 4, 5, 6] rfl)
def B_X2_go_b193 (K : Nat → Nat) (o_X2_see : Nat → Int32 → Int32 → Nat → Int32 → Int64 → Int32 → TH → Option TH) (o_X2_part : Nat → Int32 → Int32 → Nat → Int32 → Int64 → Int32 → TH → Option TH) (o_X2_go : Nat → Int32 → Int32 → Int32 → Int64 → Int32 → TH → Option TH) (x0 : Nat) (x1 : Int32) (x7 : Int32) (x8 : Int32) (x9 : Int32) (x10 : Int64) (x13 : Nat) (h : TH) : Option TH :=
  bd (V_X7_ways K h x13) fun r_2 =>
  gd (hT h x0 = 4 ∨ hT h x0 = 5 ∨ hT h x0 = 6) <|
  bd (o_X2_part x0 x1 x9 x13 x7 (x10 * (Int32.toInt64 r_2)) x8 h) fun h_5 =>
  some h_5
set_option maxHeartbeats 4000000 in
theorem w_X2_go_b193_g {p : Program} {l : Launch} {e : Env} {s : State} {m : MethodId} {args : Array Value} {below : List Frame} {meth : Method} {c : Code} {D : XD} {h0 : TH} {fr lo : Nat} (hC : XCx D cX2_go 14 RX2 h0 p (xRm (fr + 1) (lo + 33) h0) s m args meth c) (hr : meth.sig.returnType = none) (hnh : c.exceptionTable.isEmpty = true) (hin : meth.name = "go") (hfr : 455 ≤ fr) (hlo : 10464 ≤ lo) (o_X2_see : Nat → Int32 → Int32 → Nat → Int32 → Int64 → Int32 → TH → Option TH) (ho_X2_see : ∀ (a : Nat) (b0 : Int32) (b1 : Int32) (b2 : Nat) (b3 : Int32) (b4 : Int64) (b5 : Int32) (h : TH) (x : TH), o_X2_see a b0 b1 b2 b3 b4 b5 h = some x → XMt l yX2_see (ws_ yX2_see cX2_see 14 (none)) fr lo D [rv a, .int b0, .int b1, rv b2, .int b3, .long b4, .int b5] h (.returned none) x) (o_X2_part : Nat → Int32 → Int32 → Nat → Int32 → Int64 → Int32 → TH → Option TH) (ho_X2_part : ∀ (a : Nat) (b0 : Int32) (b1 : Int32) (b2 : Nat) (b3 : Int32) (b4 : Int64) (b5 : Int32) (h : TH) (x : TH), o_X2_part a b0 b1 b2 b3 b4 b5 h = some x → XMt l yX2_part (ws_ yX2_part cX2_part 14 (none)) fr lo D [rv a, .int b0, .int b1, rv b2, .int b3, .long b4, .int b5] h (.returned none) x) (o_X2_go : Nat → Int32 → Int32 → Int32 → Int64 → Int32 → TH → Option TH) (ho_X2_go : ∀ (a : Nat) (b0 : Int32) (b1 : Int32) (b2 : Int32) (b3 : Int64) (b4 : Int32) (h : TH) (x : TH), o_X2_go a b0 b1 b2 b3 b4 h = some x → XMt l yX2_go (ws_ yX2_go cX2_go 14 (none)) fr lo D [rv a, .int b0, .int b1, .int b2, .long b3, .int b4] h (.returned none) x) {x : TH} :
    ∀ (x0 : Nat) (x1 : Int32) (x7 : Int32) (x8 : Int32) (x9 : Int32) (x10 : Int64) (x13 : Nat) (h : TH), B_X2_go_b193 D.2.2.2 o_X2_see o_X2_part o_X2_go x0 x1 x7 x8 x9 x10 x13 h = some x → XJ p l e (xRm (fr + 1) (lo + 33) h0) s m args below meth c D 14 (.returned none) h0 x 193 [(0, rv x0), (1, .int x1), (7, .int x7), (8, .int x8), (9, .int x9), (10, .long x10), (13, rv x13)] [] h := by
  have hx := hC.1
  have hb := hC.2.1
  intro x0 x1 x7 x8 x9 x10 x13 h hF H locs cells slots ls hX hl
  rw [B_X2_go_b193] at hF
  refine X_aload_n hx hb dX2_go_193 rfl (lv_at hl 0 rfl) ?_
  refine lv_iload_n hx hb dX2_go_194 rfl (lv_at hl 1 rfl) ?_
  refine lv_iload hx hb dX2_go_195 (lv_at hl 4 rfl) ?_
  refine X_aload hx hb dX2_go_197 (lv_at hl 6 rfl) ?_
  refine lv_iload hx hb dX2_go_199 (lv_at hl 2 rfl) ?_
  refine lv_lload hx hb dX2_go_201 (lv_at hl 5 rfl) ?_
  refine X_aload hx hb dX2_go_203 (lv_at hl 6 rfl) ?_
  obtain ⟨r_2, hc_1, hF⟩ := bd_ok hF
  refine iX_X2_87 hC hX hc_1 hl.1 (by simp [rv_cat, cat_i, cat_l]) (by show _ ≤ fr + 1; omega) (by show _ ≤ lo + 33; omega) dX2_go_205 (fun H locs cells slots hX => ?_)
  refine lv_i2l hx hb dX2_go_208 rfl ?_
  refine lv_lmul hx hb dX2_go_209 ?_
  refine lv_iload hx hb dX2_go_210 (lv_at hl 3 rfl) ?_
  obtain ⟨h_3, hF⟩ := gd_ok hF
  obtain ⟨h_5, hc_4, hF⟩ := bd_ok hF
  refine iXo_X2_90 hC hX h_3 (ho_X2_part x0 x1 x9 x13 x7 (x10 * (Int32.toInt64 r_2)) x8 h _ hc_4) hl.1 (Nat.le_of_ble_eq_true rfl) (by show _ ≤ fr + 1; omega) (by show _ ≤ lo + 33; omega) dX2_go_212 (fun H locs cells slots hX => ?_)
  exact x_retv hC hX hr (Option.some.inj hF) dX2_go_215
def B_X2_go_b133 (K : Nat → Nat) (o_X2_see : Nat → Int32 → Int32 → Nat → Int32 → Int64 → Int32 → TH → Option TH) (o_X2_part : Nat → Int32 → Int32 → Nat → Int32 → Int64 → Int32 → TH → Option TH) (o_X2_go : Nat → Int32 → Int32 → Int32 → Int64 → Int32 → TH → Option TH) (k365 : Nat → Int32 → Int32 → Int32 → Int32 → Int64 → TH → Option TH) (x0 : Nat) (x1 : Int32) (x7 : Int32) (x8 : Int32) (x9 : Int32) (x10 : Int64) (x13 : Nat) (h : TH) : Option TH :=
  gd (hT h x0 = 4 ∨ hT h x0 = 5 ∨ hT h x0 = 6) <|
  bd (F_X2_lay K x0 x1 x13 x7 h) fun h_3 =>
  gd (hT h_3 x13 = 19) <|
  bd (F_X19_many K h_3 x13) fun r_6 =>
  lt ((x7 + r_6)) fun x_7 =>
  k365 x0 x1 x_7 x8 x9 x10 h_3
set_option maxHeartbeats 4000000 in
theorem w_X2_go_b133_g {p : Program} {l : Launch} {e : Env} {s : State} {m : MethodId} {args : Array Value} {below : List Frame} {meth : Method} {c : Code} {D : XD} {h0 : TH} {fr lo : Nat} (hC : XCx D cX2_go 14 RX2 h0 p (xRm (fr + 1) (lo + 33) h0) s m args meth c) (hr : meth.sig.returnType = none) (hnh : c.exceptionTable.isEmpty = true) (hin : meth.name = "go") (hfr : 455 ≤ fr) (hlo : 10464 ≤ lo) (o_X2_see : Nat → Int32 → Int32 → Nat → Int32 → Int64 → Int32 → TH → Option TH) (ho_X2_see : ∀ (a : Nat) (b0 : Int32) (b1 : Int32) (b2 : Nat) (b3 : Int32) (b4 : Int64) (b5 : Int32) (h : TH) (x : TH), o_X2_see a b0 b1 b2 b3 b4 b5 h = some x → XMt l yX2_see (ws_ yX2_see cX2_see 14 (none)) fr lo D [rv a, .int b0, .int b1, rv b2, .int b3, .long b4, .int b5] h (.returned none) x) (o_X2_part : Nat → Int32 → Int32 → Nat → Int32 → Int64 → Int32 → TH → Option TH) (ho_X2_part : ∀ (a : Nat) (b0 : Int32) (b1 : Int32) (b2 : Nat) (b3 : Int32) (b4 : Int64) (b5 : Int32) (h : TH) (x : TH), o_X2_part a b0 b1 b2 b3 b4 b5 h = some x → XMt l yX2_part (ws_ yX2_part cX2_part 14 (none)) fr lo D [rv a, .int b0, .int b1, rv b2, .int b3, .long b4, .int b5] h (.returned none) x) (o_X2_go : Nat → Int32 → Int32 → Int32 → Int64 → Int32 → TH → Option TH) (ho_X2_go : ∀ (a : Nat) (b0 : Int32) (b1 : Int32) (b2 : Int32) (b3 : Int64) (b4 : Int32) (h : TH) (x : TH), o_X2_go a b0 b1 b2 b3 b4 h = some x → XMt l yX2_go (ws_ yX2_go cX2_go 14 (none)) fr lo D [rv a, .int b0, .int b1, .int b2, .long b3, .int b4] h (.returned none) x) {x : TH} (k365 : Nat → Int32 → Int32 → Int32 → Int32 → Int64 → TH → Option TH) (hk365 : ∀ (x0 : Nat) (x1 : Int32) (x7 : Int32) (x8 : Int32) (x9 : Int32) (x10 : Int64) (h : TH), k365 x0 x1 x7 x8 x9 x10 h = some x → XJ p l e (xRm (fr + 1) (lo + 33) h0) s m args below meth c D 14 (.returned none) h0 x 365 [(0, rv x0), (1, .int x1), (7, .int x7), (8, .int x8), (9, .int x9), (10, .long x10)] [] h) :
    ∀ (x0 : Nat) (x1 : Int32) (x7 : Int32) (x8 : Int32) (x9 : Int32) (x10 : Int64) (x13 : Nat) (h : TH), B_X2_go_b133 D.2.2.2 o_X2_see o_X2_part o_X2_go k365 x0 x1 x7 x8 x9 x10 x13 h = some x → XJ p l e (xRm (fr + 1) (lo + 33) h0) s m args below meth c D 14 (.returned none) h0 x 133 [(0, rv x0), (1, .int x1), (7, .int x7), (8, .int x8), (9, .int x9), (10, .long x10), (13, rv x13)] [] h := by
  have hx := hC.1
  have hb := hC.2.1
  intro x0 x1 x7 x8 x9 x10 x13 h hF H locs cells slots ls hX hl
  rw [B_X2_go_b133] at hF
  refine X_aload_n hx hb dX2_go_133 rfl (lv_at hl 0 rfl) ?_
  refine lv_iload_n hx hb dX2_go_134 rfl (lv_at hl 1 rfl) ?_
  refine X_aload hx hb dX2_go_135 (lv_at hl 6 rfl) ?_
  refine lv_iload hx hb dX2_go_137 (lv_at hl 2 rfl) ?_
  obtain ⟨h_1, hF⟩ := gd_ok hF
  obtain ⟨h_3, hc_2, hF⟩ := bd_ok hF
  refine iX_X2_81 hC hX h_1 hc_2 hl.1 (Nat.le_of_ble_eq_true rfl) (by show _ ≤ fr + 1; omega) (by show _ ≤ lo + 33; omega) dX2_go_139 (fun H locs cells slots hX => ?_)
  refine lv_iload hx hb dX2_go_142 (lv_at hl 2 rfl) ?_
  refine X_aload hx hb dX2_go_144 (lv_at hl 6 rfl) ?_
  obtain ⟨h_4, hF⟩ := gd_ok hF
  obtain ⟨r_6, hc_5, hF⟩ := bd_ok hF
  refine iX_X2_78 hC hX h_4 hc_5 hl.1 (Nat.le_of_ble_eq_true rfl) (by show _ ≤ fr + 1; omega) (by show _ ≤ lo + 33; omega) dX2_go_146 (fun H locs cells slots hX => ?_)
  refine lv_iadd hx hb dX2_go_149 ?_
  refine lv_topi (fun x_7 ex_7 => ?_)
  replace hF := lt_at hF ex_7
  refine lv_istore (lv' := [(7, .int x_7), (0, rv x0), (1, .int x1), (8, .int x8), (9, .int x9), (10, .long x10), (13, rv x13)]) hx hb dX2_go_150 hl (by decide) rfl (fun ls hl => ?_)
  refine lv_goto (tgt := 365) hx hb dX2_go_152 (by decide) ?_
  exact hk365 x0 x1 x_7 x8 x9 x10 h_3 hF H locs cells slots ls hX (lv_sub hl [1, 2, 0, 3, 4, 5] rfl)
def B_X2_go_b100 (K : Nat → Nat) (o_X2_see : Nat → Int32 → Int32 → Nat → Int32 → Int64 → Int32 → TH → Option TH) (o_X2_part : Nat → Int32 → Int32 → Nat → Int32 → Int64 → Int32 → TH → Option TH) (o_X2_go : Nat → Int32 → Int32 → Int32 → Int64 → Int32 → TH → Option TH) (k371 : Nat → Int32 → Int64 → TH → Option TH) (x0 : Nat) (x1 : Int32) (x10 : Int64) (h : TH) : Option TH :=
  k371 x0 x1 x10 h
set_option maxHeartbeats 4000000 in
theorem w_X2_go_b100_g {p : Program} {l : Launch} {e : Env} {s : State} {m : MethodId} {args : Array Value} {below : List Frame} {meth : Method} {c : Code} {D : XD} {h0 : TH} {fr lo : Nat} (hC : XCx D cX2_go 14 RX2 h0 p (xRm (fr + 1) (lo + 33) h0) s m args meth c) (hr : meth.sig.returnType = none) (hnh : c.exceptionTable.isEmpty = true) (hin : meth.name = "go") (hfr : 455 ≤ fr) (hlo : 10464 ≤ lo) (o_X2_see : Nat → Int32 → Int32 → Nat → Int32 → Int64 → Int32 → TH → Option TH) (ho_X2_see : ∀ (a : Nat) (b0 : Int32) (b1 : Int32) (b2 : Nat) (b3 : Int32) (b4 : Int64) (b5 : Int32) (h : TH) (x : TH), o_X2_see a b0 b1 b2 b3 b4 b5 h = some x → XMt l yX2_see (ws_ yX2_see cX2_see 14 (none)) fr lo D [rv a, .int b0, .int b1, rv b2, .int b3, .long b4, .int b5] h (.returned none) x) (o_X2_part : Nat → Int32 → Int32 → Nat → Int32 → Int64 → Int32 → TH → Option TH) (ho_X2_part : ∀ (a : Nat) (b0 : Int32) (b1 : Int32) (b2 : Nat) (b3 : Int32) (b4 : Int64) (b5 : Int32) (h : TH) (x : TH), o_X2_part a b0 b1 b2 b3 b4 b5 h = some x → XMt l yX2_part (ws_ yX2_part cX2_part 14 (none)) fr lo D [rv a, .int b0, .int b1, rv b2, .int b3, .long b4, .int b5] h (.returned none) x) (o_X2_go : Nat → Int32 → Int32 → Int32 → Int64 → Int32 → TH → Option TH) (ho_X2_go : ∀ (a : Nat) (b0 : Int32) (b1 : Int32) (b2 : Int32) (b3 : Int64) (b4 : Int32) (h : TH) (x : TH), o_X2_go a b0 b1 b2 b3 b4 h = some x → XMt l yX2_go (ws_ yX2_go cX2_go 14 (none)) fr lo D [rv a, .int b0, .int b1, .int b2, .long b3, .int b4] h (.returned none) x) {x : TH} (k371 : Nat → Int32 → Int64 → TH → Option TH) (hk371 : ∀ (x0 : Nat) (x1 : Int32) (x10 : Int64) (h : TH), k371 x0 x1 x10 h = some x → XJ p l e (xRm (fr + 1) (lo + 33) h0) s m args below meth c D 14 (.returned none) h0 x 371 [(0, rv x0), (1, .int x1), (10, .long x10)] [] h) :
    ∀ (x0 : Nat) (x1 : Int32) (x10 : Int64) (h : TH), B_X2_go_b100 D.2.2.2 o_X2_see o_X2_part o_X2_go k371 x0 x1 x10 h = some x → XJ p l e (xRm (fr + 1) (lo + 33) h0) s m args below meth c D 14 (.returned none) h0 x 100 [(0, rv x0), (1, .int x1), (10, .long x10)] [] h := by
  have hx := hC.1
  have hb := hC.2.1
  intro x0 x1 x10 h hF H locs cells slots ls hX hl
  rw [B_X2_go_b100] at hF
  refine lv_goto (tgt := 371) hx hb dX2_go_100 (by decide) ?_
  exact hk371 x0 x1 x10 h hF H locs cells slots ls hX (lv_sub hl [0, 1, 2] rfl)
def B_X2_go_b69 (K : Nat → Nat) (o_X2_see : Nat → Int32 → Int32 → Nat → Int32 → Int64 → Int32 → TH → Option TH) (o_X2_part : Nat → Int32 → Int32 → Nat → Int32 → Int64 → Int32 → TH → Option TH) (o_X2_go : Nat → Int32 → Int32 → Int32 → Int64 → Int32 → TH → Option TH) (k371 : Nat → Int32 → Int64 → TH → Option TH) (x0 : Nat) (x1 : Int32) (x10 : Int64) (h : TH) : Option TH :=
  k371 x0 x1 x10 h
set_option maxHeartbeats 4000000 in
theorem w_X2_go_b69_g {p : Program} {l : Launch} {e : Env} {s : State} {m : MethodId} {args : Array Value} {below : List Frame} {meth : Method} {c : Code} {D : XD} {h0 : TH} {fr lo : Nat} (hC : XCx D cX2_go 14 RX2 h0 p (xRm (fr + 1) (lo + 33) h0) s m args meth c) (hr : meth.sig.returnType = none) (hnh : c.exceptionTable.isEmpty = true) (hin : meth.name = "go") (hfr : 455 ≤ fr) (hlo : 10464 ≤ lo) (o_X2_see : Nat → Int32 → Int32 → Nat → Int32 → Int64 → Int32 → TH → Option TH) (ho_X2_see : ∀ (a : Nat) (b0 : Int32) (b1 : Int32) (b2 : Nat) (b3 : Int32) (b4 : Int64) (b5 : Int32) (h : TH) (x : TH), o_X2_see a b0 b1 b2 b3 b4 b5 h = some x → XMt l yX2_see (ws_ yX2_see cX2_see 14 (none)) fr lo D [rv a, .int b0, .int b1, rv b2, .int b3, .long b4, .int b5] h (.returned none) x) (o_X2_part : Nat → Int32 → Int32 → Nat → Int32 → Int64 → Int32 → TH → Option TH) (ho_X2_part : ∀ (a : Nat) (b0 : Int32) (b1 : Int32) (b2 : Nat) (b3 : Int32) (b4 : Int64) (b5 : Int32) (h : TH) (x : TH), o_X2_part a b0 b1 b2 b3 b4 b5 h = some x → XMt l yX2_part (ws_ yX2_part cX2_part 14 (none)) fr lo D [rv a, .int b0, .int b1, rv b2, .int b3, .long b4, .int b5] h (.returned none) x) (o_X2_go : Nat → Int32 → Int32 → Int32 → Int64 → Int32 → TH → Option TH) (ho_X2_go : ∀ (a : Nat) (b0 : Int32) (b1 : Int32) (b2 : Int32) (b3 : Int64) (b4 : Int32) (h : TH) (x : TH), o_X2_go a b0 b1 b2 b3 b4 h = some x → XMt l yX2_go (ws_ yX2_go cX2_go 14 (none)) fr lo D [rv a, .int b0, .int b1, .int b2, .long b3, .int b4] h (.returned none) x) {x : TH} (k371 : Nat → Int32 → Int64 → TH → Option TH) (hk371 : ∀ (x0 : Nat) (x1 : Int32) (x10 : Int64) (h : TH), k371 x0 x1 x10 h = some x → XJ p l e (xRm (fr + 1) (lo + 33) h0) s m args below meth c D 14 (.returned none) h0 x 371 [(0, rv x0), (1, .int x1), (10, .long x10)] [] h) :
    ∀ (x0 : Nat) (x1 : Int32) (x10 : Int64) (h : TH), B_X2_go_b69 D.2.2.2 o_X2_see o_X2_part o_X2_go k371 x0 x1 x10 h = some x → XJ p l e (xRm (fr + 1) (lo + 33) h0) s m args below meth c D 14 (.returned none) h0 x 69 [(0, rv x0), (1, .int x1), (10, .long x10)] [] h := by
  have hx := hC.1
  have hb := hC.2.1
  intro x0 x1 x10 h hF H locs cells slots ls hX hl
  rw [B_X2_go_b69] at hF
  refine lv_goto (tgt := 371) hx hb dX2_go_69 (by decide) ?_
  exact hk371 x0 x1 x10 h hF H locs cells slots ls hX (lv_sub hl [0, 1, 2] rfl)
def B_X2_go_L14 (K : Nat → Nat) (o_X2_see : Nat → Int32 → Int32 → Nat → Int32 → Int64 → Int32 → TH → Option TH) (o_X2_part : Nat → Int32 → Int32 → Nat → Int32 → Int64 → Int32 → TH → Option TH) (o_X2_go : Nat → Int32 → Int32 → Int32 → Int64 → Int32 → TH → Option TH) : Nat → Nat → Int32 → Int32 → Int32 → Int32 → Int64 → TH → Option TH
  | 0, _, _, _, _, _, _, _ => none
  | fu + 1, x0, x1, x7, x8, x9, x10, h =>
    gd (hasF (hT h x0) 49 = true) <|
    gd (hR h 49 x0 ≠ 0) <|
    lt (hR h 49 x0) fun r_3 =>
    gd (hasF (hT h r_3) 7 = true) <|
    lt (hR h 7 r_3) fun r_5 =>
    gd (hasF (hT h r_5) 30 = true) <|
    lt (hR h 30 r_5) fun r_7 =>
    gd (hT h r_7 = 3) <|
    bd (F_J2_size K h r_7) fun r_10 =>
    if r_10 ≤ x9 then
      B_X2_go_b371 K o_X2_see o_X2_part o_X2_go x0 x1 x10 h
    else
      bd (V_X2_isDone K h x0) fun r_13 =>
      if r_13 = 0 then
        gd (hasF (hT h x0) 49 = true) <|
        gd (hR h 49 x0 ≠ 0) <|
        lt (hR h 49 x0) fun r_17 =>
        gd (hasF (hT h r_17) 7 = true) <|
        lt (hR h 7 r_17) fun r_19 =>
        gd (hasF (hT h r_19) 30 = true) <|
        lt (hR h 30 r_19) fun r_21 =>
        gd (hT h r_21 = 3) <|
        bd (F_J2_get K h r_21 x9) fun r_24 =>
        gd (r_24 = 0 ∨ castB (hT h r_24) "BlindCards$Step" = true) <|
        bd (V_X6_needs K h r_24) fun r_27 =>
        if r_27 ≤ x7 then
          bd (isI h r_24 "BlindCards$Lay") fun r_29 =>
          if r_29 = 0 then
            bd (isI h r_24 "BlindCards$Move") fun r_32 =>
            if r_32 = 0 then
              bd (isI h r_24 "BlindCards$Open") fun r_35 =>
              if r_35 = 0 then
                bd (isI h r_24 "BlindCards$If") fun r_38 =>
                if r_38 = 0 then
                  bd (isI h r_24 "BlindCards$End") fun r_41 =>
                  if r_41 = 0 then
                    bd (isI h r_24 "BlindCards$Says") fun r_44 =>
                    if r_44 = 0 then
                      B_X2_go_b365 K o_X2_see o_X2_part o_X2_go (B_X2_go_L14 K o_X2_see o_X2_part o_X2_go fu) x0 x1 x7 x8 x9 x10 h
                    else
                      B_X2_go_b355 K o_X2_see o_X2_part o_X2_go x0 x1 x10 r_24 h
                  else
                    B_X2_go_b355 K o_X2_see o_X2_part o_X2_go x0 x1 x10 r_24 h
                else
                  gd (r_24 = 0 ∨ castB (hT h r_24) "BlindCards$If" = true) <|
                  gd (hasF (hT h x0) 49 = true) <|
                  gd (hR h 49 x0 ≠ 0) <|
                  lt (hR h 49 x0) fun r_50 =>
                  gd (hasF (hT h r_50) 1 = true) <|
                  lt (hR h 1 r_50) fun r_52 =>
                  gd (hT h r_52 = 35 ∨ hT h r_52 = 36 ∨ hT h r_52 = 37 ∨ hT h r_52 = 48) <|
                  gd (inb x1 (hN h r_52)) <|
                  lt (hY h r_52 (Int32.toNatClampNeg x1)) fun r_55 =>
                  gd (hasF (hT h r_24) 106 = true) <|
                  gd (hT h r_55 = 31 ∨ hT h r_55 = 43) <|
                  gd (inb (hI h 106 r_24) (hN h r_55)) <|
                  gd (hasF (hT h r_24) 107 = true) <|
                  if (hI h 107 r_24) = 0 then
                    B_X2_go_b326 K o_X2_see o_X2_part o_X2_go (B_X2_go_b365 K o_X2_see o_X2_part o_X2_go (B_X2_go_L14 K o_X2_see o_X2_part o_X2_go fu)) x0 x1 x7 x8 x9 x10 r_24 (0 : Int32) (hA h r_55 (Int32.toNatClampNeg (hI h 106 r_24))) h
                  else
                    B_X2_go_b326 K o_X2_see o_X2_part o_X2_go (B_X2_go_b365 K o_X2_see o_X2_part o_X2_go (B_X2_go_L14 K o_X2_see o_X2_part o_X2_go fu)) x0 x1 x7 x8 x9 x10 r_24 (1 : Int32) (hA h r_55 (Int32.toNatClampNeg (hI h 106 r_24))) h
              else
                B_X2_go_b264 K o_X2_see o_X2_part o_X2_go x0 x1 x7 x8 x9 x10 r_24 h
            else
              gd (r_24 = 0 ∨ castB (hT h r_24) "BlindCards$Move" = true) <|
              gd (hasF (hT h x0) 45 = true) <|
              if x9 = (hI h 45 x0) then
                B_X2_go_b193 K o_X2_see o_X2_part o_X2_go x0 x1 x7 x8 x9 x10 r_24 h
              else
                if x8 < 0 then
                  B_X2_go_b216 K o_X2_see o_X2_part o_X2_go (B_X2_go_b365 K o_X2_see o_X2_part o_X2_go (B_X2_go_L14 K o_X2_see o_X2_part o_X2_go fu)) x0 x1 x7 x8 x9 x10 r_24 h
                else
                  bd (V_X7_ways K h r_24) fun r_66 =>
                  if r_66 ≤ (1 : Int32) then
                    B_X2_go_b216 K o_X2_see o_X2_part o_X2_go (B_X2_go_b365 K o_X2_see o_X2_part o_X2_go (B_X2_go_L14 K o_X2_see o_X2_part o_X2_go fu)) x0 x1 x7 x8 x9 x10 r_24 h
                  else
                    B_X2_go_b193 K o_X2_see o_X2_part o_X2_go x0 x1 x7 x8 x9 x10 r_24 h
          else
            gd (r_24 = 0 ∨ castB (hT h r_24) "BlindCards$Lay" = true) <|
            gd (hT h r_24 = 19) <|
            bd (F_X19_many K h r_24) fun r_71 =>
            if (x7 + r_71) ≤ (8 : Int32) then
              gd (hasF (hT h x0) 44 = true) <|
              if (hI h 44 x0) < x7 then
                B_X2_go_b133 K o_X2_see o_X2_part o_X2_go (B_X2_go_b365 K o_X2_see o_X2_part o_X2_go (B_X2_go_L14 K o_X2_see o_X2_part o_X2_go fu)) x0 x1 x7 x8 x9 x10 r_24 h
              else
                gd (hasF (hT h x0) 44 = true) <|
                gd (hT h r_24 = 19) <|
                bd (F_X19_many K h r_24) fun r_78 =>
                if (x7 + r_78) ≤ (hI h 44 x0) then
                  B_X2_go_b133 K o_X2_see o_X2_part o_X2_go (B_X2_go_b365 K o_X2_see o_X2_part o_X2_go (B_X2_go_L14 K o_X2_see o_X2_part o_X2_go fu)) x0 x1 x7 x8 x9 x10 r_24 h
                else
                  gd (hasF (hT h x0) 44 = true) <|
                  lt ((hI h 44 x0)) fun x_81 =>
                  B_X2_go_b133 K o_X2_see o_X2_part o_X2_go (B_X2_go_b365 K o_X2_see o_X2_part o_X2_go (B_X2_go_L14 K o_X2_see o_X2_part o_X2_go fu)) x0 x1 x7 x_81 x9 x10 r_24 h
            else
              B_X2_go_b100 K o_X2_see o_X2_part o_X2_go (B_X2_go_b371 K o_X2_see o_X2_part o_X2_go) x0 x1 x10 h
        else
          B_X2_go_b69 K o_X2_see o_X2_part o_X2_go (B_X2_go_b371 K o_X2_see o_X2_part o_X2_go) x0 x1 x10 h
      else
        B_X2_go_b371 K o_X2_see o_X2_part o_X2_go x0 x1 x10 h
set_option maxHeartbeats 4000000 in
theorem w_X2_go_L14_g {p : Program} {l : Launch} {e : Env} {s : State} {m : MethodId} {args : Array Value} {below : List Frame} {meth : Method} {c : Code} {D : XD} {h0 : TH} {fr lo : Nat} (hC : XCx D cX2_go 14 RX2 h0 p (xRm (fr + 1) (lo + 33) h0) s m args meth c) (hr : meth.sig.returnType = none) (hnh : c.exceptionTable.isEmpty = true) (hin : meth.name = "go") (hfr : 455 ≤ fr) (hlo : 10464 ≤ lo) (o_X2_see : Nat → Int32 → Int32 → Nat → Int32 → Int64 → Int32 → TH → Option TH) (ho_X2_see : ∀ (a : Nat) (b0 : Int32) (b1 : Int32) (b2 : Nat) (b3 : Int32) (b4 : Int64) (b5 : Int32) (h : TH) (x : TH), o_X2_see a b0 b1 b2 b3 b4 b5 h = some x → XMt l yX2_see (ws_ yX2_see cX2_see 14 (none)) fr lo D [rv a, .int b0, .int b1, rv b2, .int b3, .long b4, .int b5] h (.returned none) x) (o_X2_part : Nat → Int32 → Int32 → Nat → Int32 → Int64 → Int32 → TH → Option TH) (ho_X2_part : ∀ (a : Nat) (b0 : Int32) (b1 : Int32) (b2 : Nat) (b3 : Int32) (b4 : Int64) (b5 : Int32) (h : TH) (x : TH), o_X2_part a b0 b1 b2 b3 b4 b5 h = some x → XMt l yX2_part (ws_ yX2_part cX2_part 14 (none)) fr lo D [rv a, .int b0, .int b1, rv b2, .int b3, .long b4, .int b5] h (.returned none) x) (o_X2_go : Nat → Int32 → Int32 → Int32 → Int64 → Int32 → TH → Option TH) (ho_X2_go : ∀ (a : Nat) (b0 : Int32) (b1 : Int32) (b2 : Int32) (b3 : Int64) (b4 : Int32) (h : TH) (x : TH), o_X2_go a b0 b1 b2 b3 b4 h = some x → XMt l yX2_go (ws_ yX2_go cX2_go 14 (none)) fr lo D [rv a, .int b0, .int b1, .int b2, .long b3, .int b4] h (.returned none) x) {x : TH} :
    ∀ (fu : Nat) (x0 : Nat) (x1 : Int32) (x7 : Int32) (x8 : Int32) (x9 : Int32) (x10 : Int64) (h : TH), B_X2_go_L14 D.2.2.2 o_X2_see o_X2_part o_X2_go fu x0 x1 x7 x8 x9 x10 h = some x → XJ p l e (xRm (fr + 1) (lo + 33) h0) s m args below meth c D 14 (.returned none) h0 x 14 [(0, rv x0), (1, .int x1), (7, .int x7), (8, .int x8), (9, .int x9), (10, .long x10)] [] h := by
  have hx := hC.1
  have hb := hC.2.1
  intro fu
  induction fu with
  | zero => intro x0 x1 x7 x8 x9 x10 h hF; exact nm_none hF
  | succ fu ih =>
    intro x0 x1 x7 x8 x9 x10 h hF H locs cells slots ls hX hl
    rw [B_X2_go_L14] at hF
    refine lv_iload hx hb dX2_go_14 (lv_at hl 4 rfl) ?_
    refine X_aload_n hx hb dX2_go_16 rfl (lv_at hl 0 rfl) ?_
    obtain ⟨h_1, hF⟩ := gd_ok hF
    obtain ⟨h_2, hF⟩ := gd_ok hF
    refine gX_X2_3 hC hX h_1 h_2 dX2_go_17 ?_
    refine lv_topr (fun r_3 er_3 => ?_)
    replace hF := lt_at hF er_3
    obtain ⟨h_4, hF⟩ := gd_ok hF
    refine gX_X2_36 hC hX h_4 dX2_go_20 ?_
    refine lv_topr (fun r_5 er_5 => ?_)
    replace hF := lt_at hF er_5
    obtain ⟨h_6, hF⟩ := gd_ok hF
    refine gX_X2_54 hC hX h_6 dX2_go_23 ?_
    refine lv_topr (fun r_7 er_7 => ?_)
    replace hF := lt_at hF er_7
    obtain ⟨h_8, hF⟩ := gd_ok hF
    obtain ⟨r_10, hc_9, hF⟩ := bd_ok hF
    refine iX_X2_58 hC hX h_8 hc_9 hl.1 (Nat.le_of_ble_eq_true rfl) (by show _ ≤ fr + 1; omega) (by show _ ≤ lo + 33; omega) dX2_go_26 (fun H locs cells slots hX => ?_)
    refine lv_icmp_ge (tgt := 371) hx hb dX2_go_29 (by decide) (fun c_11 => ?_) (fun c_11 => ?_)
    · replace hF := it_t hF c_11
      exact w_X2_go_b371_g hC hr hnh hin hfr hlo o_X2_see ho_X2_see o_X2_part ho_X2_part o_X2_go ho_X2_go x0 x1 x10 h hF H locs cells slots ls hX (lv_sub hl [0, 1, 5] rfl)
    · replace hF := it_f hF c_11
      refine X_aload_n hx hb dX2_go_32 rfl (lv_at hl 0 rfl) ?_
      obtain ⟨r_13, hc_12, hF⟩ := bd_ok hF
      refine iX_X2_63 hC hX hc_12 hl.1 (Nat.le_of_ble_eq_true rfl) (by show _ ≤ fr + 1; omega) (by show _ ≤ lo + 33; omega) dX2_go_33 (fun H locs cells slots hX => ?_)
      refine lv_if_ne (tgt := 371) hx hb dX2_go_36 (by decide) (fun c_14 => ?_) (fun c_14 => ?_)
      · replace hF := it_f hF c_14
        exact w_X2_go_b371_g hC hr hnh hin hfr hlo o_X2_see ho_X2_see o_X2_part ho_X2_part o_X2_go ho_X2_go x0 x1 x10 h hF H locs cells slots ls hX (lv_sub hl [0, 1, 5] rfl)
      · replace hF := it_t hF c_14
        refine X_aload_n hx hb dX2_go_39 rfl (lv_at hl 0 rfl) ?_
        obtain ⟨h_15, hF⟩ := gd_ok hF
        obtain ⟨h_16, hF⟩ := gd_ok hF
        refine gX_X2_3 hC hX h_15 h_16 dX2_go_40 ?_
        refine lv_topr (fun r_17 er_17 => ?_)
        replace hF := lt_at hF er_17
        obtain ⟨h_18, hF⟩ := gd_ok hF
        refine gX_X2_36 hC hX h_18 dX2_go_43 ?_
        refine lv_topr (fun r_19 er_19 => ?_)
        replace hF := lt_at hF er_19
        obtain ⟨h_20, hF⟩ := gd_ok hF
        refine gX_X2_54 hC hX h_20 dX2_go_46 ?_
        refine lv_topr (fun r_21 er_21 => ?_)
        replace hF := lt_at hF er_21
        refine lv_iload hx hb dX2_go_49 (lv_at hl 4 rfl) ?_
        obtain ⟨h_22, hF⟩ := gd_ok hF
        obtain ⟨r_24, hc_23, hF⟩ := bd_ok hF
        refine iX_X2_67 hC hX h_22 hc_23 hl.1 (Nat.le_of_ble_eq_true rfl) (by show _ ≤ fr + 1; omega) (by show _ ≤ lo + 33; omega) dX2_go_51 (fun H locs cells slots hX => ?_)
        obtain ⟨h_25, hF⟩ := gd_ok hF
        refine X_cast hC hX h_25 q517 dX2_go_54 ?_
        refine X_astore (lv' := [(12, rv r_24), (0, rv x0), (1, .int x1), (7, .int x7), (8, .int x8), (9, .int x9), (10, .long x10)]) hx hb dX2_go_57 hl (by decide) rfl (fun ls hl => ?_)
        refine X_aload hx hb dX2_go_59 (lv_at hl 0 rfl) ?_
        obtain ⟨r_27, hc_26, hF⟩ := bd_ok hF
        refine iX_X2_73 hC hX hc_26 hl.1 (Nat.le_of_ble_eq_true rfl) (by show _ ≤ fr + 1; omega) (by show _ ≤ lo + 33; omega) dX2_go_61 (fun H locs cells slots hX => ?_)
        refine lv_iload hx hb dX2_go_64 (lv_at hl 3 rfl) ?_
        refine lv_icmp_le (tgt := 72) hx hb dX2_go_66 (by decide) (fun c_28 => ?_) (fun c_28 => ?_)
        · replace hF := it_t hF c_28
          refine X_aload hx hb dX2_go_72 (lv_at hl 0 rfl) ?_
          obtain ⟨r_29, hc_30, hF⟩ := bd_ok hF
          refine X_inst hC hX hc_30 q541 dX2_go_74 ?_
          refine lv_if_eq (tgt := 155) hx hb dX2_go_77 (by decide) (fun c_31 => ?_) (fun c_31 => ?_)
          · replace hF := it_t hF c_31
            refine X_aload hx hb dX2_go_155 (lv_at hl 0 rfl) ?_
            obtain ⟨r_32, hc_33, hF⟩ := bd_ok hF
            refine X_inst hC hX hc_33 q554 dX2_go_157 ?_
            refine lv_if_eq (tgt := 256) hx hb dX2_go_160 (by decide) (fun c_34 => ?_) (fun c_34 => ?_)
            · replace hF := it_t hF c_34
              refine X_aload hx hb dX2_go_256 (lv_at hl 0 rfl) ?_
              obtain ⟨r_35, hc_36, hF⟩ := bd_ok hF
              refine X_inst hC hX hc_36 q609 dX2_go_258 ?_
              refine lv_if_eq (tgt := 283) hx hb dX2_go_261 (by decide) (fun c_37 => ?_) (fun c_37 => ?_)
              · replace hF := it_t hF c_37
                refine X_aload hx hb dX2_go_283 (lv_at hl 0 rfl) ?_
                obtain ⟨r_38, hc_39, hF⟩ := bd_ok hF
                refine X_inst hC hX hc_39 q618 dX2_go_285 ?_
                refine lv_if_eq (tgt := 339) hx hb dX2_go_288 (by decide) (fun c_40 => ?_) (fun c_40 => ?_)
                · replace hF := it_t hF c_40
                  refine X_aload hx hb dX2_go_339 (lv_at hl 0 rfl) ?_
                  obtain ⟨r_41, hc_42, hF⟩ := bd_ok hF
                  refine X_inst hC hX hc_42 q619 dX2_go_341 ?_
                  refine lv_if_ne (tgt := 355) hx hb dX2_go_344 (by decide) (fun c_43 => ?_) (fun c_43 => ?_)
                  · replace hF := it_f hF c_43
                    exact w_X2_go_b355_g hC hr hnh hin hfr hlo o_X2_see ho_X2_see o_X2_part ho_X2_part o_X2_go ho_X2_go x0 x1 x10 r_24 h hF H locs cells slots ls hX (lv_sub hl [1, 2, 6, 0] rfl)
                  · replace hF := it_t hF c_43
                    refine X_aload hx hb dX2_go_347 (lv_at hl 0 rfl) ?_
                    obtain ⟨r_44, hc_45, hF⟩ := bd_ok hF
                    refine X_inst hC hX hc_45 q620 dX2_go_349 ?_
                    refine lv_if_eq (tgt := 365) hx hb dX2_go_352 (by decide) (fun c_46 => ?_) (fun c_46 => ?_)
                    · replace hF := it_t hF c_46
                      exact w_X2_go_b365_g hC hr hnh hin hfr hlo o_X2_see ho_X2_see o_X2_part ho_X2_part o_X2_go ho_X2_go (B_X2_go_L14 D.2.2.2 o_X2_see o_X2_part o_X2_go fu) ih x0 x1 x7 x8 x9 x10 h hF H locs cells slots ls hX (lv_sub hl [1, 2, 3, 4, 5, 6] rfl)
                    · replace hF := it_f hF c_46
                      exact w_X2_go_b355_g hC hr hnh hin hfr hlo o_X2_see ho_X2_see o_X2_part ho_X2_part o_X2_go ho_X2_go x0 x1 x10 r_24 h hF H locs cells slots ls hX (lv_sub hl [1, 2, 6, 0] rfl)
                · replace hF := it_f hF c_40
                  refine X_aload hx hb dX2_go_291 (lv_at hl 0 rfl) ?_
                  obtain ⟨h_47, hF⟩ := gd_ok hF
                  refine X_cast hC hX h_47 q618 dX2_go_293 ?_
                  refine X_astore (i := 13) hx hb dX2_go_296 hl (by decide) rfl (fun ls hl => ?_)
                  replace hl : lv_has ls 14 [(13, rv r_24), (12, rv r_24), (0, rv x0), (1, .int x1), (7, .int x7), (8, .int x8), (9, .int x9), (10, .long x10)] := lv_subS hl (List.forall_mem_cons.mpr ⟨Or.inl rfl, (List.forall_mem_cons.mpr ⟨Or.inr ⟨List.mem_of_getElem? (i := 0) rfl, by simp [rv_cat]⟩, (List.forall_mem_cons.mpr ⟨Or.inr ⟨List.mem_of_getElem? (i := 1) rfl, rfl⟩, (List.forall_mem_cons.mpr ⟨Or.inr ⟨List.mem_of_getElem? (i := 2) rfl, rfl⟩, (List.forall_mem_cons.mpr ⟨Or.inr ⟨List.mem_of_getElem? (i := 3) rfl, rfl⟩, (List.forall_mem_cons.mpr ⟨Or.inr ⟨List.mem_of_getElem? (i := 4) rfl, rfl⟩, (List.forall_mem_cons.mpr ⟨Or.inr ⟨List.mem_of_getElem? (i := 5) rfl, rfl⟩, (List.forall_mem_cons.mpr ⟨Or.inr ⟨List.mem_of_getElem? (i := 6) rfl, rfl⟩, (fun _ h => nomatch h)⟩)⟩)⟩)⟩)⟩)⟩)⟩)⟩)
                  refine X_aload_n hx hb dX2_go_298 rfl (lv_at hl 2 rfl) ?_
                  obtain ⟨h_48, hF⟩ := gd_ok hF
                  obtain ⟨h_49, hF⟩ := gd_ok hF
                  refine gX_X2_3 hC hX h_48 h_49 dX2_go_299 ?_
                  refine lv_topr (fun r_50 er_50 => ?_)
                  replace hF := lt_at hF er_50
                  obtain ⟨h_51, hF⟩ := gd_ok hF
                  refine gX_X2_46 hC hX h_51 dX2_go_302 ?_
                  refine lv_topr (fun r_52 er_52 => ?_)
                  replace hF := lt_at hF er_52
                  refine lv_iload_n hx hb dX2_go_305 rfl (lv_at hl 3 rfl) ?_
                  obtain ⟨h_53, hF⟩ := gd_ok hF
                  obtain ⟨h_54, hF⟩ := gd_ok hF
                  refine X_aald hC hX h_53 h_54 dX2_go_306 ?_
                  refine lv_topr (fun r_55 er_55 => ?_)
                  replace hF := lt_at hF er_55
                  refine X_aload hx hb dX2_go_307 (lv_at hl 0 rfl) ?_
                  obtain ⟨h_56, hF⟩ := gd_ok hF
                  refine gX_X2_110 hC hX h_56 dX2_go_309 ?_
                  obtain ⟨h_57, hF⟩ := gd_ok hF
                  obtain ⟨h_58, hF⟩ := gd_ok hF
                  refine X_iald hC hX h_57 h_58 dX2_go_312 ?_
                  refine X_aload hx hb dX2_go_313 (lv_at hl 0 rfl) ?_
                  obtain ⟨h_59, hF⟩ := gd_ok hF
                  refine gX_X2_113 hC hX h_59 dX2_go_315 ?_
                  refine lv_if_eq (tgt := 325) hx hb dX2_go_318 (by decide) (fun c_60 => ?_) (fun c_60 => ?_)
                  · replace hF := it_t hF c_60
                    refine lv_iconst (v := 0) hx hb dX2_go_325 (by decide) ?_
                    exact w_X2_go_b326_g hC hr hnh hin hfr hlo o_X2_see ho_X2_see o_X2_part ho_X2_part o_X2_go ho_X2_go (B_X2_go_b365 D.2.2.2 o_X2_see o_X2_part o_X2_go (B_X2_go_L14 D.2.2.2 o_X2_see o_X2_part o_X2_go fu)) (w_X2_go_b365_g hC hr hnh hin hfr hlo o_X2_see ho_X2_see o_X2_part ho_X2_part o_X2_go ho_X2_go (B_X2_go_L14 D.2.2.2 o_X2_see o_X2_part o_X2_go fu) ih) x0 x1 x7 x8 x9 x10 r_24 (0 : Int32) (hA h r_55 (Int32.toNatClampNeg (hI h 106 r_24))) h hF H locs cells slots ls hX (lv_sub hl [2, 3, 4, 5, 6, 7, 0] rfl)
                  · replace hF := it_f hF c_60
                    refine lv_iconst (v := 1) hx hb dX2_go_321 (by decide) ?_
                    refine lv_goto (tgt := 326) hx hb dX2_go_322 (by decide) ?_
                    exact w_X2_go_b326_g hC hr hnh hin hfr hlo o_X2_see ho_X2_see o_X2_part ho_X2_part o_X2_go ho_X2_go (B_X2_go_b365 D.2.2.2 o_X2_see o_X2_part o_X2_go (B_X2_go_L14 D.2.2.2 o_X2_see o_X2_part o_X2_go fu)) (w_X2_go_b365_g hC hr hnh hin hfr hlo o_X2_see ho_X2_see o_X2_part ho_X2_part o_X2_go ho_X2_go (B_X2_go_L14 D.2.2.2 o_X2_see o_X2_part o_X2_go fu) ih) x0 x1 x7 x8 x9 x10 r_24 (1 : Int32) (hA h r_55 (Int32.toNatClampNeg (hI h 106 r_24))) h hF H locs cells slots ls hX (lv_sub hl [2, 3, 4, 5, 6, 7, 0] rfl)
              · replace hF := it_f hF c_37
                exact w_X2_go_b264_g hC hr hnh hin hfr hlo o_X2_see ho_X2_see o_X2_part ho_X2_part o_X2_go ho_X2_go x0 x1 x7 x8 x9 x10 r_24 h hF H locs cells slots ls hX (lv_sub hl [1, 2, 3, 4, 5, 6, 0] rfl)
            · replace hF := it_f hF c_34
              refine X_aload hx hb dX2_go_163 (lv_at hl 0 rfl) ?_
              obtain ⟨h_61, hF⟩ := gd_ok hF
              refine X_cast hC hX h_61 q554 dX2_go_165 ?_
              refine X_astore (i := 13) hx hb dX2_go_168 hl (by decide) rfl (fun ls hl => ?_)
              replace hl : lv_has ls 14 [(13, rv r_24), (12, rv r_24), (0, rv x0), (1, .int x1), (7, .int x7), (8, .int x8), (9, .int x9), (10, .long x10)] := lv_subS hl (List.forall_mem_cons.mpr ⟨Or.inl rfl, (List.forall_mem_cons.mpr ⟨Or.inr ⟨List.mem_of_getElem? (i := 0) rfl, by simp [rv_cat]⟩, (List.forall_mem_cons.mpr ⟨Or.inr ⟨List.mem_of_getElem? (i := 1) rfl, rfl⟩, (List.forall_mem_cons.mpr ⟨Or.inr ⟨List.mem_of_getElem? (i := 2) rfl, rfl⟩, (List.forall_mem_cons.mpr ⟨Or.inr ⟨List.mem_of_getElem? (i := 3) rfl, rfl⟩, (List.forall_mem_cons.mpr ⟨Or.inr ⟨List.mem_of_getElem? (i := 4) rfl, rfl⟩, (List.forall_mem_cons.mpr ⟨Or.inr ⟨List.mem_of_getElem? (i := 5) rfl, rfl⟩, (List.forall_mem_cons.mpr ⟨Or.inr ⟨List.mem_of_getElem? (i := 6) rfl, rfl⟩, (fun _ h => nomatch h)⟩)⟩)⟩)⟩)⟩)⟩)⟩)⟩)
              refine lv_iload hx hb dX2_go_170 (lv_at hl 6 rfl) ?_
              refine X_aload_n hx hb dX2_go_172 rfl (lv_at hl 2 rfl) ?_
              obtain ⟨h_62, hF⟩ := gd_ok hF
              refine gX_X2_22 hC hX h_62 dX2_go_173 ?_
              refine lv_icmp_eq (tgt := 193) hx hb dX2_go_176 (by decide) (fun c_63 => ?_) (fun c_63 => ?_)
              · replace hF := it_t hF c_63
                exact w_X2_go_b193_g hC hr hnh hin hfr hlo o_X2_see ho_X2_see o_X2_part ho_X2_part o_X2_go ho_X2_go x0 x1 x7 x8 x9 x10 r_24 h hF H locs cells slots ls hX (lv_sub hl [2, 3, 4, 5, 6, 7, 0] rfl)
              · replace hF := it_f hF c_63
                refine lv_iload hx hb dX2_go_179 (lv_at hl 5 rfl) ?_
                refine lv_if_lt (tgt := 216) hx hb dX2_go_181 (by decide) (fun c_64 => ?_) (fun c_64 => ?_)
                · replace hF := it_t hF c_64
                  exact w_X2_go_b216_g hC hr hnh hin hfr hlo o_X2_see ho_X2_see o_X2_part ho_X2_part o_X2_go ho_X2_go (B_X2_go_b365 D.2.2.2 o_X2_see o_X2_part o_X2_go (B_X2_go_L14 D.2.2.2 o_X2_see o_X2_part o_X2_go fu)) (w_X2_go_b365_g hC hr hnh hin hfr hlo o_X2_see ho_X2_see o_X2_part ho_X2_part o_X2_go ho_X2_go (B_X2_go_L14 D.2.2.2 o_X2_see o_X2_part o_X2_go fu) ih) x0 x1 x7 x8 x9 x10 r_24 h hF H locs cells slots ls hX (lv_sub hl [2, 3, 4, 5, 6, 7, 0] rfl)
                · replace hF := it_f hF c_64
                  refine X_aload hx hb dX2_go_184 (lv_at hl 0 rfl) ?_
                  obtain ⟨r_66, hc_65, hF⟩ := bd_ok hF
                  refine iX_X2_87 hC hX hc_65 hl.1 (Nat.le_of_ble_eq_true rfl) (by show _ ≤ fr + 1; omega) (by show _ ≤ lo + 33; omega) dX2_go_186 (fun H locs cells slots hX => ?_)
                  refine lv_iconst (v := 1) hx hb dX2_go_189 (by decide) ?_
                  refine lv_icmp_le (tgt := 216) hx hb dX2_go_190 (by decide) (fun c_67 => ?_) (fun c_67 => ?_)
                  · replace hF := it_t hF c_67
                    exact w_X2_go_b216_g hC hr hnh hin hfr hlo o_X2_see ho_X2_see o_X2_part ho_X2_part o_X2_go ho_X2_go (B_X2_go_b365 D.2.2.2 o_X2_see o_X2_part o_X2_go (B_X2_go_L14 D.2.2.2 o_X2_see o_X2_part o_X2_go fu)) (w_X2_go_b365_g hC hr hnh hin hfr hlo o_X2_see ho_X2_see o_X2_part ho_X2_part o_X2_go ho_X2_go (B_X2_go_L14 D.2.2.2 o_X2_see o_X2_part o_X2_go fu) ih) x0 x1 x7 x8 x9 x10 r_24 h hF H locs cells slots ls hX (lv_sub hl [2, 3, 4, 5, 6, 7, 0] rfl)
                  · replace hF := it_f hF c_67
                    exact w_X2_go_b193_g hC hr hnh hin hfr hlo o_X2_see ho_X2_see o_X2_part ho_X2_part o_X2_go ho_X2_go x0 x1 x7 x8 x9 x10 r_24 h hF H locs cells slots ls hX (lv_sub hl [2, 3, 4, 5, 6, 7, 0] rfl)
          · replace hF := it_f hF c_31
            refine X_aload hx hb dX2_go_80 (lv_at hl 0 rfl) ?_
            obtain ⟨h_68, hF⟩ := gd_ok hF
            refine X_cast hC hX h_68 q541 dX2_go_82 ?_
            refine X_astore (i := 13) hx hb dX2_go_85 hl (by decide) rfl (fun ls hl => ?_)
            replace hl : lv_has ls 14 [(13, rv r_24), (12, rv r_24), (0, rv x0), (1, .int x1), (7, .int x7), (8, .int x8), (9, .int x9), (10, .long x10)] := lv_subS hl (List.forall_mem_cons.mpr ⟨Or.inl rfl, (List.forall_mem_cons.mpr ⟨Or.inr ⟨List.mem_of_getElem? (i := 0) rfl, by simp [rv_cat]⟩, (List.forall_mem_cons.mpr ⟨Or.inr ⟨List.mem_of_getElem? (i := 1) rfl, rfl⟩, (List.forall_mem_cons.mpr ⟨Or.inr ⟨List.mem_of_getElem? (i := 2) rfl, rfl⟩, (List.forall_mem_cons.mpr ⟨Or.inr ⟨List.mem_of_getElem? (i := 3) rfl, rfl⟩, (List.forall_mem_cons.mpr ⟨Or.inr ⟨List.mem_of_getElem? (i := 4) rfl, rfl⟩, (List.forall_mem_cons.mpr ⟨Or.inr ⟨List.mem_of_getElem? (i := 5) rfl, rfl⟩, (List.forall_mem_cons.mpr ⟨Or.inr ⟨List.mem_of_getElem? (i := 6) rfl, rfl⟩, (fun _ h => nomatch h)⟩)⟩)⟩)⟩)⟩)⟩)⟩)⟩)
            refine lv_iload hx hb dX2_go_87 (lv_at hl 4 rfl) ?_
            refine X_aload hx hb dX2_go_89 (lv_at hl 0 rfl) ?_
            obtain ⟨h_69, hF⟩ := gd_ok hF
            obtain ⟨r_71, hc_70, hF⟩ := bd_ok hF
            refine iX_X2_78 hC hX h_69 hc_70 hl.1 (Nat.le_of_ble_eq_true rfl) (by show _ ≤ fr + 1; omega) (by show _ ≤ lo + 33; omega) dX2_go_91 (fun H locs cells slots hX => ?_)
            refine lv_iadd hx hb dX2_go_94 ?_
            refine lv_bipush (v := 8) hx hb dX2_go_95 (by decide) ?_
            refine lv_icmp_le (tgt := 103) hx hb dX2_go_97 (by decide) (fun c_72 => ?_) (fun c_72 => ?_)
            · replace hF := it_t hF c_72
              refine X_aload_n hx hb dX2_go_103 rfl (lv_at hl 2 rfl) ?_
              obtain ⟨h_73, hF⟩ := gd_ok hF
              refine gX_X2_19 hC hX h_73 dX2_go_104 ?_
              refine lv_iload hx hb dX2_go_107 (lv_at hl 4 rfl) ?_
              refine lv_icmp_lt (tgt := 133) hx hb dX2_go_109 (by decide) (fun c_74 => ?_) (fun c_74 => ?_)
              · replace hF := it_t hF c_74
                exact w_X2_go_b133_g hC hr hnh hin hfr hlo o_X2_see ho_X2_see o_X2_part ho_X2_part o_X2_go ho_X2_go (B_X2_go_b365 D.2.2.2 o_X2_see o_X2_part o_X2_go (B_X2_go_L14 D.2.2.2 o_X2_see o_X2_part o_X2_go fu)) (w_X2_go_b365_g hC hr hnh hin hfr hlo o_X2_see ho_X2_see o_X2_part ho_X2_part o_X2_go ho_X2_go (B_X2_go_L14 D.2.2.2 o_X2_see o_X2_part o_X2_go fu) ih) x0 x1 x7 x8 x9 x10 r_24 h hF H locs cells slots ls hX (lv_sub hl [2, 3, 4, 5, 6, 7, 0] rfl)
              · replace hF := it_f hF c_74
                refine X_aload_n hx hb dX2_go_112 rfl (lv_at hl 2 rfl) ?_
                obtain ⟨h_75, hF⟩ := gd_ok hF
                refine gX_X2_19 hC hX h_75 dX2_go_113 ?_
                refine lv_iload hx hb dX2_go_116 (lv_at hl 4 rfl) ?_
                refine X_aload hx hb dX2_go_118 (lv_at hl 0 rfl) ?_
                obtain ⟨h_76, hF⟩ := gd_ok hF
                obtain ⟨r_78, hc_77, hF⟩ := bd_ok hF
                refine iX_X2_78 hC hX h_76 hc_77 hl.1 (Nat.le_of_ble_eq_true rfl) (by show _ ≤ fr + 1; omega) (by show _ ≤ lo + 33; omega) dX2_go_120 (fun H locs cells slots hX => ?_)
                refine lv_iadd hx hb dX2_go_123 ?_
                refine lv_icmp_ge (tgt := 133) hx hb dX2_go_124 (by decide) (fun c_79 => ?_) (fun c_79 => ?_)
                · replace hF := it_t hF c_79
                  exact w_X2_go_b133_g hC hr hnh hin hfr hlo o_X2_see ho_X2_see o_X2_part ho_X2_part o_X2_go ho_X2_go (B_X2_go_b365 D.2.2.2 o_X2_see o_X2_part o_X2_go (B_X2_go_L14 D.2.2.2 o_X2_see o_X2_part o_X2_go fu)) (w_X2_go_b365_g hC hr hnh hin hfr hlo o_X2_see ho_X2_see o_X2_part ho_X2_part o_X2_go ho_X2_go (B_X2_go_L14 D.2.2.2 o_X2_see o_X2_part o_X2_go fu) ih) x0 x1 x7 x8 x9 x10 r_24 h hF H locs cells slots ls hX (lv_sub hl [2, 3, 4, 5, 6, 7, 0] rfl)
                · replace hF := it_f hF c_79
                  refine X_aload_n hx hb dX2_go_127 rfl (lv_at hl 2 rfl) ?_
                  obtain ⟨h_80, hF⟩ := gd_ok hF
                  refine gX_X2_19 hC hX h_80 dX2_go_128 ?_
                  refine lv_topi (fun x_81 ex_81 => ?_)
                  replace hF := lt_at hF ex_81
                  refine lv_istore (lv' := [(8, .int x_81), (13, rv r_24), (12, rv r_24), (0, rv x0), (1, .int x1), (7, .int x7), (9, .int x9), (10, .long x10)]) hx hb dX2_go_131 hl (by decide) rfl (fun ls hl => ?_)
                  exact w_X2_go_b133_g hC hr hnh hin hfr hlo o_X2_see ho_X2_see o_X2_part ho_X2_part o_X2_go ho_X2_go (B_X2_go_b365 D.2.2.2 o_X2_see o_X2_part o_X2_go (B_X2_go_L14 D.2.2.2 o_X2_see o_X2_part o_X2_go fu)) (w_X2_go_b365_g hC hr hnh hin hfr hlo o_X2_see ho_X2_see o_X2_part ho_X2_part o_X2_go ho_X2_go (B_X2_go_L14 D.2.2.2 o_X2_see o_X2_part o_X2_go fu) ih) x0 x1 x7 x_81 x9 x10 r_24 h hF H locs cells slots ls hX (lv_sub hl [3, 4, 5, 0, 6, 7, 1] rfl)
            · replace hF := it_f hF c_72
              exact w_X2_go_b100_g hC hr hnh hin hfr hlo o_X2_see ho_X2_see o_X2_part ho_X2_part o_X2_go ho_X2_go (B_X2_go_b371 D.2.2.2 o_X2_see o_X2_part o_X2_go) (w_X2_go_b371_g hC hr hnh hin hfr hlo o_X2_see ho_X2_see o_X2_part ho_X2_part o_X2_go ho_X2_go) x0 x1 x10 h hF H locs cells slots ls hX (lv_sub hl [2, 3, 7] rfl)
        · replace hF := it_f hF c_28
          exact w_X2_go_b69_g hC hr hnh hin hfr hlo o_X2_see ho_X2_see o_X2_part ho_X2_part o_X2_go ho_X2_go (B_X2_go_b371 D.2.2.2 o_X2_see o_X2_part o_X2_go) (w_X2_go_b371_g hC hr hnh hin hfr hlo o_X2_see ho_X2_see o_X2_part ho_X2_part o_X2_go ho_X2_go) x0 x1 x10 h hF H locs cells slots ls hX (lv_sub hl [1, 2, 6] rfl)
def B_X2_go (K : Nat → Nat) (o_X2_see : Nat → Int32 → Int32 → Nat → Int32 → Int64 → Int32 → TH → Option TH) (o_X2_part : Nat → Int32 → Int32 → Nat → Int32 → Int64 → Int32 → TH → Option TH) (o_X2_go : Nat → Int32 → Int32 → Int32 → Int64 → Int32 → TH → Option TH) (a0 : Nat) (b0 : Int32) (b1 : Int32) (b2 : Int32) (b3 : Int64) (b4 : Int32) (h : TH) : Option TH :=
  B_X2_go_L14 K o_X2_see o_X2_part o_X2_go MN a0 b0 b2 b4 b1 b3 h
set_option maxHeartbeats 4000000 in
theorem w_X2_go_g {p : Program} {l : Launch} {e : Env} {s : State} {m : MethodId} {args : Array Value} {below : List Frame} {meth : Method} {c : Code} {D : XD} {h0 : TH} {fr lo : Nat} (hC : XCx D cX2_go 14 RX2 h0 p (xRm (fr + 1) (lo + 33) h0) s m args meth c) (hr : meth.sig.returnType = none) (hnh : c.exceptionTable.isEmpty = true) (hin : meth.name = "go") (hfr : 455 ≤ fr) (hlo : 10464 ≤ lo) (o_X2_see : Nat → Int32 → Int32 → Nat → Int32 → Int64 → Int32 → TH → Option TH) (ho_X2_see : ∀ (a : Nat) (b0 : Int32) (b1 : Int32) (b2 : Nat) (b3 : Int32) (b4 : Int64) (b5 : Int32) (h : TH) (x : TH), o_X2_see a b0 b1 b2 b3 b4 b5 h = some x → XMt l yX2_see (ws_ yX2_see cX2_see 14 (none)) fr lo D [rv a, .int b0, .int b1, rv b2, .int b3, .long b4, .int b5] h (.returned none) x) (o_X2_part : Nat → Int32 → Int32 → Nat → Int32 → Int64 → Int32 → TH → Option TH) (ho_X2_part : ∀ (a : Nat) (b0 : Int32) (b1 : Int32) (b2 : Nat) (b3 : Int32) (b4 : Int64) (b5 : Int32) (h : TH) (x : TH), o_X2_part a b0 b1 b2 b3 b4 b5 h = some x → XMt l yX2_part (ws_ yX2_part cX2_part 14 (none)) fr lo D [rv a, .int b0, .int b1, rv b2, .int b3, .long b4, .int b5] h (.returned none) x) (o_X2_go : Nat → Int32 → Int32 → Int32 → Int64 → Int32 → TH → Option TH) (ho_X2_go : ∀ (a : Nat) (b0 : Int32) (b1 : Int32) (b2 : Int32) (b3 : Int64) (b4 : Int32) (h : TH) (x : TH), o_X2_go a b0 b1 b2 b3 b4 h = some x → XMt l yX2_go (ws_ yX2_go cX2_go 14 (none)) fr lo D [rv a, .int b0, .int b1, .int b2, .long b3, .int b4] h (.returned none) x) {x : TH} :
    ∀ (a0 : Nat) (b0 : Int32) (b1 : Int32) (b2 : Int32) (b3 : Int64) (b4 : Int32) (h : TH), B_X2_go D.2.2.2 o_X2_see o_X2_part o_X2_go a0 b0 b1 b2 b3 b4 h = some x → XJ p l e (xRm (fr + 1) (lo + 33) h0) s m args below meth c D 14 (.returned none) h0 x 0 [(0, rv a0), (1, .int b0), (2, .int b1), (3, .int b2), (4, .long b3), (6, .int b4)] [] h := by
  have hx := hC.1
  have hb := hC.2.1
  intro a0 b0 b1 b2 b3 b4 h hF H locs cells slots ls hX hl
  rw [B_X2_go] at hF
  refine lv_iload_n hx hb dX2_go_0 rfl (lv_at hl 3 rfl) ?_
  refine lv_istore (lv' := [(7, .int b2), (0, rv a0), (1, .int b0), (2, .int b1), (3, .int b2), (4, .long b3), (6, .int b4)]) hx hb dX2_go_1 hl (by decide) rfl (fun ls hl => ?_)
  refine lv_iload hx hb dX2_go_3 (lv_at hl 6 rfl) ?_
  refine lv_istore (lv' := [(8, .int b4), (7, .int b2), (0, rv a0), (1, .int b0), (2, .int b1), (3, .int b2), (4, .long b3), (6, .int b4)]) hx hb dX2_go_5 hl (by decide) rfl (fun ls hl => ?_)
  refine lv_iload_n hx hb dX2_go_7 rfl (lv_at hl 4 rfl) ?_
  refine lv_istore (lv' := [(9, .int b1), (8, .int b4), (7, .int b2), (0, rv a0), (1, .int b0), (2, .int b1), (3, .int b2), (4, .long b3), (6, .int b4)]) hx hb dX2_go_8 hl (by decide) rfl (fun ls hl => ?_)
  refine lv_lload hx hb dX2_go_10 (lv_at hl 7 rfl) ?_
  refine lv_lstore (lv' := [(10, .long b3), (9, .int b1), (8, .int b4), (7, .int b2), (0, rv a0), (1, .int b0), (2, .int b1), (3, .int b2), (4, .long b3), (6, .int b4)]) hx hb dX2_go_12 hl (by decide) rfl (fun ls hl => ?_)
  exact w_X2_go_L14_g hC hr hnh hin hfr hlo o_X2_see ho_X2_see o_X2_part ho_X2_part o_X2_go ho_X2_go MN a0 b0 b2 b4 b1 b3 h hF H locs cells slots ls hX (lv_sub hl [4, 5, 3, 2, 1, 0] rfl)
theorem mb_X2_go (l : Launch) (D : XD) {fr lo : Nat} (hfr : 455 ≤ fr) (hlo : 10464 ≤ lo) (o_X2_see : Nat → Int32 → Int32 → Nat → Int32 → Int64 → Int32 → TH → Option TH) (ho_X2_see : ∀ (a : Nat) (b0 : Int32) (b1 : Int32) (b2 : Nat) (b3 : Int32) (b4 : Int64) (b5 : Int32) (h : TH) (x : TH), o_X2_see a b0 b1 b2 b3 b4 b5 h = some x → XMt l yX2_see (ws_ yX2_see cX2_see 14 (none)) fr lo D [rv a, .int b0, .int b1, rv b2, .int b3, .long b4, .int b5] h (.returned none) x) (o_X2_part : Nat → Int32 → Int32 → Nat → Int32 → Int64 → Int32 → TH → Option TH) (ho_X2_part : ∀ (a : Nat) (b0 : Int32) (b1 : Int32) (b2 : Nat) (b3 : Int32) (b4 : Int64) (b5 : Int32) (h : TH) (x : TH), o_X2_part a b0 b1 b2 b3 b4 b5 h = some x → XMt l yX2_part (ws_ yX2_part cX2_part 14 (none)) fr lo D [rv a, .int b0, .int b1, rv b2, .int b3, .long b4, .int b5] h (.returned none) x) (o_X2_go : Nat → Int32 → Int32 → Int32 → Int64 → Int32 → TH → Option TH) (ho_X2_go : ∀ (a : Nat) (b0 : Int32) (b1 : Int32) (b2 : Int32) (b3 : Int64) (b4 : Int32) (h : TH) (x : TH), o_X2_go a b0 b1 b2 b3 b4 h = some x → XMt l yX2_go (ws_ yX2_go cX2_go 14 (none)) fr lo D [rv a, .int b0, .int b1, .int b2, .long b3, .int b4] h (.returned none) x) (a0 : Nat) (b0 : Int32) (b1 : Int32) (b2 : Int32) (b3 : Int64) (b4 : Int32) (h : TH) (x : TH) (hF : B_X2_go D.2.2.2 o_X2_see o_X2_part o_X2_go a0 b0 b1 b2 b3 b4 h = some x) : XMt l yX2_go (ws_ yX2_go cX2_go 14 (none)) (fr + 1) (lo + 33) D [rv a0, .int b0, .int b1, .int b2, .long b3, .int b4] h (.returned none) x := by
  refine x_met (by decide +kernel) ?_ ?_
  · simp [lg_sl, rv_cat, cat_i, cat_l]
  intro p e s m below meth c hC hr hnh hin ls hl hX
  replace hl : lv_has ls 14 [(0, rv a0), (1, .int b0), (2, .int b1), (3, .int b2), (4, .long b3), (6, .int b4)] := by simpa [lv_args, rv_cat, cat_i, cat_l] using hl
  exact w_X2_go_g hC hr hnh hin hfr hlo o_X2_see ho_X2_see o_X2_part ho_X2_part o_X2_go ho_X2_go a0 b0 b1 b2 b3 b4 h hF s.heap [] 0 0 ls hX hl
def G_X2_go (K : Nat → Nat) : Nat → (Nat → Int32 → Int32 → Nat → Int32 → Int64 → Int32 → TH → Option TH) × (Nat → Int32 → Int32 → Nat → Int32 → Int64 → Int32 → TH → Option TH) × (Nat → Int32 → Int32 → Int32 → Int64 → Int32 → TH → Option TH)
  | 0 => (fun _ _ _ _ _ _ _ _ => none, fun _ _ _ _ _ _ _ _ => none, fun _ _ _ _ _ _ _ => none)
  | d + 1 => (B_X2_see K (G_X2_go K d).1 (G_X2_go K d).2.1 (G_X2_go K d).2.2, B_X2_part K (G_X2_go K d).1 (G_X2_go K d).2.1 (G_X2_go K d).2.2, B_X2_go K (G_X2_go K d).1 (G_X2_go K d).2.1 (G_X2_go K d).2.2)
theorem pG_X2_go (l : Launch) (D : XD) : ∀ d : Nat, (∀ (a : Nat) (b0 : Int32) (b1 : Int32) (b2 : Nat) (b3 : Int32) (b4 : Int64) (b5 : Int32) (h : TH) (x : TH), (G_X2_go D.2.2.2 d).1 a b0 b1 b2 b3 b4 b5 h = some x → XMt l yX2_see (ws_ yX2_see cX2_see 14 (none)) (455 + d) (10464 + 33 * d) D [rv a, .int b0, .int b1, rv b2, .int b3, .long b4, .int b5] h (.returned none) x) ∧ (∀ (a : Nat) (b0 : Int32) (b1 : Int32) (b2 : Nat) (b3 : Int32) (b4 : Int64) (b5 : Int32) (h : TH) (x : TH), (G_X2_go D.2.2.2 d).2.1 a b0 b1 b2 b3 b4 b5 h = some x → XMt l yX2_part (ws_ yX2_part cX2_part 14 (none)) (455 + d) (10464 + 33 * d) D [rv a, .int b0, .int b1, rv b2, .int b3, .long b4, .int b5] h (.returned none) x) ∧ (∀ (a : Nat) (b0 : Int32) (b1 : Int32) (b2 : Int32) (b3 : Int64) (b4 : Int32) (h : TH) (x : TH), (G_X2_go D.2.2.2 d).2.2 a b0 b1 b2 b3 b4 h = some x → XMt l yX2_go (ws_ yX2_go cX2_go 14 (none)) (455 + d) (10464 + 33 * d) D [rv a, .int b0, .int b1, .int b2, .long b3, .int b4] h (.returned none) x) := by
  intro d
  induction d with
  | zero => exact ⟨fun _ _ _ _ _ _ _ _ _ h => nm_none h, fun _ _ _ _ _ _ _ _ _ h => nm_none h, fun _ _ _ _ _ _ _ _ h => nm_none h⟩
  | succ d ih =>
    have e : 10464 + 33 * (d + 1) = 10464 + 33 * d + 33 := by omega
    rw [e]
    exact ⟨mb_X2_see l D (Nat.le_add_right _ _) (Nat.le_add_right _ _) _ ih.1 _ ih.2.1 _ ih.2.2, mb_X2_part l D (Nat.le_add_right _ _) (Nat.le_add_right _ _) _ ih.1 _ ih.2.1 _ ih.2.2, mb_X2_go l D (Nat.le_add_right _ _) (Nat.le_add_right _ _) _ ih.1 _ ih.2.1 _ ih.2.2⟩
def F_X2_see (K : Nat → Nat) (a : Nat) (b0 : Int32) (b1 : Int32) (b2 : Nat) (b3 : Int32) (b4 : Int64) (b5 : Int32) (h : TH) : Option TH := (G_X2_go K 20).1 a b0 b1 b2 b3 b4 b5 h
theorem m_X2_see (l : Launch) (D : XD) (a : Nat) (b0 : Int32) (b1 : Int32) (b2 : Nat) (b3 : Int32) (b4 : Int64) (b5 : Int32) (h : TH) (x : TH) (hF : F_X2_see D.2.2.2 a b0 b1 b2 b3 b4 b5 h = some x) : XMt l yX2_see (ws_ yX2_see cX2_see 14 (none)) 475 11124 D [rv a, .int b0, .int b1, rv b2, .int b3, .long b4, .int b5] h (.returned none) x := (pG_X2_go l D 20).1 a b0 b1 b2 b3 b4 b5 h x hF
def F_X2_part (K : Nat → Nat) (a : Nat) (b0 : Int32) (b1 : Int32) (b2 : Nat) (b3 : Int32) (b4 : Int64) (b5 : Int32) (h : TH) : Option TH := (G_X2_go K 20).2.1 a b0 b1 b2 b3 b4 b5 h
theorem m_X2_part (l : Launch) (D : XD) (a : Nat) (b0 : Int32) (b1 : Int32) (b2 : Nat) (b3 : Int32) (b4 : Int64) (b5 : Int32) (h : TH) (x : TH) (hF : F_X2_part D.2.2.2 a b0 b1 b2 b3 b4 b5 h = some x) : XMt l yX2_part (ws_ yX2_part cX2_part 14 (none)) 475 11124 D [rv a, .int b0, .int b1, rv b2, .int b3, .long b4, .int b5] h (.returned none) x := (pG_X2_go l D 20).2.1 a b0 b1 b2 b3 b4 b5 h x hF
def F_X2_go (K : Nat → Nat) (a : Nat) (b0 : Int32) (b1 : Int32) (b2 : Int32) (b3 : Int64) (b4 : Int32) (h : TH) : Option TH := (G_X2_go K 20).2.2 a b0 b1 b2 b3 b4 h
theorem m_X2_go (l : Launch) (D : XD) (a : Nat) (b0 : Int32) (b1 : Int32) (b2 : Int32) (b3 : Int64) (b4 : Int32) (h : TH) (x : TH) (hF : F_X2_go D.2.2.2 a b0 b1 b2 b3 b4 h = some x) : XMt l yX2_go (ws_ yX2_go cX2_go 14 (none)) 475 11124 D [rv a, .int b0, .int b1, .int b2, .long b3, .int b4] h (.returned none) x := (pG_X2_go l D 20).2.2 a b0 b1 b2 b3 b4 h x hF
end
