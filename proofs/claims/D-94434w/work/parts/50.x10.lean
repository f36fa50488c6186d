set_option maxRecDepth 100000
noncomputable section
theorem gX_X11_186 {p : Program} {l : Launch} {e : Env} {R : Room} {s : State} {m : MethodId} {args : Array Value} {below : List Frame} {meth : Method} {c : Code} {H : Heap} {locs : List Loc} {cells slots nL : Nat} {Q : State → Prop} {D : XD} {h0 h : TH} {cc : ByteArray} {pc : Nat} {ls : Array Slot} {rest : List Value} (hC : XCx D cc nL RX11 h0 p R s m args meth c) (hX : XSt D s h0 h H locs cells slots) {a : Nat} (hf : hasF (hT h a) 37 = true) (hdg : decode cc pc = .ok (.getfield 186, 3)) (kk : W p l e R s m args below meth c H locs cells slots Q (F0 m (pc + 3) ls (.int (hI h 37 a) :: rest))) : W p l e R s m args below meth c H locs cells slots Q (F0 m pc ls (rv a :: rest)) :=
  X_geti hC hX 37 hf rfl q235 (fun _ h => h) hdg kk
theorem gX_X11_190 {p : Program} {l : Launch} {e : Env} {R : Room} {s : State} {m : MethodId} {args : Array Value} {below : List Frame} {meth : Method} {c : Code} {H : Heap} {locs : List Loc} {cells slots nL : Nat} {Q : State → Prop} {D : XD} {h0 h : TH} {cc : ByteArray} {pc : Nat} {ls : Array Slot} {rest : List Value} (hC : XCx D cc nL RX11 h0 p R s m args meth c) (hX : XSt D s h0 h H locs cells slots) {a : Nat} (hf : hasF (hT h a) 38 = true) (hdg : decode cc pc = .ok (.getfield 190, 3)) (kk : W p l e R s m args below meth c H locs cells slots Q (F0 m (pc + 3) ls (.int (hI h 38 a) :: rest))) : W p l e R s m args below meth c H locs cells slots Q (F0 m pc ls (rv a :: rest)) :=
  X_geti hC hX 38 hf rfl q236 (fun _ h => h) hdg kk
theorem gX_X11_193 {p : Program} {l : Launch} {e : Env} {R : Room} {s : State} {m : MethodId} {args : Array Value} {below : List Frame} {meth : Method} {c : Code} {H : Heap} {locs : List Loc} {cells slots nL : Nat} {Q : State → Prop} {D : XD} {h0 h : TH} {cc : ByteArray} {pc : Nat} {ls : Array Slot} {rest : List Value} (hC : XCx D cc nL RX11 h0 p R s m args meth c) (hX : XSt D s h0 h H locs cells slots) {a : Nat} (hf : hasF (hT h a) 39 = true) (hdg : decode cc pc = .ok (.getfield 193, 3)) (kk : W p l e R s m args below meth c H locs cells slots Q (F0 m (pc + 3) ls (rv (hR h 39 a) :: rest))) : W p l e R s m args below meth c H locs cells slots Q (F0 m pc ls (rv a :: rest)) :=
  X_getr hC hX 39 hf rfl (fun q => absurd q (by decide)) q238 (fun _ h => h) hdg kk
theorem pX_X11_186 {p : Program} {l : Launch} {e : Env} {R : Room} {s : State} {m : MethodId} {args : Array Value} {below : List Frame} {meth : Method} {c : Code} {H : Heap} {locs : List Loc} {cells slots nL : Nat} {Q : State → Prop} {D : XD} {h0 h : TH} {cc : ByteArray} {pc : Nat} {ls : Array Slot} {rest : List Value} (hC : XCx D cc nL RX11 h0 p R s m args meth c) (hX : XSt D s h0 h H locs cells slots) {a : Nat} {v : Int32} (hf : hasF (hT h a) 37 = true) (hw : hT h a ≤ 24) (hg : v = 0 ∨ v = 1) (hdg : decode cc pc = .ok (.putfield 186, 3)) (kk : ∀ (H1 : Heap) (locs1 : List Loc), XSt D s h0 (uI h 37 a v) H1 locs1 cells slots → W p l e R s m args below meth c H1 locs1 cells slots Q (F0 m (pc + 3) ls rest)) : W p l e R s m args below meth c H locs cells slots Q (F0 m pc ls (.int v :: rv a :: rest)) :=
  X_puti hC hX 37 hf hw rfl rfl q235 (fun _ h => h) (zb_nar hg) hdg kk
theorem pX_X11_199 {p : Program} {l : Launch} {e : Env} {R : Room} {s : State} {m : MethodId} {args : Array Value} {below : List Frame} {meth : Method} {c : Code} {H : Heap} {locs : List Loc} {cells slots nL : Nat} {Q : State → Prop} {D : XD} {h0 h : TH} {cc : ByteArray} {pc : Nat} {ls : Array Slot} {rest : List Value} (hC : XCx D cc nL RX11 h0 p R s m args meth c) (hX : XSt D s h0 h H locs cells slots) {a : Nat} {v : Int32} (hf : hasF (hT h a) 33 = true) (hw : hT h a ≤ 24) (hdg : decode cc pc = .ok (.putfield 199, 3)) (kk : ∀ (H1 : Heap) (locs1 : List Loc), XSt D s h0 (uI h 33 a v) H1 locs1 cells slots → W p l e R s m args below meth c H1 locs1 cells slots Q (F0 m (pc + 3) ls rest)) : W p l e R s m args below meth c H locs cells slots Q (F0 m pc ls (.int v :: rv a :: rest)) :=
  X_puti hC hX 33 hf hw rfl rfl q229 (fun _ h => h) ⟨rfl, rfl⟩ hdg kk
theorem iX_X11_201 {p : Program} {l : Launch} {e : Env} {R : Room} {s : State} {m : MethodId} {args : Array Value} {below : List Frame} {meth : Method} {c : Code} {H : Heap} {locs : List Loc} {cells slots nL : Nat} {Q : State → Prop} {D : XD} {h0 h : TH} {cc : ByteArray} {pc : Nat} {ls : Array Slot} {rest : List Value} {h1 : TH} (hC : XCx D cc nL RX11 h0 p R s m args meth c) (hX : XSt D s h0 h H locs cells slots) {a : Nat} {x : Nat} (ht : hT h a = 7) (hcF : F_X11_both D.2.2.2 a h = some (.inl x, h1)) (hl : ls.size = nL) (hW : (rest.map fun v => v.category).sum ≤ 8) (hRf : 88 + 1 ≤ R.frames) (hRl : 1996 ≤ R.locals) (hdg : decode cc pc = .ok (.invokevirtual 201, 3)) (kk : ∀ (H1 : Heap) (locs1 : List Loc) (cells1 slots1 : Nat), XSt D s h0 h1 H1 locs1 cells1 slots1 → W p l e R s m args below meth c H1 locs1 cells1 slots1 Q (F0 m (pc + 3) ls (rv x :: rest))) : W p l e R s m args below meth c H locs cells slots Q (F0 m pc ls (rv a :: rest)) := by
  have q := ht
  exact X_callV hC hX (by rw [q]; decide) (by rw [q]; rfl) (As := []) (m_X11_both l D a h _ hcF) (cwV 0 hC.2.2.2.2.1 (lw_V q1177 q1179 qs15 q146 q1180) rfl rfl rfl (by decide +kernel) ⟨Nat.le_trans (Nat.le_of_ble_eq_true rfl) hRf, Nat.le_trans (Nat.le_of_ble_eq_true rfl) hRl⟩) rfl rfl hl hW hdg kk
theorem iX_X11_201_t {p : Program} {l : Launch} {e : Env} {R : Room} {s : State} {m : MethodId} {args : Array Value} {below : List Frame} {meth : Method} {c : Code} {H : Heap} {locs : List Loc} {cells slots nL : Nat} {D : XD} {h0 h : TH} {cc : ByteArray} {pc : Nat} {ls : Array Slot} {rest : List Value} {h1 : TH} (hC : XCx D cc nL RX11 h0 p R s m args meth c) (hX : XSt D s h0 h H locs cells slots) (hnh : c.exceptionTable.isEmpty = true) {a : Nat} {x : Nat} (ht : hT h a = 7) (hcF : F_X11_both D.2.2.2 a h = some (.inr x, h1)) (hl : ls.size = nL) (hW : (rest.map fun v => v.category).sum ≤ 8) (hRf : 88 + 1 ≤ R.frames) (hRl : 1996 ≤ R.locals) (hdg : decode cc pc = .ok (.invokevirtual 201, 3)) : W p l e R s m args below meth c H locs cells slots (XMQ below D (.threw (x - 1)) h0 h1 s) (F0 m pc ls (rv a :: rest)) := by
  have q := ht
  exact X_callVT hC hX hnh (by rw [q]; decide) (by rw [q]; rfl) (As := []) (m_X11_both l D a h _ hcF) (cwV 0 hC.2.2.2.2.1 (lw_V q1177 q1179 qs15 q146 q1180) rfl rfl rfl (by decide +kernel) ⟨Nat.le_trans (Nat.le_of_ble_eq_true rfl) hRf, Nat.le_trans (Nat.le_of_ble_eq_true rfl) hRl⟩) rfl rfl hl hW hdg rfl
theorem pX_X11_193 {p : Program} {l : Launch} {e : Env} {R : Room} {s : State} {m : MethodId} {args : Array Value} {below : List Frame} {meth : Method} {c : Code} {H : Heap} {locs : List Loc} {cells slots nL : Nat} {Q : State → Prop} {D : XD} {h0 h : TH} {cc : ByteArray} {pc : Nat} {ls : Array Slot} {rest : List Value} (hC : XCx D cc nL RX11 h0 p R s m args meth c) (hX : XSt D s h0 h H locs cells slots) {a : Nat} {v : Nat} (hf : hasF (hT h a) 39 = true) (hw : hT h a ≤ 24) (hdg : decode cc pc = .ok (.putfield 193, 3)) (kk : ∀ (H1 : Heap) (locs1 : List Loc), XSt D s h0 (uR h 39 a v) H1 locs1 cells slots → W p l e R s m args below meth c H1 locs1 cells slots Q (F0 m (pc + 3) ls rest)) : W p l e R s m args below meth c H locs cells slots Q (F0 m pc ls (rv v :: rv a :: rest)) :=
  X_putr hC hX 39 hf hw rfl rfl q238 (fun _ h => h) hdg kk
theorem iX_X11_207 {p : Program} {l : Launch} {e : Env} {R : Room} {s : State} {m : MethodId} {args : Array Value} {below : List Frame} {meth : Method} {c : Code} {H : Heap} {locs : List Loc} {cells slots nL : Nat} {Q : State → Prop} {D : XD} {h0 h : TH} {cc : ByteArray} {pc : Nat} {ls : Array Slot} {rest : List Value} {h1 : TH} (hC : XCx D cc nL RX11 h0 p R s m args meth c) (hX : XSt D s h0 h H locs cells slots) {a : Nat} {x : Unit} (ht : hT h a = 7) (hcF : F_X11_step D.2.2.2 a h = some (.inl x, h1)) (hl : ls.size = nL) (hW : (rest.map fun v => v.category).sum ≤ 8) (hRf : 11 + 1 ≤ R.frames) (hRl : 312 ≤ R.locals) (hdg : decode cc pc = .ok (.invokevirtual 207, 3)) (kk : ∀ (H1 : Heap) (locs1 : List Loc) (cells1 slots1 : Nat), XSt D s h0 h1 H1 locs1 cells1 slots1 → W p l e R s m args below meth c H1 locs1 cells1 slots1 Q (F0 m (pc + 3) ls (rest))) : W p l e R s m args below meth c H locs cells slots Q (F0 m pc ls (rv a :: rest)) := by
  have q := ht
  exact X_callV hC hX (by rw [q]; decide) (by rw [q]; rfl) (As := []) (m_X11_step l D a h _ hcF) (cwV 0 hC.2.2.2.2.1 (lw_V q1392 q1394 qs32 q146 q1395) rfl rfl rfl (by decide +kernel) ⟨Nat.le_trans (Nat.le_of_ble_eq_true rfl) hRf, Nat.le_trans (Nat.le_of_ble_eq_true rfl) hRl⟩) rfl rfl hl hW hdg kk
theorem iX_X11_207_t {p : Program} {l : Launch} {e : Env} {R : Room} {s : State} {m : MethodId} {args : Array Value} {below : List Frame} {meth : Method} {c : Code} {H : Heap} {locs : List Loc} {cells slots nL : Nat} {D : XD} {h0 h : TH} {cc : ByteArray} {pc : Nat} {ls : Array Slot} {rest : List Value} {h1 : TH} (hC : XCx D cc nL RX11 h0 p R s m args meth c) (hX : XSt D s h0 h H locs cells slots) (hnh : c.exceptionTable.isEmpty = true) {a : Nat} {x : Nat} (ht : hT h a = 7) (hcF : F_X11_step D.2.2.2 a h = some (.inr x, h1)) (hl : ls.size = nL) (hW : (rest.map fun v => v.category).sum ≤ 8) (hRf : 11 + 1 ≤ R.frames) (hRl : 312 ≤ R.locals) (hdg : decode cc pc = .ok (.invokevirtual 207, 3)) : W p l e R s m args below meth c H locs cells slots (XMQ below D (.threw (x - 1)) h0 h1 s) (F0 m pc ls (rv a :: rest)) := by
  have q := ht
  exact X_callVT hC hX hnh (by rw [q]; decide) (by rw [q]; rfl) (As := []) (m_X11_step l D a h _ hcF) (cwV 0 hC.2.2.2.2.1 (lw_V q1392 q1394 qs32 q146 q1395) rfl rfl rfl (by decide +kernel) ⟨Nat.le_trans (Nat.le_of_ble_eq_true rfl) hRf, Nat.le_trans (Nat.le_of_ble_eq_true rfl) hRl⟩) rfl rfl hl hW hdg rfl
theorem iX_X11_205 {p : Program} {l : Launch} {e : Env} {R : Room} {s : State} {m : MethodId} {args : Array Value} {below : List Frame} {meth : Method} {c : Code} {H : Heap} {locs : List Loc} {cells slots nL : Nat} {Q : State → Prop} {D : XD} {h0 h : TH} {cc : ByteArray} {pc : Nat} {ls : Array Slot} {rest : List Value} {h1 : TH} (hC : XCx D cc nL RX11 h0 p R s m args meth c) (hX : XSt D s h0 h H locs cells slots) {a : Nat} {x : Unit} (ht : hT h a = 7) (hcF : F_X11_may D.2.2.2 a h = some (.inl x, h1)) (hl : ls.size = nL) (hW : (rest.map fun v => v.category).sum ≤ 8) (hRf : 11 + 1 ≤ R.frames) (hRl : 312 ≤ R.locals) (hdg : decode cc pc = .ok (.invokevirtual 205, 3)) (kk : ∀ (H1 : Heap) (locs1 : List Loc) (cells1 slots1 : Nat), XSt D s h0 h1 H1 locs1 cells1 slots1 → W p l e R s m args below meth c H1 locs1 cells1 slots1 Q (F0 m (pc + 3) ls (rest))) : W p l e R s m args below meth c H locs cells slots Q (F0 m pc ls (rv a :: rest)) := by
  have q := ht
  exact X_callV hC hX (by rw [q]; decide) (by rw [q]; rfl) (As := []) (m_X11_may l D a h _ hcF) (cwV 0 hC.2.2.2.2.1 (lw_V q1261 q1263 qs23 q146 q1264) rfl rfl rfl (by decide +kernel) ⟨Nat.le_trans (Nat.le_of_ble_eq_true rfl) hRf, Nat.le_trans (Nat.le_of_ble_eq_true rfl) hRl⟩) rfl rfl hl hW hdg kk
theorem iX_X11_205_t {p : Program} {l : Launch} {e : Env} {R : Room} {s : State} {m : MethodId} {args : Array Value} {below : List Frame} {meth : Method} {c : Code} {H : Heap} {locs : List Loc} {cells slots nL : Nat} {D : XD} {h0 h : TH} {cc : ByteArray} {pc : Nat} {ls : Array Slot} {rest : List Value} {h1 : TH} (hC : XCx D cc nL RX11 h0 p R s m args meth c) (hX : XSt D s h0 h H locs cells slots) (hnh : c.exceptionTable.isEmpty = true) {a : Nat} {x : Nat} (ht : hT h a = 7) (hcF : F_X11_may D.2.2.2 a h = some (.inr x, h1)) (hl : ls.size = nL) (hW : (rest.map fun v => v.category).sum ≤ 8) (hRf : 11 + 1 ≤ R.frames) (hRl : 312 ≤ R.locals) (hdg : decode cc pc = .ok (.invokevirtual 205, 3)) : W p l e R s m args below meth c H locs cells slots (XMQ below D (.threw (x - 1)) h0 h1 s) (F0 m pc ls (rv a :: rest)) := by
  have q := ht
  exact X_callVT hC hX hnh (by rw [q]; decide) (by rw [q]; rfl) (As := []) (m_X11_may l D a h _ hcF) (cwV 0 hC.2.2.2.2.1 (lw_V q1261 q1263 qs23 q146 q1264) rfl rfl rfl (by decide +kernel) ⟨Nat.le_trans (Nat.le_of_ble_eq_true rfl) hRf, Nat.le_trans (Nat.le_of_ble_eq_true rfl) hRl⟩) rfl rfl hl hW hdg rfl
/-! BlindCards$Reader.line -/
def F_X11_line_b104 (K : Nat → Nat) (x0 : Nat) (h : TH) : Option ((Unit ⊕ Nat) × TH) :=
  lt ((K 10)) fun r_1 =>
  gd (hT h x0 = 7) <|
  bd (F_X11_is K h x0 r_1) fun r_4 =>
  if r_4 = 0 then
    gd (hT h x0 = 7) <|
    bt (F_X11_step K x0 h) fun r_8 h_9 =>
    some (.inl (), h_9)
  else
    gd (hT h x0 = 7) <|
    bt (F_X11_may K x0 h) fun r_13 h_14 =>
    some (.inl (), h_14)
set_option maxHeartbeats 4000000 in
theorem w_X11_line_b104 {p : Program} {l : Launch} {e : Env} {s : State} {m : MethodId} {args : Array Value} {below : List Frame} {meth : Method} {c : Code} {D : XD} {h0 : TH} (hC : XCx D cX11_line 1 RX11 h0 p (xRm 89 1996 h0) s m args meth c) (hr : meth.sig.returnType = none) (hnh : c.exceptionTable.isEmpty = true) (hin : meth.name = "line") {x : ((Unit ⊕ Nat) × TH)} :
    ∀ (x0 : Nat) (h : TH), F_X11_line_b104 D.2.2.2 x0 h = some x → XJ p l e (xRm 89 1996 h0) s m args below meth c D 1 (ocV x.1) h0 x.2 104 [(0, rv x0)] [] h := by
  have hx := hC.1
  have hb := hC.2.1
  intro x0 h hF H locs cells slots ls hX hl
  rw [F_X11_line_b104] at hF
  refine X_aload_n hx hb dX11_line_104 rfl (lv_at hl 0 rfl) ?_
  refine X_ldcS hC (i := 10) (List.mem_of_getElem? (i := 10) rfl) dX11_line_105 ?_
  refine lv_topr (fun r_1 er_1 => ?_)
  replace hF := lt_at hF er_1
  obtain ⟨h_2, hF⟩ := gd_ok hF
  obtain ⟨r_4, hc_3, hF⟩ := bd_ok hF
  refine iX_X11_86 hC hX h_2 hc_3 hl.1 (Nat.le_of_ble_eq_true rfl) (Nat.le_of_ble_eq_true rfl) (Nat.le_of_ble_eq_true rfl) dX11_line_107 (fun H locs cells slots hX => ?_)
  refine lv_if_eq (tgt := 120) hx hb dX11_line_110 (by decide) (fun c_5 => ?_) (fun c_5 => ?_)
  · replace hF := it_t hF c_5
    refine X_aload_n hx hb dX11_line_120 rfl (lv_at hl 0 rfl) ?_
    obtain ⟨h_6, hF⟩ := gd_ok hF
    rcases bt_ok hF with ⟨r_8, h_9, hc_7, hF⟩ | ⟨z_10, h_9, hc_7, hxx⟩
    rotate_left
    · subst hxx
      exact iX_X11_207_t hC hX hnh h_6 hc_7 hl.1 (Nat.le_of_ble_eq_true rfl) (Nat.le_of_ble_eq_true rfl) (Nat.le_of_ble_eq_true rfl) dX11_line_121
    refine iX_X11_207 hC hX h_6 hc_7 hl.1 (Nat.le_of_ble_eq_true rfl) (Nat.le_of_ble_eq_true rfl) (Nat.le_of_ble_eq_true rfl) dX11_line_121 (fun H locs cells slots hX => ?_)
    cases hF
    exact x_retv hC hX hr rfl dX11_line_124
  · replace hF := it_f hF c_5
    refine X_aload_n hx hb dX11_line_113 rfl (lv_at hl 0 rfl) ?_
    obtain ⟨h_11, hF⟩ := gd_ok hF
    rcases bt_ok hF with ⟨r_13, h_14, hc_12, hF⟩ | ⟨z_15, h_14, hc_12, hxx⟩
    rotate_left
    · subst hxx
      exact iX_X11_205_t hC hX hnh h_11 hc_12 hl.1 (Nat.le_of_ble_eq_true rfl) (Nat.le_of_ble_eq_true rfl) (Nat.le_of_ble_eq_true rfl) dX11_line_114
    refine iX_X11_205 hC hX h_11 hc_12 hl.1 (Nat.le_of_ble_eq_true rfl) (Nat.le_of_ble_eq_true rfl) (Nat.le_of_ble_eq_true rfl) dX11_line_114 (fun H locs cells slots hX => ?_)
    refine lv_goto (tgt := 124) hx hb dX11_line_117 (by decide) ?_
    cases hF
    exact x_retv hC hX hr rfl dX11_line_124
def F_X11_line_b67 (K : Nat → Nat) (x0 : Nat) (h : TH) : Option ((Unit ⊕ Nat) × TH) :=
  lt ((K 2)) fun r_1 =>
  gd (hT h x0 = 7) <|
  bd (F_X11_is K h x0 r_1) fun r_4 =>
  if r_4 = 0 then
    F_X11_line_b104 K x0 h
  else
    gd (hasF (hT h x0) 73 = true) <|
    lt (hR h 73 x0) fun r_7 =>
    gd (hasF (hT h r_7) 39 = true) <|
    lt (hR h 39 r_7) fun r_9 =>
    if r_9 = 0 then
      gd (hT h x0 = 7) <|
      bd (F_X11_go K x0 h) fun h_13 =>
      gd (hasF (hT h_13 x0) 73 = true) <|
      lt (hR h_13 73 x0) fun r_15 =>
      gd (hT h_13 x0 = 7) <|
      bt (F_X11_both K x0 h_13) fun r_18 h_19 =>
      gd (hasF (hT h_19 r_15) 39 = true) <|
      gd (hT h_19 r_15 ≤ 24) <|
      lt (uR h_19 39 r_15 r_18) fun h_23 =>
      some (.inl (), h_23)
    else
      F_X11_line_b104 K x0 h
set_option maxHeartbeats 4000000 in
theorem w_X11_line_b67 {p : Program} {l : Launch} {e : Env} {s : State} {m : MethodId} {args : Array Value} {below : List Frame} {meth : Method} {c : Code} {D : XD} {h0 : TH} (hC : XCx D cX11_line 1 RX11 h0 p (xRm 89 1996 h0) s m args meth c) (hr : meth.sig.returnType = none) (hnh : c.exceptionTable.isEmpty = true) (hin : meth.name = "line") {x : ((Unit ⊕ Nat) × TH)} :
    ∀ (x0 : Nat) (h : TH), F_X11_line_b67 D.2.2.2 x0 h = some x → XJ p l e (xRm 89 1996 h0) s m args below meth c D 1 (ocV x.1) h0 x.2 67 [(0, rv x0)] [] h := by
  have hx := hC.1
  have hb := hC.2.1
  intro x0 h hF H locs cells slots ls hX hl
  rw [F_X11_line_b67] at hF
  refine X_aload_n hx hb dX11_line_67 rfl (lv_at hl 0 rfl) ?_
  refine X_ldcS hC (i := 2) (List.mem_of_getElem? (i := 2) rfl) dX11_line_68 ?_
  refine lv_topr (fun r_1 er_1 => ?_)
  replace hF := lt_at hF er_1
  obtain ⟨h_2, hF⟩ := gd_ok hF
  obtain ⟨r_4, hc_3, hF⟩ := bd_ok hF
  refine iX_X11_86 hC hX h_2 hc_3 hl.1 (Nat.le_of_ble_eq_true rfl) (Nat.le_of_ble_eq_true rfl) (Nat.le_of_ble_eq_true rfl) dX11_line_70 (fun H locs cells slots hX => ?_)
  refine lv_if_eq (tgt := 104) hx hb dX11_line_73 (by decide) (fun c_5 => ?_) (fun c_5 => ?_)
  · replace hF := it_t hF c_5
    exact w_X11_line_b104 hC hr hnh hin x0 h hF H locs cells slots ls hX (lv_sub hl [0] rfl)
  · replace hF := it_f hF c_5
    refine X_aload_n hx hb dX11_line_76 rfl (lv_at hl 0 rfl) ?_
    obtain ⟨h_6, hF⟩ := gd_ok hF
    refine gX_X11_24 hC hX h_6 dX11_line_77 ?_
    refine lv_topr (fun r_7 er_7 => ?_)
    replace hF := lt_at hF er_7
    obtain ⟨h_8, hF⟩ := gd_ok hF
    refine gX_X11_193 hC hX h_8 dX11_line_80 ?_
    refine lv_topr (fun r_9 er_9 => ?_)
    replace hF := lt_at hF er_9
    refine X_ifnonnull (tgt := 104) hx hb dX11_line_83 (by decide) (fun c_10 => ?_) (fun c_10 => ?_)
    · replace hF := it_f hF c_10
      exact w_X11_line_b104 hC hr hnh hin x0 h hF H locs cells slots ls hX (lv_sub hl [0] rfl)
    · replace hF := it_t hF c_10
      refine X_aload_n hx hb dX11_line_86 rfl (lv_at hl 0 rfl) ?_
      obtain ⟨h_11, hF⟩ := gd_ok hF
      obtain ⟨h_13, hc_12, hF⟩ := bd_ok hF
      refine iX_X11_94 hC hX h_11 hc_12 hl.1 (Nat.le_of_ble_eq_true rfl) (Nat.le_of_ble_eq_true rfl) (Nat.le_of_ble_eq_true rfl) dX11_line_87 (fun H locs cells slots hX => ?_)
      refine X_aload_n hx hb dX11_line_90 rfl (lv_at hl 0 rfl) ?_
      obtain ⟨h_14, hF⟩ := gd_ok hF
      refine gX_X11_24 hC hX h_14 dX11_line_91 ?_
      refine lv_topr (fun r_15 er_15 => ?_)
      replace hF := lt_at hF er_15
      refine X_aload_n hx hb dX11_line_94 rfl (lv_at hl 0 rfl) ?_
      obtain ⟨h_16, hF⟩ := gd_ok hF
      rcases bt_ok hF with ⟨r_18, h_19, hc_17, hF⟩ | ⟨z_20, h_19, hc_17, hxx⟩
      rotate_left
      · subst hxx
        exact iX_X11_201_t hC hX hnh h_16 hc_17 hl.1 (cat4 (Nat.le_of_ble_eq_true rfl)) (Nat.le_of_ble_eq_true rfl) (Nat.le_of_ble_eq_true rfl) dX11_line_95
      refine iX_X11_201 hC hX h_16 hc_17 hl.1 (cat4 (Nat.le_of_ble_eq_true rfl)) (Nat.le_of_ble_eq_true rfl) (Nat.le_of_ble_eq_true rfl) dX11_line_95 (fun H locs cells slots hX => ?_)
      obtain ⟨h_21, hF⟩ := gd_ok hF
      obtain ⟨h_22, hF⟩ := gd_ok hF
      refine pX_X11_193 hC hX h_21 h_22 dX11_line_98 (fun H locs hX => ?_)
      obtain ⟨h_23, eh_23, hF⟩ := lt_ok hF
      rw [← eh_23] at hX
      refine lv_goto (tgt := 124) hx hb dX11_line_101 (by decide) ?_
      cases hF
      exact x_retv hC hX hr rfl dX11_line_124
def F_X11_line (K : Nat → Nat) (a0 : Nat) (h : TH) : Option ((Unit ⊕ Nat) × TH) :=
  lt ((K 1)) fun r_1 =>
  gd (hT h a0 = 7) <|
  bd (F_X11_is K h a0 r_1) fun r_4 =>
  if r_4 = 0 then
    F_X11_line_b67 K a0 h
  else
    gd (hasF (hT h a0) 73 = true) <|
    lt (hR h 73 a0) fun r_7 =>
    gd (hasF (hT h r_7) 37 = true) <|
    if (hI h 37 r_7) = 0 then
      gd (hasF (hT h a0) 73 = true) <|
      lt (hR h 73 a0) fun r_11 =>
      gd (hasF (hT h r_11) 38 = true) <|
      if (hI h 38 r_11) = 0 then
        gd (hasF (hT h a0) 73 = true) <|
        lt (hR h 73 a0) fun r_15 =>
        gd (hasF (hT h r_15) 39 = true) <|
        lt (hR h 39 r_15) fun r_17 =>
        if r_17 = 0 then
          gd (hT h a0 = 7) <|
          bd (F_X11_go K a0 h) fun h_21 =>
          gd (hasF (hT h_21 a0) 73 = true) <|
          lt (hR h_21 73 a0) fun r_23 =>
          gd (hasF (hT h_21 r_23) 37 = true) <|
          gd (hT h_21 r_23 ≤ 24) <|
          lt (uI h_21 37 r_23 (1 : Int32)) fun h_26 =>
          gd (hasF (hT h_26 a0) 73 = true) <|
          lt (hR h_26 73 a0) fun r_28 =>
          gd (hT h_26 a0 = 7) <|
          bt (F_X11_number K a0 (1 : Int32) (3 : Int32) h_26) fun r_31 h_32 =>
          gd (hasF (hT h_32 r_28) 33 = true) <|
          gd (hT h_32 r_28 ≤ 24) <|
          lt (uI h_32 33 r_28 r_31) fun h_36 =>
          some (.inl (), h_36)
        else
          F_X11_line_b67 K a0 h
      else
        F_X11_line_b67 K a0 h
    else
      F_X11_line_b67 K a0 h
set_option maxHeartbeats 4000000 in
theorem w_X11_line {p : Program} {l : Launch} {e : Env} {s : State} {m : MethodId} {args : Array Value} {below : List Frame} {meth : Method} {c : Code} {D : XD} {h0 : TH} (hC : XCx D cX11_line 1 RX11 h0 p (xRm 89 1996 h0) s m args meth c) (hr : meth.sig.returnType = none) (hnh : c.exceptionTable.isEmpty = true) (hin : meth.name = "line") {x : ((Unit ⊕ Nat) × TH)} :
    ∀ (a0 : Nat) (h : TH), F_X11_line D.2.2.2 a0 h = some x → XJ p l e (xRm 89 1996 h0) s m args below meth c D 1 (ocV x.1) h0 x.2 0 [(0, rv a0)] [] h := by
  have hx := hC.1
  have hb := hC.2.1
  intro a0 h hF H locs cells slots ls hX hl
  rw [F_X11_line] at hF
  refine X_aload_n hx hb dX11_line_0 rfl (lv_at hl 0 rfl) ?_
  refine X_ldcS hC (i := 1) (List.mem_of_getElem? (i := 1) rfl) dX11_line_1 ?_
  refine lv_topr (fun r_1 er_1 => ?_)
  replace hF := lt_at hF er_1
  obtain ⟨h_2, hF⟩ := gd_ok hF
  obtain ⟨r_4, hc_3, hF⟩ := bd_ok hF
  refine iX_X11_86 hC hX h_2 hc_3 hl.1 (Nat.le_of_ble_eq_true rfl) (Nat.le_of_ble_eq_true rfl) (Nat.le_of_ble_eq_true rfl) dX11_line_3 (fun H locs cells slots hX => ?_)
  refine lv_if_eq (tgt := 67) hx hb dX11_line_6 (by decide) (fun c_5 => ?_) (fun c_5 => ?_)
  · replace hF := it_t hF c_5
    exact w_X11_line_b67 hC hr hnh hin a0 h hF H locs cells slots ls hX (lv_sub hl [0] rfl)
  · replace hF := it_f hF c_5
    refine X_aload_n hx hb dX11_line_9 rfl (lv_at hl 0 rfl) ?_
    obtain ⟨h_6, hF⟩ := gd_ok hF
    refine gX_X11_24 hC hX h_6 dX11_line_10 ?_
    refine lv_topr (fun r_7 er_7 => ?_)
    replace hF := lt_at hF er_7
    obtain ⟨h_8, hF⟩ := gd_ok hF
    refine gX_X11_186 hC hX h_8 dX11_line_13 ?_
    refine lv_if_ne (tgt := 67) hx hb dX11_line_16 (by decide) (fun c_9 => ?_) (fun c_9 => ?_)
    · replace hF := it_f hF c_9
      exact w_X11_line_b67 hC hr hnh hin a0 h hF H locs cells slots ls hX (lv_sub hl [0] rfl)
    · replace hF := it_t hF c_9
      refine X_aload_n hx hb dX11_line_19 rfl (lv_at hl 0 rfl) ?_
      obtain ⟨h_10, hF⟩ := gd_ok hF
      refine gX_X11_24 hC hX h_10 dX11_line_20 ?_
      refine lv_topr (fun r_11 er_11 => ?_)
      replace hF := lt_at hF er_11
      obtain ⟨h_12, hF⟩ := gd_ok hF
      refine gX_X11_190 hC hX h_12 dX11_line_23 ?_
      refine lv_if_ne (tgt := 67) hx hb dX11_line_26 (by decide) (fun c_13 => ?_) (fun c_13 => ?_)
      · replace hF := it_f hF c_13
        exact w_X11_line_b67 hC hr hnh hin a0 h hF H locs cells slots ls hX (lv_sub hl [0] rfl)
      · replace hF := it_t hF c_13
        refine X_aload_n hx hb dX11_line_29 rfl (lv_at hl 0 rfl) ?_
        obtain ⟨h_14, hF⟩ := gd_ok hF
        refine gX_X11_24 hC hX h_14 dX11_line_30 ?_
        refine lv_topr (fun r_15 er_15 => ?_)
        replace hF := lt_at hF er_15
        obtain ⟨h_16, hF⟩ := gd_ok hF
        refine gX_X11_193 hC hX h_16 dX11_line_33 ?_
        refine lv_topr (fun r_17 er_17 => ?_)
        replace hF := lt_at hF er_17
        refine X_ifnonnull (tgt := 67) hx hb dX11_line_36 (by decide) (fun c_18 => ?_) (fun c_18 => ?_)
        · replace hF := it_f hF c_18
          exact w_X11_line_b67 hC hr hnh hin a0 h hF H locs cells slots ls hX (lv_sub hl [0] rfl)
        · replace hF := it_t hF c_18
          refine X_aload_n hx hb dX11_line_39 rfl (lv_at hl 0 rfl) ?_
          obtain ⟨h_19, hF⟩ := gd_ok hF
          obtain ⟨h_21, hc_20, hF⟩ := bd_ok hF
          refine iX_X11_94 hC hX h_19 hc_20 hl.1 (Nat.le_of_ble_eq_true rfl) (Nat.le_of_ble_eq_true rfl) (Nat.le_of_ble_eq_true rfl) dX11_line_40 (fun H locs cells slots hX => ?_)
          refine X_aload_n hx hb dX11_line_43 rfl (lv_at hl 0 rfl) ?_
          obtain ⟨h_22, hF⟩ := gd_ok hF
          refine gX_X11_24 hC hX h_22 dX11_line_44 ?_
          refine lv_topr (fun r_23 er_23 => ?_)
          replace hF := lt_at hF er_23
          refine lv_iconst (v := 1) hx hb dX11_line_47 (by decide) ?_
          obtain ⟨h_24, hF⟩ := gd_ok hF
          obtain ⟨h_25, hF⟩ := gd_ok hF
          refine pX_X11_186 hC hX h_24 h_25 (Or.inr rfl) dX11_line_48 (fun H locs hX => ?_)
          obtain ⟨h_26, eh_26, hF⟩ := lt_ok hF
          rw [← eh_26] at hX
          refine X_aload_n hx hb dX11_line_51 rfl (lv_at hl 0 rfl) ?_
          obtain ⟨h_27, hF⟩ := gd_ok hF
          refine gX_X11_24 hC hX h_27 dX11_line_52 ?_
          refine lv_topr (fun r_28 er_28 => ?_)
          replace hF := lt_at hF er_28
          refine X_aload_n hx hb dX11_line_55 rfl (lv_at hl 0 rfl) ?_
          refine lv_iconst (v := 1) hx hb dX11_line_56 (by decide) ?_
          refine lv_iconst (v := 3) hx hb dX11_line_57 (by decide) ?_
          obtain ⟨h_29, hF⟩ := gd_ok hF
          rcases bt_ok hF with ⟨r_31, h_32, hc_30, hF⟩ | ⟨z_33, h_32, hc_30, hxx⟩
          rotate_left
          · subst hxx
            exact iX_X11_196_t hC hX hnh h_29 hc_30 hl.1 (cat4 (Nat.le_of_ble_eq_true rfl)) (Nat.le_of_ble_eq_true rfl) (Nat.le_of_ble_eq_true rfl) dX11_line_58
          refine iX_X11_196 hC hX h_29 hc_30 hl.1 (cat4 (Nat.le_of_ble_eq_true rfl)) (Nat.le_of_ble_eq_true rfl) (Nat.le_of_ble_eq_true rfl) dX11_line_58 (fun H locs cells slots hX => ?_)
          obtain ⟨h_34, hF⟩ := gd_ok hF
          obtain ⟨h_35, hF⟩ := gd_ok hF
          refine pX_X11_199 hC hX h_34 h_35 dX11_line_61 (fun H locs hX => ?_)
          obtain ⟨h_36, eh_36, hF⟩ := lt_ok hF
          rw [← eh_36] at hX
          refine lv_goto (tgt := 124) hx hb dX11_line_64 (by decide) ?_
          cases hF
          exact x_retv hC hX hr rfl dX11_line_124
theorem m_X11_line (l : Launch) (D : XD) (a0 : Nat) (h : TH) (x : ((Unit ⊕ Nat) × TH)) (hF : F_X11_line D.2.2.2 a0 h = some x) : XMt l yX11_line (ws_ yX11_line cX11_line 1 (none)) 89 1996 D [rv a0] h (ocV x.1) x.2 := by
  refine x_met (by decide +kernel) ?_ ?_
  · simp [lg_sl, rv_cat, cat_i, cat_l]
  intro p e s m below meth c hC hr hnh hin ls hl hX
  replace hl : lv_has ls 1 [(0, rv a0)] := by simpa [lv_args, rv_cat, cat_i, cat_l] using hl
  exact w_X11_line hC hr hnh hin a0 h hF s.heap [] 0 0 ls hX hl
theorem iX_X11_156 {p : Program} {l : Launch} {e : Env} {R : Room} {s : State} {m : MethodId} {args : Array Value} {below : List Frame} {meth : Method} {c : Code} {H : Heap} {locs : List Loc} {cells slots nL : Nat} {Q : State → Prop} {D : XD} {h0 h : TH} {cc : ByteArray} {pc : Nat} {ls : Array Slot} {rest : List Value} {h1 : TH} (hC : XCx D cc nL RX11 h0 p R s m args meth c) (hX : XSt D s h0 h H locs cells slots) {a : Nat} {x : Unit} (ht : hT h a = 7) (hcF : F_X11_line D.2.2.2 a h = some (.inl x, h1)) (hl : ls.size = nL) (hW : (rest.map fun v => v.category).sum ≤ 8) (hRf : 89 + 1 ≤ R.frames) (hRl : 2016 ≤ R.locals) (hdg : decode cc pc = .ok (.invokevirtual 156, 3)) (kk : ∀ (H1 : Heap) (locs1 : List Loc) (cells1 slots1 : Nat), XSt D s h0 h1 H1 locs1 cells1 slots1 → W p l e R s m args below meth c H1 locs1 cells1 slots1 Q (F0 m (pc + 3) ls (rest))) : W p l e R s m args below meth c H locs cells slots Q (F0 m pc ls (rv a :: rest)) := by
  have q := ht
  exact X_callV hC hX (by rw [q]; decide) (by rw [q]; rfl) (As := []) (m_X11_line l D a h _ hcF) (cwV 0 hC.2.2.2.2.1 (lw_V q1084 q1086 qs10 q146 q1087) rfl rfl rfl (by decide +kernel) ⟨Nat.le_trans (Nat.le_of_ble_eq_true rfl) hRf, Nat.le_trans (Nat.le_of_ble_eq_true rfl) hRl⟩) rfl rfl hl hW hdg kk
theorem iX_X11_156_t {p : Program} {l : Launch} {e : Env} {R : Room} {s : State} {m : MethodId} {args : Array Value} {below : List Frame} {meth : Method} {c : Code} {H : Heap} {locs : List Loc} {cells slots nL : Nat} {D : XD} {h0 h : TH} {cc : ByteArray} {pc : Nat} {ls : Array Slot} {rest : List Value} {h1 : TH} (hC : XCx D cc nL RX11 h0 p R s m args meth c) (hX : XSt D s h0 h H locs cells slots) (hnh : c.exceptionTable.isEmpty = true) {a : Nat} {x : Nat} (ht : hT h a = 7) (hcF : F_X11_line D.2.2.2 a h = some (.inr x, h1)) (hl : ls.size = nL) (hW : (rest.map fun v => v.category).sum ≤ 8) (hRf : 89 + 1 ≤ R.frames) (hRl : 2016 ≤ R.locals) (hdg : decode cc pc = .ok (.invokevirtual 156, 3)) : W p l e R s m args below meth c H locs cells slots (XMQ below D (.threw (x - 1)) h0 h1 s) (F0 m pc ls (rv a :: rest)) := by
  have q := ht
  exact X_callVT hC hX hnh (by rw [q]; decide) (by rw [q]; rfl) (As := []) (m_X11_line l D a h _ hcF) (cwV 0 hC.2.2.2.2.1 (lw_V q1084 q1086 qs10 q146 q1087) rfl rfl rfl (by decide +kernel) ⟨Nat.le_trans (Nat.le_of_ble_eq_true rfl) hRf, Nat.le_trans (Nat.le_of_ble_eq_true rfl) hRl⟩) rfl rfl hl hW hdg rfl
theorem iX_X11_168 {p : Program} {l : Launch} {e : Env} {R : Room} {s : State} {m : MethodId} {args : Array Value} {below : List Frame} {meth : Method} {c : Code} {H : Heap} {locs : List Loc} {cells slots nL : Nat} {Q : State → Prop} {D : XD} {h0 h : TH} {cc : ByteArray} {pc : Nat} {ls : Array Slot} {rest : List Value} (hC : XCx D cc nL RX11 h0 p R s m args meth c) (hX : XSt D s h0 h H locs cells slots) {a : Nat} {b0 : Int32} {x : Nat} (ht : hT h a = 3) (hcF : F_J2_get D.2.2.2 h a b0 = some x) (hl : ls.size = nL) (hW : (rest.map fun v => v.category).sum ≤ 8) (hRf : 2 + 1 ≤ R.frames) (hRl : 64 ≤ R.locals) (hdg : decode cc pc = .ok (.invokevirtual 168, 3)) (kk : ∀ (H1 : Heap) (locs1 : List Loc) (cells1 slots1 : Nat), XSt D s h0 h H1 locs1 cells1 slots1 → W p l e R s m args below meth c H1 locs1 cells1 slots1 Q (F0 m (pc + 3) ls (rv x :: rest))) : W p l e R s m args below meth c H locs cells slots Q (F0 m pc ls (.int b0 :: rv a :: rest)) := by
  have q := ht
  exact X_callV hC hX (by rw [q]; decide) (by rw [q]; rfl) (As := [.int b0]) (m_J2_get l D a b0 h _ hcF) (cwV 1 hC.2.2.2.2.1 (lw_V q1577 q504 q505 q129 q506) rfl rfl rfl (by decide +kernel) ⟨Nat.le_trans (Nat.le_of_ble_eq_true rfl) hRf, Nat.le_trans (Nat.le_of_ble_eq_true rfl) hRl⟩) rfl rfl hl hW hdg kk
theorem gX_X11_174 {p : Program} {l : Launch} {e : Env} {R : Room} {s : State} {m : MethodId} {args : Array Value} {below : List Frame} {meth : Method} {c : Code} {H : Heap} {locs : List Loc} {cells slots nL : Nat} {Q : State → Prop} {D : XD} {h0 h : TH} {cc : ByteArray} {pc : Nat} {ls : Array Slot} {rest : List Value} (hC : XCx D cc nL RX11 h0 p R s m args meth c) (hX : XSt D s h0 h H locs cells slots) {a : Nat} (hf : hasF (hT h a) 108 = true) (hdg : decode cc pc = .ok (.getfield 174, 3)) (kk : W p l e R s m args below meth c H locs cells slots Q (F0 m (pc + 3) ls (rv (hR h 108 a) :: rest))) : W p l e R s m args below meth c H locs cells slots Q (F0 m pc ls (rv a :: rest)) :=
  X_getr hC hX 108 hf rfl (fun q => absurd q (by decide)) q1512 (fun _ h => h) hdg kk
theorem pX_X11_180 {p : Program} {l : Launch} {e : Env} {R : Room} {s : State} {m : MethodId} {args : Array Value} {below : List Frame} {meth : Method} {c : Code} {H : Heap} {locs : List Loc} {cells slots nL : Nat} {Q : State → Prop} {D : XD} {h0 h : TH} {cc : ByteArray} {pc : Nat} {ls : Array Slot} {rest : List Value} (hC : XCx D cc nL RX11 h0 p R s m args meth c) (hX : XSt D s h0 h H locs cells slots) {a : Nat} {v : Int32} (hf : hasF (hT h a) 110 = true) (hw : hT h a ≤ 24) (hdg : decode cc pc = .ok (.putfield 180, 3)) (kk : ∀ (H1 : Heap) (locs1 : List Loc), XSt D s h0 (uI h 110 a v) H1 locs1 cells slots → W p l e R s m args below meth c H1 locs1 cells slots Q (F0 m (pc + 3) ls rest)) : W p l e R s m args below meth c H locs cells slots Q (F0 m pc ls (.int v :: rv a :: rest)) :=
  X_puti hC hX 110 hf hw rfl rfl q1517 (fun _ h => h) ⟨rfl, rfl⟩ hdg kk
theorem gX_X11_180 {p : Program} {l : Launch} {e : Env} {R : Room} {s : State} {m : MethodId} {args : Array Value} {below : List Frame} {meth : Method} {c : Code} {H : Heap} {locs : List Loc} {cells slots nL : Nat} {Q : State → Prop} {D : XD} {h0 h : TH} {cc : ByteArray} {pc : Nat} {ls : Array Slot} {rest : List Value} (hC : XCx D cc nL RX11 h0 p R s m args meth c) (hX : XSt D s h0 h H locs cells slots) {a : Nat} (hf : hasF (hT h a) 110 = true) (hdg : decode cc pc = .ok (.getfield 180, 3)) (kk : W p l e R s m args below meth c H locs cells slots Q (F0 m (pc + 3) ls (.int (hI h 110 a) :: rest))) : W p l e R s m args below meth c H locs cells slots Q (F0 m pc ls (rv a :: rest)) :=
  X_geti hC hX 110 hf rfl q1517 (fun _ h => h) hdg kk
theorem gX_X11_183 {p : Program} {l : Launch} {e : Env} {R : Room} {s : State} {m : MethodId} {args : Array Value} {below : List Frame} {meth : Method} {c : Code} {H : Heap} {locs : List Loc} {cells slots nL : Nat} {Q : State → Prop} {D : XD} {h0 h : TH} {cc : ByteArray} {pc : Nat} {ls : Array Slot} {rest : List Value} (hC : XCx D cc nL RX11 h0 p R s m args meth c) (hX : XSt D s h0 h H locs cells slots) {a : Nat} (hf : hasF (hT h a) 109 = true) (hdg : decode cc pc = .ok (.getfield 183, 3)) (kk : W p l e R s m args below meth c H locs cells slots Q (F0 m (pc + 3) ls (.int (hI h 109 a) :: rest))) : W p l e R s m args below meth c H locs cells slots Q (F0 m pc ls (rv a :: rest)) :=
  X_geti hC hX 109 hf rfl q1514 (fun _ h => h) hdg kk
/-! BlindCards$Reader.text -/
def F_X11_text_b123 (K : Nat → Nat) (k38 : Nat → Int32 → TH → Option ((Nat ⊕ Nat) × TH)) (x0 : Nat) (x1 : Int32) (h : TH) : Option ((Nat ⊕ Nat) × TH) :=
  lt (x1 + (1 : Int32)) fun x1_1 =>
  k38 x0 x1_1 h
set_option maxHeartbeats 4000000 in
theorem w_X11_text_b123 {p : Program} {l : Launch} {e : Env} {s : State} {m : MethodId} {args : Array Value} {below : List Frame} {meth : Method} {c : Code} {D : XD} {h0 : TH} (hC : XCx D cX11_text 3 RX11 h0 p (xRm 90 2016 h0) s m args meth c) (hr : meth.sig.returnType = some (.object "BlindCards$Recipe")) (hnh : c.exceptionTable.isEmpty = true) (hin : meth.name = "text") {x : ((Nat ⊕ Nat) × TH)} (k38 : Nat → Int32 → TH → Option ((Nat ⊕ Nat) × TH)) (hk38 : ∀ (x0 : Nat) (x1 : Int32) (h : TH), k38 x0 x1 h = some x → XJ p l e (xRm 90 2016 h0) s m args below meth c D 3 (ocR x.1) h0 x.2 38 [(0, rv x0), (1, .int x1)] [] h) :
    ∀ (x0 : Nat) (x1 : Int32) (h : TH), F_X11_text_b123 D.2.2.2 k38 x0 x1 h = some x → XJ p l e (xRm 90 2016 h0) s m args below meth c D 3 (ocR x.1) h0 x.2 123 [(0, rv x0), (1, .int x1)] [] h := by
  have hx := hC.1
  have hb := hC.2.1
  intro x0 x1 h hF H locs cells slots ls hX hl
  rw [F_X11_text_b123] at hF
  obtain ⟨x1_1, ex1_1, hF⟩ := lt_ok hF
  refine lv_iinc (v := x1_1) hx hb dX11_text_123 hl (k := 1) rfl (by rw [ex1_1]; rfl) (by decide) rfl (fun ls hl => ?_)
  replace hl : lv_has ls 3 [(1, .int x1_1), (0, rv x0)] := lv_subS hl (List.forall_mem_cons.mpr ⟨Or.inl rfl, (List.forall_mem_cons.mpr ⟨Or.inr ⟨List.mem_of_getElem? (i := 0) rfl, by simp [rv_cat]⟩, (fun _ h => nomatch h)⟩)⟩)
  refine lv_goto (tgt := 38) hx hb dX11_text_126 (by decide) ?_
  exact hk38 x0 x1_1 h hF H locs cells slots ls hX (lv_sub hl [1, 0] rfl)
def F_X11_text_b109 (K : Nat → Nat) (x2 : Nat) (h : TH) : Option ((Nat ⊕ Nat) × TH) :=
  gd (hc h + 1 ≤ XC ∧ hs h + 8 ≤ XS) <|
  lt (hz h + 1) fun r_2 =>
  lt (nO h 10 8) fun h_3 =>
  gd (hasF (hT h_3 x2) 109 = true) <|
  gd (r_2 ≠ 0) <|
  bd (F_X12_init K r_2 (6 : Int32) (hI h_3 109 x2) h_3) fun h_7 =>
  gd (r_2 ≠ 0) <|
  some (.inr r_2, h_7)
set_option maxHeartbeats 4000000 in
theorem w_X11_text_b109 {p : Program} {l : Launch} {e : Env} {s : State} {m : MethodId} {args : Array Value} {below : List Frame} {meth : Method} {c : Code} {D : XD} {h0 : TH} (hC : XCx D cX11_text 3 RX11 h0 p (xRm 90 2016 h0) s m args meth c) (hr : meth.sig.returnType = some (.object "BlindCards$Recipe")) (hnh : c.exceptionTable.isEmpty = true) (hin : meth.name = "text") {x : ((Nat ⊕ Nat) × TH)} :
    ∀ (x2 : Nat) (h : TH), F_X11_text_b109 D.2.2.2 x2 h = some x → XJ p l e (xRm 90 2016 h0) s m args below meth c D 3 (ocR x.1) h0 x.2 109 [(2, rv x2)] [] h := by
  have hx := hC.1
  have hb := hC.2.1
  intro x2 h hF H locs cells slots ls hX hl
  rw [F_X11_text_b109] at hF
  obtain ⟨h_1, hF⟩ := gd_ok hF
  refine nX_X11_75 hC hX h_1 dX11_text_109 (fun H cells slots hX => ?_)
  refine lv_topr (fun r_2 er_2 => ?_)
  replace hF := lt_at hF er_2
  obtain ⟨h_3, eh_3, hF⟩ := lt_ok hF
  rw [← eh_3] at hX
  refine lv_dup hx hb dX11_text_112 (rv_cat _) ?_
  refine lv_bipush (v := 6) hx hb dX11_text_113 (by decide) ?_
  refine X_aload_n hx hb dX11_text_115 rfl (lv_at hl 0 rfl) ?_
  obtain ⟨h_4, hF⟩ := gd_ok hF
  refine gX_X11_183 hC hX h_4 dX11_text_116 ?_
  obtain ⟨h_5, hF⟩ := gd_ok hF
  obtain ⟨h_7, hc_6, hF⟩ := bd_ok hF
  refine iX_X11_77 hC hX h_5 hc_6 hl.1 (cat4 (Nat.le_of_ble_eq_true rfl)) (Nat.le_of_ble_eq_true rfl) (Nat.le_of_ble_eq_true rfl) dX11_text_119 (fun H locs cells slots hX => ?_)
  obtain ⟨h_8, hF⟩ := gd_ok hF
  cases hF
  exact x_throw hC hX hnh h_8 rfl rfl dX11_text_122
def F_X11_text_L38 (K : Nat → Nat) : Nat → Nat → Int32 → TH → Option ((Nat ⊕ Nat) × TH)
  | 0, _, _, _ => none
  | fu + 1, x0, x1, h =>
    gd (hasF (hT h x0) 73 = true) <|
    lt (hR h 73 x0) fun r_2 =>
    gd (hasF (hT h r_2) 30 = true) <|
    lt (hR h 30 r_2) fun r_4 =>
    gd (hT h r_4 = 3) <|
    bd (F_J2_size K h r_4) fun r_7 =>
    if r_7 ≤ x1 then
      gd (hasF (hT h x0) 73 = true) <|
      lt (hR h 73 x0) fun r_10 =>
      some (.inl r_10, h)
    else
      gd (hasF (hT h x0) 73 = true) <|
      lt (hR h 73 x0) fun r_12 =>
      gd (hasF (hT h r_12) 30 = true) <|
      lt (hR h 30 r_12) fun r_14 =>
      gd (hT h r_14 = 3) <|
      bd (F_J2_get K h r_14 x1) fun r_17 =>
      bd (isI h r_17 "BlindCards$If") fun r_18 =>
      if r_18 = 0 then
        F_X11_text_b123 K (F_X11_text_L38 K fu) x0 x1 h
      else
        gd (hasF (hT h x0) 73 = true) <|
        lt (hR h 73 x0) fun r_22 =>
        gd (hasF (hT h r_22) 30 = true) <|
        lt (hR h 30 r_22) fun r_24 =>
        gd (hT h r_24 = 3) <|
        bd (F_J2_get K h r_24 x1) fun r_27 =>
        gd (r_27 = 0 ∨ castB (hT h r_27) "BlindCards$If" = true) <|
        gd (hasF (hT h x0) 73 = true) <|
        lt (hR h 73 x0) fun r_30 =>
        gd (hasF (hT h r_27) 108 = true) <|
        lt (hR h 108 r_27) fun r_32 =>
        gd (hT h r_30 = 2) <|
        bd (F_X1_mark K h r_30 r_32) fun r_35 =>
        gd (hasF (hT h r_27) 110 = true) <|
        gd (hT h r_27 ≤ 24) <|
        lt (uI h 110 r_27 r_35) fun h_38 =>
        gd (hasF (hT h_38 r_27) 110 = true) <|
        if 0 ≤ (hI h_38 110 r_27) then
          F_X11_text_b123 K (F_X11_text_L38 K fu) x0 x1 h_38
        else
          F_X11_text_b109 K r_27 h_38
set_option maxHeartbeats 4000000 in
theorem w_X11_text_L38 {p : Program} {l : Launch} {e : Env} {s : State} {m : MethodId} {args : Array Value} {below : List Frame} {meth : Method} {c : Code} {D : XD} {h0 : TH} (hC : XCx D cX11_text 3 RX11 h0 p (xRm 90 2016 h0) s m args meth c) (hr : meth.sig.returnType = some (.object "BlindCards$Recipe")) (hnh : c.exceptionTable.isEmpty = true) (hin : meth.name = "text") {x : ((Nat ⊕ Nat) × TH)} :
    ∀ (fu : Nat) (x0 : Nat) (x1 : Int32) (h : TH), F_X11_text_L38 D.2.2.2 fu x0 x1 h = some x → XJ p l e (xRm 90 2016 h0) s m args below meth c D 3 (ocR x.1) h0 x.2 38 [(0, rv x0), (1, .int x1)] [] h := by
  have hx := hC.1
  have hb := hC.2.1
  intro fu
  induction fu with
  | zero => intro x0 x1 h hF; exact nm_none hF
  | succ fu ih =>
    intro x0 x1 h hF H locs cells slots ls hX hl
    rw [F_X11_text_L38] at hF
    refine lv_iload_n hx hb dX11_text_38 rfl (lv_at hl 1 rfl) ?_
    refine X_aload_n hx hb dX11_text_39 rfl (lv_at hl 0 rfl) ?_
    obtain ⟨h_1, hF⟩ := gd_ok hF
    refine gX_X11_24 hC hX h_1 dX11_text_40 ?_
    refine lv_topr (fun r_2 er_2 => ?_)
    replace hF := lt_at hF er_2
    obtain ⟨h_3, hF⟩ := gd_ok hF
    refine gX_X11_159 hC hX h_3 dX11_text_43 ?_
    refine lv_topr (fun r_4 er_4 => ?_)
    replace hF := lt_at hF er_4
    obtain ⟨h_5, hF⟩ := gd_ok hF
    obtain ⟨r_7, hc_6, hF⟩ := bd_ok hF
    refine iX_X11_163 hC hX h_5 hc_6 hl.1 (Nat.le_of_ble_eq_true rfl) (Nat.le_of_ble_eq_true rfl) (Nat.le_of_ble_eq_true rfl) dX11_text_46 (fun H locs cells slots hX => ?_)
    refine lv_icmp_ge (tgt := 129) hx hb dX11_text_49 (by decide) (fun c_8 => ?_) (fun c_8 => ?_)
    · replace hF := it_t hF c_8
      refine X_aload_n hx hb dX11_text_129 rfl (lv_at hl 0 rfl) ?_
      obtain ⟨h_9, hF⟩ := gd_ok hF
      refine gX_X11_24 hC hX h_9 dX11_text_130 ?_
      refine lv_topr (fun r_10 er_10 => ?_)
      replace hF := lt_at hF er_10
      cases hF
      exact x_reta hC hX hr (Or.inl ⟨_, rfl⟩) rfl rfl dX11_text_133
    · replace hF := it_f hF c_8
      refine X_aload_n hx hb dX11_text_52 rfl (lv_at hl 0 rfl) ?_
      obtain ⟨h_11, hF⟩ := gd_ok hF
      refine gX_X11_24 hC hX h_11 dX11_text_53 ?_
      refine lv_topr (fun r_12 er_12 => ?_)
      replace hF := lt_at hF er_12
      obtain ⟨h_13, hF⟩ := gd_ok hF
      refine gX_X11_159 hC hX h_13 dX11_text_56 ?_
      refine lv_topr (fun r_14 er_14 => ?_)
      replace hF := lt_at hF er_14
      refine lv_iload_n hx hb dX11_text_59 rfl (lv_at hl 1 rfl) ?_
      obtain ⟨h_15, hF⟩ := gd_ok hF
      obtain ⟨r_17, hc_16, hF⟩ := bd_ok hF
      refine iX_X11_168 hC hX h_15 hc_16 hl.1 (Nat.le_of_ble_eq_true rfl) (Nat.le_of_ble_eq_true rfl) (Nat.le_of_ble_eq_true rfl) dX11_text_60 (fun H locs cells slots hX => ?_)
      obtain ⟨r_18, hc_19, hF⟩ := bd_ok hF
      refine X_inst hC hX hc_19 q1499 dX11_text_63 ?_
      refine lv_if_ne (tgt := 72) hx hb dX11_text_66 (by decide) (fun c_20 => ?_) (fun c_20 => ?_)
      · replace hF := it_f hF c_20
        refine X_aload_n hx hb dX11_text_72 rfl (lv_at hl 0 rfl) ?_
        obtain ⟨h_21, hF⟩ := gd_ok hF
        refine gX_X11_24 hC hX h_21 dX11_text_73 ?_
        refine lv_topr (fun r_22 er_22 => ?_)
        replace hF := lt_at hF er_22
        obtain ⟨h_23, hF⟩ := gd_ok hF
        refine gX_X11_159 hC hX h_23 dX11_text_76 ?_
        refine lv_topr (fun r_24 er_24 => ?_)
        replace hF := lt_at hF er_24
        refine lv_iload_n hx hb dX11_text_79 rfl (lv_at hl 1 rfl) ?_
        obtain ⟨h_25, hF⟩ := gd_ok hF
        obtain ⟨r_27, hc_26, hF⟩ := bd_ok hF
        refine iX_X11_168 hC hX h_25 hc_26 hl.1 (Nat.le_of_ble_eq_true rfl) (Nat.le_of_ble_eq_true rfl) (Nat.le_of_ble_eq_true rfl) dX11_text_80 (fun H locs cells slots hX => ?_)
        obtain ⟨h_28, hF⟩ := gd_ok hF
        refine X_cast hC hX h_28 q1499 dX11_text_83 ?_
        refine X_astore_n (lv' := [(2, rv r_27), (0, rv x0), (1, .int x1)]) hx hb dX11_text_86 rfl hl (by decide) rfl (fun ls hl => ?_)
        refine X_aload_n hx hb dX11_text_87 rfl (lv_at hl 0 rfl) ?_
        refine X_aload_n hx hb dX11_text_88 rfl (lv_at hl 1 rfl) ?_
        obtain ⟨h_29, hF⟩ := gd_ok hF
        refine gX_X11_24 hC hX h_29 dX11_text_89 ?_
        refine lv_topr (fun r_30 er_30 => ?_)
        replace hF := lt_at hF er_30
        refine X_aload_n hx hb dX11_text_92 rfl (lv_at hl 0 rfl) ?_
        obtain ⟨h_31, hF⟩ := gd_ok hF
        refine gX_X11_174 hC hX h_31 dX11_text_93 ?_
        refine lv_topr (fun r_32 er_32 => ?_)
        replace hF := lt_at hF er_32
        obtain ⟨h_33, hF⟩ := gd_ok hF
        obtain ⟨r_35, hc_34, hF⟩ := bd_ok hF
        refine iX_X11_177 hC hX h_33 hc_34 hl.1 (cat4 (Nat.le_of_ble_eq_true rfl)) (Nat.le_of_ble_eq_true rfl) (Nat.le_of_ble_eq_true rfl) dX11_text_96 (fun H locs cells slots hX => ?_)
        obtain ⟨h_36, hF⟩ := gd_ok hF
        obtain ⟨h_37, hF⟩ := gd_ok hF
        refine pX_X11_180 hC hX h_36 h_37 dX11_text_99 (fun H locs hX => ?_)
        obtain ⟨h_38, eh_38, hF⟩ := lt_ok hF
        rw [← eh_38] at hX
        refine X_aload_n hx hb dX11_text_102 rfl (lv_at hl 0 rfl) ?_
        obtain ⟨h_39, hF⟩ := gd_ok hF
        refine gX_X11_180 hC hX h_39 dX11_text_103 ?_
        refine lv_if_ge (tgt := 123) hx hb dX11_text_106 (by decide) (fun c_40 => ?_) (fun c_40 => ?_)
        · replace hF := it_t hF c_40
          exact w_X11_text_b123 hC hr hnh hin (F_X11_text_L38 D.2.2.2 fu) ih x0 x1 h_38 hF H locs cells slots ls hX (lv_sub hl [1, 2] rfl)
        · replace hF := it_f hF c_40
          exact w_X11_text_b109 hC hr hnh hin r_27 h_38 hF H locs cells slots ls hX (lv_sub hl [0] rfl)
      · replace hF := it_t hF c_20
        refine lv_goto (tgt := 123) hx hb dX11_text_69 (by decide) ?_
        exact w_X11_text_b123 hC hr hnh hin (F_X11_text_L38 D.2.2.2 fu) ih x0 x1 h hF H locs cells slots ls hX (lv_sub hl [0, 1] rfl)
def F_X11_text_b36 (K : Nat → Nat) (x0 : Nat) (h : TH) : Option ((Nat ⊕ Nat) × TH) :=
  F_X11_text_L38 K MN x0 (0 : Int32) h
set_option maxHeartbeats 4000000 in
theorem w_X11_text_b36 {p : Program} {l : Launch} {e : Env} {s : State} {m : MethodId} {args : Array Value} {below : List Frame} {meth : Method} {c : Code} {D : XD} {h0 : TH} (hC : XCx D cX11_text 3 RX11 h0 p (xRm 90 2016 h0) s m args meth c) (hr : meth.sig.returnType = some (.object "BlindCards$Recipe")) (hnh : c.exceptionTable.isEmpty = true) (hin : meth.name = "text") {x : ((Nat ⊕ Nat) × TH)} :
    ∀ (x0 : Nat) (h : TH), F_X11_text_b36 D.2.2.2 x0 h = some x → XJ p l e (xRm 90 2016 h0) s m args below meth c D 3 (ocR x.1) h0 x.2 36 [(0, rv x0)] [] h := by
  have hx := hC.1
  have hb := hC.2.1
  intro x0 h hF H locs cells slots ls hX hl
  rw [F_X11_text_b36] at hF
  refine lv_iconst (v := 0) hx hb dX11_text_36 (by decide) ?_
  refine lv_istore_n (i := 1) hx hb dX11_text_37 rfl hl (by decide) rfl (fun ls hl => ?_)
  replace hl : lv_has ls 3 [(1, .int (0 : Int32)), (0, rv x0)] := lv_subS hl (List.forall_mem_cons.mpr ⟨Or.inl rfl, (List.forall_mem_cons.mpr ⟨Or.inr ⟨List.mem_of_getElem? (i := 0) rfl, by simp [rv_cat]⟩, (fun _ h => nomatch h)⟩)⟩)
  exact w_X11_text_L38 hC hr hnh hin MN x0 (0 : Int32) h hF H locs cells slots ls hX (lv_sub hl [1, 0] rfl)
def F_X11_text_b24 (K : Nat → Nat) (x0 : Nat) (h : TH) : Option ((Nat ⊕ Nat) × TH) :=
  gd (hT h x0 = 7) <|
  bd2 (F_X11_wrong K x0 h) fun r_4 h_3 =>
  gd (r_4 ≠ 0) <|
  some (.inr r_4, h_3)
set_option maxHeartbeats 4000000 in
theorem w_X11_text_b24 {p : Program} {l : Launch} {e : Env} {s : State} {m : MethodId} {args : Array Value} {below : List Frame} {meth : Method} {c : Code} {D : XD} {h0 : TH} (hC : XCx D cX11_text 3 RX11 h0 p (xRm 90 2016 h0) s m args meth c) (hr : meth.sig.returnType = some (.object "BlindCards$Recipe")) (hnh : c.exceptionTable.isEmpty = true) (hin : meth.name = "text") {x : ((Nat ⊕ Nat) × TH)} :
    ∀ (x0 : Nat) (h : TH), F_X11_text_b24 D.2.2.2 x0 h = some x → XJ p l e (xRm 90 2016 h0) s m args below meth c D 3 (ocR x.1) h0 x.2 24 [(0, rv x0)] [] h := by
  have hx := hC.1
  have hb := hC.2.1
  intro x0 h hF H locs cells slots ls hX hl
  rw [F_X11_text_b24] at hF
  refine X_aload_n hx hb dX11_text_24 rfl (lv_at hl 0 rfl) ?_
  obtain ⟨h_1, hF⟩ := gd_ok hF
  obtain ⟨r_4, h_3, hc_2, hF⟩ := bd2_ok hF
  refine iX_X11_90 hC hX h_1 hc_2 hl.1 (Nat.le_of_ble_eq_true rfl) (Nat.le_of_ble_eq_true rfl) (Nat.le_of_ble_eq_true rfl) dX11_text_25 (fun H locs cells slots hX => ?_)
  obtain ⟨h_5, hF⟩ := gd_ok hF
  cases hF
  exact x_throw hC hX hnh h_5 rfl rfl dX11_text_28
def F_X11_text_L4 (K : Nat → Nat) : Nat → Nat → TH → Option ((Nat ⊕ Nat) × TH)
  | 0, _, _ => none
  | fu + 1, x0, h =>
    gd (hasF (hT h x0) 68 = true) <|
    if (hI h 68 x0) = 0 then
      F_X11_text_b36 K x0 h
    else
      gd (hT h x0 = 7) <|
      bt (F_X11_line K x0 h) fun r_5 h_6 =>
      gd (hasF (hT h_6 x0) 68 = true) <|
      if (hI h_6 68 x0) = (59 : Int32) then
        gd (hT h_6 x0 = 7) <|
        bd (F_X11_go K x0 h_6) fun h_12 =>
        F_X11_text_L4 K fu x0 h_12
      else
        F_X11_text_b24 K x0 h_6
set_option maxHeartbeats 4000000 in
theorem w_X11_text_L4 {p : Program} {l : Launch} {e : Env} {s : State} {m : MethodId} {args : Array Value} {below : List Frame} {meth : Method} {c : Code} {D : XD} {h0 : TH} (hC : XCx D cX11_text 3 RX11 h0 p (xRm 90 2016 h0) s m args meth c) (hr : meth.sig.returnType = some (.object "BlindCards$Recipe")) (hnh : c.exceptionTable.isEmpty = true) (hin : meth.name = "text") {x : ((Nat ⊕ Nat) × TH)} :
    ∀ (fu : Nat) (x0 : Nat) (h : TH), F_X11_text_L4 D.2.2.2 fu x0 h = some x → XJ p l e (xRm 90 2016 h0) s m args below meth c D 3 (ocR x.1) h0 x.2 4 [(0, rv x0)] [] h := by
  have hx := hC.1
  have hb := hC.2.1
  intro fu
  induction fu with
  | zero => intro x0 h hF; exact nm_none hF
  | succ fu ih =>
    intro x0 h hF H locs cells slots ls hX hl
    rw [F_X11_text_L4] at hF
    refine X_aload_n hx hb dX11_text_4 rfl (lv_at hl 0 rfl) ?_
    obtain ⟨h_1, hF⟩ := gd_ok hF
    refine gX_X11_46 hC hX h_1 dX11_text_5 ?_
    refine lv_if_eq (tgt := 36) hx hb dX11_text_8 (by decide) (fun c_2 => ?_) (fun c_2 => ?_)
    · replace hF := it_t hF c_2
      exact w_X11_text_b36 hC hr hnh hin x0 h hF H locs cells slots ls hX (lv_sub hl [0] rfl)
    · replace hF := it_f hF c_2
      refine X_aload_n hx hb dX11_text_11 rfl (lv_at hl 0 rfl) ?_
      obtain ⟨h_3, hF⟩ := gd_ok hF
      rcases bt_ok hF with ⟨r_5, h_6, hc_4, hF⟩ | ⟨z_7, h_6, hc_4, hxx⟩
      rotate_left
      · subst hxx
        exact iX_X11_156_t hC hX hnh h_3 hc_4 hl.1 (Nat.le_of_ble_eq_true rfl) (Nat.le_of_ble_eq_true rfl) (Nat.le_of_ble_eq_true rfl) dX11_text_12
      refine iX_X11_156 hC hX h_3 hc_4 hl.1 (Nat.le_of_ble_eq_true rfl) (Nat.le_of_ble_eq_true rfl) (Nat.le_of_ble_eq_true rfl) dX11_text_12 (fun H locs cells slots hX => ?_)
      refine X_aload_n hx hb dX11_text_15 rfl (lv_at hl 0 rfl) ?_
      obtain ⟨h_8, hF⟩ := gd_ok hF
      refine gX_X11_46 hC hX h_8 dX11_text_16 ?_
      refine lv_bipush (v := 59) hx hb dX11_text_19 (by decide) ?_
      refine lv_icmp_eq (tgt := 29) hx hb dX11_text_21 (by decide) (fun c_9 => ?_) (fun c_9 => ?_)
      · replace hF := it_t hF c_9
        refine X_aload_n hx hb dX11_text_29 rfl (lv_at hl 0 rfl) ?_
        obtain ⟨h_10, hF⟩ := gd_ok hF
        obtain ⟨h_12, hc_11, hF⟩ := bd_ok hF
        refine iX_X11_94 hC hX h_10 hc_11 hl.1 (Nat.le_of_ble_eq_true rfl) (Nat.le_of_ble_eq_true rfl) (Nat.le_of_ble_eq_true rfl) dX11_text_30 (fun H locs cells slots hX => ?_)
        refine lv_goto (tgt := 4) hx hb dX11_text_33 (by decide) ?_
        exact ih x0 h_12 hF H locs cells slots ls hX (lv_sub hl [0] rfl)
      · replace hF := it_f hF c_9
        exact w_X11_text_b24 hC hr hnh hin x0 h_6 hF H locs cells slots ls hX (lv_sub hl [0] rfl)
def F_X11_text (K : Nat → Nat) (a0 : Nat) (h : TH) : Option ((Nat ⊕ Nat) × TH) :=
  gd (hT h a0 = 7) <|
  bd (F_X11_go K a0 h) fun h_3 =>
  F_X11_text_L4 K MN a0 h_3
set_option maxHeartbeats 4000000 in
theorem w_X11_text {p : Program} {l : Launch} {e : Env} {s : State} {m : MethodId} {args : Array Value} {below : List Frame} {meth : Method} {c : Code} {D : XD} {h0 : TH} (hC : XCx D cX11_text 3 RX11 h0 p (xRm 90 2016 h0) s m args meth c) (hr : meth.sig.returnType = some (.object "BlindCards$Recipe")) (hnh : c.exceptionTable.isEmpty = true) (hin : meth.name = "text") {x : ((Nat ⊕ Nat) × TH)} :
    ∀ (a0 : Nat) (h : TH), F_X11_text D.2.2.2 a0 h = some x → XJ p l e (xRm 90 2016 h0) s m args below meth c D 3 (ocR x.1) h0 x.2 0 [(0, rv a0)] [] h := by
  have hx := hC.1
  have hb := hC.2.1
  intro a0 h hF H locs cells slots ls hX hl
  rw [F_X11_text] at hF
  refine X_aload_n hx hb dX11_text_0 rfl (lv_at hl 0 rfl) ?_
  obtain ⟨h_1, hF⟩ := gd_ok hF
  obtain ⟨h_3, hc_2, hF⟩ := bd_ok hF
  refine iX_X11_94 hC hX h_1 hc_2 hl.1 (Nat.le_of_ble_eq_true rfl) (Nat.le_of_ble_eq_true rfl) (Nat.le_of_ble_eq_true rfl) dX11_text_1 (fun H locs cells slots hX => ?_)
  exact w_X11_text_L4 hC hr hnh hin MN a0 h_3 hF H locs cells slots ls hX (lv_sub hl [0] rfl)
theorem m_X11_text (l : Launch) (D : XD) (a0 : Nat) (h : TH) (x : ((Nat ⊕ Nat) × TH)) (hF : F_X11_text D.2.2.2 a0 h = some x) : XMt l yX11_text (ws_ yX11_text cX11_text 3 (some (.object "BlindCards$Recipe"))) 90 2016 D [rv a0] h (ocR x.1) x.2 := by
  refine x_met (by decide +kernel) ?_ ?_
  · simp [lg_sl, rv_cat, cat_i, cat_l]
  intro p e s m below meth c hC hr hnh hin ls hl hX
  replace hl : lv_has ls 3 [(0, rv a0)] := by simpa [lv_args, rv_cat, cat_i, cat_l] using hl
  exact w_X11_text hC hr hnh hin a0 h hF s.heap [] 0 0 ls hX hl
theorem iX_X0_252 {p : Program} {l : Launch} {e : Env} {R : Room} {s : State} {m : MethodId} {args : Array Value} {below : List Frame} {meth : Method} {c : Code} {H : Heap} {locs : List Loc} {cells slots nL : Nat} {Q : State → Prop} {D : XD} {h0 h : TH} {cc : ByteArray} {pc : Nat} {ls : Array Slot} {rest : List Value} {h1 : TH} (hC : XCx D cc nL RX0 h0 p R s m args meth c) (hX : XSt D s h0 h H locs cells slots) {a : Nat} {b0 : Int32} {b1 : Nat} {x : Int32} (ht : hT h a = 1) (hcF : F_X0_isGood D.2.2.2 a b0 b1 h = some (x, h1)) (hl : ls.size = nL) (hW : (rest.map fun v => v.category).sum ≤ 8) (hRf : 454 + 1 ≤ R.frames) (hRl : 10462 ≤ R.locals) (hdg : decode cc pc = .ok (.invokevirtual 252, 3)) (kk : ∀ (H1 : Heap) (locs1 : List Loc) (cells1 slots1 : Nat), XSt D s h0 h1 H1 locs1 cells1 slots1 → W p l e R s m args below meth c H1 locs1 cells1 slots1 Q (F0 m (pc + 3) ls (.int x :: rest))) : W p l e R s m args below meth c H locs cells slots Q (F0 m pc ls (rv b1 :: .int b0 :: rv a :: rest)) := by
  have q := ht
  exact X_callV hC hX (by rw [q]; decide) (by rw [q]; rfl) (As := [.int b0, rv b1]) (m_X0_isGood l D a b0 b1 h _ hcF) (cwV 2 hC.2.2.2.2.1 (lw_V q1688 q1690 qs44 q125 q1691) rfl rfl rfl (by decide +kernel) ⟨Nat.le_trans (Nat.le_of_ble_eq_true rfl) hRf, Nat.le_trans (Nat.le_of_ble_eq_true rfl) hRl⟩) rfl rfl hl hW hdg kk
theorem pX_X0_256 {p : Program} {l : Launch} {e : Env} {R : Room} {s : State} {m : MethodId} {args : Array Value} {below : List Frame} {meth : Method} {c : Code} {H : Heap} {locs : List Loc} {cells slots nL : Nat} {Q : State → Prop} {D : XD} {h0 h : TH} {cc : ByteArray} {pc : Nat} {ls : Array Slot} {rest : List Value} (hC : XCx D cc nL RX0 h0 p R s m args meth c) (hX : XSt D s h0 h H locs cells slots) {a : Nat} {v : Int32} (hf : hasF (hT h a) 16 = true) (hw : hT h a ≤ 24) (hdg : decode cc pc = .ok (.putfield 256, 3)) (kk : ∀ (H1 : Heap) (locs1 : List Loc), XSt D s h0 (uI h 16 a v) H1 locs1 cells slots → W p l e R s m args below meth c H1 locs1 cells slots Q (F0 m (pc + 3) ls rest)) : W p l e R s m args below meth c H locs cells slots Q (F0 m pc ls (.int v :: rv a :: rest)) :=
  X_puti hC hX 16 hf hw rfl rfl q766 (fun _ h => h) ⟨rfl, rfl⟩ hdg kk
theorem pX_X0_259 {p : Program} {l : Launch} {e : Env} {R : Room} {s : State} {m : MethodId} {args : Array Value} {below : List Frame} {meth : Method} {c : Code} {H : Heap} {locs : List Loc} {cells slots nL : Nat} {Q : State → Prop} {D : XD} {h0 h : TH} {cc : ByteArray} {pc : Nat} {ls : Array Slot} {rest : List Value} (hC : XCx D cc nL RX0 h0 p R s m args meth c) (hX : XSt D s h0 h H locs cells slots) {a : Nat} {v : Int32} (hf : hasF (hT h a) 17 = true) (hw : hT h a ≤ 24) (hdg : decode cc pc = .ok (.putfield 259, 3)) (kk : ∀ (H1 : Heap) (locs1 : List Loc), XSt D s h0 (uI h 17 a v) H1 locs1 cells slots → W p l e R s m args below meth c H1 locs1 cells slots Q (F0 m (pc + 3) ls rest)) : W p l e R s m args below meth c H locs cells slots Q (F0 m pc ls (.int v :: rv a :: rest)) :=
  X_puti hC hX 17 hf hw rfl rfl q767 (fun _ h => h) ⟨rfl, rfl⟩ hdg kk
theorem pX_X0_262 {p : Program} {l : Launch} {e : Env} {R : Room} {s : State} {m : MethodId} {args : Array Value} {below : List Frame} {meth : Method} {c : Code} {H : Heap} {locs : List Loc} {cells slots nL : Nat} {Q : State → Prop} {D : XD} {h0 h : TH} {cc : ByteArray} {pc : Nat} {ls : Array Slot} {rest : List Value} (hC : XCx D cc nL RX0 h0 p R s m args meth c) (hX : XSt D s h0 h H locs cells slots) {a : Nat} {v : Int32} (hf : hasF (hT h a) 18 = true) (hw : hT h a ≤ 24) (hdg : decode cc pc = .ok (.putfield 262, 3)) (kk : ∀ (H1 : Heap) (locs1 : List Loc), XSt D s h0 (uI h 18 a v) H1 locs1 cells slots → W p l e R s m args below meth c H1 locs1 cells slots Q (F0 m (pc + 3) ls rest)) : W p l e R s m args below meth c H locs cells slots Q (F0 m pc ls (.int v :: rv a :: rest)) :=
  X_puti hC hX 18 hf hw rfl rfl q768 (fun _ h => h) ⟨rfl, rfl⟩ hdg kk
def V_X7_needs (K : Nat → Nat) (h : TH) (a : Nat) : Option Int32 :=
  if hT h a = 14 then F_X16_needs K h a else
  if hT h a = 15 ∨ hT h a = 16 ∨ hT h a = 17 then F_X8_needs K h a else
  none
theorem iX_X0_268 {p : Program} {l : Launch} {e : Env} {R : Room} {s : State} {m : MethodId} {args : Array Value} {below : List Frame} {meth : Method} {c : Code} {H : Heap} {locs : List Loc} {cells slots nL : Nat} {Q : State → Prop} {D : XD} {h0 h : TH} {cc : ByteArray} {pc : Nat} {ls : Array Slot} {rest : List Value} (hC : XCx D cc nL RX0 h0 p R s m args meth c) (hX : XSt D s h0 h H locs cells slots) {a : Nat} {x : Int32} (hcF : V_X7_needs D.2.2.2 h a = some x) (hl : ls.size = nL) (hW : (rest.map fun v => v.category).sum ≤ 8) (hRf : 0 + 1 ≤ R.frames) (hRl : 20 ≤ R.locals) (hdg : decode cc pc = .ok (.invokevirtual 268, 3)) (kk : ∀ (H1 : Heap) (locs1 : List Loc) (cells1 slots1 : Nat), XSt D s h0 h H1 locs1 cells1 slots1 → W p l e R s m args below meth c H1 locs1 cells1 slots1 Q (F0 m (pc + 3) ls (.int x :: rest))) : W p l e R s m args below meth c H locs cells slots Q (F0 m pc ls (rv a :: rest)) := by
  unfold V_X7_needs at hcF
  by_cases q : hT h a = 14
  · replace hcF := it_t hcF q
    exact X_callU hC hX (by rw [q]; decide) (by rw [q]; rfl) (As := []) (m_X16_needs l D a h _ hcF) (va_cwO 0 hC.2.2.2.2.1 (lw_O (owner := "BlindCards$Step") q1695 q1696 q519 q1701 q538 q160 q539) rfl rfl rfl q540 (by decide +kernel) ⟨Nat.le_trans (Nat.le_of_ble_eq_true rfl) hRf, Nat.le_trans (Nat.le_of_ble_eq_true rfl) hRl⟩) rfl rfl hl hW hdg kk
  replace hcF := it_f hcF q
  by_cases q : hT h a = 15 ∨ hT h a = 16 ∨ hT h a = 17
  · replace hcF := it_t hcF q
    rcases q with q | q | q
    · exact X_callU hC hX (by rw [q]; decide) (by rw [q]; rfl) (As := []) (m_X8_needs l D a h _ hcF) (va_cwO 0 hC.2.2.2.2.1 (lw_O (owner := "BlindCards$Step") q1695 q1696 q519 q1699 q522 q142 q523) rfl rfl rfl q540 (by decide +kernel) ⟨Nat.le_trans (Nat.le_of_ble_eq_true rfl) hRf, Nat.le_trans (Nat.le_of_ble_eq_true rfl) hRl⟩) rfl rfl hl hW hdg kk
    · exact X_callU hC hX (by rw [q]; decide) (by rw [q]; rfl) (As := []) (m_X8_needs l D a h _ hcF) (va_cwO 0 hC.2.2.2.2.1 (lw_O (owner := "BlindCards$Step") q1695 q1696 q519 q1698 q522 q142 q523) rfl rfl rfl q540 (by decide +kernel) ⟨Nat.le_trans (Nat.le_of_ble_eq_true rfl) hRf, Nat.le_trans (Nat.le_of_ble_eq_true rfl) hRl⟩) rfl rfl hl hW hdg kk
    · exact X_callU hC hX (by rw [q]; decide) (by rw [q]; rfl) (As := []) (m_X8_needs l D a h _ hcF) (va_cwO 0 hC.2.2.2.2.1 (lw_O (owner := "BlindCards$Step") q1695 q1696 q519 q1700 q522 q142 q523) rfl rfl rfl q540 (by decide +kernel) ⟨Nat.le_trans (Nat.le_of_ble_eq_true rfl) hRf, Nat.le_trans (Nat.le_of_ble_eq_true rfl) hRl⟩) rfl rfl hl hW hdg kk
  replace hcF := it_f hcF q
  exact nm_none hcF
theorem iX_X0_269 {p : Program} {l : Launch} {e : Env} {R : Room} {s : State} {m : MethodId} {args : Array Value} {below : List Frame} {meth : Method} {c : Code} {H : Heap} {locs : List Loc} {cells slots nL : Nat} {Q : State → Prop} {D : XD} {h0 h : TH} {cc : ByteArray} {pc : Nat} {ls : Array Slot} {rest : List Value} (hC : XCx D cc nL RX0 h0 p R s m args meth c) (hX : XSt D s h0 h H locs cells slots) {a : Nat} {b0 : Int32} {b1 : Nat} {x : TH} (ht : hT h a = 1) (hcF : F_X0_moveOn D.2.2.2 a b0 b1 h = some x) (hl : ls.size = nL) (hW : (rest.map fun v => v.category).sum ≤ 8) (hRf : 4 + 1 ≤ R.frames) (hRl : 121 ≤ R.locals) (hdg : decode cc pc = .ok (.invokevirtual 269, 3)) (kk : ∀ (H1 : Heap) (locs1 : List Loc) (cells1 slots1 : Nat), XSt D s h0 x H1 locs1 cells1 slots1 → W p l e R s m args below meth c H1 locs1 cells1 slots1 Q (F0 m (pc + 3) ls (rest))) : W p l e R s m args below meth c H locs cells slots Q (F0 m pc ls (rv b1 :: .int b0 :: rv a :: rest)) := by
  have q := ht
  exact X_callV hC hX (by rw [q]; decide) (by rw [q]; rfl) (As := [.int b0, rv b1]) (m_X0_moveOn l D a b0 b1 h _ hcF) (cwV 2 hC.2.2.2.2.1 (lw_V q1702 q1704 qs45 q125 q1705) rfl rfl rfl (by decide +kernel) ⟨Nat.le_trans (Nat.le_of_ble_eq_true rfl) hRf, Nat.le_trans (Nat.le_of_ble_eq_true rfl) hRl⟩) rfl rfl hl hW hdg kk
theorem iXo_X0_273 {p : Program} {l : Launch} {e : Env} {R : Room} {s : State} {m : MethodId} {args : Array Value} {below : List Frame} {meth : Method} {c : Code} {H : Heap} {locs : List Loc} {cells slots nL : Nat} {Q : State → Prop} {D : XD} {h0 h : TH} {cc : ByteArray} {pc : Nat} {ls : Array Slot} {rest : List Value} {h1 : TH} (hC : XCx D cc nL RX0 h0 p R s m args meth c) (hX : XSt D s h0 h H locs cells slots) {b0 : Nat} {b1 : Int32} {b2 : Int32} {b3 : Int32} {x : Int32} {fr lo : Nat} (hcF : XMt l yX0_seekFrom (ws_ yX0_seekFrom cX0_seekFrom 5 (some .boolean)) fr lo D [rv b0, .int b1, .int b2, .int b3] h (.returned (some (.int x))) h1) (hl : ls.size = nL) (hW : (rest.map fun v => v.category).sum ≤ 8) (hRf : fr + 1 ≤ R.frames) (hRl : 8 + (5 + 11) + lo ≤ R.locals) (hdg : decode cc pc = .ok (.invokestatic 273, 3)) (kk : ∀ (H1 : Heap) (locs1 : List Loc) (cells1 slots1 : Nat), XSt D s h0 h1 H1 locs1 cells1 slots1 → W p l e R s m args below meth c H1 locs1 cells1 slots1 Q (F0 m (pc + 3) ls (.int x :: rest))) : W p l e R s m args below meth c H locs cells slots Q (F0 m pc ls (.int b3 :: .int b2 :: .int b1 :: rv b0 :: rest)) := by
  exact X_callS hC hX (As := [rv b0, .int b1, .int b2, .int b3]) hcF (va_cwS 4 hC.2.2.2.2.1 (lw_S q1684 q1685 q125 q1686) rfl rfl rfl (by decide +kernel) ⟨hRf, hRl⟩) rfl rfl hl hW hdg kk
/-! BlindCards.seekFrom -/
def B_X0_seekFrom_b164 (K : Nat → Nat) (o_X0_seekFrom : Nat → Int32 → Int32 → Int32 → TH → Option (Int32 × TH)) (k77 : Nat → Int32 → Int32 → Int32 → Int32 → TH → Option (Int32 × TH)) (x0 : Nat) (x1 : Int32) (x2 : Int32) (x3 : Int32) (x4 : Int32) (h : TH) : Option (Int32 × TH) :=
  lt (x4 + (1 : Int32)) fun x4_1 =>
  k77 x0 x1 x2 x3 x4_1 h
set_option maxHeartbeats 4000000 in
theorem w_X0_seekFrom_b164_g {p : Program} {l : Launch} {e : Env} {s : State} {m : MethodId} {args : Array Value} {below : List Frame} {meth : Method} {c : Code} {D : XD} {h0 : TH} {fr lo : Nat} (hC : XCx D cX0_seekFrom 5 RX0 h0 p (xRm (fr + 1) (lo + 24) h0) s m args meth c) (hr : meth.sig.returnType = some .boolean) (hnh : c.exceptionTable.isEmpty = true) (hin : meth.name = "seekFrom") (hfr : 455 ≤ fr) (hlo : 10462 ≤ lo) (o_X0_seekFrom : Nat → Int32 → Int32 → Int32 → TH → Option (Int32 × TH)) (ho_X0_seekFrom : ∀ (b0 : Nat) (b1 : Int32) (b2 : Int32) (b3 : Int32) (h : TH) (x : (Int32 × TH)), o_X0_seekFrom b0 b1 b2 b3 h = some x → XMt l yX0_seekFrom (ws_ yX0_seekFrom cX0_seekFrom 5 (some .boolean)) fr lo D [rv b0, .int b1, .int b2, .int b3] h (.returned (some (.int x.1))) x.2) {x : (Int32 × TH)} (k77 : Nat → Int32 → Int32 → Int32 → Int32 → TH → Option (Int32 × TH)) (hk77 : ∀ (x0 : Nat) (x1 : Int32) (x2 : Int32) (x3 : Int32) (x4 : Int32) (h : TH), k77 x0 x1 x2 x3 x4 h = some x → XJ p l e (xRm (fr + 1) (lo + 24) h0) s m args below meth c D 5 (.returned (some (.int x.1))) h0 x.2 77 [(0, rv x0), (1, .int x1), (2, .int x2), (3, .int x3), (4, .int x4)] [] h) :
    ∀ (x0 : Nat) (x1 : Int32) (x2 : Int32) (x3 : Int32) (x4 : Int32) (h : TH), B_X0_seekFrom_b164 D.2.2.2 o_X0_seekFrom k77 x0 x1 x2 x3 x4 h = some x → XJ p l e (xRm (fr + 1) (lo + 24) h0) s m args below meth c D 5 (.returned (some (.int x.1))) h0 x.2 164 [(0, rv x0), (1, .int x1), (2, .int x2), (3, .int x3), (4, .int x4)] [] h := by
  have hx := hC.1
  have hb := hC.2.1
  intro x0 x1 x2 x3 x4 h hF H locs cells slots ls hX hl
  rw [B_X0_seekFrom_b164] at hF
  obtain ⟨x4_1, ex4_1, hF⟩ := lt_ok hF
  refine lv_iinc (v := x4_1) (lv' := [(4, .int x4_1), (0, rv x0), (1, .int x1), (2, .int x2), (3, .int x3)]) hx hb dX0_seekFrom_164 hl (k := 4) rfl (by rw [ex4_1]; rfl) (by decide) rfl (fun ls hl => ?_)
  refine lv_goto (tgt := 77) hx hb dX0_seekFrom_167 (by decide) ?_
  exact hk77 x0 x1 x2 x3 x4_1 h hF H locs cells slots ls hX (lv_sub hl [1, 2, 3, 4, 0] rfl)
def B_X0_seekFrom_L77 (K : Nat → Nat) (o_X0_seekFrom : Nat → Int32 → Int32 → Int32 → TH → Option (Int32 × TH)) : Nat → Nat → Int32 → Int32 → Int32 → Int32 → TH → Option (Int32 × TH)
  | 0, _, _, _, _, _, _ => none
  | fu + 1, x0, x1, x2, x3, x4, h =>
    gd (hasF (hT h x0) 7 = true) <|
    lt (hR h 7 x0) fun r_2 =>
    gd (hasF (hT h r_2) 31 = true) <|
    lt (hR h 31 r_2) fun r_4 =>
    gd (hT h r_4 = 3) <|
    bd (F_J2_size K h r_4) fun r_7 =>
    if r_7 ≤ x4 then
      some ((0 : Int32), h)
    else
      gd (hasF (hT h x0) 7 = true) <|
      lt (hR h 7 x0) fun r_10 =>
      gd (hasF (hT h r_10) 31 = true) <|
      lt (hR h 31 r_10) fun r_12 =>
      gd (hT h r_12 = 3) <|
      bd (F_J2_get K h r_12 x4) fun r_15 =>
      gd (r_15 = 0 ∨ castB (hT h r_15) "BlindCards$Move" = true) <|
      bd (V_X7_needs K h r_15) fun r_18 =>
      gd (hasF (hT h x0) 15 = true) <|
      if r_18 ≤ (hI h 15 x0) then
        gd (hasF (hT h x0) 7 = true) <|
        lt (hR h 7 x0) fun r_22 =>
        gd (hasF (hT h r_22) 31 = true) <|
        lt (hR h 31 r_22) fun r_24 =>
        gd (hT h r_24 = 3) <|
        bd (F_J2_get K h r_24 x4) fun r_27 =>
        gd (r_27 = 0 ∨ castB (hT h r_27) "BlindCards$Move" = true) <|
        gd (hT h x0 = 1) <|
        bd (F_X0_moveOn K x0 x1 r_27 h) fun h_31 =>
        bd2 (o_X0_seekFrom x0 (x1 + (1 : Int32)) (x2 - (1 : Int32)) ((((10 : Int32) * x3) + x4) + (1 : Int32)) h_31) fun r_34 h_33 =>
        if r_34 = 0 then
          B_X0_seekFrom_b164 K o_X0_seekFrom (B_X0_seekFrom_L77 K o_X0_seekFrom fu) x0 x1 x2 x3 x4 h_33
        else
          some ((1 : Int32), h_33)
      else
        B_X0_seekFrom_b164 K o_X0_seekFrom (B_X0_seekFrom_L77 K o_X0_seekFrom fu) x0 x1 x2 x3 x4 h
set_option maxHeartbeats 4000000 in
theorem w_X0_seekFrom_L77_g {p : Program} {l : Launch} {e : Env} {s : State} {m : MethodId} {args : Array Value} {below : List Frame} {meth : Method} {c : Code} {D : XD} {h0 : TH} {fr lo : Nat} (hC : XCx D cX0_seekFrom 5 RX0 h0 p (xRm (fr + 1) (lo + 24) h0) s m args meth c) (hr : meth.sig.returnType = some .boolean) (hnh : c.exceptionTable.isEmpty = true) (hin : meth.name = "seekFrom") (hfr : 455 ≤ fr) (hlo : 10462 ≤ lo) (o_X0_seekFrom : Nat → Int32 → Int32 → Int32 → TH → Option (Int32 × TH)) (ho_X0_seekFrom : ∀ (b0 : Nat) (b1 : Int32) (b2 : Int32) (b3 : Int32) (h : TH) (x : (Int32 × TH)), o_X0_seekFrom b0 b1 b2 b3 h = some x → XMt l yX0_seekFrom (ws_ yX0_seekFrom cX0_seekFrom 5 (some .boolean)) fr lo D [rv b0, .int b1, .int b2, .int b3] h (.returned (some (.int x.1))) x.2) {x : (Int32 × TH)} :
    ∀ (fu : Nat) (x0 : Nat) (x1 : Int32) (x2 : Int32) (x3 : Int32) (x4 : Int32) (h : TH), B_X0_seekFrom_L77 D.2.2.2 o_X0_seekFrom fu x0 x1 x2 x3 x4 h = some x → XJ p l e (xRm (fr + 1) (lo + 24) h0) s m args below meth c D 5 (.returned (some (.int x.1))) h0 x.2 77 [(0, rv x0), (1, .int x1), (2, .int x2), (3, .int x3), (4, .int x4)] [] h := by
  have hx := hC.1
  have hb := hC.2.1
  intro fu
  induction fu with
  | zero => intro x0 x1 x2 x3 x4 h hF; exact nm_none hF
  | succ fu ih =>
    intro x0 x1 x2 x3 x4 h hF H locs cells slots ls hX hl
    rw [B_X0_seekFrom_L77] at hF
    refine lv_iload hx hb dX0_seekFrom_77 (lv_at hl 4 rfl) ?_
    refine X_aload_n hx hb dX0_seekFrom_79 rfl (lv_at hl 0 rfl) ?_
    obtain ⟨h_1, hF⟩ := gd_ok hF
    refine gX_X0_15 hC hX h_1 dX0_seekFrom_80 ?_
    refine lv_topr (fun r_2 er_2 => ?_)
    replace hF := lt_at hF er_2
    obtain ⟨h_3, hF⟩ := gd_ok hF
    refine gX_X0_265 hC hX h_3 dX0_seekFrom_83 ?_
    refine lv_topr (fun r_4 er_4 => ?_)
    replace hF := lt_at hF er_4
    obtain ⟨h_5, hF⟩ := gd_ok hF
    obtain ⟨r_7, hc_6, hF⟩ := bd_ok hF
    refine iX_X0_148 hC hX h_5 hc_6 hl.1 (Nat.le_of_ble_eq_true rfl) (by show _ ≤ fr + 1; omega) (by show _ ≤ lo + 24; omega) dX0_seekFrom_86 (fun H locs cells slots hX => ?_)
    refine lv_icmp_ge (tgt := 170) hx hb dX0_seekFrom_89 (by decide) (fun c_8 => ?_) (fun c_8 => ?_)
    · replace hF := it_t hF c_8
      refine lv_iconst (v := 0) hx hb dX0_seekFrom_170 (by decide) ?_
      exact x_reti hC hX hr rfl (rt1 hF) (rt2 hF) dX0_seekFrom_171
    · replace hF := it_f hF c_8
      refine X_aload_n hx hb dX0_seekFrom_92 rfl (lv_at hl 0 rfl) ?_
      obtain ⟨h_9, hF⟩ := gd_ok hF
      refine gX_X0_15 hC hX h_9 dX0_seekFrom_93 ?_
      refine lv_topr (fun r_10 er_10 => ?_)
      replace hF := lt_at hF er_10
      obtain ⟨h_11, hF⟩ := gd_ok hF
      refine gX_X0_265 hC hX h_11 dX0_seekFrom_96 ?_
      refine lv_topr (fun r_12 er_12 => ?_)
      replace hF := lt_at hF er_12
      refine lv_iload hx hb dX0_seekFrom_99 (lv_at hl 4 rfl) ?_
      obtain ⟨h_13, hF⟩ := gd_ok hF
      obtain ⟨r_15, hc_14, hF⟩ := bd_ok hF
      refine iX_X0_222 hC hX h_13 hc_14 hl.1 (Nat.le_of_ble_eq_true rfl) (by show _ ≤ fr + 1; omega) (by show _ ≤ lo + 24; omega) dX0_seekFrom_101 (fun H locs cells slots hX => ?_)
      obtain ⟨h_16, hF⟩ := gd_ok hF
      refine X_cast hC hX h_16 q1694 dX0_seekFrom_104 ?_
      obtain ⟨r_18, hc_17, hF⟩ := bd_ok hF
      refine iX_X0_268 hC hX hc_17 hl.1 (Nat.le_of_ble_eq_true rfl) (by show _ ≤ fr + 1; omega) (by show _ ≤ lo + 24; omega) dX0_seekFrom_107 (fun H locs cells slots hX => ?_)
      refine X_aload_n hx hb dX0_seekFrom_110 rfl (lv_at hl 0 rfl) ?_
      obtain ⟨h_19, hF⟩ := gd_ok hF
      refine gX_X0_219 hC hX h_19 dX0_seekFrom_111 ?_
      refine lv_icmp_le (tgt := 120) hx hb dX0_seekFrom_114 (by decide) (fun c_20 => ?_) (fun c_20 => ?_)
      · replace hF := it_t hF c_20
        refine X_aload_n hx hb dX0_seekFrom_120 rfl (lv_at hl 0 rfl) ?_
        refine lv_iload_n hx hb dX0_seekFrom_121 rfl (lv_at hl 1 rfl) ?_
        refine X_aload_n hx hb dX0_seekFrom_122 rfl (lv_at hl 0 rfl) ?_
        obtain ⟨h_21, hF⟩ := gd_ok hF
        refine gX_X0_15 hC hX h_21 dX0_seekFrom_123 ?_
        refine lv_topr (fun r_22 er_22 => ?_)
        replace hF := lt_at hF er_22
        obtain ⟨h_23, hF⟩ := gd_ok hF
        refine gX_X0_265 hC hX h_23 dX0_seekFrom_126 ?_
        refine lv_topr (fun r_24 er_24 => ?_)
        replace hF := lt_at hF er_24
        refine lv_iload hx hb dX0_seekFrom_129 (lv_at hl 4 rfl) ?_
        obtain ⟨h_25, hF⟩ := gd_ok hF
        obtain ⟨r_27, hc_26, hF⟩ := bd_ok hF
        refine iX_X0_222 hC hX h_25 hc_26 hl.1 (cat4 (Nat.le_of_ble_eq_true rfl)) (by show _ ≤ fr + 1; omega) (by show _ ≤ lo + 24; omega) dX0_seekFrom_131 (fun H locs cells slots hX => ?_)
        obtain ⟨h_28, hF⟩ := gd_ok hF
        refine X_cast hC hX h_28 q1694 dX0_seekFrom_134 ?_
        obtain ⟨h_29, hF⟩ := gd_ok hF
        obtain ⟨h_31, hc_30, hF⟩ := bd_ok hF
        refine iX_X0_269 hC hX h_29 hc_30 hl.1 (Nat.le_of_ble_eq_true rfl) (by show _ ≤ fr + 1; omega) (by show _ ≤ lo + 24; omega) dX0_seekFrom_137 (fun H locs cells slots hX => ?_)
        refine X_aload_n hx hb dX0_seekFrom_140 rfl (lv_at hl 0 rfl) ?_
        refine lv_iload_n hx hb dX0_seekFrom_141 rfl (lv_at hl 1 rfl) ?_
        refine lv_iconst (v := 1) hx hb dX0_seekFrom_142 (by decide) ?_
        refine lv_iadd hx hb dX0_seekFrom_143 ?_
        refine lv_iload_n hx hb dX0_seekFrom_144 rfl (lv_at hl 2 rfl) ?_
        refine lv_iconst (v := 1) hx hb dX0_seekFrom_145 (by decide) ?_
        refine lv_isub hx hb dX0_seekFrom_146 ?_
        refine lv_bipush (v := 10) hx hb dX0_seekFrom_147 (by decide) ?_
        refine lv_iload_n hx hb dX0_seekFrom_149 rfl (lv_at hl 3 rfl) ?_
        refine lv_imul hx hb dX0_seekFrom_150 ?_
        refine lv_iload hx hb dX0_seekFrom_151 (lv_at hl 4 rfl) ?_
        refine lv_iadd hx hb dX0_seekFrom_153 ?_
        refine lv_iconst (v := 1) hx hb dX0_seekFrom_154 (by decide) ?_
        refine lv_iadd hx hb dX0_seekFrom_155 ?_
        obtain ⟨r_34, h_33, hc_32, hF⟩ := bd2_ok hF
        refine iXo_X0_273 hC hX (ho_X0_seekFrom x0 (x1 + (1 : Int32)) (x2 - (1 : Int32)) ((((10 : Int32) * x3) + x4) + (1 : Int32)) h_31 _ hc_32) hl.1 (Nat.le_of_ble_eq_true rfl) (by show _ ≤ fr + 1; omega) (by show _ ≤ lo + 24; omega) dX0_seekFrom_156 (fun H locs cells slots hX => ?_)
        refine lv_if_eq (tgt := 164) hx hb dX0_seekFrom_159 (by decide) (fun c_35 => ?_) (fun c_35 => ?_)
        · replace hF := it_t hF c_35
          exact w_X0_seekFrom_b164_g hC hr hnh hin hfr hlo o_X0_seekFrom ho_X0_seekFrom (B_X0_seekFrom_L77 D.2.2.2 o_X0_seekFrom fu) ih x0 x1 x2 x3 x4 h_33 hF H locs cells slots ls hX (lv_sub hl [0, 1, 2, 3, 4] rfl)
        · replace hF := it_f hF c_35
          refine lv_iconst (v := 1) hx hb dX0_seekFrom_162 (by decide) ?_
          exact x_reti hC hX hr rfl (rt1 hF) (rt2 hF) dX0_seekFrom_163
      · replace hF := it_f hF c_20
        refine lv_goto (tgt := 164) hx hb dX0_seekFrom_117 (by decide) ?_
        exact w_X0_seekFrom_b164_g hC hr hnh hin hfr hlo o_X0_seekFrom ho_X0_seekFrom (B_X0_seekFrom_L77 D.2.2.2 o_X0_seekFrom fu) ih x0 x1 x2 x3 x4 h hF H locs cells slots ls hX (lv_sub hl [0, 1, 2, 3, 4] rfl)
def B_X0_seekFrom_b48 (K : Nat → Nat) (o_X0_seekFrom : Nat → Int32 → Int32 → Int32 → TH → Option (Int32 × TH)) (x0 : Nat) (x1 : Int32) (x3 : Int32) (x4 : Int32) (h : TH) : Option (Int32 × TH) :=
  gd (hasF (hT h x0) 16 = true) <|
  gd (hT h x0 ≤ 24) <|
  lt (uI h 16 x0 x1) fun h_3 =>
  gd (hasF (hT h_3 x0) 17 = true) <|
  gd (hT h_3 x0 ≤ 24) <|
  lt (uI h_3 17 x0 x3) fun h_6 =>
  gd (hasF (hT h_6 x0) 18 = true) <|
  gd (hT h_6 x0 ≤ 24) <|
  lt (uI h_6 18 x0 x4) fun h_9 =>
  some ((1 : Int32), h_9)
set_option maxHeartbeats 4000000 in
theorem w_X0_seekFrom_b48_g {p : Program} {l : Launch} {e : Env} {s : State} {m : MethodId} {args : Array Value} {below : List Frame} {meth : Method} {c : Code} {D : XD} {h0 : TH} {fr lo : Nat} (hC : XCx D cX0_seekFrom 5 RX0 h0 p (xRm (fr + 1) (lo + 24) h0) s m args meth c) (hr : meth.sig.returnType = some .boolean) (hnh : c.exceptionTable.isEmpty = true) (hin : meth.name = "seekFrom") (hfr : 455 ≤ fr) (hlo : 10462 ≤ lo) (o_X0_seekFrom : Nat → Int32 → Int32 → Int32 → TH → Option (Int32 × TH)) (ho_X0_seekFrom : ∀ (b0 : Nat) (b1 : Int32) (b2 : Int32) (b3 : Int32) (h : TH) (x : (Int32 × TH)), o_X0_seekFrom b0 b1 b2 b3 h = some x → XMt l yX0_seekFrom (ws_ yX0_seekFrom cX0_seekFrom 5 (some .boolean)) fr lo D [rv b0, .int b1, .int b2, .int b3] h (.returned (some (.int x.1))) x.2) {x : (Int32 × TH)} :
    ∀ (x0 : Nat) (x1 : Int32) (x3 : Int32) (x4 : Int32) (h : TH), B_X0_seekFrom_b48 D.2.2.2 o_X0_seekFrom x0 x1 x3 x4 h = some x → XJ p l e (xRm (fr + 1) (lo + 24) h0) s m args below meth c D 5 (.returned (some (.int x.1))) h0 x.2 48 [(0, rv x0), (1, .int x1), (3, .int x3), (4, .int x4)] [] h := by
  have hx := hC.1
  have hb := hC.2.1
  intro x0 x1 x3 x4 h hF H locs cells slots ls hX hl
  rw [B_X0_seekFrom_b48] at hF
  refine X_aload_n hx hb dX0_seekFrom_48 rfl (lv_at hl 0 rfl) ?_
  refine lv_iload_n hx hb dX0_seekFrom_49 rfl (lv_at hl 1 rfl) ?_
  obtain ⟨h_1, hF⟩ := gd_ok hF
  obtain ⟨h_2, hF⟩ := gd_ok hF
  refine pX_X0_256 hC hX h_1 h_2 dX0_seekFrom_50 (fun H locs hX => ?_)
  obtain ⟨h_3, eh_3, hF⟩ := lt_ok hF
  rw [← eh_3] at hX
  refine X_aload_n hx hb dX0_seekFrom_53 rfl (lv_at hl 0 rfl) ?_
  refine lv_iload_n hx hb dX0_seekFrom_54 rfl (lv_at hl 2 rfl) ?_
  obtain ⟨h_4, hF⟩ := gd_ok hF
  obtain ⟨h_5, hF⟩ := gd_ok hF
  refine pX_X0_259 hC hX h_4 h_5 dX0_seekFrom_55 (fun H locs hX => ?_)
  obtain ⟨h_6, eh_6, hF⟩ := lt_ok hF
  rw [← eh_6] at hX
  refine X_aload_n hx hb dX0_seekFrom_58 rfl (lv_at hl 0 rfl) ?_
  refine lv_iload hx hb dX0_seekFrom_59 (lv_at hl 3 rfl) ?_
  obtain ⟨h_7, hF⟩ := gd_ok hF
  obtain ⟨h_8, hF⟩ := gd_ok hF
  refine pX_X0_262 hC hX h_7 h_8 dX0_seekFrom_61 (fun H locs hX => ?_)
  obtain ⟨h_9, eh_9, hF⟩ := lt_ok hF
  rw [← eh_9] at hX
  refine lv_iconst (v := 1) hx hb dX0_seekFrom_64 (by decide) ?_
  exact x_reti hC hX hr rfl (rt1 hF) (rt2 hF) dX0_seekFrom_65
def B_X0_seekFrom_L7 (K : Nat → Nat) (o_X0_seekFrom : Nat → Int32 → Int32 → Int32 → TH → Option (Int32 × TH)) : Nat → Nat → Int32 → Int32 → Int32 → TH → Option (Int32 × TH)
  | 0, _, _, _, _, _ => none
  | fu + 1, x0, x1, x3, x4, h =>
    gd (hasF (hT h x0) 7 = true) <|
    lt (hR h 7 x0) fun r_2 =>
    gd (hasF (hT h r_2) 32 = true) <|
    lt (hR h 32 r_2) fun r_4 =>
    gd (hT h r_4 = 3) <|
    bd (F_J2_size K h r_4) fun r_7 =>
    if r_7 ≤ x4 then
      some ((0 : Int32), h)
    else
      gd (hasF (hT h x0) 7 = true) <|
      lt (hR h 7 x0) fun r_10 =>
      gd (hasF (hT h r_10) 32 = true) <|
      lt (hR h 32 r_10) fun r_12 =>
      gd (hT h r_12 = 3) <|
      bd (F_J2_get K h r_12 x4) fun r_15 =>
      gd (r_15 = 0 ∨ castB (hT h r_15) "BlindCards$Open" = true) <|
      gd (hT h x0 = 1) <|
      bd2 (F_X0_isGood K x0 x1 r_15 h) fun r_20 h_19 =>
      if r_20 = 0 then
        lt (x4 + (1 : Int32)) fun x4_22 =>
        B_X0_seekFrom_L7 K o_X0_seekFrom fu x0 x1 x3 x4_22 h_19
      else
        B_X0_seekFrom_b48 K o_X0_seekFrom x0 x1 x3 x4 h_19
set_option maxHeartbeats 4000000 in
theorem w_X0_seekFrom_L7_g {p : Program} {l : Launch} {e : Env} {s : State} {m : MethodId} {args : Array Value} {below : List Frame} {meth : Method} {c : Code} {D : XD} {h0 : TH} {fr lo : Nat} (hC : XCx D cX0_seekFrom 5 RX0 h0 p (xRm (fr + 1) (lo + 24) h0) s m args meth c) (hr : meth.sig.returnType = some .boolean) (hnh : c.exceptionTable.isEmpty = true) (hin : meth.name = "seekFrom") (hfr : 455 ≤ fr) (hlo : 10462 ≤ lo) (o_X0_seekFrom : Nat → Int32 → Int32 → Int32 → TH → Option (Int32 × TH)) (ho_X0_seekFrom : ∀ (b0 : Nat) (b1 : Int32) (b2 : Int32) (b3 : Int32) (h : TH) (x : (Int32 × TH)), o_X0_seekFrom b0 b1 b2 b3 h = some x → XMt l yX0_seekFrom (ws_ yX0_seekFrom cX0_seekFrom 5 (some .boolean)) fr lo D [rv b0, .int b1, .int b2, .int b3] h (.returned (some (.int x.1))) x.2) {x : (Int32 × TH)} :
    ∀ (fu : Nat) (x0 : Nat) (x1 : Int32) (x3 : Int32) (x4 : Int32) (h : TH), B_X0_seekFrom_L7 D.2.2.2 o_X0_seekFrom fu x0 x1 x3 x4 h = some x → XJ p l e (xRm (fr + 1) (lo + 24) h0) s m args below meth c D 5 (.returned (some (.int x.1))) h0 x.2 7 [(0, rv x0), (1, .int x1), (3, .int x3), (4, .int x4)] [] h := by
  have hx := hC.1
  have hb := hC.2.1
  intro fu
  induction fu with
  | zero => intro x0 x1 x3 x4 h hF; exact nm_none hF
  | succ fu ih =>
    intro x0 x1 x3 x4 h hF H locs cells slots ls hX hl
    rw [B_X0_seekFrom_L7] at hF
    refine lv_iload hx hb dX0_seekFrom_7 (lv_at hl 3 rfl) ?_
    refine X_aload_n hx hb dX0_seekFrom_9 rfl (lv_at hl 0 rfl) ?_
    obtain ⟨h_1, hF⟩ := gd_ok hF
    refine gX_X0_15 hC hX h_1 dX0_seekFrom_10 ?_
    refine lv_topr (fun r_2 er_2 => ?_)
    replace hF := lt_at hF er_2
    obtain ⟨h_3, hF⟩ := gd_ok hF
    refine gX_X0_249 hC hX h_3 dX0_seekFrom_13 ?_
    refine lv_topr (fun r_4 er_4 => ?_)
    replace hF := lt_at hF er_4
    obtain ⟨h_5, hF⟩ := gd_ok hF
    obtain ⟨r_7, hc_6, hF⟩ := bd_ok hF
    refine iX_X0_148 hC hX h_5 hc_6 hl.1 (Nat.le_of_ble_eq_true rfl) (by show _ ≤ fr + 1; omega) (by show _ ≤ lo + 24; omega) dX0_seekFrom_16 (fun H locs cells slots hX => ?_)
    refine lv_icmp_ge (tgt := 72) hx hb dX0_seekFrom_19 (by decide) (fun c_8 => ?_) (fun c_8 => ?_)
    · replace hF := it_t hF c_8
      refine lv_iconst (v := 0) hx hb dX0_seekFrom_72 (by decide) ?_
      exact x_reti hC hX hr rfl (rt1 hF) (rt2 hF) dX0_seekFrom_73
    · replace hF := it_f hF c_8
      refine X_aload_n hx hb dX0_seekFrom_22 rfl (lv_at hl 0 rfl) ?_
      refine lv_iload_n hx hb dX0_seekFrom_23 rfl (lv_at hl 1 rfl) ?_
      refine X_aload_n hx hb dX0_seekFrom_24 rfl (lv_at hl 0 rfl) ?_
      obtain ⟨h_9, hF⟩ := gd_ok hF
      refine gX_X0_15 hC hX h_9 dX0_seekFrom_25 ?_
      refine lv_topr (fun r_10 er_10 => ?_)
      replace hF := lt_at hF er_10
      obtain ⟨h_11, hF⟩ := gd_ok hF
      refine gX_X0_249 hC hX h_11 dX0_seekFrom_28 ?_
      refine lv_topr (fun r_12 er_12 => ?_)
      replace hF := lt_at hF er_12
      refine lv_iload hx hb dX0_seekFrom_31 (lv_at hl 3 rfl) ?_
      obtain ⟨h_13, hF⟩ := gd_ok hF
      obtain ⟨r_15, hc_14, hF⟩ := bd_ok hF
      refine iX_X0_222 hC hX h_13 hc_14 hl.1 (cat4 (Nat.le_of_ble_eq_true rfl)) (by show _ ≤ fr + 1; omega) (by show _ ≤ lo + 24; omega) dX0_seekFrom_33 (fun H locs cells slots hX => ?_)
      obtain ⟨h_16, hF⟩ := gd_ok hF
      refine X_cast hC hX h_16 q1687 dX0_seekFrom_36 ?_
      obtain ⟨h_17, hF⟩ := gd_ok hF
      obtain ⟨r_20, h_19, hc_18, hF⟩ := bd2_ok hF
      refine iX_X0_252 hC hX h_17 hc_18 hl.1 (Nat.le_of_ble_eq_true rfl) (by show _ ≤ fr + 1; omega) (by show _ ≤ lo + 24; omega) dX0_seekFrom_39 (fun H locs cells slots hX => ?_)
      refine lv_if_ne (tgt := 48) hx hb dX0_seekFrom_42 (by decide) (fun c_21 => ?_) (fun c_21 => ?_)
      · replace hF := it_f hF c_21
        exact w_X0_seekFrom_b48_g hC hr hnh hin hfr hlo o_X0_seekFrom ho_X0_seekFrom x0 x1 x3 x4 h_19 hF H locs cells slots ls hX (lv_sub hl [0, 1, 2, 3] rfl)
      · replace hF := it_t hF c_21
        refine lv_goto (tgt := 66) hx hb dX0_seekFrom_45 (by decide) ?_
        obtain ⟨x4_22, ex4_22, hF⟩ := lt_ok hF
        refine lv_iinc (v := x4_22) (lv' := [(4, .int x4_22), (0, rv x0), (1, .int x1), (3, .int x3)]) hx hb dX0_seekFrom_66 hl (k := 3) rfl (by rw [ex4_22]; rfl) (by decide) rfl (fun ls hl => ?_)
        refine lv_goto (tgt := 7) hx hb dX0_seekFrom_69 (by decide) ?_
        exact ih x0 x1 x3 x4_22 h_19 hF H locs cells slots ls hX (lv_sub hl [1, 2, 3, 0] rfl)
def B_X0_seekFrom (K : Nat → Nat) (o_X0_seekFrom : Nat → Int32 → Int32 → Int32 → TH → Option (Int32 × TH)) (b0 : Nat) (b1 : Int32) (b2 : Int32) (b3 : Int32) (h : TH) : Option (Int32 × TH) :=
  if b2 = 0 then
    B_X0_seekFrom_L7 K o_X0_seekFrom MN b0 b1 b3 (0 : Int32) h
  else
    B_X0_seekFrom_L77 K o_X0_seekFrom MN b0 b1 b2 b3 (0 : Int32) h
set_option maxHeartbeats 4000000 in
theorem w_X0_seekFrom_g {p : Program} {l : Launch} {e : Env} {s : State} {m : MethodId} {args : Array Value} {below : List Frame} {meth : Method} {c : Code} {D : XD} {h0 : TH} {fr lo : Nat} (hC : XCx D cX0_seekFrom 5 RX0 h0 p (xRm (fr + 1) (lo + 24) h0) s m args meth c) (hr : meth.sig.returnType = some .boolean) (hnh : c.exceptionTable.isEmpty = true) (hin : meth.name = "seekFrom") (hfr : 455 ≤ fr) (hlo : 10462 ≤ lo) (o_X0_seekFrom : Nat → Int32 → Int32 → Int32 → TH → Option (Int32 × TH)) (ho_X0_seekFrom : ∀ (b0 : Nat) (b1 : Int32) (b2 : Int32) (b3 : Int32) (h : TH) (x : (Int32 × TH)), o_X0_seekFrom b0 b1 b2 b3 h = some x → XMt l yX0_seekFrom (ws_ yX0_seekFrom cX0_seekFrom 5 (some .boolean)) fr lo D [rv b0, .int b1, .int b2, .int b3] h (.returned (some (.int x.1))) x.2) {x : (Int32 × TH)} :
    ∀ (b0 : Nat) (b1 : Int32) (b2 : Int32) (b3 : Int32) (h : TH), B_X0_seekFrom D.2.2.2 o_X0_seekFrom b0 b1 b2 b3 h = some x → XJ p l e (xRm (fr + 1) (lo + 24) h0) s m args below meth c D 5 (.returned (some (.int x.1))) h0 x.2 0 [(0, rv b0), (1, .int b1), (2, .int b2), (3, .int b3)] [] h := by
  have hx := hC.1
  have hb := hC.2.1
  intro b0 b1 b2 b3 h hF H locs cells slots ls hX hl
  rw [B_X0_seekFrom] at hF
  refine lv_iload_n hx hb dX0_seekFrom_0 rfl (lv_at hl 2 rfl) ?_
  refine lv_if_ne (tgt := 74) hx hb dX0_seekFrom_1 (by decide) (fun c_1 => ?_) (fun c_1 => ?_)
  · replace hF := it_f hF c_1
    refine lv_iconst (v := 0) hx hb dX0_seekFrom_74 (by decide) ?_
    refine lv_istore (lv' := [(4, .int (0 : Int32)), (0, rv b0), (1, .int b1), (2, .int b2), (3, .int b3)]) hx hb dX0_seekFrom_75 hl (by decide) rfl (fun ls hl => ?_)
    exact w_X0_seekFrom_L77_g hC hr hnh hin hfr hlo o_X0_seekFrom ho_X0_seekFrom MN b0 b1 b2 b3 (0 : Int32) h hF H locs cells slots ls hX (lv_sub hl [1, 2, 3, 4, 0] rfl)
  · replace hF := it_t hF c_1
    refine lv_iconst (v := 0) hx hb dX0_seekFrom_4 (by decide) ?_
    refine lv_istore (lv' := [(4, .int (0 : Int32)), (0, rv b0), (1, .int b1), (2, .int b2), (3, .int b3)]) hx hb dX0_seekFrom_5 hl (by decide) rfl (fun ls hl => ?_)
    exact w_X0_seekFrom_L7_g hC hr hnh hin hfr hlo o_X0_seekFrom ho_X0_seekFrom MN b0 b1 b3 (0 : Int32) h hF H locs cells slots ls hX (lv_sub hl [1, 2, 4, 0] rfl)
theorem mb_X0_seekFrom (l : Launch) (D : XD) {fr lo : Nat} (hfr : 455 ≤ fr) (hlo : 10462 ≤ lo) (o_X0_seekFrom : Nat → Int32 → Int32 → Int32 → TH → Option (Int32 × TH)) (ho_X0_seekFrom : ∀ (b0 : Nat) (b1 : Int32) (b2 : Int32) (b3 : Int32) (h : TH) (x : (Int32 × TH)), o_X0_seekFrom b0 b1 b2 b3 h = some x → XMt l yX0_seekFrom (ws_ yX0_seekFrom cX0_seekFrom 5 (some .boolean)) fr lo D [rv b0, .int b1, .int b2, .int b3] h (.returned (some (.int x.1))) x.2) (b0 : Nat) (b1 : Int32) (b2 : Int32) (b3 : Int32) (h : TH) (x : (Int32 × TH)) (hF : B_X0_seekFrom D.2.2.2 o_X0_seekFrom b0 b1 b2 b3 h = some x) : XMt l yX0_seekFrom (ws_ yX0_seekFrom cX0_seekFrom 5 (some .boolean)) (fr + 1) (lo + 24) D [rv b0, .int b1, .int b2, .int b3] h (.returned (some (.int x.1))) x.2 := by
  refine x_met (by decide +kernel) ?_ ?_
  · simp [lg_sl, rv_cat, cat_i, cat_l]
  intro p e s m below meth c hC hr hnh hin ls hl hX
  replace hl : lv_has ls 5 [(0, rv b0), (1, .int b1), (2, .int b2), (3, .int b3)] := by simpa [lv_args, rv_cat, cat_i, cat_l] using hl
  exact w_X0_seekFrom_g hC hr hnh hin hfr hlo o_X0_seekFrom ho_X0_seekFrom b0 b1 b2 b3 h hF s.heap [] 0 0 ls hX hl
def G_X0_seekFrom (K : Nat → Nat) : Nat → (Nat → Int32 → Int32 → Int32 → TH → Option (Int32 × TH))
  | 0 => fun _ _ _ _ _ => none
  | d + 1 => B_X0_seekFrom K (G_X0_seekFrom K d)
theorem pG_X0_seekFrom (l : Launch) (D : XD) : ∀ d : Nat, (∀ (b0 : Nat) (b1 : Int32) (b2 : Int32) (b3 : Int32) (h : TH) (x : (Int32 × TH)), (G_X0_seekFrom D.2.2.2 d) b0 b1 b2 b3 h = some x → XMt l yX0_seekFrom (ws_ yX0_seekFrom cX0_seekFrom 5 (some .boolean)) (455 + d) (10462 + 24 * d) D [rv b0, .int b1, .int b2, .int b3] h (.returned (some (.int x.1))) x.2) := by
  intro d
  induction d with
  | zero => exact fun _ _ _ _ _ _ h => nm_none h
  | succ d ih =>
    have e : 10462 + 24 * (d + 1) = 10462 + 24 * d + 24 := by omega
    rw [e]
    exact mb_X0_seekFrom l D (Nat.le_add_right _ _) (Nat.le_add_right _ _) _ ih
def F_X0_seekFrom (K : Nat → Nat) (b0 : Nat) (b1 : Int32) (b2 : Int32) (b3 : Int32) (h : TH) : Option (Int32 × TH) := (G_X0_seekFrom K 8) b0 b1 b2 b3 h
theorem m_X0_seekFrom (l : Launch) (D : XD) (b0 : Nat) (b1 : Int32) (b2 : Int32) (b3 : Int32) (h : TH) (x : (Int32 × TH)) (hF : F_X0_seekFrom D.2.2.2 b0 b1 b2 b3 h = some x) : XMt l yX0_seekFrom (ws_ yX0_seekFrom cX0_seekFrom 5 (some .boolean)) 463 10654 D [rv b0, .int b1, .int b2, .int b3] h (.returned (some (.int x.1))) x.2 := (pG_X0_seekFrom l D 8) b0 b1 b2 b3 h x hF
theorem iX_X0_273 {p : Program} {l : Launch} {e : Env} {R : Room} {s : State} {m : MethodId} {args : Array Value} {below : List Frame} {meth : Method} {c : Code} {H : Heap} {locs : List Loc} {cells slots nL : Nat} {Q : State → Prop} {D : XD} {h0 h : TH} {cc : ByteArray} {pc : Nat} {ls : Array Slot} {rest : List Value} {h1 : TH} (hC : XCx D cc nL RX0 h0 p R s m args meth c) (hX : XSt D s h0 h H locs cells slots) {b0 : Nat} {b1 : Int32} {b2 : Int32} {b3 : Int32} {x : Int32} (hcF : F_X0_seekFrom D.2.2.2 b0 b1 b2 b3 h = some (x, h1)) (hl : ls.size = nL) (hW : (rest.map fun v => v.category).sum ≤ 8) (hRf : 463 + 1 ≤ R.frames) (hRl : 10678 ≤ R.locals) (hdg : decode cc pc = .ok (.invokestatic 273, 3)) (kk : ∀ (H1 : Heap) (locs1 : List Loc) (cells1 slots1 : Nat), XSt D s h0 h1 H1 locs1 cells1 slots1 → W p l e R s m args below meth c H1 locs1 cells1 slots1 Q (F0 m (pc + 3) ls (.int x :: rest))) : W p l e R s m args below meth c H locs cells slots Q (F0 m pc ls (.int b3 :: .int b2 :: .int b1 :: rv b0 :: rest)) := by
  exact X_callS hC hX (As := [rv b0, .int b1, .int b2, .int b3]) (m_X0_seekFrom l D b0 b1 b2 b3 h _ hcF) (va_cwS 4 hC.2.2.2.2.1 (lw_S q1684 q1685 q125 q1686) rfl rfl rfl (by decide +kernel) ⟨Nat.le_trans (Nat.le_of_ble_eq_true rfl) hRf, Nat.le_trans (Nat.le_of_ble_eq_true rfl) hRl⟩) rfl rfl hl hW hdg kk
theorem gX_X0_262 {p : Program} {l : Launch} {e : Env} {R : Room} {s : State} {m : MethodId} {args : Array Value} {below : List Frame} {meth : Method} {c : Code} {H : Heap} {locs : List Loc} {cells slots nL : Nat} {Q : State → Prop} {D : XD} {h0 h : TH} {cc : ByteArray} {pc : Nat} {ls : Array Slot} {rest : List Value} (hC : XCx D cc nL RX0 h0 p R s m args meth c) (hX : XSt D s h0 h H locs cells slots) {a : Nat} (hf : hasF (hT h a) 18 = true) (hdg : decode cc pc = .ok (.getfield 262, 3)) (kk : W p l e R s m args below meth c H locs cells slots Q (F0 m (pc + 3) ls (.int (hI h 18 a) :: rest))) : W p l e R s m args below meth c H locs cells slots Q (F0 m pc ls (rv a :: rest)) :=
  X_geti hC hX 18 hf rfl q768 (fun _ h => h) hdg kk
theorem gX_X0_259 {p : Program} {l : Launch} {e : Env} {R : Room} {s : State} {m : MethodId} {args : Array Value} {below : List Frame} {meth : Method} {c : Code} {H : Heap} {locs : List Loc} {cells slots nL : Nat} {Q : State → Prop} {D : XD} {h0 h : TH} {cc : ByteArray} {pc : Nat} {ls : Array Slot} {rest : List Value} (hC : XCx D cc nL RX0 h0 p R s m args meth c) (hX : XSt D s h0 h H locs cells slots) {a : Nat} (hf : hasF (hT h a) 17 = true) (hdg : decode cc pc = .ok (.getfield 259, 3)) (kk : W p l e R s m args below meth c H locs cells slots Q (F0 m (pc + 3) ls (.int (hI h 17 a) :: rest))) : W p l e R s m args below meth c H locs cells slots Q (F0 m pc ls (rv a :: rest)) :=
  X_geti hC hX 17 hf rfl q767 (fun _ h => h) hdg kk
theorem gX_X0_256 {p : Program} {l : Launch} {e : Env} {R : Room} {s : State} {m : MethodId} {args : Array Value} {below : List Frame} {meth : Method} {c : Code} {H : Heap} {locs : List Loc} {cells slots nL : Nat} {Q : State → Prop} {D : XD} {h0 h : TH} {cc : ByteArray} {pc : Nat} {ls : Array Slot} {rest : List Value} (hC : XCx D cc nL RX0 h0 p R s m args meth c) (hX : XSt D s h0 h H locs cells slots) {a : Nat} (hf : hasF (hT h a) 16 = true) (hdg : decode cc pc = .ok (.getfield 256, 3)) (kk : W p l e R s m args below meth c H locs cells slots Q (F0 m (pc + 3) ls (.int (hI h 16 a) :: rest))) : W p l e R s m args below meth c H locs cells slots Q (F0 m pc ls (rv a :: rest)) :=
  X_geti hC hX 16 hf rfl q766 (fun _ h => h) hdg kk
/-! BlindCards.seek -/
def F_X0_seek_b41 (K : Nat → Nat) (x0 : Nat) (x2 : Int32) (h : TH) : Option (Int32 × TH) :=
  if x2 = 0 then
    gd (hasF (hT h x0) 16 = true) <|
    some ((hI h 16 x0), h)
  else
    if x2 = (1 : Int32) then
      gd (hasF (hT h x0) 17 = true) <|
      some ((hI h 17 x0), h)
    else
      gd (hasF (hT h x0) 18 = true) <|
      some ((hI h 18 x0), h)
set_option maxHeartbeats 4000000 in
theorem w_X0_seek_b41 {p : Program} {l : Launch} {e : Env} {s : State} {m : MethodId} {args : Array Value} {below : List Frame} {meth : Method} {c : Code} {D : XD} {h0 : TH} (hC : XCx D cX0_seek 4 RX0 h0 p (xRm 464 10678 h0) s m args meth c) (hr : meth.sig.returnType = some .int) (hnh : c.exceptionTable.isEmpty = true) (hin : meth.name = "seek") {x : (Int32 × TH)} :
    ∀ (x0 : Nat) (x2 : Int32) (h : TH), F_X0_seek_b41 D.2.2.2 x0 x2 h = some x → XJ p l e (xRm 464 10678 h0) s m args below meth c D 4 (.returned (some (.int x.1))) h0 x.2 41 [(0, rv x0), (2, .int x2)] [] h := by
  have hx := hC.1
  have hb := hC.2.1
  intro x0 x2 h hF H locs cells slots ls hX hl
  rw [F_X0_seek_b41] at hF
  refine lv_iload_n hx hb dX0_seek_41 rfl (lv_at hl 1 rfl) ?_
  refine lv_if_ne (tgt := 52) hx hb dX0_seek_42 (by decide) (fun c_1 => ?_) (fun c_1 => ?_)
  · replace hF := it_f hF c_1
    refine lv_iload_n hx hb dX0_seek_52 rfl (lv_at hl 1 rfl) ?_
    refine lv_iconst (v := 1) hx hb dX0_seek_53 (by decide) ?_
    refine lv_icmp_ne (tgt := 64) hx hb dX0_seek_54 (by decide) (fun c_2 => ?_) (fun c_2 => ?_)
    · replace hF := it_f hF c_2
      refine X_aload_n hx hb dX0_seek_64 rfl (lv_at hl 0 rfl) ?_
      obtain ⟨h_3, hF⟩ := gd_ok hF
      refine gX_X0_262 hC hX h_3 dX0_seek_65 ?_
      exact x_reti hC hX hr rfl (rt1 hF) (rt2 hF) dX0_seek_68
    · replace hF := it_t hF c_2
      refine X_aload_n hx hb dX0_seek_57 rfl (lv_at hl 0 rfl) ?_
      obtain ⟨h_4, hF⟩ := gd_ok hF
      refine gX_X0_259 hC hX h_4 dX0_seek_58 ?_
      refine lv_goto (tgt := 68) hx hb dX0_seek_61 (by decide) ?_
      exact x_reti hC hX hr rfl (rt1 hF) (rt2 hF) dX0_seek_68
  · replace hF := it_t hF c_1
    refine X_aload_n hx hb dX0_seek_45 rfl (lv_at hl 0 rfl) ?_
    obtain ⟨h_5, hF⟩ := gd_ok hF
    refine gX_X0_256 hC hX h_5 dX0_seek_46 ?_
    refine lv_goto (tgt := 68) hx hb dX0_seek_49 (by decide) ?_
    exact x_reti hC hX hr rfl (rt1 hF) (rt2 hF) dX0_seek_68
def F_X0_seek_L26 (K : Nat → Nat) : Nat → Nat → Int32 → Int32 → Int32 → TH → Option (Int32 × TH)
  | 0, _, _, _, _, _ => none
  | fu + 1, x0, x1, x2, x3, h =>
    if x1 < x3 then
      some ((-1 : Int32), h)
    else
      bd2 (F_X0_seekFrom K x0 (0 : Int32) x3 (0 : Int32) h) fun r_4 h_3 =>
      if r_4 = 0 then
        lt (x3 + (1 : Int32)) fun x3_6 =>
        F_X0_seek_L26 K fu x0 x1 x2 x3_6 h_3
      else
        F_X0_seek_b41 K x0 x2 h_3
set_option maxHeartbeats 4000000 in
theorem w_X0_seek_L26 {p : Program} {l : Launch} {e : Env} {s : State} {m : MethodId} {args : Array Value} {below : List Frame} {meth : Method} {c : Code} {D : XD} {h0 : TH} (hC : XCx D cX0_seek 4 RX0 h0 p (xRm 464 10678 h0) s m args meth c) (hr : meth.sig.returnType = some .int) (hnh : c.exceptionTable.isEmpty = true) (hin : meth.name = "seek") {x : (Int32 × TH)} :
    ∀ (fu : Nat) (x0 : Nat) (x1 : Int32) (x2 : Int32) (x3 : Int32) (h : TH), F_X0_seek_L26 D.2.2.2 fu x0 x1 x2 x3 h = some x → XJ p l e (xRm 464 10678 h0) s m args below meth c D 4 (.returned (some (.int x.1))) h0 x.2 26 [(0, rv x0), (1, .int x1), (2, .int x2), (3, .int x3)] [] h := by
  have hx := hC.1
  have hb := hC.2.1
  intro fu
  induction fu with
  | zero => intro x0 x1 x2 x3 h hF; exact nm_none hF
  | succ fu ih =>
    intro x0 x1 x2 x3 h hF H locs cells slots ls hX hl
    rw [F_X0_seek_L26] at hF
    refine lv_iload_n hx hb dX0_seek_26 rfl (lv_at hl 3 rfl) ?_
    refine lv_iload_n hx hb dX0_seek_27 rfl (lv_at hl 1 rfl) ?_
    refine lv_icmp_gt (tgt := 75) hx hb dX0_seek_28 (by decide) (fun c_1 => ?_) (fun c_1 => ?_)
    · replace hF := it_t hF c_1
      refine lv_iconst (v := -1) hx hb dX0_seek_75 (by decide) ?_
      exact x_reti hC hX hr rfl (rt1 hF) (rt2 hF) dX0_seek_76
    · replace hF := it_f hF c_1
      refine X_aload_n hx hb dX0_seek_31 rfl (lv_at hl 0 rfl) ?_
      refine lv_iconst (v := 0) hx hb dX0_seek_32 (by decide) ?_
      refine lv_iload_n hx hb dX0_seek_33 rfl (lv_at hl 3 rfl) ?_
      refine lv_iconst (v := 0) hx hb dX0_seek_34 (by decide) ?_
      obtain ⟨r_4, h_3, hc_2, hF⟩ := bd2_ok hF
      refine iX_X0_273 hC hX hc_2 hl.1 (Nat.le_of_ble_eq_true rfl) (Nat.le_of_ble_eq_true rfl) (Nat.le_of_ble_eq_true rfl) dX0_seek_35 (fun H locs cells slots hX => ?_)
      refine lv_if_eq (tgt := 69) hx hb dX0_seek_38 (by decide) (fun c_5 => ?_) (fun c_5 => ?_)
      · replace hF := it_t hF c_5
        obtain ⟨x3_6, ex3_6, hF⟩ := lt_ok hF
        refine lv_iinc (v := x3_6) (lv' := [(3, .int x3_6), (0, rv x0), (1, .int x1), (2, .int x2)]) hx hb dX0_seek_69 hl (k := 3) rfl (by rw [ex3_6]; rfl) (by decide) rfl (fun ls hl => ?_)
        refine lv_goto (tgt := 26) hx hb dX0_seek_72 (by decide) ?_
        exact ih x0 x1 x2 x3_6 h_3 hF H locs cells slots ls hX (lv_sub hl [1, 2, 3, 0] rfl)
      · replace hF := it_f hF c_5
        exact w_X0_seek_b41 hC hr hnh hin x0 x2 h_3 hF H locs cells slots ls hX (lv_sub hl [0, 2] rfl)
def F_X0_seek (K : Nat → Nat) (a0 : Nat) (b0 : Int32) (b1 : Int32) (h : TH) : Option (Int32 × TH) :=
  bd (F_X0_isIn K h b0 (0 : Int32) (3 : Int32)) fun r_2 =>
  if r_2 = 0 then
    some ((-1 : Int32), h)
  else
    bd (F_X0_isIn K h b1 (0 : Int32) (2 : Int32)) fun r_5 =>
    if r_5 = 0 then
      some ((-1 : Int32), h)
    else
      gd (hT h a0 = 1) <|
      bd (F_X0_layStart K a0 h) fun h_9 =>
      F_X0_seek_L26 K MN a0 b0 b1 (0 : Int32) h_9
set_option maxHeartbeats 4000000 in
theorem w_X0_seek {p : Program} {l : Launch} {e : Env} {s : State} {m : MethodId} {args : Array Value} {below : List Frame} {meth : Method} {c : Code} {D : XD} {h0 : TH} (hC : XCx D cX0_seek 4 RX0 h0 p (xRm 464 10678 h0) s m args meth c) (hr : meth.sig.returnType = some .int) (hnh : c.exceptionTable.isEmpty = true) (hin : meth.name = "seek") {x : (Int32 × TH)} :
    ∀ (a0 : Nat) (b0 : Int32) (b1 : Int32) (h : TH), F_X0_seek D.2.2.2 a0 b0 b1 h = some x → XJ p l e (xRm 464 10678 h0) s m args below meth c D 4 (.returned (some (.int x.1))) h0 x.2 0 [(0, rv a0), (1, .int b0), (2, .int b1)] [] h := by
  have hx := hC.1
  have hb := hC.2.1
  intro a0 b0 b1 h hF H locs cells slots ls hX hl
  rw [F_X0_seek] at hF
  refine lv_iload_n hx hb dX0_seek_0 rfl (lv_at hl 1 rfl) ?_
  refine lv_iconst (v := 0) hx hb dX0_seek_1 (by decide) ?_
  refine lv_iconst (v := 3) hx hb dX0_seek_2 (by decide) ?_
  obtain ⟨r_2, hc_1, hF⟩ := bd_ok hF
  refine iX_X0_155 hC hX hc_1 hl.1 (Nat.le_of_ble_eq_true rfl) (Nat.le_of_ble_eq_true rfl) (Nat.le_of_ble_eq_true rfl) dX0_seek_3 (fun H locs cells slots hX => ?_)
  refine lv_if_eq (tgt := 18) hx hb dX0_seek_6 (by decide) (fun c_3 => ?_) (fun c_3 => ?_)
  · replace hF := it_t hF c_3
    refine lv_iconst (v := -1) hx hb dX0_seek_18 (by decide) ?_
    exact x_reti hC hX hr rfl (rt1 hF) (rt2 hF) dX0_seek_19
  · replace hF := it_f hF c_3
    refine lv_iload_n hx hb dX0_seek_9 rfl (lv_at hl 2 rfl) ?_
    refine lv_iconst (v := 0) hx hb dX0_seek_10 (by decide) ?_
    refine lv_iconst (v := 2) hx hb dX0_seek_11 (by decide) ?_
    obtain ⟨r_5, hc_4, hF⟩ := bd_ok hF
    refine iX_X0_155 hC hX hc_4 hl.1 (Nat.le_of_ble_eq_true rfl) (Nat.le_of_ble_eq_true rfl) (Nat.le_of_ble_eq_true rfl) dX0_seek_12 (fun H locs cells slots hX => ?_)
    refine lv_if_ne (tgt := 20) hx hb dX0_seek_15 (by decide) (fun c_6 => ?_) (fun c_6 => ?_)
    · replace hF := it_f hF c_6
      refine X_aload_n hx hb dX0_seek_20 rfl (lv_at hl 0 rfl) ?_
      obtain ⟨h_7, hF⟩ := gd_ok hF
      obtain ⟨h_9, hc_8, hF⟩ := bd_ok hF
      refine iX_X0_277 hC hX h_7 hc_8 hl.1 (Nat.le_of_ble_eq_true rfl) (Nat.le_of_ble_eq_true rfl) (Nat.le_of_ble_eq_true rfl) dX0_seek_21 (fun H locs cells slots hX => ?_)
      refine lv_iconst (v := 0) hx hb dX0_seek_24 (by decide) ?_
      refine lv_istore_n (lv' := [(3, .int (0 : Int32)), (0, rv a0), (1, .int b0), (2, .int b1)]) hx hb dX0_seek_25 rfl hl (by decide) rfl (fun ls hl => ?_)
      exact w_X0_seek_L26 hC hr hnh hin MN a0 b0 b1 (0 : Int32) h_9 hF H locs cells slots ls hX (lv_sub hl [1, 2, 3, 0] rfl)
    · replace hF := it_t hF c_6
      refine lv_iconst (v := -1) hx hb dX0_seek_18 (by decide) ?_
      exact x_reti hC hX hr rfl (rt1 hF) (rt2 hF) dX0_seek_19
theorem m_X0_seek (l : Launch) (D : XD) (a0 : Nat) (b0 : Int32) (b1 : Int32) (h : TH) (x : (Int32 × TH)) (hF : F_X0_seek D.2.2.2 a0 b0 b1 h = some x) : XMt l yX0_seek (ws_ yX0_seek cX0_seek 4 (some .int)) 464 10678 D [rv a0, .int b0, .int b1] h (.returned (some (.int x.1))) x.2 := by
  refine x_met (by decide +kernel) ?_ ?_
  · simp [lg_sl, rv_cat, cat_i, cat_l]
  intro p e s m below meth c hC hr hnh hin ls hl hX
  replace hl : lv_has ls 4 [(0, rv a0), (1, .int b0), (2, .int b1)] := by simpa [lv_args, rv_cat, cat_i, cat_l] using hl
  exact w_X0_seek hC hr hnh hin a0 b0 b1 h hF s.heap [] 0 0 ls hX hl
theorem nX_X0_327 {p : Program} {l : Launch} {e : Env} {R : Room} {s : State} {m : MethodId} {args : Array Value} {below : List Frame} {meth : Method} {c : Code} {H : Heap} {locs : List Loc} {cells slots nL : Nat} {Q : State → Prop} {D : XD} {h0 h : TH} {cc : ByteArray} {pc : Nat} {ls : Array Slot} {rest : List Value} (hC : XCx D cc nL RX0 h0 p R s m args meth c) (hX : XSt D s h0 h H locs cells slots) (hroom : hc h + 1 ≤ XC ∧ hs h + 3 ≤ XS) (hdg : decode cc pc = .ok (.new 327, 3)) (kk : ∀ (H1 : Heap) (cells1 slots1 : Nat), XSt D s h0 (nO h 24 3) H1 locs cells1 slots1 → W p l e R s m args below meth c H1 locs cells1 slots1 Q (F0 m (pc + 3) ls (rv (hz h + 1) :: rest))) : W p l e R s m args below meth c H locs cells slots Q (F0 m pc ls rest) :=
  X_new hC hX 24 ⟨by decide, by decide⟩ rfl q1745 q1746 q168 hroom hdg kk
theorem iX_X0_332 {p : Program} {l : Launch} {e : Env} {R : Room} {s : State} {m : MethodId} {args : Array Value} {below : List Frame} {meth : Method} {c : Code} {H : Heap} {locs : List Loc} {cells slots nL : Nat} {Q : State → Prop} {D : XD} {h0 h : TH} {cc : ByteArray} {pc : Nat} {ls : Array Slot} {rest : List Value} (hC : XCx D cc nL RX0 h0 p R s m args meth c) (hX : XSt D s h0 h H locs cells slots) {a : Nat} {b0 : Int32} {b1 : Int32} {x : TH} (ha : a ≠ 0) (hcF : F_X24_init D.2.2.2 a b0 b1 h = some x) (hl : ls.size = nL) (hW : (rest.map fun v => v.category).sum ≤ 8) (hRf : 1 + 1 ≤ R.frames) (hRl : 52 ≤ R.locals) (hdg : decode cc pc = .ok (.invokespecial 332, 3)) (kk : ∀ (H1 : Heap) (locs1 : List Loc) (cells1 slots1 : Nat), XSt D s h0 x H1 locs1 cells1 slots1 → W p l e R s m args below meth c H1 locs1 cells1 slots1 Q (F0 m (pc + 3) ls (rest))) : W p l e R s m args below meth c H locs cells slots Q (F0 m pc ls (.int b1 :: .int b0 :: rv a :: rest)) := by
  exact X_callI hC hX ha (As := [.int b0, .int b1]) (m_X24_init l D a b0 b1 h _ hcF) (cwI 2 hC.2.2.2.2.1 (lw_meth q1749) rfl rfl rfl (hC.2.2.2.2.1 _ q168) (hC.2.2.2.2.1 _ q1747) (hC.2.2.2.2.1 _ q1748) rfl (by decide +kernel) ⟨Nat.le_trans (Nat.le_of_ble_eq_true rfl) hRf, Nat.le_trans (Nat.le_of_ble_eq_true rfl) hRl⟩) rfl rfl hl hW hdg kk
/-! BlindCards.tell -/
def F_X0_tell (K : Nat → Nat) (a0 : Nat) (b0 : Int32) (h : TH) : Option (Int32 × TH) :=
  gd (hasF (hT h a0) 8 = true) <|
  lt (hR h 8 a0) fun r_2 =>
  gd (hasF (hT h r_2) 57 = true) <|
  if (hI h 57 r_2) = 0 then
    gd (hT h a0 = 1) <|
    bd (F_X0_isPath K h a0 b0) fun r_7 =>
    if r_7 = 0 then
      some ((-1 : Int32), h)
    else
      gd (hasF (hT h a0) 26 = true) <|
      lt (hR h 26 a0) fun r_10 =>
      gd (hT h r_10 = 3) <|
      bd (F_J2_size K h r_10) fun r_13 =>
      if r_13 = (20 : Int32) then
        some ((-1 : Int32), h)
      else
        gd (hasF (hT h a0) 26 = true) <|
        lt (hR h 26 a0) fun r_16 =>
        gd (hc h + 1 ≤ XC ∧ hs h + 3 ≤ XS) <|
        lt (hz h + 1) fun r_18 =>
        lt (nO h 24 3) fun h_19 =>
        gd (hasF (hT h_19 a0) 12 = true) <|
        gd (r_18 ≠ 0) <|
        bd (F_X24_init K r_18 b0 (hI h_19 12 a0) h_19) fun h_23 =>
        gd (hT h_23 r_16 = 3) <|
        bd2 (F_J2_add K r_16 r_18 h_23) fun r_27 h_26 =>
        gd (hasF (hT h_26 a0) 26 = true) <|
        lt (hR h_26 26 a0) fun r_29 =>
        gd (hT h_26 r_29 = 3) <|
        bd (F_J2_size K h_26 r_29) fun r_32 =>
        some ((r_32 - (1 : Int32)), h_26)
  else
    some ((-1 : Int32), h)
set_option maxHeartbeats 4000000 in
theorem w_X0_tell {p : Program} {l : Launch} {e : Env} {s : State} {m : MethodId} {args : Array Value} {below : List Frame} {meth : Method} {c : Code} {D : XD} {h0 : TH} (hC : XCx D cX0_tell 2 RX0 h0 p (xRm 7 191 h0) s m args meth c) (hr : meth.sig.returnType = some .int) (hnh : c.exceptionTable.isEmpty = true) (hin : meth.name = "tell") {x : (Int32 × TH)} :
    ∀ (a0 : Nat) (b0 : Int32) (h : TH), F_X0_tell D.2.2.2 a0 b0 h = some x → XJ p l e (xRm 7 191 h0) s m args below meth c D 2 (.returned (some (.int x.1))) h0 x.2 0 [(0, rv a0), (1, .int b0)] [] h := by
  have hx := hC.1
  have hb := hC.2.1
  intro a0 b0 h hF H locs cells slots ls hX hl
  rw [F_X0_tell] at hF
  refine X_aload_n hx hb dX0_tell_0 rfl (lv_at hl 0 rfl) ?_
  obtain ⟨h_1, hF⟩ := gd_ok hF
  refine gX_X0_57 hC hX h_1 dX0_tell_1 ?_
  refine lv_topr (fun r_2 er_2 => ?_)
  replace hF := lt_at hF er_2
  obtain ⟨h_3, hF⟩ := gd_ok hF
  refine gX_X0_171 hC hX h_3 dX0_tell_4 ?_
  refine lv_if_ne (tgt := 30) hx hb dX0_tell_7 (by decide) (fun c_4 => ?_) (fun c_4 => ?_)
  · replace hF := it_f hF c_4
    refine lv_iconst (v := -1) hx hb dX0_tell_30 (by decide) ?_
    exact x_reti hC hX hr rfl (rt1 hF) (rt2 hF) dX0_tell_31
  · replace hF := it_t hF c_4
    refine X_aload_n hx hb dX0_tell_10 rfl (lv_at hl 0 rfl) ?_
    refine lv_iload_n hx hb dX0_tell_11 rfl (lv_at hl 1 rfl) ?_
    obtain ⟨h_5, hF⟩ := gd_ok hF
    obtain ⟨r_7, hc_6, hF⟩ := bd_ok hF
    refine iX_X0_174 hC hX h_5 hc_6 hl.1 (Nat.le_of_ble_eq_true rfl) (Nat.le_of_ble_eq_true rfl) (Nat.le_of_ble_eq_true rfl) dX0_tell_12 (fun H locs cells slots hX => ?_)
    refine lv_if_eq (tgt := 30) hx hb dX0_tell_15 (by decide) (fun c_8 => ?_) (fun c_8 => ?_)
    · replace hF := it_t hF c_8
      refine lv_iconst (v := -1) hx hb dX0_tell_30 (by decide) ?_
      exact x_reti hC hX hr rfl (rt1 hF) (rt2 hF) dX0_tell_31
    · replace hF := it_f hF c_8
      refine X_aload_n hx hb dX0_tell_18 rfl (lv_at hl 0 rfl) ?_
      obtain ⟨h_9, hF⟩ := gd_ok hF
      refine gX_X0_96 hC hX h_9 dX0_tell_19 ?_
      refine lv_topr (fun r_10 er_10 => ?_)
      replace hF := lt_at hF er_10
      obtain ⟨h_11, hF⟩ := gd_ok hF
      obtain ⟨r_13, hc_12, hF⟩ := bd_ok hF
      refine iX_X0_148 hC hX h_11 hc_12 hl.1 (Nat.le_of_ble_eq_true rfl) (Nat.le_of_ble_eq_true rfl) (Nat.le_of_ble_eq_true rfl) dX0_tell_22 (fun H locs cells slots hX => ?_)
      refine lv_bipush (v := 20) hx hb dX0_tell_25 (by decide) ?_
      refine lv_icmp_ne (tgt := 32) hx hb dX0_tell_27 (by decide) (fun c_14 => ?_) (fun c_14 => ?_)
      · replace hF := it_f hF c_14
        refine X_aload_n hx hb dX0_tell_32 rfl (lv_at hl 0 rfl) ?_
        obtain ⟨h_15, hF⟩ := gd_ok hF
        refine gX_X0_96 hC hX h_15 dX0_tell_33 ?_
        refine lv_topr (fun r_16 er_16 => ?_)
        replace hF := lt_at hF er_16
        obtain ⟨h_17, hF⟩ := gd_ok hF
        refine nX_X0_327 hC hX h_17 dX0_tell_36 (fun H cells slots hX => ?_)
        refine lv_topr (fun r_18 er_18 => ?_)
        replace hF := lt_at hF er_18
        obtain ⟨h_19, eh_19, hF⟩ := lt_ok hF
        rw [← eh_19] at hX
        refine lv_dup hx hb dX0_tell_39 (rv_cat _) ?_
        refine lv_iload_n hx hb dX0_tell_40 rfl (lv_at hl 1 rfl) ?_
        refine X_aload_n hx hb dX0_tell_41 rfl (lv_at hl 0 rfl) ?_
        obtain ⟨h_20, hF⟩ := gd_ok hF
        refine gX_X0_329 hC hX h_20 dX0_tell_42 ?_
        obtain ⟨h_21, hF⟩ := gd_ok hF
        obtain ⟨h_23, hc_22, hF⟩ := bd_ok hF
        refine iX_X0_332 hC hX h_21 hc_22 hl.1 (cat4 (Nat.le_of_ble_eq_true rfl)) (Nat.le_of_ble_eq_true rfl) (Nat.le_of_ble_eq_true rfl) dX0_tell_45 (fun H locs cells slots hX => ?_)
        obtain ⟨h_24, hF⟩ := gd_ok hF
        obtain ⟨r_27, h_26, hc_25, hF⟩ := bd2_ok hF
        refine iX_X0_110 hC hX h_24 hc_25 hl.1 (Nat.le_of_ble_eq_true rfl) (Nat.le_of_ble_eq_true rfl) (Nat.le_of_ble_eq_true rfl) dX0_tell_48 (fun H locs cells slots hX => ?_)
        refine lv_pop hx hb dX0_tell_51 rfl ?_
        refine X_aload_n hx hb dX0_tell_52 rfl (lv_at hl 0 rfl) ?_
        obtain ⟨h_28, hF⟩ := gd_ok hF
        refine gX_X0_96 hC hX h_28 dX0_tell_53 ?_
        refine lv_topr (fun r_29 er_29 => ?_)
        replace hF := lt_at hF er_29
        obtain ⟨h_30, hF⟩ := gd_ok hF
        obtain ⟨r_32, hc_31, hF⟩ := bd_ok hF
        refine iX_X0_148 hC hX h_30 hc_31 hl.1 (Nat.le_of_ble_eq_true rfl) (Nat.le_of_ble_eq_true rfl) (Nat.le_of_ble_eq_true rfl) dX0_tell_56 (fun H locs cells slots hX => ?_)
        refine lv_iconst (v := 1) hx hb dX0_tell_59 (by decide) ?_
        refine lv_isub hx hb dX0_tell_60 ?_
        exact x_reti hC hX hr rfl (rt1 hF) (rt2 hF) dX0_tell_61
      · replace hF := it_t hF c_14
        refine lv_iconst (v := -1) hx hb dX0_tell_30 (by decide) ?_
        exact x_reti hC hX hr rfl (rt1 hF) (rt2 hF) dX0_tell_31
theorem m_X0_tell (l : Launch) (D : XD) (a0 : Nat) (b0 : Int32) (h : TH) (x : (Int32 × TH)) (hF : F_X0_tell D.2.2.2 a0 b0 h = some x) : XMt l yX0_tell (ws_ yX0_tell cX0_tell 2 (some .int)) 7 191 D [rv a0, .int b0] h (.returned (some (.int x.1))) x.2 := by
  refine x_met (by decide +kernel) ?_ ?_
  · simp [lg_sl, rv_cat, cat_i, cat_l]
  intro p e s m below meth c hC hr hnh hin ls hl hX
  replace hl : lv_has ls 2 [(0, rv a0), (1, .int b0)] := by simpa [lv_args, rv_cat, cat_i, cat_l] using hl
  exact w_X0_tell hC hr hnh hin a0 b0 h hF s.heap [] 0 0 ls hX hl
end
