set_option maxRecDepth 100000
noncomputable section
theorem iX_X18_3 {p : Program} {l : Launch} {e : Env} {R : Room} {s : State} {m : MethodId} {args : Array Value} {below : List Frame} {meth : Method} {c : Code} {H : Heap} {locs : List Loc} {cells slots nL : Nat} {Q : State → Prop} {D : XD} {h0 h : TH} {cc : ByteArray} {pc : Nat} {ls : Array Slot} {rest : List Value} (hC : XCx D cc nL RX18 h0 p R s m args meth c) (hX : XSt D s h0 h H locs cells slots) {a : Nat} {x : Unit} (ha : a ≠ 0) (hcF : F_X6_init D.2.2.2 h a = some x) (hl : ls.size = nL) (hW : (rest.map fun v => v.category).sum ≤ 8) (hRf : 1 + 1 ≤ R.frames) (hRl : 50 ≤ R.locals) (hdg : decode cc pc = .ok (.invokespecial 3, 3)) (kk : ∀ (H1 : Heap) (locs1 : List Loc) (cells1 slots1 : Nat), XSt D s h0 h H1 locs1 cells1 slots1 → W p l e R s m args below meth c H1 locs1 cells1 slots1 Q (F0 m (pc + 3) ls (rest))) : W p l e R s m args below meth c H locs cells slots Q (F0 m pc ls (rv a :: rest)) := by
  exact X_callIN hC hX ha (As := []) (m_X6_init l D a h _ hcF) ⟨va_cnB 0 hC.2.2.2.2.1 (lw_meth q1303) rfl rfl rfl (xm17 hC.2.2.2.2.2.2.1) (hC.2.2.2.2.1 _ q140) (by decide +kernel) ⟨Nat.le_trans (Nat.le_of_ble_eq_true rfl) hRf, Nat.le_trans (Nat.le_of_ble_eq_true rfl) hRl⟩, rfl, hC.2.2.2.2.1 _ q1302⟩ rfl rfl hl hW hdg kk
theorem pX_X18_9 {p : Program} {l : Launch} {e : Env} {R : Room} {s : State} {m : MethodId} {args : Array Value} {below : List Frame} {meth : Method} {c : Code} {H : Heap} {locs : List Loc} {cells slots nL : Nat} {Q : State → Prop} {D : XD} {h0 h : TH} {cc : ByteArray} {pc : Nat} {ls : Array Slot} {rest : List Value} (hC : XCx D cc nL RX18 h0 p R s m args meth c) (hX : XSt D s h0 h H locs cells slots) (hinit : meth.name = "<init>") {a : Nat} {v : Nat} (hf : hasF (hT h a) 101 = true) (hw : hT h a ≤ 24) (hsep : (101 = 58 ∨ 101 = 63 ∨ 101 = 66 → hR h 49 a = 0) ∧ (101 = 49 → ∀ g, g = 58 ∨ g = 63 ∨ g = 66 → hasF (hT h a) g = true → hR h g a = v)) (hdg : decode cc pc = .ok (.putfield 9, 3)) (kk : ∀ (H1 : Heap) (locs1 : List Loc), XSt D s h0 (uR h 101 a v) H1 locs1 cells slots → W p l e R s m args below meth c H1 locs1 cells slots Q (F0 m (pc + 3) ls rest)) : W p l e R s m args below meth c H locs cells slots Q (F0 m pc ls (rv v :: rv a :: rest)) :=
  X_putrF hC hX hinit 101 hf hw rfl rfl rfl q1375 hsep hdg kk
/-! BlindCards$Open.<init> -/
def F_X18_init (K : Nat → Nat) (a0 : Nat) (h : TH) : Option TH :=
  gd (a0 ≠ 0) <|
  bd (F_X6_init K h a0) fun u_3 =>
  gd (¬ (8 : Int32) < 0) <|
  gd (Int32.toNatClampNeg (8 : Int32) ≤ 67108864) <|
  gd (hc h + 1 ≤ XC ∧ hs h + Int32.toNatClampNeg (8 : Int32) ≤ XS) <|
  lt (hz h + 1) fun r_7 =>
  lt (nA h 31 (Int32.toNatClampNeg (8 : Int32))) fun h_8 =>
  gd (hasF (hT h_8 a0) 101 = true) <|
  gd (hT h_8 a0 ≤ 24) <|
  lt (uR h_8 101 a0 r_7) fun h_11 =>
  some h_11
set_option maxHeartbeats 4000000 in
theorem w_X18_init {p : Program} {l : Launch} {e : Env} {s : State} {m : MethodId} {args : Array Value} {below : List Frame} {meth : Method} {c : Code} {D : XD} {h0 : TH} (hC : XCx D cX18_init 1 RX18 h0 p (xRm 2 50 h0) s m args meth c) (hr : meth.sig.returnType = none) (hnh : c.exceptionTable.isEmpty = true) (hin : meth.name = "<init>") {x : TH} :
    ∀ (a0 : Nat) (h : TH), F_X18_init D.2.2.2 a0 h = some x → XJ p l e (xRm 2 50 h0) s m args below meth c D 1 (.returned none) h0 x 0 [(0, rv a0)] [] h := by
  have hx := hC.1
  have hb := hC.2.1
  intro a0 h hF H locs cells slots ls hX hl
  rw [F_X18_init] at hF
  refine X_aload_n hx hb dX18_init_0 rfl (lv_at hl 0 rfl) ?_
  obtain ⟨h_1, hF⟩ := gd_ok hF
  obtain ⟨u_3, hc_2, hF⟩ := bd_ok hF
  refine iX_X18_3 hC hX h_1 hc_2 hl.1 (Nat.le_of_ble_eq_true rfl) (Nat.le_of_ble_eq_true rfl) (Nat.le_of_ble_eq_true rfl) dX18_init_1 (fun H locs cells slots hX => ?_)
  refine X_aload_n hx hb dX18_init_4 rfl (lv_at hl 0 rfl) ?_
  refine lv_bipush (v := 8) hx hb dX18_init_5 (by decide) ?_
  obtain ⟨h_4, hF⟩ := gd_ok hF
  obtain ⟨h_5, hF⟩ := gd_ok hF
  obtain ⟨h_6, hF⟩ := gd_ok hF
  refine X_newa hC hX (atype := .int) 31 (Or.inl rfl) rfl q216 h_4 h_5 h_6 dX18_init_7 (fun H cells slots hX => ?_)
  refine lv_topr (fun r_7 er_7 => ?_)
  replace hF := lt_at hF er_7
  obtain ⟨h_8, eh_8, hF⟩ := lt_ok hF
  rw [← eh_8] at hX
  obtain ⟨h_9, hF⟩ := gd_ok hF
  obtain ⟨h_10, hF⟩ := gd_ok hF
  refine pX_X18_9 hC hX hin h_9 h_10 ⟨fun q => absurd q (by decide), fun q => absurd q (by decide)⟩ dX18_init_9 (fun H locs hX => ?_)
  obtain ⟨h_11, eh_11, hF⟩ := lt_ok hF
  rw [← eh_11] at hX
  exact x_retv hC hX hr (Option.some.inj hF) dX18_init_12
theorem m_X18_init (l : Launch) (D : XD) (a0 : Nat) (h : TH) (x : TH) (hF : F_X18_init D.2.2.2 a0 h = some x) : XMt l yX18_init (ws_ yX18_init cX18_init 1 (none)) 2 50 D [rv a0] h (.returned none) x := by
  refine x_met (by decide +kernel) ?_ ?_
  · simp [lg_sl, rv_cat, cat_i, cat_l]
  intro p e s m below meth c hC hr hnh hin ls hl hX
  replace hl : lv_has ls 1 [(0, rv a0)] := by simpa [lv_args, rv_cat, cat_i, cat_l] using hl
  exact w_X18_init hC hr hnh hin a0 h hF s.heap [] 0 0 ls hX hl
theorem nX_X11_296 {p : Program} {l : Launch} {e : Env} {R : Room} {s : State} {m : MethodId} {args : Array Value} {below : List Frame} {meth : Method} {c : Code} {H : Heap} {locs : List Loc} {cells slots nL : Nat} {Q : State → Prop} {D : XD} {h0 h : TH} {cc : ByteArray} {pc : Nat} {ls : Array Slot} {rest : List Value} (hC : XCx D cc nL RX11 h0 p R s m args meth c) (hX : XSt D s h0 h H locs cells slots) (hroom : hc h + 1 ≤ XC ∧ hs h + 3 ≤ XS) (hdg : decode cc pc = .ok (.new 296, 3)) (kk : ∀ (H1 : Heap) (cells1 slots1 : Nat), XSt D s h0 (nO h 18 3) H1 locs cells1 slots1 → W p l e R s m args below meth c H1 locs cells1 slots1 Q (F0 m (pc + 3) ls (rv (hz h + 1) :: rest))) : W p l e R s m args below meth c H locs cells slots Q (F0 m pc ls rest) :=
  X_new hC hX 18 ⟨by decide, by decide⟩ rfl q1369 q1370 q162 hroom hdg kk
theorem iX_X11_298 {p : Program} {l : Launch} {e : Env} {R : Room} {s : State} {m : MethodId} {args : Array Value} {below : List Frame} {meth : Method} {c : Code} {H : Heap} {locs : List Loc} {cells slots nL : Nat} {Q : State → Prop} {D : XD} {h0 h : TH} {cc : ByteArray} {pc : Nat} {ls : Array Slot} {rest : List Value} (hC : XCx D cc nL RX11 h0 p R s m args meth c) (hX : XSt D s h0 h H locs cells slots) {a : Nat} {x : TH} (ha : a ≠ 0) (hcF : F_X18_init D.2.2.2 a h = some x) (hl : ls.size = nL) (hW : (rest.map fun v => v.category).sum ≤ 8) (hRf : 2 + 1 ≤ R.frames) (hRl : 70 ≤ R.locals) (hdg : decode cc pc = .ok (.invokespecial 298, 3)) (kk : ∀ (H1 : Heap) (locs1 : List Loc) (cells1 slots1 : Nat), XSt D s h0 x H1 locs1 cells1 slots1 → W p l e R s m args below meth c H1 locs1 cells1 slots1 Q (F0 m (pc + 3) ls (rest))) : W p l e R s m args below meth c H locs cells slots Q (F0 m pc ls (rv a :: rest)) := by
  exact X_callIN hC hX ha (As := []) (m_X18_init l D a h _ hcF) ⟨va_cnB 0 hC.2.2.2.2.1 (lw_meth q1373) rfl rfl rfl (xm16 hC.2.2.2.2.2.2.1) (hC.2.2.2.2.1 _ q162) (by decide +kernel) ⟨Nat.le_trans (Nat.le_of_ble_eq_true rfl) hRf, Nat.le_trans (Nat.le_of_ble_eq_true rfl) hRl⟩, rfl, hC.2.2.2.2.1 _ q1372⟩ rfl rfl hl hW hdg kk
theorem gX_X11_299 {p : Program} {l : Launch} {e : Env} {R : Room} {s : State} {m : MethodId} {args : Array Value} {below : List Frame} {meth : Method} {c : Code} {H : Heap} {locs : List Loc} {cells slots nL : Nat} {Q : State → Prop} {D : XD} {h0 h : TH} {cc : ByteArray} {pc : Nat} {ls : Array Slot} {rest : List Value} (hC : XCx D cc nL RX11 h0 p R s m args meth c) (hX : XSt D s h0 h H locs cells slots) {a : Nat} (hf : hasF (hT h a) 102 = true) (hdg : decode cc pc = .ok (.getfield 299, 3)) (kk : W p l e R s m args below meth c H locs cells slots Q (F0 m (pc + 3) ls (.int (hI h 102 a) :: rest))) : W p l e R s m args below meth c H locs cells slots Q (F0 m pc ls (rv a :: rest)) :=
  X_geti hC hX 102 hf rfl q1381 (fun _ h => h) hdg kk
theorem gX_X11_302 {p : Program} {l : Launch} {e : Env} {R : Room} {s : State} {m : MethodId} {args : Array Value} {below : List Frame} {meth : Method} {c : Code} {H : Heap} {locs : List Loc} {cells slots nL : Nat} {Q : State → Prop} {D : XD} {h0 h : TH} {cc : ByteArray} {pc : Nat} {ls : Array Slot} {rest : List Value} (hC : XCx D cc nL RX11 h0 p R s m args meth c) (hX : XSt D s h0 h H locs cells slots) {a : Nat} (hf : hasF (hT h a) 101 = true) (hdg : decode cc pc = .ok (.getfield 302, 3)) (kk : W p l e R s m args below meth c H locs cells slots Q (F0 m (pc + 3) ls (rv (hR h 101 a) :: rest))) : W p l e R s m args below meth c H locs cells slots Q (F0 m pc ls (rv a :: rest)) :=
  X_getr hC hX 101 hf rfl (fun q => absurd q (by decide)) q1377 (fun _ h => h) hdg kk
theorem gX_X11_305 {p : Program} {l : Launch} {e : Env} {R : Room} {s : State} {m : MethodId} {args : Array Value} {below : List Frame} {meth : Method} {c : Code} {H : Heap} {locs : List Loc} {cells slots nL : Nat} {Q : State → Prop} {D : XD} {h0 h : TH} {cc : ByteArray} {pc : Nat} {ls : Array Slot} {rest : List Value} (hC : XCx D cc nL RX11 h0 p R s m args meth c) (hX : XSt D s h0 h H locs cells slots) {a : Nat} (hf : hasF (hT h a) 103 = true) (hdg : decode cc pc = .ok (.getfield 305, 3)) (kk : W p l e R s m args below meth c H locs cells slots Q (F0 m (pc + 3) ls (.int (hI h 103 a) :: rest))) : W p l e R s m args below meth c H locs cells slots Q (F0 m pc ls (rv a :: rest)) :=
  X_geti hC hX 103 hf rfl q1384 (fun _ h => h) hdg kk
theorem pX_X11_305 {p : Program} {l : Launch} {e : Env} {R : Room} {s : State} {m : MethodId} {args : Array Value} {below : List Frame} {meth : Method} {c : Code} {H : Heap} {locs : List Loc} {cells slots nL : Nat} {Q : State → Prop} {D : XD} {h0 h : TH} {cc : ByteArray} {pc : Nat} {ls : Array Slot} {rest : List Value} (hC : XCx D cc nL RX11 h0 p R s m args meth c) (hX : XSt D s h0 h H locs cells slots) {a : Nat} {v : Int32} (hf : hasF (hT h a) 103 = true) (hw : hT h a ≤ 24) (hdg : decode cc pc = .ok (.putfield 305, 3)) (kk : ∀ (H1 : Heap) (locs1 : List Loc), XSt D s h0 (uI h 103 a v) H1 locs1 cells slots → W p l e R s m args below meth c H1 locs1 cells slots Q (F0 m (pc + 3) ls rest)) : W p l e R s m args below meth c H locs cells slots Q (F0 m pc ls (.int v :: rv a :: rest)) :=
  X_puti hC hX 103 hf hw rfl rfl q1384 (fun _ h => h) ⟨rfl, rfl⟩ hdg kk
theorem pX_X11_299 {p : Program} {l : Launch} {e : Env} {R : Room} {s : State} {m : MethodId} {args : Array Value} {below : List Frame} {meth : Method} {c : Code} {H : Heap} {locs : List Loc} {cells slots nL : Nat} {Q : State → Prop} {D : XD} {h0 h : TH} {cc : ByteArray} {pc : Nat} {ls : Array Slot} {rest : List Value} (hC : XCx D cc nL RX11 h0 p R s m args meth c) (hX : XSt D s h0 h H locs cells slots) {a : Nat} {v : Int32} (hf : hasF (hT h a) 102 = true) (hw : hT h a ≤ 24) (hdg : decode cc pc = .ok (.putfield 299, 3)) (kk : ∀ (H1 : Heap) (locs1 : List Loc), XSt D s h0 (uI h 102 a v) H1 locs1 cells slots → W p l e R s m args below meth c H1 locs1 cells slots Q (F0 m (pc + 3) ls rest)) : W p l e R s m args below meth c H locs cells slots Q (F0 m pc ls (.int v :: rv a :: rest)) :=
  X_puti hC hX 102 hf hw rfl rfl q1381 (fun _ h => h) ⟨rfl, rfl⟩ hdg kk
/-! BlindCards$Reader.open -/
def F_X11_open_b49 (K : Nat → Nat) (x3 : Int32) (h : TH) : Option ((Nat ⊕ Nat) × TH) :=
  gd (hc h + 1 ≤ XC ∧ hs h + 8 ≤ XS) <|
  lt (hz h + 1) fun r_2 =>
  lt (nO h 10 8) fun h_3 =>
  gd (r_2 ≠ 0) <|
  bd (F_X12_init K r_2 (4 : Int32) x3 h_3) fun h_6 =>
  gd (r_2 ≠ 0) <|
  some (.inr r_2, h_6)
set_option maxHeartbeats 4000000 in
theorem w_X11_open_b49 {p : Program} {l : Launch} {e : Env} {s : State} {m : MethodId} {args : Array Value} {below : List Frame} {meth : Method} {c : Code} {D : XD} {h0 : TH} (hC : XCx D cX11_open 5 RX11 h0 p (xRm 9 237 h0) s m args meth c) (hr : meth.sig.returnType = some (.object "BlindCards$Open")) (hnh : c.exceptionTable.isEmpty = true) (hin : meth.name = "open") {x : ((Nat ⊕ Nat) × TH)} :
    ∀ (x3 : Int32) (h : TH), F_X11_open_b49 D.2.2.2 x3 h = some x → XJ p l e (xRm 9 237 h0) s m args below meth c D 5 (ocR x.1) h0 x.2 49 [(3, .int x3)] [] h := by
  have hx := hC.1
  have hb := hC.2.1
  intro x3 h hF H locs cells slots ls hX hl
  rw [F_X11_open_b49] at hF
  obtain ⟨h_1, hF⟩ := gd_ok hF
  refine nX_X11_75 hC hX h_1 dX11_open_49 (fun H cells slots hX => ?_)
  refine lv_topr (fun r_2 er_2 => ?_)
  replace hF := lt_at hF er_2
  obtain ⟨h_3, eh_3, hF⟩ := lt_ok hF
  rw [← eh_3] at hX
  refine lv_dup hx hb dX11_open_52 (rv_cat _) ?_
  refine lv_iconst (v := 4) hx hb dX11_open_53 (by decide) ?_
  refine lv_iload_n hx hb dX11_open_54 rfl (lv_at hl 0 rfl) ?_
  obtain ⟨h_4, hF⟩ := gd_ok hF
  obtain ⟨h_6, hc_5, hF⟩ := bd_ok hF
  refine iX_X11_77 hC hX h_4 hc_5 hl.1 (cat4 (Nat.le_of_ble_eq_true rfl)) (Nat.le_of_ble_eq_true rfl) (Nat.le_of_ble_eq_true rfl) dX11_open_55 (fun H locs cells slots hX => ?_)
  obtain ⟨h_7, hF⟩ := gd_ok hF
  cases hF
  exact x_throw hC hX hnh h_7 rfl rfl dX11_open_58
def F_X11_open_b23 (K : Nat → Nat) (x0 : Nat) (h : TH) : Option ((Nat ⊕ Nat) × TH) :=
  gd (hT h x0 = 7) <|
  bd2 (F_X11_wrong K x0 h) fun r_4 h_3 =>
  gd (r_4 ≠ 0) <|
  some (.inr r_4, h_3)
set_option maxHeartbeats 4000000 in
theorem w_X11_open_b23 {p : Program} {l : Launch} {e : Env} {s : State} {m : MethodId} {args : Array Value} {below : List Frame} {meth : Method} {c : Code} {D : XD} {h0 : TH} (hC : XCx D cX11_open 5 RX11 h0 p (xRm 9 237 h0) s m args meth c) (hr : meth.sig.returnType = some (.object "BlindCards$Open")) (hnh : c.exceptionTable.isEmpty = true) (hin : meth.name = "open") {x : ((Nat ⊕ Nat) × TH)} :
    ∀ (x0 : Nat) (h : TH), F_X11_open_b23 D.2.2.2 x0 h = some x → XJ p l e (xRm 9 237 h0) s m args below meth c D 5 (ocR x.1) h0 x.2 23 [(0, rv x0)] [] h := by
  have hx := hC.1
  have hb := hC.2.1
  intro x0 h hF H locs cells slots ls hX hl
  rw [F_X11_open_b23] at hF
  refine X_aload_n hx hb dX11_open_23 rfl (lv_at hl 0 rfl) ?_
  obtain ⟨h_1, hF⟩ := gd_ok hF
  obtain ⟨r_4, h_3, hc_2, hF⟩ := bd2_ok hF
  refine iX_X11_90 hC hX h_1 hc_2 hl.1 (Nat.le_of_ble_eq_true rfl) (Nat.le_of_ble_eq_true rfl) (Nat.le_of_ble_eq_true rfl) dX11_open_24 (fun H locs cells slots hX => ?_)
  obtain ⟨h_5, hF⟩ := gd_ok hF
  cases hF
  exact x_throw hC hX hnh h_5 rfl rfl dX11_open_27
def F_X11_open_L14 (K : Nat → Nat) : Nat → Nat → Nat → Int32 → TH → Option ((Nat ⊕ Nat) × TH)
  | 0, _, _, _, _ => none
  | fu + 1, x0, x1, x2, h =>
    gd (hasF (hT h x1) 102 = true) <|
    if (hI h 102 x1) = (8 : Int32) then
      F_X11_open_b23 K x0 h
    else
      gd (hasF (hT h x0) 69 = true) <|
      lt ((hI h 69 x0)) fun x_4 =>
      gd (hT h x0 = 7) <|
      bt (F_X11_place K x0 h) fun r_7 h_8 =>
      if ((x2 >>> (r_7 &&& 31)) &&& (1 : Int32)) = (1 : Int32) then
        F_X11_open_b49 K x_4 h_8
      else
        lt ((x2 ||| ((1 : Int32) <<< (r_7 &&& 31)))) fun x_11 =>
        gd (hasF (hT h_8 x1) 101 = true) <|
        lt (hR h_8 101 x1) fun r_13 =>
        gd (hasF (hT h_8 x1) 102 = true) <|
        gd (hT h_8 r_13 = 31) <|
        gd (inb (hI h_8 102 x1) (hN h_8 r_13)) <|
        lt (uA h_8 r_13 (Int32.toNatClampNeg (hI h_8 102 x1)) r_7) fun h_17 =>
        gd (hasF (hT h_17 x1) 103 = true) <|
        bd (F_J4_max K h_17 (hI h_17 103 x1) r_7) fun r_20 =>
        gd (hasF (hT h_17 x1) 103 = true) <|
        gd (hT h_17 x1 ≤ 24) <|
        lt (uI h_17 103 x1 r_20) fun h_23 =>
        gd (hasF (hT h_23 x1) 102 = true) <|
        gd (hasF (hT h_23 x1) 102 = true) <|
        gd (hT h_23 x1 ≤ 24) <|
        lt (uI h_23 102 x1 ((hI h_23 102 x1) + (1 : Int32))) fun h_27 =>
        gd (hasF (hT h_27 x0) 68 = true) <|
        if (hI h_27 68 x0) = (2 : Int32) then
          F_X11_open_L14 K fu x0 x1 x_11 h_27
        else
          some (.inl x1, h_27)
set_option maxHeartbeats 4000000 in
theorem w_X11_open_L14 {p : Program} {l : Launch} {e : Env} {s : State} {m : MethodId} {args : Array Value} {below : List Frame} {meth : Method} {c : Code} {D : XD} {h0 : TH} (hC : XCx D cX11_open 5 RX11 h0 p (xRm 9 237 h0) s m args meth c) (hr : meth.sig.returnType = some (.object "BlindCards$Open")) (hnh : c.exceptionTable.isEmpty = true) (hin : meth.name = "open") {x : ((Nat ⊕ Nat) × TH)} :
    ∀ (fu : Nat) (x0 : Nat) (x1 : Nat) (x2 : Int32) (h : TH), F_X11_open_L14 D.2.2.2 fu x0 x1 x2 h = some x → XJ p l e (xRm 9 237 h0) s m args below meth c D 5 (ocR x.1) h0 x.2 14 [(0, rv x0), (1, rv x1), (2, .int x2)] [] h := by
  have hx := hC.1
  have hb := hC.2.1
  intro fu
  induction fu with
  | zero => intro x0 x1 x2 h hF; exact nm_none hF
  | succ fu ih =>
    intro x0 x1 x2 h hF H locs cells slots ls hX hl
    rw [F_X11_open_L14] at hF
    refine X_aload_n hx hb dX11_open_14 rfl (lv_at hl 1 rfl) ?_
    obtain ⟨h_1, hF⟩ := gd_ok hF
    refine gX_X11_299 hC hX h_1 dX11_open_15 ?_
    refine lv_bipush (v := 8) hx hb dX11_open_18 (by decide) ?_
    refine lv_icmp_ne (tgt := 28) hx hb dX11_open_20 (by decide) (fun c_2 => ?_) (fun c_2 => ?_)
    · replace hF := it_f hF c_2
      refine X_aload_n hx hb dX11_open_28 rfl (lv_at hl 0 rfl) ?_
      obtain ⟨h_3, hF⟩ := gd_ok hF
      refine gX_X11_43 hC hX h_3 dX11_open_29 ?_
      refine lv_topi (fun x_4 ex_4 => ?_)
      replace hF := lt_at hF ex_4
      refine lv_istore_n (lv' := [(3, .int x_4), (0, rv x0), (1, rv x1), (2, .int x2)]) hx hb dX11_open_32 rfl hl (by decide) rfl (fun ls hl => ?_)
      refine X_aload_n hx hb dX11_open_33 rfl (lv_at hl 1 rfl) ?_
      obtain ⟨h_5, hF⟩ := gd_ok hF
      rcases bt_ok hF with ⟨r_7, h_8, hc_6, hF⟩ | ⟨z_9, h_8, hc_6, hxx⟩
      rotate_left
      · subst hxx
        exact iX_X11_271_t hC hX hnh h_5 hc_6 hl.1 (Nat.le_of_ble_eq_true rfl) (Nat.le_of_ble_eq_true rfl) (Nat.le_of_ble_eq_true rfl) dX11_open_34
      refine iX_X11_271 hC hX h_5 hc_6 hl.1 (Nat.le_of_ble_eq_true rfl) (Nat.le_of_ble_eq_true rfl) (Nat.le_of_ble_eq_true rfl) dX11_open_34 (fun H locs cells slots hX => ?_)
      refine lv_istore (lv' := [(4, .int r_7), (3, .int x_4), (0, rv x0), (1, rv x1), (2, .int x2)]) hx hb dX11_open_37 hl (by decide) rfl (fun ls hl => ?_)
      refine lv_iload_n hx hb dX11_open_39 rfl (lv_at hl 4 rfl) ?_
      refine lv_iload hx hb dX11_open_40 (lv_at hl 0 rfl) ?_
      refine lv_ishr hx hb dX11_open_42 ?_
      refine lv_iconst (v := 1) hx hb dX11_open_43 (by decide) ?_
      refine lv_iand hx hb dX11_open_44 ?_
      refine lv_iconst (v := 1) hx hb dX11_open_45 (by decide) ?_
      refine lv_icmp_ne (tgt := 59) hx hb dX11_open_46 (by decide) (fun c_10 => ?_) (fun c_10 => ?_)
      · replace hF := it_f hF c_10
        refine lv_iload_n hx hb dX11_open_59 rfl (lv_at hl 4 rfl) ?_
        refine lv_iconst (v := 1) hx hb dX11_open_60 (by decide) ?_
        refine lv_iload hx hb dX11_open_61 (lv_at hl 0 rfl) ?_
        refine lv_ishl hx hb dX11_open_63 ?_
        refine lv_ior hx hb dX11_open_64 ?_
        refine lv_topi (fun x_11 ex_11 => ?_)
        replace hF := lt_at hF ex_11
        refine lv_istore_n (i := 2) hx hb dX11_open_65 rfl hl (by decide) rfl (fun ls hl => ?_)
        replace hl : lv_has ls 5 [(2, .int x_11), (4, .int r_7), (3, .int x_4), (0, rv x0), (1, rv x1)] := lv_subS hl (List.forall_mem_cons.mpr ⟨Or.inl rfl, (List.forall_mem_cons.mpr ⟨Or.inr ⟨List.mem_of_getElem? (i := 0) rfl, rfl⟩, (List.forall_mem_cons.mpr ⟨Or.inr ⟨List.mem_of_getElem? (i := 1) rfl, rfl⟩, (List.forall_mem_cons.mpr ⟨Or.inr ⟨List.mem_of_getElem? (i := 2) rfl, rfl⟩, (List.forall_mem_cons.mpr ⟨Or.inr ⟨List.mem_of_getElem? (i := 3) rfl, by simp [rv_cat]⟩, (fun _ h => nomatch h)⟩)⟩)⟩)⟩)⟩)
        refine X_aload_n hx hb dX11_open_66 rfl (lv_at hl 4 rfl) ?_
        obtain ⟨h_12, hF⟩ := gd_ok hF
        refine gX_X11_302 hC hX h_12 dX11_open_67 ?_
        refine lv_topr (fun r_13 er_13 => ?_)
        replace hF := lt_at hF er_13
        refine X_aload_n hx hb dX11_open_70 rfl (lv_at hl 4 rfl) ?_
        obtain ⟨h_14, hF⟩ := gd_ok hF
        refine gX_X11_299 hC hX h_14 dX11_open_71 ?_
        refine lv_iload hx hb dX11_open_74 (lv_at hl 1 rfl) ?_
        obtain ⟨h_15, hF⟩ := gd_ok hF
        obtain ⟨h_16, hF⟩ := gd_ok hF
        refine X_iast hC hX h_15 h_16 dX11_open_76 (fun H locs hX => ?_)
        obtain ⟨h_17, eh_17, hF⟩ := lt_ok hF
        rw [← eh_17] at hX
        refine X_aload_n hx hb dX11_open_77 rfl (lv_at hl 4 rfl) ?_
        refine X_aload_n hx hb dX11_open_78 rfl (lv_at hl 4 rfl) ?_
        obtain ⟨h_18, hF⟩ := gd_ok hF
        refine gX_X11_305 hC hX h_18 dX11_open_79 ?_
        refine lv_iload hx hb dX11_open_82 (lv_at hl 1 rfl) ?_
        obtain ⟨r_20, hc_19, hF⟩ := bd_ok hF
        refine iX_X11_286 hC hX hc_19 hl.1 (cat4 (Nat.le_of_ble_eq_true rfl)) (Nat.le_of_ble_eq_true rfl) (Nat.le_of_ble_eq_true rfl) dX11_open_84 (fun H locs cells slots hX => ?_)
        obtain ⟨h_21, hF⟩ := gd_ok hF
        obtain ⟨h_22, hF⟩ := gd_ok hF
        refine pX_X11_305 hC hX h_21 h_22 dX11_open_87 (fun H locs hX => ?_)
        obtain ⟨h_23, eh_23, hF⟩ := lt_ok hF
        rw [← eh_23] at hX
        refine X_aload_n hx hb dX11_open_90 rfl (lv_at hl 4 rfl) ?_
        refine lv_dup hx hb dX11_open_91 (rv_cat _) ?_
        obtain ⟨h_24, hF⟩ := gd_ok hF
        refine gX_X11_299 hC hX h_24 dX11_open_92 ?_
        refine lv_iconst (v := 1) hx hb dX11_open_95 (by decide) ?_
        refine lv_iadd hx hb dX11_open_96 ?_
        obtain ⟨h_25, hF⟩ := gd_ok hF
        obtain ⟨h_26, hF⟩ := gd_ok hF
        refine pX_X11_299 hC hX h_25 h_26 dX11_open_97 (fun H locs hX => ?_)
        obtain ⟨h_27, eh_27, hF⟩ := lt_ok hF
        rw [← eh_27] at hX
        refine X_aload_n hx hb dX11_open_100 rfl (lv_at hl 3 rfl) ?_
        obtain ⟨h_28, hF⟩ := gd_ok hF
        refine gX_X11_46 hC hX h_28 dX11_open_101 ?_
        refine lv_iconst (v := 2) hx hb dX11_open_104 (by decide) ?_
        refine lv_icmp_eq (tgt := 14) hx hb dX11_open_105 (by decide) (fun c_29 => ?_) (fun c_29 => ?_)
        · replace hF := it_t hF c_29
          exact ih x0 x1 x_11 h_27 hF H locs cells slots ls hX (lv_sub hl [3, 4, 0] rfl)
        · replace hF := it_f hF c_29
          refine X_aload_n hx hb dX11_open_108 rfl (lv_at hl 4 rfl) ?_
          cases hF
          exact x_reta hC hX hr (Or.inl ⟨_, rfl⟩) rfl rfl dX11_open_109
      · replace hF := it_t hF c_10
        exact w_X11_open_b49 hC hr hnh hin x_4 h_8 hF H locs cells slots ls hX (lv_sub hl [1] rfl)
    · replace hF := it_t hF c_2
      exact w_X11_open_b23 hC hr hnh hin x0 h hF H locs cells slots ls hX (lv_sub hl [0] rfl)
def F_X11_open (K : Nat → Nat) (a0 : Nat) (h : TH) : Option ((Nat ⊕ Nat) × TH) :=
  gd (hT h a0 = 7) <|
  bd (F_X11_go K a0 h) fun h_3 =>
  gd (hc h_3 + 1 ≤ XC ∧ hs h_3 + 3 ≤ XS) <|
  lt (hz h_3 + 1) fun r_5 =>
  lt (nO h_3 18 3) fun h_6 =>
  gd (r_5 ≠ 0) <|
  bd (F_X18_init K r_5 h_6) fun h_9 =>
  F_X11_open_L14 K MN a0 r_5 (0 : Int32) h_9
set_option maxHeartbeats 4000000 in
theorem w_X11_open {p : Program} {l : Launch} {e : Env} {s : State} {m : MethodId} {args : Array Value} {below : List Frame} {meth : Method} {c : Code} {D : XD} {h0 : TH} (hC : XCx D cX11_open 5 RX11 h0 p (xRm 9 237 h0) s m args meth c) (hr : meth.sig.returnType = some (.object "BlindCards$Open")) (hnh : c.exceptionTable.isEmpty = true) (hin : meth.name = "open") {x : ((Nat ⊕ Nat) × TH)} :
    ∀ (a0 : Nat) (h : TH), F_X11_open D.2.2.2 a0 h = some x → XJ p l e (xRm 9 237 h0) s m args below meth c D 5 (ocR x.1) h0 x.2 0 [(0, rv a0)] [] h := by
  have hx := hC.1
  have hb := hC.2.1
  intro a0 h hF H locs cells slots ls hX hl
  rw [F_X11_open] at hF
  refine X_aload_n hx hb dX11_open_0 rfl (lv_at hl 0 rfl) ?_
  obtain ⟨h_1, hF⟩ := gd_ok hF
  obtain ⟨h_3, hc_2, hF⟩ := bd_ok hF
  refine iX_X11_94 hC hX h_1 hc_2 hl.1 (Nat.le_of_ble_eq_true rfl) (Nat.le_of_ble_eq_true rfl) (Nat.le_of_ble_eq_true rfl) dX11_open_1 (fun H locs cells slots hX => ?_)
  obtain ⟨h_4, hF⟩ := gd_ok hF
  refine nX_X11_296 hC hX h_4 dX11_open_4 (fun H cells slots hX => ?_)
  refine lv_topr (fun r_5 er_5 => ?_)
  replace hF := lt_at hF er_5
  obtain ⟨h_6, eh_6, hF⟩ := lt_ok hF
  rw [← eh_6] at hX
  refine lv_dup hx hb dX11_open_7 (rv_cat _) ?_
  obtain ⟨h_7, hF⟩ := gd_ok hF
  obtain ⟨h_9, hc_8, hF⟩ := bd_ok hF
  refine iX_X11_298 hC hX h_7 hc_8 hl.1 (cat4 (Nat.le_of_ble_eq_true rfl)) (Nat.le_of_ble_eq_true rfl) (Nat.le_of_ble_eq_true rfl) dX11_open_8 (fun H locs cells slots hX => ?_)
  refine X_astore_n (i := 1) hx hb dX11_open_11 rfl hl (by decide) rfl (fun ls hl => ?_)
  replace hl : lv_has ls 5 [(1, rv r_5), (0, rv a0)] := lv_subS hl (List.forall_mem_cons.mpr ⟨Or.inl rfl, (List.forall_mem_cons.mpr ⟨Or.inr ⟨List.mem_of_getElem? (i := 0) rfl, by simp [rv_cat]⟩, (fun _ h => nomatch h)⟩)⟩)
  refine lv_iconst (v := 0) hx hb dX11_open_12 (by decide) ?_
  refine lv_istore_n (i := 2) hx hb dX11_open_13 rfl hl (by decide) rfl (fun ls hl => ?_)
  replace hl : lv_has ls 5 [(2, .int (0 : Int32)), (1, rv r_5), (0, rv a0)] := lv_subS hl (List.forall_mem_cons.mpr ⟨Or.inl rfl, (List.forall_mem_cons.mpr ⟨Or.inr ⟨List.mem_of_getElem? (i := 0) rfl, by simp [rv_cat]⟩, (List.forall_mem_cons.mpr ⟨Or.inr ⟨List.mem_of_getElem? (i := 1) rfl, rfl⟩, (fun _ h => nomatch h)⟩)⟩)⟩)
  exact w_X11_open_L14 hC hr hnh hin MN a0 r_5 (0 : Int32) h_9 hF H locs cells slots ls hX (lv_sub hl [2, 1, 0] rfl)
theorem m_X11_open (l : Launch) (D : XD) (a0 : Nat) (h : TH) (x : ((Nat ⊕ Nat) × TH)) (hF : F_X11_open D.2.2.2 a0 h = some x) : XMt l yX11_open (ws_ yX11_open cX11_open 5 (some (.object "BlindCards$Open"))) 9 237 D [rv a0] h (ocR x.1) x.2 := by
  refine x_met (by decide +kernel) ?_ ?_
  · simp [lg_sl, rv_cat, cat_i, cat_l]
  intro p e s m below meth c hC hr hnh hin ls hl hX
  replace hl : lv_has ls 5 [(0, rv a0)] := by simpa [lv_args, rv_cat, cat_i, cat_l] using hl
  exact w_X11_open hC hr hnh hin a0 h hF s.heap [] 0 0 ls hX hl
theorem iX_X20_3 {p : Program} {l : Launch} {e : Env} {R : Room} {s : State} {m : MethodId} {args : Array Value} {below : List Frame} {meth : Method} {c : Code} {H : Heap} {locs : List Loc} {cells slots nL : Nat} {Q : State → Prop} {D : XD} {h0 h : TH} {cc : ByteArray} {pc : Nat} {ls : Array Slot} {rest : List Value} (hC : XCx D cc nL RX20 h0 p R s m args meth c) (hX : XSt D s h0 h H locs cells slots) {a : Nat} {x : Unit} (ha : a ≠ 0) (hcF : F_X6_init D.2.2.2 h a = some x) (hl : ls.size = nL) (hW : (rest.map fun v => v.category).sum ≤ 8) (hRf : 1 + 1 ≤ R.frames) (hRl : 50 ≤ R.locals) (hdg : decode cc pc = .ok (.invokespecial 3, 3)) (kk : ∀ (H1 : Heap) (locs1 : List Loc) (cells1 slots1 : Nat), XSt D s h0 h H1 locs1 cells1 slots1 → W p l e R s m args below meth c H1 locs1 cells1 slots1 Q (F0 m (pc + 3) ls (rest))) : W p l e R s m args below meth c H locs cells slots Q (F0 m pc ls (rv a :: rest)) := by
  exact X_callIN hC hX ha (As := []) (m_X6_init l D a h _ hcF) ⟨va_cnB 0 hC.2.2.2.2.1 (lw_meth q1303) rfl rfl rfl (xm19 hC.2.2.2.2.2.2.1) (hC.2.2.2.2.1 _ q140) (by decide +kernel) ⟨Nat.le_trans (Nat.le_of_ble_eq_true rfl) hRf, Nat.le_trans (Nat.le_of_ble_eq_true rfl) hRl⟩, rfl, hC.2.2.2.2.1 _ q1302⟩ rfl rfl hl hW hdg kk
theorem pX_X20_9 {p : Program} {l : Launch} {e : Env} {R : Room} {s : State} {m : MethodId} {args : Array Value} {below : List Frame} {meth : Method} {c : Code} {H : Heap} {locs : List Loc} {cells slots nL : Nat} {Q : State → Prop} {D : XD} {h0 h : TH} {cc : ByteArray} {pc : Nat} {ls : Array Slot} {rest : List Value} (hC : XCx D cc nL RX20 h0 p R s m args meth c) (hX : XSt D s h0 h H locs cells slots) {a : Nat} {v : Int32} (hf : hasF (hT h a) 110 = true) (hw : hT h a ≤ 24) (hdg : decode cc pc = .ok (.putfield 9, 3)) (kk : ∀ (H1 : Heap) (locs1 : List Loc), XSt D s h0 (uI h 110 a v) H1 locs1 cells slots → W p l e R s m args below meth c H1 locs1 cells slots Q (F0 m (pc + 3) ls rest)) : W p l e R s m args below meth c H locs cells slots Q (F0 m pc ls (.int v :: rv a :: rest)) :=
  X_puti hC hX 110 hf hw rfl rfl q1515 (fun _ h => h) ⟨rfl, rfl⟩ hdg kk
theorem pX_X20_15 {p : Program} {l : Launch} {e : Env} {R : Room} {s : State} {m : MethodId} {args : Array Value} {below : List Frame} {meth : Method} {c : Code} {H : Heap} {locs : List Loc} {cells slots nL : Nat} {Q : State → Prop} {D : XD} {h0 h : TH} {cc : ByteArray} {pc : Nat} {ls : Array Slot} {rest : List Value} (hC : XCx D cc nL RX20 h0 p R s m args meth c) (hX : XSt D s h0 h H locs cells slots) (hinit : meth.name = "<init>") {a : Nat} {v : Int32} (hf : hasF (hT h a) 106 = true) (hw : hT h a ≤ 24) (hdg : decode cc pc = .ok (.putfield 15, 3)) (kk : ∀ (H1 : Heap) (locs1 : List Loc), XSt D s h0 (uI h 106 a v) H1 locs1 cells slots → W p l e R s m args below meth c H1 locs1 cells slots Q (F0 m (pc + 3) ls rest)) : W p l e R s m args below meth c H locs cells slots Q (F0 m pc ls (.int v :: rv a :: rest)) :=
  X_putiF hC hX hinit 106 hf hw rfl rfl rfl q1505 ⟨rfl, rfl⟩ hdg kk
theorem pX_X20_18 {p : Program} {l : Launch} {e : Env} {R : Room} {s : State} {m : MethodId} {args : Array Value} {below : List Frame} {meth : Method} {c : Code} {H : Heap} {locs : List Loc} {cells slots nL : Nat} {Q : State → Prop} {D : XD} {h0 h : TH} {cc : ByteArray} {pc : Nat} {ls : Array Slot} {rest : List Value} (hC : XCx D cc nL RX20 h0 p R s m args meth c) (hX : XSt D s h0 h H locs cells slots) (hinit : meth.name = "<init>") {a : Nat} {v : Int32} (hf : hasF (hT h a) 107 = true) (hw : hT h a ≤ 24) (hg : v = 0 ∨ v = 1) (hdg : decode cc pc = .ok (.putfield 18, 3)) (kk : ∀ (H1 : Heap) (locs1 : List Loc), XSt D s h0 (uI h 107 a v) H1 locs1 cells slots → W p l e R s m args below meth c H1 locs1 cells slots Q (F0 m (pc + 3) ls rest)) : W p l e R s m args below meth c H locs cells slots Q (F0 m pc ls (.int v :: rv a :: rest)) :=
  X_putiF hC hX hinit 107 hf hw rfl rfl rfl q1508 (zb_nar hg) hdg kk
theorem pX_X20_22 {p : Program} {l : Launch} {e : Env} {R : Room} {s : State} {m : MethodId} {args : Array Value} {below : List Frame} {meth : Method} {c : Code} {H : Heap} {locs : List Loc} {cells slots nL : Nat} {Q : State → Prop} {D : XD} {h0 h : TH} {cc : ByteArray} {pc : Nat} {ls : Array Slot} {rest : List Value} (hC : XCx D cc nL RX20 h0 p R s m args meth c) (hX : XSt D s h0 h H locs cells slots) (hinit : meth.name = "<init>") {a : Nat} {v : Nat} (hf : hasF (hT h a) 108 = true) (hw : hT h a ≤ 24) (hsep : (108 = 58 ∨ 108 = 63 ∨ 108 = 66 → hR h 49 a = 0) ∧ (108 = 49 → ∀ g, g = 58 ∨ g = 63 ∨ g = 66 → hasF (hT h a) g = true → hR h g a = v)) (hdg : decode cc pc = .ok (.putfield 22, 3)) (kk : ∀ (H1 : Heap) (locs1 : List Loc), XSt D s h0 (uR h 108 a v) H1 locs1 cells slots → W p l e R s m args below meth c H1 locs1 cells slots Q (F0 m (pc + 3) ls rest)) : W p l e R s m args below meth c H locs cells slots Q (F0 m pc ls (rv v :: rv a :: rest)) :=
  X_putrF hC hX hinit 108 hf hw rfl rfl rfl q1511 hsep hdg kk
theorem pX_X20_26 {p : Program} {l : Launch} {e : Env} {R : Room} {s : State} {m : MethodId} {args : Array Value} {below : List Frame} {meth : Method} {c : Code} {H : Heap} {locs : List Loc} {cells slots nL : Nat} {Q : State → Prop} {D : XD} {h0 h : TH} {cc : ByteArray} {pc : Nat} {ls : Array Slot} {rest : List Value} (hC : XCx D cc nL RX20 h0 p R s m args meth c) (hX : XSt D s h0 h H locs cells slots) (hinit : meth.name = "<init>") {a : Nat} {v : Int32} (hf : hasF (hT h a) 109 = true) (hw : hT h a ≤ 24) (hdg : decode cc pc = .ok (.putfield 26, 3)) (kk : ∀ (H1 : Heap) (locs1 : List Loc), XSt D s h0 (uI h 109 a v) H1 locs1 cells slots → W p l e R s m args below meth c H1 locs1 cells slots Q (F0 m (pc + 3) ls rest)) : W p l e R s m args below meth c H locs cells slots Q (F0 m pc ls (.int v :: rv a :: rest)) :=
  X_putiF hC hX hinit 109 hf hw rfl rfl rfl q1513 ⟨rfl, rfl⟩ hdg kk
/-! BlindCards$If.<init> -/
def F_X20_init (K : Nat → Nat) (a0 : Nat) (b0 : Int32) (b1 : Int32) (b2 : Nat) (b3 : Int32) (h : TH) : Option TH :=
  gd (a0 ≠ 0) <|
  bd (F_X6_init K h a0) fun u_3 =>
  gd (hasF (hT h a0) 110 = true) <|
  gd (hT h a0 ≤ 24) <|
  lt (uI h 110 a0 (-1 : Int32)) fun h_6 =>
  gd (hasF (hT h_6 a0) 106 = true) <|
  gd (hT h_6 a0 ≤ 24) <|
  lt (uI h_6 106 a0 b0) fun h_9 =>
  gd (hasF (hT h_9 a0) 107 = true) <|
  gd (hT h_9 a0 ≤ 24) <|
  gd (b1 = 0 ∨ b1 = 1) <|
  lt (uI h_9 107 a0 b1) fun h_13 =>
  gd (hasF (hT h_13 a0) 108 = true) <|
  gd (hT h_13 a0 ≤ 24) <|
  lt (uR h_13 108 a0 b2) fun h_16 =>
  gd (hasF (hT h_16 a0) 109 = true) <|
  gd (hT h_16 a0 ≤ 24) <|
  lt (uI h_16 109 a0 b3) fun h_19 =>
  some h_19
set_option maxHeartbeats 4000000 in
theorem w_X20_init {p : Program} {l : Launch} {e : Env} {s : State} {m : MethodId} {args : Array Value} {below : List Frame} {meth : Method} {c : Code} {D : XD} {h0 : TH} (hC : XCx D cX20_init 5 RX20 h0 p (xRm 2 50 h0) s m args meth c) (hr : meth.sig.returnType = none) (hnh : c.exceptionTable.isEmpty = true) (hin : meth.name = "<init>") {x : TH} :
    ∀ (a0 : Nat) (b0 : Int32) (b1 : Int32) (b2 : Nat) (b3 : Int32) (h : TH), F_X20_init D.2.2.2 a0 b0 b1 b2 b3 h = some x → XJ p l e (xRm 2 50 h0) s m args below meth c D 5 (.returned none) h0 x 0 [(0, rv a0), (1, .int b0), (2, .int b1), (3, rv b2), (4, .int b3)] [] h := by
  have hx := hC.1
  have hb := hC.2.1
  intro a0 b0 b1 b2 b3 h hF H locs cells slots ls hX hl
  rw [F_X20_init] at hF
  refine X_aload_n hx hb dX20_init_0 rfl (lv_at hl 0 rfl) ?_
  obtain ⟨h_1, hF⟩ := gd_ok hF
  obtain ⟨u_3, hc_2, hF⟩ := bd_ok hF
  refine iX_X20_3 hC hX h_1 hc_2 hl.1 (Nat.le_of_ble_eq_true rfl) (Nat.le_of_ble_eq_true rfl) (Nat.le_of_ble_eq_true rfl) dX20_init_1 (fun H locs cells slots hX => ?_)
  refine X_aload_n hx hb dX20_init_4 rfl (lv_at hl 0 rfl) ?_
  refine lv_iconst (v := -1) hx hb dX20_init_5 (by decide) ?_
  obtain ⟨h_4, hF⟩ := gd_ok hF
  obtain ⟨h_5, hF⟩ := gd_ok hF
  refine pX_X20_9 hC hX h_4 h_5 dX20_init_6 (fun H locs hX => ?_)
  obtain ⟨h_6, eh_6, hF⟩ := lt_ok hF
  rw [← eh_6] at hX
  refine X_aload_n hx hb dX20_init_9 rfl (lv_at hl 0 rfl) ?_
  refine lv_iload_n hx hb dX20_init_10 rfl (lv_at hl 1 rfl) ?_
  obtain ⟨h_7, hF⟩ := gd_ok hF
  obtain ⟨h_8, hF⟩ := gd_ok hF
  refine pX_X20_15 hC hX hin h_7 h_8 dX20_init_11 (fun H locs hX => ?_)
  obtain ⟨h_9, eh_9, hF⟩ := lt_ok hF
  rw [← eh_9] at hX
  refine X_aload_n hx hb dX20_init_14 rfl (lv_at hl 0 rfl) ?_
  refine lv_iload_n hx hb dX20_init_15 rfl (lv_at hl 2 rfl) ?_
  obtain ⟨h_10, hF⟩ := gd_ok hF
  obtain ⟨h_11, hF⟩ := gd_ok hF
  obtain ⟨h_12, hF⟩ := gd_ok hF
  refine pX_X20_18 hC hX hin h_10 h_11 h_12 dX20_init_16 (fun H locs hX => ?_)
  obtain ⟨h_13, eh_13, hF⟩ := lt_ok hF
  rw [← eh_13] at hX
  refine X_aload_n hx hb dX20_init_19 rfl (lv_at hl 0 rfl) ?_
  refine X_aload_n hx hb dX20_init_20 rfl (lv_at hl 3 rfl) ?_
  obtain ⟨h_14, hF⟩ := gd_ok hF
  obtain ⟨h_15, hF⟩ := gd_ok hF
  refine pX_X20_22 hC hX hin h_14 h_15 ⟨fun q => absurd q (by decide), fun q => absurd q (by decide)⟩ dX20_init_21 (fun H locs hX => ?_)
  obtain ⟨h_16, eh_16, hF⟩ := lt_ok hF
  rw [← eh_16] at hX
  refine X_aload_n hx hb dX20_init_24 rfl (lv_at hl 0 rfl) ?_
  refine lv_iload hx hb dX20_init_25 (lv_at hl 4 rfl) ?_
  obtain ⟨h_17, hF⟩ := gd_ok hF
  obtain ⟨h_18, hF⟩ := gd_ok hF
  refine pX_X20_26 hC hX hin h_17 h_18 dX20_init_27 (fun H locs hX => ?_)
  obtain ⟨h_19, eh_19, hF⟩ := lt_ok hF
  rw [← eh_19] at hX
  exact x_retv hC hX hr (Option.some.inj hF) dX20_init_30
theorem m_X20_init (l : Launch) (D : XD) (a0 : Nat) (b0 : Int32) (b1 : Int32) (b2 : Nat) (b3 : Int32) (h : TH) (x : TH) (hF : F_X20_init D.2.2.2 a0 b0 b1 b2 b3 h = some x) : XMt l yX20_init (ws_ yX20_init cX20_init 5 (none)) 2 50 D [rv a0, .int b0, .int b1, rv b2, .int b3] h (.returned none) x := by
  refine x_met (by decide +kernel) ?_ ?_
  · simp [lg_sl, rv_cat, cat_i, cat_l]
  intro p e s m below meth c hC hr hnh hin ls hl hX
  replace hl : lv_has ls 5 [(0, rv a0), (1, .int b0), (2, .int b1), (3, rv b2), (4, .int b3)] := by simpa [lv_args, rv_cat, cat_i, cat_l] using hl
  exact w_X20_init hC hr hnh hin a0 b0 b1 b2 b3 h hF s.heap [] 0 0 ls hX hl
/-! java/lang/String.isLatin1 -/
def F_J11_isLatin1 (K : Nat → Nat) (h : TH) (a0 : Nat) : Option Int32 :=
  if (1 : Int32) = 0 then
    some (0 : Int32)
  else
    gd (hasF (hT h a0) 80 = true) <|
    if (hI h 80 a0) = 0 then
      some (1 : Int32)
    else
      some (0 : Int32)
set_option maxHeartbeats 4000000 in
theorem w_J11_isLatin1 {p : Program} {l : Launch} {e : Env} {s : State} {m : MethodId} {args : Array Value} {below : List Frame} {meth : Method} {c : Code} {D : XD} {h : TH} (hC : XCx D cJ11_isLatin1 1 RJ11 h p (xRm 0 0 h) s m args meth c) (hr : meth.sig.returnType = some .boolean) (hnh : c.exceptionTable.isEmpty = true) (hin : meth.name = "isLatin1") {x : Int32} :
    ∀ (a0 : Nat), F_J11_isLatin1 D.2.2.2 h a0 = some x → XJ p l e (xRm 0 0 h) s m args below meth c D 1 (.returned (some (.int x))) h h 0 [(0, rv a0)] [] h := by
  have hx := hC.1
  have hb := hC.2.1
  intro a0 hF H locs cells slots ls hX hl
  rw [F_J11_isLatin1] at hF
  refine sX_J11_38 hC hX dJ11_isLatin1_0 ?_
  refine lv_if_eq (tgt := 17) hx hb dJ11_isLatin1_3 (by decide) (fun c_1 => ?_) (fun c_1 => ?_)
  · replace hF := it_t hF c_1
    refine lv_iconst (v := 0) hx hb dJ11_isLatin1_17 (by decide) ?_
    exact x_reti hC hX hr rfl (Option.some.inj hF) rfl dJ11_isLatin1_18
  · replace hF := it_f hF c_1
    refine X_aload_n hx hb dJ11_isLatin1_6 rfl (lv_at hl 0 rfl) ?_
    obtain ⟨h_2, hF⟩ := gd_ok hF
    refine gX_J11_15 hC hX h_2 dJ11_isLatin1_7 ?_
    refine lv_if_ne (tgt := 17) hx hb dJ11_isLatin1_10 (by decide) (fun c_3 => ?_) (fun c_3 => ?_)
    · replace hF := it_f hF c_3
      refine lv_iconst (v := 0) hx hb dJ11_isLatin1_17 (by decide) ?_
      exact x_reti hC hX hr rfl (Option.some.inj hF) rfl dJ11_isLatin1_18
    · replace hF := it_t hF c_3
      refine lv_iconst (v := 1) hx hb dJ11_isLatin1_13 (by decide) ?_
      refine lv_goto (tgt := 18) hx hb dJ11_isLatin1_14 (by decide) ?_
      exact x_reti hC hX hr rfl (Option.some.inj hF) rfl dJ11_isLatin1_18
theorem m_J11_isLatin1 (l : Launch) (D : XD) (a0 : Nat) (h : TH) (x : Int32) (hF : F_J11_isLatin1 D.2.2.2 h a0 = some x) : XMt l yJ11_isLatin1 (ws_ yJ11_isLatin1 cJ11_isLatin1 1 (some .boolean)) 0 0 D [rv a0] h (.returned (some (.int x))) h := by
  refine x_met (by decide +kernel) ?_ ?_
  · simp [lg_sl, rv_cat, cat_i, cat_l]
  intro p e s m below meth c hC hr hnh hin ls hl hX
  replace hl : lv_has ls 1 [(0, rv a0)] := by simpa [lv_args, rv_cat, cat_i, cat_l] using hl
  exact w_J11_isLatin1 hC hr hnh hin a0 hF s.heap [] 0 0 ls hX hl
/-! jdk/internal/util/ArraysSupport.hashCode -/
def F_J3_hashCode_2_L8 (K : Nat → Nat) (h : TH) : Nat → Int32 → Nat → Int32 → Int32 → Option Int32
  | 0, _, _, _, _ => none
  | fu + 1, x0, x1, x4, x5 =>
    if x4 ≤ x5 then
      some x0
    else
      gd (hT h x1 = 32 ∨ hT h x1 = 42) <|
      gd (inb x5 (hN h x1)) <|
      lt ((((31 : Int32) * x0) + (hA h x1 (Int32.toNatClampNeg x5)))) fun x_4 =>
      lt (x5 + (1 : Int32)) fun x5_5 =>
      F_J3_hashCode_2_L8 K h fu x_4 x1 x4 x5_5
set_option maxHeartbeats 4000000 in
theorem w_J3_hashCode_2_L8 {p : Program} {l : Launch} {e : Env} {s : State} {m : MethodId} {args : Array Value} {below : List Frame} {meth : Method} {c : Code} {D : XD} {h : TH} (hC : XCx D cJ3_hashCode_2 6 RJ3 h p (xRm 0 0 h) s m args meth c) (hr : meth.sig.returnType = some .int) (hnh : c.exceptionTable.isEmpty = true) (hin : meth.name = "hashCode") {x : Int32} :
    ∀ (fu : Nat) (x0 : Int32) (x1 : Nat) (x4 : Int32) (x5 : Int32), F_J3_hashCode_2_L8 D.2.2.2 h fu x0 x1 x4 x5 = some x → XJ p l e (xRm 0 0 h) s m args below meth c D 6 (.returned (some (.int x))) h h 8 [(0, .int x0), (1, rv x1), (4, .int x4), (5, .int x5)] [] h := by
  have hx := hC.1
  have hb := hC.2.1
  intro fu
  induction fu with
  | zero => intro x0 x1 x4 x5 hF; exact nm_none hF
  | succ fu ih =>
    intro x0 x1 x4 x5 hF H locs cells slots ls hX hl
    rw [F_J3_hashCode_2_L8] at hF
    refine lv_iload hx hb dJ3_hashCode_2_8 (lv_at hl 3 rfl) ?_
    refine lv_iload hx hb dJ3_hashCode_2_10 (lv_at hl 2 rfl) ?_
    refine lv_icmp_ge (tgt := 31) hx hb dJ3_hashCode_2_12 (by decide) (fun c_1 => ?_) (fun c_1 => ?_)
    · replace hF := it_t hF c_1
      refine lv_iload_n hx hb dJ3_hashCode_2_31 rfl (lv_at hl 0 rfl) ?_
      exact x_reti hC hX hr rfl (Option.some.inj hF) rfl dJ3_hashCode_2_32
    · replace hF := it_f hF c_1
      refine lv_bipush (v := 31) hx hb dJ3_hashCode_2_15 (by decide) ?_
      refine lv_iload_n hx hb dJ3_hashCode_2_17 rfl (lv_at hl 0 rfl) ?_
      refine lv_imul hx hb dJ3_hashCode_2_18 ?_
      refine X_aload_n hx hb dJ3_hashCode_2_19 rfl (lv_at hl 1 rfl) ?_
      refine lv_iload hx hb dJ3_hashCode_2_20 (lv_at hl 3 rfl) ?_
      obtain ⟨h_2, hF⟩ := gd_ok hF
      obtain ⟨h_3, hF⟩ := gd_ok hF
      refine X_bald hC hX h_2 h_3 dJ3_hashCode_2_22 ?_
      refine lv_iadd hx hb dJ3_hashCode_2_23 ?_
      refine lv_topi (fun x_4 ex_4 => ?_)
      replace hF := lt_at hF ex_4
      refine lv_istore_n (lv' := [(0, .int x_4), (1, rv x1), (4, .int x4), (5, .int x5)]) hx hb dJ3_hashCode_2_24 rfl hl (by decide) rfl (fun ls hl => ?_)
      obtain ⟨x5_5, ex5_5, hF⟩ := lt_ok hF
      refine lv_iinc (v := x5_5) (lv' := [(5, .int x5_5), (0, .int x_4), (1, rv x1), (4, .int x4)]) hx hb dJ3_hashCode_2_25 hl (k := 3) rfl (by rw [ex5_5]; rfl) (by decide) rfl (fun ls hl => ?_)
      refine lv_goto (tgt := 8) hx hb dJ3_hashCode_2_28 (by decide) ?_
      exact ih x_4 x1 x4 x5_5 hF H locs cells slots ls hX (lv_sub hl [1, 2, 3, 0] rfl)
def F_J3_hashCode_2 (K : Nat → Nat) (h : TH) (b0 : Int32) (b1 : Nat) (b2 : Int32) (b3 : Int32) : Option Int32 :=
  lt ((b2 + b3)) fun x_1 =>
  F_J3_hashCode_2_L8 K h MN b0 b1 x_1 b2
set_option maxHeartbeats 4000000 in
theorem w_J3_hashCode_2 {p : Program} {l : Launch} {e : Env} {s : State} {m : MethodId} {args : Array Value} {below : List Frame} {meth : Method} {c : Code} {D : XD} {h : TH} (hC : XCx D cJ3_hashCode_2 6 RJ3 h p (xRm 0 0 h) s m args meth c) (hr : meth.sig.returnType = some .int) (hnh : c.exceptionTable.isEmpty = true) (hin : meth.name = "hashCode") {x : Int32} :
    ∀ (b0 : Int32) (b1 : Nat) (b2 : Int32) (b3 : Int32), F_J3_hashCode_2 D.2.2.2 h b0 b1 b2 b3 = some x → XJ p l e (xRm 0 0 h) s m args below meth c D 6 (.returned (some (.int x))) h h 0 [(0, .int b0), (1, rv b1), (2, .int b2), (3, .int b3)] [] h := by
  have hx := hC.1
  have hb := hC.2.1
  intro b0 b1 b2 b3 hF H locs cells slots ls hX hl
  rw [F_J3_hashCode_2] at hF
  refine lv_iload_n hx hb dJ3_hashCode_2_0 rfl (lv_at hl 2 rfl) ?_
  refine lv_iload_n hx hb dJ3_hashCode_2_1 rfl (lv_at hl 3 rfl) ?_
  refine lv_iadd hx hb dJ3_hashCode_2_2 ?_
  refine lv_topi (fun x_1 ex_1 => ?_)
  replace hF := lt_at hF ex_1
  refine lv_istore (lv' := [(4, .int x_1), (0, .int b0), (1, rv b1), (2, .int b2), (3, .int b3)]) hx hb dJ3_hashCode_2_3 hl (by decide) rfl (fun ls hl => ?_)
  refine lv_iload_n hx hb dJ3_hashCode_2_5 rfl (lv_at hl 3 rfl) ?_
  refine lv_istore (lv' := [(5, .int b2), (4, .int x_1), (0, .int b0), (1, rv b1), (2, .int b2), (3, .int b3)]) hx hb dJ3_hashCode_2_6 hl (by decide) rfl (fun ls hl => ?_)
  exact w_J3_hashCode_2_L8 hC hr hnh hin MN b0 b1 x_1 b2 hF H locs cells slots ls hX (lv_sub hl [2, 3, 1, 0] rfl)
theorem m_J3_hashCode_2 (l : Launch) (D : XD) (b0 : Int32) (b1 : Nat) (b2 : Int32) (b3 : Int32) (h : TH) (x : Int32) (hF : F_J3_hashCode_2 D.2.2.2 h b0 b1 b2 b3 = some x) : XMt l yJ3_hashCode_2 (ws_ yJ3_hashCode_2 cJ3_hashCode_2 6 (some .int)) 0 0 D [.int b0, rv b1, .int b2, .int b3] h (.returned (some (.int x))) h := by
  refine x_met (by decide +kernel) ?_ ?_
  · simp [lg_sl, rv_cat, cat_i, cat_l]
  intro p e s m below meth c hC hr hnh hin ls hl hX
  replace hl : lv_has ls 6 [(0, .int b0), (1, rv b1), (2, .int b2), (3, .int b3)] := by simpa [lv_args, rv_cat, cat_i, cat_l] using hl
  exact w_J3_hashCode_2 hC hr hnh hin b0 b1 b2 b3 hF s.heap [] 0 0 ls hX hl
/-! jdk/internal/util/ArraysSupport.signedHashCode -/
def F_J3_signedHashCode_L8 (K : Nat → Nat) (h : TH) : Nat → Int32 → Nat → Int32 → Int32 → Option Int32
  | 0, _, _, _, _ => none
  | fu + 1, x0, x1, x4, x5 =>
    if x4 ≤ x5 then
      some x0
    else
      gd (hT h x1 = 32 ∨ hT h x1 = 42) <|
      gd (inb x5 (hN h x1)) <|
      lt ((((31 : Int32) * x0) + ((hA h x1 (Int32.toNatClampNeg x5)) &&& (255 : Int32)))) fun x_4 =>
      lt (x5 + (1 : Int32)) fun x5_5 =>
      F_J3_signedHashCode_L8 K h fu x_4 x1 x4 x5_5
set_option maxHeartbeats 4000000 in
theorem w_J3_signedHashCode_L8 {p : Program} {l : Launch} {e : Env} {s : State} {m : MethodId} {args : Array Value} {below : List Frame} {meth : Method} {c : Code} {D : XD} {h : TH} (hC : XCx D cJ3_signedHashCode 6 RJ3 h p (xRm 0 0 h) s m args meth c) (hr : meth.sig.returnType = some .int) (hnh : c.exceptionTable.isEmpty = true) (hin : meth.name = "signedHashCode") {x : Int32} :
    ∀ (fu : Nat) (x0 : Int32) (x1 : Nat) (x4 : Int32) (x5 : Int32), F_J3_signedHashCode_L8 D.2.2.2 h fu x0 x1 x4 x5 = some x → XJ p l e (xRm 0 0 h) s m args below meth c D 6 (.returned (some (.int x))) h h 8 [(0, .int x0), (1, rv x1), (4, .int x4), (5, .int x5)] [] h := by
  have hx := hC.1
  have hb := hC.2.1
  intro fu
  induction fu with
  | zero => intro x0 x1 x4 x5 hF; exact nm_none hF
  | succ fu ih =>
    intro x0 x1 x4 x5 hF H locs cells slots ls hX hl
    rw [F_J3_signedHashCode_L8] at hF
    refine lv_iload hx hb dJ3_signedHashCode_8 (lv_at hl 3 rfl) ?_
    refine lv_iload hx hb dJ3_signedHashCode_10 (lv_at hl 2 rfl) ?_
    refine lv_icmp_ge (tgt := 35) hx hb dJ3_signedHashCode_12 (by decide) (fun c_1 => ?_) (fun c_1 => ?_)
    · replace hF := it_t hF c_1
      refine lv_iload_n hx hb dJ3_signedHashCode_35 rfl (lv_at hl 0 rfl) ?_
      exact x_reti hC hX hr rfl (Option.some.inj hF) rfl dJ3_signedHashCode_36
    · replace hF := it_f hF c_1
      refine lv_bipush (v := 31) hx hb dJ3_signedHashCode_15 (by decide) ?_
      refine lv_iload_n hx hb dJ3_signedHashCode_17 rfl (lv_at hl 0 rfl) ?_
      refine lv_imul hx hb dJ3_signedHashCode_18 ?_
      refine X_aload_n hx hb dJ3_signedHashCode_19 rfl (lv_at hl 1 rfl) ?_
      refine lv_iload hx hb dJ3_signedHashCode_20 (lv_at hl 3 rfl) ?_
      obtain ⟨h_2, hF⟩ := gd_ok hF
      obtain ⟨h_3, hF⟩ := gd_ok hF
      refine X_bald hC hX h_2 h_3 dJ3_signedHashCode_22 ?_
      refine lv_sipush (v := 255) hx hb dJ3_signedHashCode_23 (by decide) ?_
      refine lv_iand hx hb dJ3_signedHashCode_26 ?_
      refine lv_iadd hx hb dJ3_signedHashCode_27 ?_
      refine lv_topi (fun x_4 ex_4 => ?_)
      replace hF := lt_at hF ex_4
      refine lv_istore_n (lv' := [(0, .int x_4), (1, rv x1), (4, .int x4), (5, .int x5)]) hx hb dJ3_signedHashCode_28 rfl hl (by decide) rfl (fun ls hl => ?_)
      obtain ⟨x5_5, ex5_5, hF⟩ := lt_ok hF
      refine lv_iinc (v := x5_5) (lv' := [(5, .int x5_5), (0, .int x_4), (1, rv x1), (4, .int x4)]) hx hb dJ3_signedHashCode_29 hl (k := 3) rfl (by rw [ex5_5]; rfl) (by decide) rfl (fun ls hl => ?_)
      refine lv_goto (tgt := 8) hx hb dJ3_signedHashCode_32 (by decide) ?_
      exact ih x_4 x1 x4 x5_5 hF H locs cells slots ls hX (lv_sub hl [1, 2, 3, 0] rfl)
def F_J3_signedHashCode (K : Nat → Nat) (h : TH) (b0 : Int32) (b1 : Nat) (b2 : Int32) (b3 : Int32) : Option Int32 :=
  lt ((b2 + b3)) fun x_1 =>
  F_J3_signedHashCode_L8 K h MN b0 b1 x_1 b2
set_option maxHeartbeats 4000000 in
theorem w_J3_signedHashCode {p : Program} {l : Launch} {e : Env} {s : State} {m : MethodId} {args : Array Value} {below : List Frame} {meth : Method} {c : Code} {D : XD} {h : TH} (hC : XCx D cJ3_signedHashCode 6 RJ3 h p (xRm 0 0 h) s m args meth c) (hr : meth.sig.returnType = some .int) (hnh : c.exceptionTable.isEmpty = true) (hin : meth.name = "signedHashCode") {x : Int32} :
    ∀ (b0 : Int32) (b1 : Nat) (b2 : Int32) (b3 : Int32), F_J3_signedHashCode D.2.2.2 h b0 b1 b2 b3 = some x → XJ p l e (xRm 0 0 h) s m args below meth c D 6 (.returned (some (.int x))) h h 0 [(0, .int b0), (1, rv b1), (2, .int b2), (3, .int b3)] [] h := by
  have hx := hC.1
  have hb := hC.2.1
  intro b0 b1 b2 b3 hF H locs cells slots ls hX hl
  rw [F_J3_signedHashCode] at hF
  refine lv_iload_n hx hb dJ3_signedHashCode_0 rfl (lv_at hl 2 rfl) ?_
  refine lv_iload_n hx hb dJ3_signedHashCode_1 rfl (lv_at hl 3 rfl) ?_
  refine lv_iadd hx hb dJ3_signedHashCode_2 ?_
  refine lv_topi (fun x_1 ex_1 => ?_)
  replace hF := lt_at hF ex_1
  refine lv_istore (lv' := [(4, .int x_1), (0, .int b0), (1, rv b1), (2, .int b2), (3, .int b3)]) hx hb dJ3_signedHashCode_3 hl (by decide) rfl (fun ls hl => ?_)
  refine lv_iload_n hx hb dJ3_signedHashCode_5 rfl (lv_at hl 3 rfl) ?_
  refine lv_istore (lv' := [(5, .int b2), (4, .int x_1), (0, .int b0), (1, rv b1), (2, .int b2), (3, .int b3)]) hx hb dJ3_signedHashCode_6 hl (by decide) rfl (fun ls hl => ?_)
  exact w_J3_signedHashCode_L8 hC hr hnh hin MN b0 b1 x_1 b2 hF H locs cells slots ls hX (lv_sub hl [2, 3, 1, 0] rfl)
theorem m_J3_signedHashCode (l : Launch) (D : XD) (b0 : Int32) (b1 : Nat) (b2 : Int32) (b3 : Int32) (h : TH) (x : Int32) (hF : F_J3_signedHashCode D.2.2.2 h b0 b1 b2 b3 = some x) : XMt l yJ3_signedHashCode (ws_ yJ3_signedHashCode cJ3_signedHashCode 6 (some .int)) 0 0 D [.int b0, rv b1, .int b2, .int b3] h (.returned (some (.int x))) h := by
  refine x_met (by decide +kernel) ?_ ?_
  · simp [lg_sl, rv_cat, cat_i, cat_l]
  intro p e s m below meth c hC hr hnh hin ls hl hX
  replace hl : lv_has ls 6 [(0, .int b0), (1, rv b1), (2, .int b2), (3, .int b3)] := by simpa [lv_args, rv_cat, cat_i, cat_l] using hl
  exact w_J3_signedHashCode hC hr hnh hin b0 b1 b2 b3 hF s.heap [] 0 0 ls hX hl
theorem iX_J3_62 {p : Program} {l : Launch} {e : Env} {R : Room} {s : State} {m : MethodId} {args : Array Value} {below : List Frame} {meth : Method} {c : Code} {H : Heap} {locs : List Loc} {cells slots nL : Nat} {Q : State → Prop} {D : XD} {h0 h : TH} {cc : ByteArray} {pc : Nat} {ls : Array Slot} {rest : List Value} (hC : XCx D cc nL RJ3 h0 p R s m args meth c) (hX : XSt D s h0 h H locs cells slots) {b0 : Int32} {b1 : Nat} {b2 : Int32} {b3 : Int32} {x : Int32} (hcF : F_J3_signedHashCode D.2.2.2 h b0 b1 b2 b3 = some x) (hl : ls.size = nL) (hW : (rest.map fun v => v.category).sum ≤ 8) (hRf : 0 + 1 ≤ R.frames) (hRl : 25 ≤ R.locals) (hdg : decode cc pc = .ok (.invokestatic 62, 3)) (kk : ∀ (H1 : Heap) (locs1 : List Loc) (cells1 slots1 : Nat), XSt D s h0 h H1 locs1 cells1 slots1 → W p l e R s m args below meth c H1 locs1 cells1 slots1 Q (F0 m (pc + 3) ls (.int x :: rest))) : W p l e R s m args below meth c H locs cells slots Q (F0 m pc ls (.int b3 :: .int b2 :: rv b1 :: .int b0 :: rest)) := by
  exact X_callS hC hX (As := [.int b0, rv b1, .int b2, .int b3]) (m_J3_signedHashCode l D b0 b1 b2 b3 h _ hcF) (va_cwS 4 hC.2.2.2.2.1 (lw_S q1453 q1454 q134 q1455) rfl rfl rfl (by decide +kernel) ⟨Nat.le_trans (Nat.le_of_ble_eq_true rfl) hRf, Nat.le_trans (Nat.le_of_ble_eq_true rfl) hRl⟩) rfl rfl hl hW hdg kk
theorem iX_J3_75 {p : Program} {l : Launch} {e : Env} {R : Room} {s : State} {m : MethodId} {args : Array Value} {below : List Frame} {meth : Method} {c : Code} {H : Heap} {locs : List Loc} {cells slots nL : Nat} {Q : State → Prop} {D : XD} {h0 h : TH} {cc : ByteArray} {pc : Nat} {ls : Array Slot} {rest : List Value} (hC : XCx D cc nL RJ3 h0 p R s m args meth c) (hX : XSt D s h0 h H locs cells slots) {b0 : Int32} {b1 : Nat} {b2 : Int32} {b3 : Int32} {x : Int32} (hcF : F_J3_hashCode_2 D.2.2.2 h b0 b1 b2 b3 = some x) (hl : ls.size = nL) (hW : (rest.map fun v => v.category).sum ≤ 8) (hRf : 0 + 1 ≤ R.frames) (hRl : 25 ≤ R.locals) (hdg : decode cc pc = .ok (.invokestatic 75, 3)) (kk : ∀ (H1 : Heap) (locs1 : List Loc) (cells1 slots1 : Nat), XSt D s h0 h H1 locs1 cells1 slots1 → W p l e R s m args below meth c H1 locs1 cells1 slots1 Q (F0 m (pc + 3) ls (.int x :: rest))) : W p l e R s m args below meth c H locs cells slots Q (F0 m pc ls (.int b3 :: .int b2 :: rv b1 :: .int b0 :: rest)) := by
  exact X_callS hC hX (As := [.int b0, rv b1, .int b2, .int b3]) (m_J3_hashCode_2 l D b0 b1 b2 b3 h _ hcF) (va_cwS 4 hC.2.2.2.2.1 (lw_S q1476 q1477 q134 q1478) rfl rfl rfl (by decide +kernel) ⟨Nat.le_trans (Nat.le_of_ble_eq_true rfl) hRf, Nat.le_trans (Nat.le_of_ble_eq_true rfl) hRl⟩) rfl rfl hl hW hdg kk
/-! jdk/internal/util/ArraysSupport.vectorizedHashCode -/
def F_J3_vectorizedHashCode (K : Nat → Nat) (h : TH) (b0 : Nat) (b1 : Int32) (b2 : Int32) (b3 : Int32) (b4 : Int32) : Option Int32 :=
  if b4 = (4 : Int32) then
    gd (hT h b0 = 32 ∨ hT h b0 = 42) <|
    bd (F_J3_signedHashCode K h b3 b0 b1 b2) fun r_4 =>
    some r_4
  else
  if b4 = (5 : Int32) then
    none
  else
  if b4 = (8 : Int32) then
    gd (hT h b0 = 32 ∨ hT h b0 = 42) <|
    bd (F_J3_hashCode_2 K h b3 b0 b1 b2) fun r_9 =>
    some r_9
  else
  if b4 = (9 : Int32) then
    none
  else
  if b4 = (10 : Int32) then
    none
  else
    none
set_option maxHeartbeats 4000000 in
theorem w_J3_vectorizedHashCode {p : Program} {l : Launch} {e : Env} {s : State} {m : MethodId} {args : Array Value} {below : List Frame} {meth : Method} {c : Code} {D : XD} {h : TH} (hC : XCx D cJ3_vectorizedHashCode 5 RJ3 h p (xRm 1 25 h) s m args meth c) (hr : meth.sig.returnType = some .int) (hnh : c.exceptionTable.isEmpty = true) (hin : meth.name = "vectorizedHashCode") {x : Int32} :
    ∀ (b0 : Nat) (b1 : Int32) (b2 : Int32) (b3 : Int32) (b4 : Int32), F_J3_vectorizedHashCode D.2.2.2 h b0 b1 b2 b3 b4 = some x → XJ p l e (xRm 1 25 h) s m args below meth c D 5 (.returned (some (.int x))) h h 0 [(0, rv b0), (1, .int b1), (2, .int b2), (3, .int b3), (4, .int b4)] [] h := by
  have hx := hC.1
  have hb := hC.2.1
  intro b0 b1 b2 b3 b4 hF H locs cells slots ls hX hl
  rw [F_J3_vectorizedHashCode] at hF
  refine lv_iload hx hb dJ3_vectorizedHashCode_0 (lv_at hl 4 rfl) ?_
  by_cases c_1 : b4 = (4 : Int32)
  · replace hF := it_t hF c_1
    refine lv_tableIn (off := 42) (tgt := 44) hx hb dJ3_vectorizedHashCode_2 (by rw [c_1]; decide) (by rw [c_1]; decide) (by rw [c_1]; rfl) (by decide) ?_
    refine lv_iload_n hx hb dJ3_vectorizedHashCode_44 rfl (lv_at hl 3 rfl) ?_
    refine X_aload_n hx hb dJ3_vectorizedHashCode_45 rfl (lv_at hl 0 rfl) ?_
    obtain ⟨h_2, hF⟩ := gd_ok hF
    refine X_castB hC hX h_2 q1452 dJ3_vectorizedHashCode_46 ?_
    refine lv_iload_n hx hb dJ3_vectorizedHashCode_49 rfl (lv_at hl 1 rfl) ?_
    refine lv_iload_n hx hb dJ3_vectorizedHashCode_50 rfl (lv_at hl 2 rfl) ?_
    obtain ⟨r_4, hc_3, hF⟩ := bd_ok hF
    refine iX_J3_62 hC hX hc_3 hl.1 (Nat.le_of_ble_eq_true rfl) (Nat.le_of_ble_eq_true rfl) (Nat.le_of_ble_eq_true rfl) dJ3_vectorizedHashCode_51 (fun H locs cells slots hX => ?_)
    refine lv_goto (tgt := 157) hx hb dJ3_vectorizedHashCode_54 (by decide) ?_
    exact x_reti hC hX hr rfl (Option.some.inj hF) rfl dJ3_vectorizedHashCode_157
  replace hF := it_f hF c_1
  by_cases c_5 : b4 = (5 : Int32)
  · replace hF := it_t hF c_5
    refine lv_tableIn (off := 55) (tgt := 57) hx hb dJ3_vectorizedHashCode_2 (by rw [c_5]; decide) (by rw [c_5]; decide) (by rw [c_5]; rfl) (by decide) ?_
    refine X_aload_n hx hb dJ3_vectorizedHashCode_57 rfl (lv_at hl 0 rfl) ?_
    exact nm_none hF
  replace hF := it_f hF c_5
  by_cases c_6 : b4 = (8 : Int32)
  · replace hF := it_t hF c_6
    refine lv_tableIn (off := 88) (tgt := 90) hx hb dJ3_vectorizedHashCode_2 (by rw [c_6]; decide) (by rw [c_6]; decide) (by rw [c_6]; rfl) (by decide) ?_
    refine lv_iload_n hx hb dJ3_vectorizedHashCode_90 rfl (lv_at hl 3 rfl) ?_
    refine X_aload_n hx hb dJ3_vectorizedHashCode_91 rfl (lv_at hl 0 rfl) ?_
    obtain ⟨h_7, hF⟩ := gd_ok hF
    refine X_castB hC hX h_7 q1452 dJ3_vectorizedHashCode_92 ?_
    refine lv_iload_n hx hb dJ3_vectorizedHashCode_95 rfl (lv_at hl 1 rfl) ?_
    refine lv_iload_n hx hb dJ3_vectorizedHashCode_96 rfl (lv_at hl 2 rfl) ?_
    obtain ⟨r_9, hc_8, hF⟩ := bd_ok hF
    refine iX_J3_75 hC hX hc_8 hl.1 (Nat.le_of_ble_eq_true rfl) (Nat.le_of_ble_eq_true rfl) (Nat.le_of_ble_eq_true rfl) dJ3_vectorizedHashCode_97 (fun H locs cells slots hX => ?_)
    refine lv_goto (tgt := 157) hx hb dJ3_vectorizedHashCode_100 (by decide) ?_
    exact x_reti hC hX hr rfl (Option.some.inj hF) rfl dJ3_vectorizedHashCode_157
  replace hF := it_f hF c_6
  by_cases c_10 : b4 = (9 : Int32)
  · replace hF := it_t hF c_10
    refine lv_tableIn (off := 101) (tgt := 103) hx hb dJ3_vectorizedHashCode_2 (by rw [c_10]; decide) (by rw [c_10]; decide) (by rw [c_10]; rfl) (by decide) ?_
    refine lv_iload_n hx hb dJ3_vectorizedHashCode_103 rfl (lv_at hl 3 rfl) ?_
    refine X_aload_n hx hb dJ3_vectorizedHashCode_104 rfl (lv_at hl 0 rfl) ?_
    exact nm_none hF
  replace hF := it_f hF c_10
  by_cases c_11 : b4 = (10 : Int32)
  · replace hF := it_t hF c_11
    refine lv_tableIn (off := 114) (tgt := 116) hx hb dJ3_vectorizedHashCode_2 (by rw [c_11]; decide) (by rw [c_11]; decide) (by rw [c_11]; rfl) (by decide) ?_
    refine lv_iload_n hx hb dJ3_vectorizedHashCode_116 rfl (lv_at hl 3 rfl) ?_
    refine X_aload_n hx hb dJ3_vectorizedHashCode_117 rfl (lv_at hl 0 rfl) ?_
    exact nm_none hF
  replace hF := it_f hF c_11
  refine lv_tableD (keys := [4, 5, 8, 9, 10]) (tgt := 129) hx hb dJ3_vectorizedHashCode_2 (List.forall_mem_cons.mpr ⟨ne_toInt c_1 rfl, (List.forall_mem_cons.mpr ⟨ne_toInt c_5 rfl, (List.forall_mem_cons.mpr ⟨ne_toInt c_6 rfl, (List.forall_mem_cons.mpr ⟨ne_toInt c_10 rfl, (List.forall_mem_cons.mpr ⟨ne_toInt c_11 rfl, (fun _ h => nomatch h)⟩)⟩)⟩)⟩)⟩) rfl rfl (by decide) ?_
  exact nm_none hF
theorem m_J3_vectorizedHashCode (l : Launch) (D : XD) (b0 : Nat) (b1 : Int32) (b2 : Int32) (b3 : Int32) (b4 : Int32) (h : TH) (x : Int32) (hF : F_J3_vectorizedHashCode D.2.2.2 h b0 b1 b2 b3 b4 = some x) : XMt l yJ3_vectorizedHashCode (ws_ yJ3_vectorizedHashCode cJ3_vectorizedHashCode 5 (some .int)) 1 25 D [rv b0, .int b1, .int b2, .int b3, .int b4] h (.returned (some (.int x))) h := by
  refine x_met (by decide +kernel) ?_ ?_
  · simp [lg_sl, rv_cat, cat_i, cat_l]
  intro p e s m below meth c hC hr hnh hin ls hl hX
  replace hl : lv_has ls 5 [(0, rv b0), (1, .int b1), (2, .int b2), (3, .int b3), (4, .int b4)] := by simpa [lv_args, rv_cat, cat_i, cat_l] using hl
  exact w_J3_vectorizedHashCode hC hr hnh hin b0 b1 b2 b3 b4 hF s.heap [] 0 0 ls hX hl
theorem iX_J13_84 {p : Program} {l : Launch} {e : Env} {R : Room} {s : State} {m : MethodId} {args : Array Value} {below : List Frame} {meth : Method} {c : Code} {H : Heap} {locs : List Loc} {cells slots nL : Nat} {Q : State → Prop} {D : XD} {h0 h : TH} {cc : ByteArray} {pc : Nat} {ls : Array Slot} {rest : List Value} (hC : XCx D cc nL RJ13 h0 p R s m args meth c) (hX : XSt D s h0 h H locs cells slots) {b0 : Nat} {b1 : Int32} {b2 : Int32} {b3 : Int32} {b4 : Int32} {x : Int32} (hcF : F_J3_vectorizedHashCode D.2.2.2 h b0 b1 b2 b3 b4 = some x) (hl : ls.size = nL) (hW : (rest.map fun v => v.category).sum ≤ 8) (hRf : 1 + 1 ≤ R.frames) (hRl : 49 ≤ R.locals) (hdg : decode cc pc = .ok (.invokestatic 84, 3)) (kk : ∀ (H1 : Heap) (locs1 : List Loc) (cells1 slots1 : Nat), XSt D s h0 h H1 locs1 cells1 slots1 → W p l e R s m args below meth c H1 locs1 cells1 slots1 Q (F0 m (pc + 3) ls (.int x :: rest))) : W p l e R s m args below meth c H locs cells slots Q (F0 m pc ls (.int b4 :: .int b3 :: .int b2 :: .int b1 :: rv b0 :: rest)) := by
  exact X_callS hC hX (As := [rv b0, .int b1, .int b2, .int b3, .int b4]) (m_J3_vectorizedHashCode l D b0 b1 b2 b3 b4 h _ hcF) (va_cwS 5 hC.2.2.2.2.1 (lw_S q1449 q1450 q134 q1451) rfl rfl rfl (by decide +kernel) ⟨Nat.le_trans (Nat.le_of_ble_eq_true rfl) hRf, Nat.le_trans (Nat.le_of_ble_eq_true rfl) hRl⟩) rfl rfl hl hW hdg kk
/-! java/lang/StringLatin1.hashCode -/
def F_J13_hashCode (K : Nat → Nat) (h : TH) (b0 : Nat) : Option Int32 :=
  gd (2 ≤ tkd (hT h b0)) <|
  lt ((Int32.ofNat (hN h b0))) fun x_2 =>
  if x_2 = (0 : Int32) then
    some (0 : Int32)
  else
  if x_2 = (1 : Int32) then
    gd (hT h b0 = 32 ∨ hT h b0 = 42) <|
    gd (inb (0 : Int32) (hN h b0)) <|
    some ((hA h b0 (Int32.toNatClampNeg (0 : Int32))) &&& (255 : Int32))
  else
    gd (2 ≤ tkd (hT h b0)) <|
    bd (F_J3_vectorizedHashCode K h b0 (0 : Int32) (Int32.ofNat (hN h b0)) (0 : Int32) (4 : Int32)) fun r_9 =>
    some r_9
set_option maxHeartbeats 4000000 in
theorem w_J13_hashCode {p : Program} {l : Launch} {e : Env} {s : State} {m : MethodId} {args : Array Value} {below : List Frame} {meth : Method} {c : Code} {D : XD} {h : TH} (hC : XCx D cJ13_hashCode 1 RJ13 h p (xRm 2 49 h) s m args meth c) (hr : meth.sig.returnType = some .int) (hnh : c.exceptionTable.isEmpty = true) (hin : meth.name = "hashCode") {x : Int32} :
    ∀ (b0 : Nat), F_J13_hashCode D.2.2.2 h b0 = some x → XJ p l e (xRm 2 49 h) s m args below meth c D 1 (.returned (some (.int x))) h h 0 [(0, rv b0)] [] h := by
  have hx := hC.1
  have hb := hC.2.1
  intro b0 hF H locs cells slots ls hX hl
  rw [F_J13_hashCode] at hF
  refine X_aload_n hx hb dJ13_hashCode_0 rfl (lv_at hl 0 rfl) ?_
  obtain ⟨h_1, hF⟩ := gd_ok hF
  refine X_alen hC hX h_1 dJ13_hashCode_1 ?_
  refine lv_topi (fun x_2 ex_2 => ?_)
  replace hF := lt_at hF ex_2
  by_cases c_3 : x_2 = (0 : Int32)
  · replace hF := it_t hF c_3
    refine lv_lookup (off := 26) (tgt := 28) hx hb dJ13_hashCode_2 rfl (by rw [c_3]; rfl) (by decide) ?_
    refine lv_iconst (v := 0) hx hb dJ13_hashCode_28 (by decide) ?_
    refine lv_goto (tgt := 51) hx hb dJ13_hashCode_29 (by decide) ?_
    exact x_reti hC hX hr rfl (Option.some.inj hF) rfl dJ13_hashCode_51
  replace hF := it_f hF c_3
  by_cases c_4 : x_2 = (1 : Int32)
  · replace hF := it_t hF c_4
    refine lv_lookup (off := 30) (tgt := 32) hx hb dJ13_hashCode_2 rfl (by rw [c_4]; rfl) (by decide) ?_
    refine X_aload_n hx hb dJ13_hashCode_32 rfl (lv_at hl 0 rfl) ?_
    refine lv_iconst (v := 0) hx hb dJ13_hashCode_33 (by decide) ?_
    obtain ⟨h_5, hF⟩ := gd_ok hF
    obtain ⟨h_6, hF⟩ := gd_ok hF
    refine X_bald hC hX h_5 h_6 dJ13_hashCode_34 ?_
    refine lv_sipush (v := 255) hx hb dJ13_hashCode_35 (by decide) ?_
    refine lv_iand hx hb dJ13_hashCode_38 ?_
    refine lv_goto (tgt := 51) hx hb dJ13_hashCode_39 (by decide) ?_
    exact x_reti hC hX hr rfl (Option.some.inj hF) rfl dJ13_hashCode_51
  replace hF := it_f hF c_4
  refine lv_lookupD (tgt := 42) hx hb dJ13_hashCode_2 rfl (List.forall_mem_cons.mpr ⟨ne_toInt c_3 rfl, (List.forall_mem_cons.mpr ⟨ne_toInt c_4 rfl, (fun _ h => nomatch h)⟩)⟩) (by decide) ?_
  refine X_aload_n hx hb dJ13_hashCode_42 rfl (lv_at hl 0 rfl) ?_
  refine lv_iconst (v := 0) hx hb dJ13_hashCode_43 (by decide) ?_
  refine X_aload_n hx hb dJ13_hashCode_44 rfl (lv_at hl 0 rfl) ?_
  obtain ⟨h_7, hF⟩ := gd_ok hF
  refine X_alen hC hX h_7 dJ13_hashCode_45 ?_
  refine lv_iconst (v := 0) hx hb dJ13_hashCode_46 (by decide) ?_
  refine lv_iconst (v := 4) hx hb dJ13_hashCode_47 (by decide) ?_
  obtain ⟨r_9, hc_8, hF⟩ := bd_ok hF
  refine iX_J13_84 hC hX hc_8 hl.1 (Nat.le_of_ble_eq_true rfl) (Nat.le_of_ble_eq_true rfl) (Nat.le_of_ble_eq_true rfl) dJ13_hashCode_48 (fun H locs cells slots hX => ?_)
  exact x_reti hC hX hr rfl (Option.some.inj hF) rfl dJ13_hashCode_51
theorem m_J13_hashCode (l : Launch) (D : XD) (b0 : Nat) (h : TH) (x : Int32) (hF : F_J13_hashCode D.2.2.2 h b0 = some x) : XMt l yJ13_hashCode (ws_ yJ13_hashCode cJ13_hashCode 1 (some .int)) 2 49 D [rv b0] h (.returned (some (.int x))) h := by
  refine x_met (by decide +kernel) ?_ ?_
  · simp [lg_sl, rv_cat, cat_i, cat_l]
  intro p e s m below meth c hC hr hnh hin ls hl hX
  replace hl : lv_has ls 1 [(0, rv b0)] := by simpa [lv_args, rv_cat, cat_i, cat_l] using hl
  exact w_J13_hashCode hC hr hnh hin b0 hF s.heap [] 0 0 ls hX hl
theorem gX_J11_19 {p : Program} {l : Launch} {e : Env} {R : Room} {s : State} {m : MethodId} {args : Array Value} {below : List Frame} {meth : Method} {c : Code} {H : Heap} {locs : List Loc} {cells slots nL : Nat} {Q : State → Prop} {D : XD} {h0 h : TH} {cc : ByteArray} {pc : Nat} {ls : Array Slot} {rest : List Value} (hC : XCx D cc nL RJ11 h0 p R s m args meth c) (hX : XSt D s h0 h H locs cells slots) {a : Nat} (hf : hasF (hT h a) 81 = true) (hdg : decode cc pc = .ok (.getfield 19, 3)) (kk : W p l e R s m args below meth c H locs cells slots Q (F0 m (pc + 3) ls (.int (hI h 81 a) :: rest))) : W p l e R s m args below meth c H locs cells slots Q (F0 m pc ls (rv a :: rest)) :=
  X_geti hC hX 81 hf rfl q1066 (fun _ h => h) hdg kk
theorem gX_J11_23 {p : Program} {l : Launch} {e : Env} {R : Room} {s : State} {m : MethodId} {args : Array Value} {below : List Frame} {meth : Method} {c : Code} {H : Heap} {locs : List Loc} {cells slots nL : Nat} {Q : State → Prop} {D : XD} {h0 h : TH} {cc : ByteArray} {pc : Nat} {ls : Array Slot} {rest : List Value} (hC : XCx D cc nL RJ11 h0 p R s m args meth c) (hX : XSt D s h0 h H locs cells slots) {a : Nat} (hf : hasF (hT h a) 82 = true) (hdg : decode cc pc = .ok (.getfield 23, 3)) (kk : W p l e R s m args below meth c H locs cells slots Q (F0 m (pc + 3) ls (.int (hI h 82 a) :: rest))) : W p l e R s m args below meth c H locs cells slots Q (F0 m pc ls (rv a :: rest)) :=
  X_geti hC hX 82 hf rfl q1067 (fun _ h => h) hdg kk
theorem iX_J11_492 {p : Program} {l : Launch} {e : Env} {R : Room} {s : State} {m : MethodId} {args : Array Value} {below : List Frame} {meth : Method} {c : Code} {H : Heap} {locs : List Loc} {cells slots nL : Nat} {Q : State → Prop} {D : XD} {h0 h : TH} {cc : ByteArray} {pc : Nat} {ls : Array Slot} {rest : List Value} (hC : XCx D cc nL RJ11 h0 p R s m args meth c) (hX : XSt D s h0 h H locs cells slots) {a : Nat} {x : Int32} (ht : hT h a = 9 ∨ hT h a = 41) (hcF : F_J11_isLatin1 D.2.2.2 h a = some x) (hl : ls.size = nL) (hW : (rest.map fun v => v.category).sum ≤ 8) (hRf : 0 + 1 ≤ R.frames) (hRl : 20 ≤ R.locals) (hdg : decode cc pc = .ok (.invokevirtual 492, 3)) (kk : ∀ (H1 : Heap) (locs1 : List Loc) (cells1 slots1 : Nat), XSt D s h0 h H1 locs1 cells1 slots1 → W p l e R s m args below meth c H1 locs1 cells1 slots1 Q (F0 m (pc + 3) ls (.int x :: rest))) : W p l e R s m args below meth c H locs cells slots Q (F0 m pc ls (rv a :: rest)) := by
  rcases ht with q | q
  · exact X_callV hC hX (by rw [q]; decide) (by rw [q]; rfl) (As := []) (m_J11_isLatin1 l D a h _ hcF) (cwV 0 hC.2.2.2.2.1 (lw_V q1442 q1443 q1444 q149 q1445) rfl rfl rfl (by decide +kernel) ⟨Nat.le_trans (Nat.le_of_ble_eq_true rfl) hRf, Nat.le_trans (Nat.le_of_ble_eq_true rfl) hRl⟩) rfl rfl hl hW hdg kk
  · exact X_callV hC hX (by rw [q]; decide) (by rw [q]; rfl) (As := []) (m_J11_isLatin1 l D a h _ hcF) (cwV 0 hC.2.2.2.2.1 (lw_V q1442 q1443 q1444 q149 q1445) rfl rfl rfl (by decide +kernel) ⟨Nat.le_trans (Nat.le_of_ble_eq_true rfl) hRf, Nat.le_trans (Nat.le_of_ble_eq_true rfl) hRl⟩) rfl rfl hl hW hdg kk
theorem iX_J11_628 {p : Program} {l : Launch} {e : Env} {R : Room} {s : State} {m : MethodId} {args : Array Value} {below : List Frame} {meth : Method} {c : Code} {H : Heap} {locs : List Loc} {cells slots nL : Nat} {Q : State → Prop} {D : XD} {h0 h : TH} {cc : ByteArray} {pc : Nat} {ls : Array Slot} {rest : List Value} (hC : XCx D cc nL RJ11 h0 p R s m args meth c) (hX : XSt D s h0 h H locs cells slots) {b0 : Nat} {x : Int32} (hcF : F_J13_hashCode D.2.2.2 h b0 = some x) (hl : ls.size = nL) (hW : (rest.map fun v => v.category).sum ≤ 8) (hRf : 2 + 1 ≤ R.frames) (hRl : 69 ≤ R.locals) (hdg : decode cc pc = .ok (.invokestatic 628, 3)) (kk : ∀ (H1 : Heap) (locs1 : List Loc) (cells1 slots1 : Nat), XSt D s h0 h H1 locs1 cells1 slots1 → W p l e R s m args below meth c H1 locs1 cells1 slots1 Q (F0 m (pc + 3) ls (.int x :: rest))) : W p l e R s m args below meth c H locs cells slots Q (F0 m pc ls (rv b0 :: rest)) := by
  exact X_callS hC hX (As := [rv b0]) (m_J13_hashCode l D b0 h _ hcF) (va_cwS 1 hC.2.2.2.2.1 (lw_S q1446 q1447 q151 q1448) rfl rfl rfl (by decide +kernel) ⟨Nat.le_trans (Nat.le_of_ble_eq_true rfl) hRf, Nat.le_trans (Nat.le_of_ble_eq_true rfl) hRl⟩) rfl rfl hl hW hdg kk
theorem pX_J11_19 {p : Program} {l : Launch} {e : Env} {R : Room} {s : State} {m : MethodId} {args : Array Value} {below : List Frame} {meth : Method} {c : Code} {H : Heap} {locs : List Loc} {cells slots nL : Nat} {Q : State → Prop} {D : XD} {h0 h : TH} {cc : ByteArray} {pc : Nat} {ls : Array Slot} {rest : List Value} (hC : XCx D cc nL RJ11 h0 p R s m args meth c) (hX : XSt D s h0 h H locs cells slots) {a : Nat} {v : Int32} (hf : hasF (hT h a) 81 = true) (hw : hT h a ≤ 24) (hdg : decode cc pc = .ok (.putfield 19, 3)) (kk : ∀ (H1 : Heap) (locs1 : List Loc), XSt D s h0 (uI h 81 a v) H1 locs1 cells slots → W p l e R s m args below meth c H1 locs1 cells slots Q (F0 m (pc + 3) ls rest)) : W p l e R s m args below meth c H locs cells slots Q (F0 m pc ls (.int v :: rv a :: rest)) :=
  X_puti hC hX 81 hf hw rfl rfl q1066 (fun _ h => h) ⟨rfl, rfl⟩ hdg kk
theorem pX_J11_23 {p : Program} {l : Launch} {e : Env} {R : Room} {s : State} {m : MethodId} {args : Array Value} {below : List Frame} {meth : Method} {c : Code} {H : Heap} {locs : List Loc} {cells slots nL : Nat} {Q : State → Prop} {D : XD} {h0 h : TH} {cc : ByteArray} {pc : Nat} {ls : Array Slot} {rest : List Value} (hC : XCx D cc nL RJ11 h0 p R s m args meth c) (hX : XSt D s h0 h H locs cells slots) {a : Nat} {v : Int32} (hf : hasF (hT h a) 82 = true) (hw : hT h a ≤ 24) (hg : v = 0 ∨ v = 1) (hdg : decode cc pc = .ok (.putfield 23, 3)) (kk : ∀ (H1 : Heap) (locs1 : List Loc), XSt D s h0 (uI h 82 a v) H1 locs1 cells slots → W p l e R s m args below meth c H1 locs1 cells slots Q (F0 m (pc + 3) ls rest)) : W p l e R s m args below meth c H locs cells slots Q (F0 m pc ls (.int v :: rv a :: rest)) :=
  X_puti hC hX 82 hf hw rfl rfl q1067 (fun _ h => h) (zb_nar hg) hdg kk
/-! java/lang/String.hashCode -/
def F_J11_hashCode (K : Nat → Nat) (a0 : Nat) (h : TH) : Option (Int32 × TH) :=
  gd (hasF (hT h a0) 81 = true) <|
  lt ((hI h 81 a0)) fun x_2 =>
  if x_2 = 0 then
    gd (hasF (hT h a0) 82 = true) <|
    if (hI h 82 a0) = 0 then
      gd (hT h a0 = 9 ∨ hT h a0 = 41) <|
      bd (F_J11_isLatin1 K h a0) fun r_8 =>
      if r_8 = 0 then
        gd (hasF (hT h a0) 79 = true) <|
        lt (hR h 79 a0) fun r_11 =>
        none
      else
        gd (hasF (hT h a0) 79 = true) <|
        lt (hR h 79 a0) fun r_13 =>
        bd (F_J13_hashCode K h r_13) fun r_15 =>
        if r_15 = 0 then
          gd (hasF (hT h a0) 82 = true) <|
          gd (hT h a0 ≤ 24) <|
          lt (uI h 82 a0 (1 : Int32)) fun h_22 =>
          some (r_15, h_22)
        else
          gd (hasF (hT h a0) 81 = true) <|
          gd (hT h a0 ≤ 24) <|
          lt (uI h 81 a0 r_15) fun h_19 =>
          some (r_15, h_19)
    else
      some (x_2, h)
  else
    some (x_2, h)
set_option maxHeartbeats 4000000 in
theorem w_J11_hashCode {p : Program} {l : Launch} {e : Env} {s : State} {m : MethodId} {args : Array Value} {below : List Frame} {meth : Method} {c : Code} {D : XD} {h0 : TH} (hC : XCx D cJ11_hashCode 2 RJ11 h0 p (xRm 3 69 h0) s m args meth c) (hr : meth.sig.returnType = some .int) (hnh : c.exceptionTable.isEmpty = true) (hin : meth.name = "hashCode") {x : (Int32 × TH)} :
    ∀ (a0 : Nat) (h : TH), F_J11_hashCode D.2.2.2 a0 h = some x → XJ p l e (xRm 3 69 h0) s m args below meth c D 2 (.returned (some (.int x.1))) h0 x.2 0 [(0, rv a0)] [] h := by
  have hx := hC.1
  have hb := hC.2.1
  intro a0 h hF H locs cells slots ls hX hl
  rw [F_J11_hashCode] at hF
  refine X_aload_n hx hb dJ11_hashCode_0 rfl (lv_at hl 0 rfl) ?_
  obtain ⟨h_1, hF⟩ := gd_ok hF
  refine gX_J11_19 hC hX h_1 dJ11_hashCode_1 ?_
  refine lv_topi (fun x_2 ex_2 => ?_)
  replace hF := lt_at hF ex_2
  refine lv_istore_n (i := 1) hx hb dJ11_hashCode_4 rfl hl (by decide) rfl (fun ls hl => ?_)
  replace hl : lv_has ls 2 [(1, .int x_2), (0, rv a0)] := lv_subS hl (List.forall_mem_cons.mpr ⟨Or.inl rfl, (List.forall_mem_cons.mpr ⟨Or.inr ⟨List.mem_of_getElem? (i := 0) rfl, by simp [rv_cat]⟩, (fun _ h => nomatch h)⟩)⟩)
  refine lv_iload_n hx hb dJ11_hashCode_5 rfl (lv_at hl 0 rfl) ?_
  refine lv_if_ne (tgt := 58) hx hb dJ11_hashCode_6 (by decide) (fun c_3 => ?_) (fun c_3 => ?_)
  · replace hF := it_f hF c_3
    refine lv_iload_n hx hb dJ11_hashCode_58 rfl (lv_at hl 0 rfl) ?_
    exact x_reti hC hX hr rfl (rt1 hF) (rt2 hF) dJ11_hashCode_59
  · replace hF := it_t hF c_3
    refine X_aload_n hx hb dJ11_hashCode_9 rfl (lv_at hl 1 rfl) ?_
    obtain ⟨h_4, hF⟩ := gd_ok hF
    refine gX_J11_23 hC hX h_4 dJ11_hashCode_10 ?_
    refine lv_if_ne (tgt := 58) hx hb dJ11_hashCode_13 (by decide) (fun c_5 => ?_) (fun c_5 => ?_)
    · replace hF := it_f hF c_5
      refine lv_iload_n hx hb dJ11_hashCode_58 rfl (lv_at hl 0 rfl) ?_
      exact x_reti hC hX hr rfl (rt1 hF) (rt2 hF) dJ11_hashCode_59
    · replace hF := it_t hF c_5
      refine X_aload_n hx hb dJ11_hashCode_16 rfl (lv_at hl 1 rfl) ?_
      obtain ⟨h_6, hF⟩ := gd_ok hF
      obtain ⟨r_8, hc_7, hF⟩ := bd_ok hF
      refine iX_J11_492 hC hX h_6 hc_7 hl.1 (Nat.le_of_ble_eq_true rfl) (Nat.le_of_ble_eq_true rfl) (Nat.le_of_ble_eq_true rfl) dJ11_hashCode_17 (fun H locs cells slots hX => ?_)
      refine lv_if_eq (tgt := 33) hx hb dJ11_hashCode_20 (by decide) (fun c_9 => ?_) (fun c_9 => ?_)
      · replace hF := it_t hF c_9
        refine X_aload_n hx hb dJ11_hashCode_33 rfl (lv_at hl 1 rfl) ?_
        obtain ⟨h_10, hF⟩ := gd_ok hF
        refine gX_J11_9 hC hX h_10 dJ11_hashCode_34 ?_
        refine lv_topr (fun r_11 er_11 => ?_)
        replace hF := lt_at hF er_11
        exact nm_none hF
      · replace hF := it_f hF c_9
        refine X_aload_n hx hb dJ11_hashCode_23 rfl (lv_at hl 1 rfl) ?_
        obtain ⟨h_12, hF⟩ := gd_ok hF
        refine gX_J11_9 hC hX h_12 dJ11_hashCode_24 ?_
        refine lv_topr (fun r_13 er_13 => ?_)
        replace hF := lt_at hF er_13
        obtain ⟨r_15, hc_14, hF⟩ := bd_ok hF
        refine iX_J11_628 hC hX hc_14 hl.1 (Nat.le_of_ble_eq_true rfl) (Nat.le_of_ble_eq_true rfl) (Nat.le_of_ble_eq_true rfl) dJ11_hashCode_27 (fun H locs cells slots hX => ?_)
        refine lv_goto (tgt := 40) hx hb dJ11_hashCode_30 (by decide) ?_
        refine lv_istore_n (i := 1) hx hb dJ11_hashCode_40 rfl hl (by decide) rfl (fun ls hl => ?_)
        replace hl : lv_has ls 2 [(1, .int r_15), (0, rv a0)] := lv_subS hl (List.forall_mem_cons.mpr ⟨Or.inl rfl, (List.forall_mem_cons.mpr ⟨Or.inr ⟨List.mem_of_getElem? (i := 1) rfl, by simp [rv_cat]⟩, (fun _ h => nomatch h)⟩)⟩)
        refine lv_iload_n hx hb dJ11_hashCode_41 rfl (lv_at hl 0 rfl) ?_
        refine lv_if_ne (tgt := 53) hx hb dJ11_hashCode_42 (by decide) (fun c_16 => ?_) (fun c_16 => ?_)
        · replace hF := it_f hF c_16
          refine X_aload_n hx hb dJ11_hashCode_53 rfl (lv_at hl 1 rfl) ?_
          refine lv_iload_n hx hb dJ11_hashCode_54 rfl (lv_at hl 0 rfl) ?_
          obtain ⟨h_17, hF⟩ := gd_ok hF
          obtain ⟨h_18, hF⟩ := gd_ok hF
          refine pX_J11_19 hC hX h_17 h_18 dJ11_hashCode_55 (fun H locs hX => ?_)
          obtain ⟨h_19, eh_19, hF⟩ := lt_ok hF
          rw [← eh_19] at hX
          refine lv_iload_n hx hb dJ11_hashCode_58 rfl (lv_at hl 0 rfl) ?_
          exact x_reti hC hX hr rfl (rt1 hF) (rt2 hF) dJ11_hashCode_59
        · replace hF := it_t hF c_16
          refine X_aload_n hx hb dJ11_hashCode_45 rfl (lv_at hl 1 rfl) ?_
          refine lv_iconst (v := 1) hx hb dJ11_hashCode_46 (by decide) ?_
          obtain ⟨h_20, hF⟩ := gd_ok hF
          obtain ⟨h_21, hF⟩ := gd_ok hF
          refine pX_J11_23 hC hX h_20 h_21 (Or.inr rfl) dJ11_hashCode_47 (fun H locs hX => ?_)
          obtain ⟨h_22, eh_22, hF⟩ := lt_ok hF
          rw [← eh_22] at hX
          refine lv_goto (tgt := 58) hx hb dJ11_hashCode_50 (by decide) ?_
          refine lv_iload_n hx hb dJ11_hashCode_58 rfl (lv_at hl 0 rfl) ?_
          exact x_reti hC hX hr rfl (rt1 hF) (rt2 hF) dJ11_hashCode_59
theorem m_J11_hashCode (l : Launch) (D : XD) (a0 : Nat) (h : TH) (x : (Int32 × TH)) (hF : F_J11_hashCode D.2.2.2 a0 h = some x) : XMt l yJ11_hashCode (ws_ yJ11_hashCode cJ11_hashCode 2 (some .int)) 3 69 D [rv a0] h (.returned (some (.int x.1))) x.2 := by
  refine x_met (by decide +kernel) ?_ ?_
  · simp [lg_sl, rv_cat, cat_i, cat_l]
  intro p e s m below meth c hC hr hnh hin ls hl hX
  replace hl : lv_has ls 2 [(0, rv a0)] := by simpa [lv_args, rv_cat, cat_i, cat_l] using hl
  exact w_J11_hashCode hC hr hnh hin a0 h hF s.heap [] 0 0 ls hX hl
theorem iX_X11_97 {p : Program} {l : Launch} {e : Env} {R : Room} {s : State} {m : MethodId} {args : Array Value} {below : List Frame} {meth : Method} {c : Code} {H : Heap} {locs : List Loc} {cells slots nL : Nat} {Q : State → Prop} {D : XD} {h0 h : TH} {cc : ByteArray} {pc : Nat} {ls : Array Slot} {rest : List Value} {h1 : TH} (hC : XCx D cc nL RX11 h0 p R s m args meth c) (hX : XSt D s h0 h H locs cells slots) {a : Nat} {x : Int32} (ht : hT h a = 9 ∨ hT h a = 41) (hcF : F_J11_hashCode D.2.2.2 a h = some (x, h1)) (hl : ls.size = nL) (hW : (rest.map fun v => v.category).sum ≤ 8) (hRf : 3 + 1 ≤ R.frames) (hRl : 90 ≤ R.locals) (hdg : decode cc pc = .ok (.invokevirtual 97, 3)) (kk : ∀ (H1 : Heap) (locs1 : List Loc) (cells1 slots1 : Nat), XSt D s h0 h1 H1 locs1 cells1 slots1 → W p l e R s m args below meth c H1 locs1 cells1 slots1 Q (F0 m (pc + 3) ls (.int x :: rest))) : W p l e R s m args below meth c H locs cells slots Q (F0 m pc ls (rv a :: rest)) := by
  rcases ht with q | q
  · exact X_callV hC hX (by rw [q]; decide) (by rw [q]; rfl) (As := []) (m_J11_hashCode l D a h _ hcF) (cwV 0 hC.2.2.2.2.1 (lw_V q1438 q1439 q1440 q149 q1441) rfl rfl rfl (by decide +kernel) ⟨Nat.le_trans (Nat.le_of_ble_eq_true rfl) hRf, Nat.le_trans (Nat.le_of_ble_eq_true rfl) hRl⟩) rfl rfl hl hW hdg kk
  · exact X_callV hC hX (by rw [q]; decide) (by rw [q]; rfl) (As := []) (m_J11_hashCode l D a h _ hcF) (cwV 0 hC.2.2.2.2.1 (lw_V q1438 q1439 q1440 q149 q1441) rfl rfl rfl (by decide +kernel) ⟨Nat.le_trans (Nat.le_of_ble_eq_true rfl) hRf, Nat.le_trans (Nat.le_of_ble_eq_true rfl) hRl⟩) rfl rfl hl hW hdg kk
/-! BlindCards$Reader.isName -/
def F_X11_isName_b667 (K : Nat → Nat) (x2 : Int32) (h : TH) : Option (Int32 × TH) :=
  if x2 = (0 : Int32) then
    some ((0 : Int32), h)
  else
  if x2 = (1 : Int32) then
    some ((0 : Int32), h)
  else
  if x2 = (2 : Int32) then
    some ((0 : Int32), h)
  else
  if x2 = (3 : Int32) then
    some ((0 : Int32), h)
  else
  if x2 = (4 : Int32) then
    some ((0 : Int32), h)
  else
  if x2 = (5 : Int32) then
    some ((0 : Int32), h)
  else
  if x2 = (6 : Int32) then
    some ((0 : Int32), h)
  else
  if x2 = (7 : Int32) then
    some ((0 : Int32), h)
  else
  if x2 = (8 : Int32) then
    some ((0 : Int32), h)
  else
  if x2 = (9 : Int32) then
    some ((0 : Int32), h)
  else
  if x2 = (10 : Int32) then
    some ((0 : Int32), h)
  else
  if x2 = (11 : Int32) then
    some ((0 : Int32), h)
  else
  if x2 = (12 : Int32) then
    some ((0 : Int32), h)
  else
  if x2 = (13 : Int32) then
    some ((0 : Int32), h)
  else
  if x2 = (14 : Int32) then
    some ((0 : Int32), h)
  else
  if x2 = (15 : Int32) then
    some ((0 : Int32), h)
  else
  if x2 = (16 : Int32) then
    some ((0 : Int32), h)
  else
  if x2 = (17 : Int32) then
    some ((0 : Int32), h)
  else
  if x2 = (18 : Int32) then
    some ((0 : Int32), h)
  else
  if x2 = (19 : Int32) then
    some ((0 : Int32), h)
  else
  if x2 = (20 : Int32) then
    some ((0 : Int32), h)
  else
  if x2 = (21 : Int32) then
    some ((0 : Int32), h)
  else
  if x2 = (22 : Int32) then
    some ((0 : Int32), h)
  else
  if x2 = (23 : Int32) then
    some ((0 : Int32), h)
  else
  if x2 = (24 : Int32) then
    some ((0 : Int32), h)
  else
  if x2 = (25 : Int32) then
    some ((0 : Int32), h)
  else
  if x2 = (26 : Int32) then
    some ((0 : Int32), h)
  else
  if x2 = (27 : Int32) then
    some ((0 : Int32), h)
  else
    some ((1 : Int32), h)
set_option maxHeartbeats 4000000 in
theorem w_X11_isName_b667 {p : Program} {l : Launch} {e : Env} {s : State} {m : MethodId} {args : Array Value} {below : List Frame} {meth : Method} {c : Code} {D : XD} {h0 : TH} (hC : XCx D cX11_isName 3 RX11 h0 p (xRm 4 90 h0) s m args meth c) (hr : meth.sig.returnType = some .boolean) (hnh : c.exceptionTable.isEmpty = true) (hin : meth.name = "isName") {x : (Int32 × TH)} :
    ∀ (x2 : Int32) (h : TH), F_X11_isName_b667 D.2.2.2 x2 h = some x → XJ p l e (xRm 4 90 h0) s m args below meth c D 3 (.returned (some (.int x.1))) h0 x.2 667 [(2, .int x2)] [] h := by
  have hx := hC.1
  have hb := hC.2.1
  intro x2 h hF H locs cells slots ls hX hl
  rw [F_X11_isName_b667] at hF
  refine lv_iload_n hx hb dX11_isName_667 rfl (lv_at hl 0 rfl) ?_
  by_cases c_1 : x2 = (0 : Int32)
  · replace hF := it_t hF c_1
    refine lv_tableIn (off := 128) (tgt := 796) hx hb dX11_isName_668 (by rw [c_1]; decide) (by rw [c_1]; decide) (by rw [c_1]; rfl) (by decide) ?_
    refine lv_iconst (v := 0) hx hb dX11_isName_796 (by decide) ?_
    exact x_reti hC hX hr rfl (rt1 hF) (rt2 hF) dX11_isName_797
  replace hF := it_f hF c_1
  by_cases c_2 : x2 = (1 : Int32)
  · replace hF := it_t hF c_2
    refine lv_tableIn (off := 128) (tgt := 796) hx hb dX11_isName_668 (by rw [c_2]; decide) (by rw [c_2]; decide) (by rw [c_2]; rfl) (by decide) ?_
    refine lv_iconst (v := 0) hx hb dX11_isName_796 (by decide) ?_
    exact x_reti hC hX hr rfl (rt1 hF) (rt2 hF) dX11_isName_797
  replace hF := it_f hF c_2
  by_cases c_3 : x2 = (2 : Int32)
  · replace hF := it_t hF c_3
    refine lv_tableIn (off := 128) (tgt := 796) hx hb dX11_isName_668 (by rw [c_3]; decide) (by rw [c_3]; decide) (by rw [c_3]; rfl) (by decide) ?_
    refine lv_iconst (v := 0) hx hb dX11_isName_796 (by decide) ?_
    exact x_reti hC hX hr rfl (rt1 hF) (rt2 hF) dX11_isName_797
  replace hF := it_f hF c_3
  by_cases c_4 : x2 = (3 : Int32)
  · replace hF := it_t hF c_4
    refine lv_tableIn (off := 128) (tgt := 796) hx hb dX11_isName_668 (by rw [c_4]; decide) (by rw [c_4]; decide) (by rw [c_4]; rfl) (by decide) ?_
    refine lv_iconst (v := 0) hx hb dX11_isName_796 (by decide) ?_
    exact x_reti hC hX hr rfl (rt1 hF) (rt2 hF) dX11_isName_797
  replace hF := it_f hF c_4
  by_cases c_5 : x2 = (4 : Int32)
  · replace hF := it_t hF c_5
    refine lv_tableIn (off := 128) (tgt := 796) hx hb dX11_isName_668 (by rw [c_5]; decide) (by rw [c_5]; decide) (by rw [c_5]; rfl) (by decide) ?_
    refine lv_iconst (v := 0) hx hb dX11_isName_796 (by decide) ?_
    exact x_reti hC hX hr rfl (rt1 hF) (rt2 hF) dX11_isName_797
  replace hF := it_f hF c_5
  by_cases c_6 : x2 = (5 : Int32)
  · replace hF := it_t hF c_6
    refine lv_tableIn (off := 128) (tgt := 796) hx hb dX11_isName_668 (by rw [c_6]; decide) (by rw [c_6]; decide) (by rw [c_6]; rfl) (by decide) ?_
    refine lv_iconst (v := 0) hx hb dX11_isName_796 (by decide) ?_
    exact x_reti hC hX hr rfl (rt1 hF) (rt2 hF) dX11_isName_797
  replace hF := it_f hF c_6
  by_cases c_7 : x2 = (6 : Int32)
  · replace hF := it_t hF c_7
    refine lv_tableIn (off := 128) (tgt := 796) hx hb dX11_isName_668 (by rw [c_7]; decide) (by rw [c_7]; decide) (by rw [c_7]; rfl) (by decide) ?_
    refine lv_iconst (v := 0) hx hb dX11_isName_796 (by decide) ?_
    exact x_reti hC hX hr rfl (rt1 hF) (rt2 hF) dX11_isName_797
  replace hF := it_f hF c_7
  by_cases c_8 : x2 = (7 : Int32)
  · replace hF := it_t hF c_8
    refine lv_tableIn (off := 128) (tgt := 796) hx hb dX11_isName_668 (by rw [c_8]; decide) (by rw [c_8]; decide) (by rw [c_8]; rfl) (by decide) ?_
    refine lv_iconst (v := 0) hx hb dX11_isName_796 (by decide) ?_
    exact x_reti hC hX hr rfl (rt1 hF) (rt2 hF) dX11_isName_797
  replace hF := it_f hF c_8
  by_cases c_9 : x2 = (8 : Int32)
  · replace hF := it_t hF c_9
    refine lv_tableIn (off := 128) (tgt := 796) hx hb dX11_isName_668 (by rw [c_9]; decide) (by rw [c_9]; decide) (by rw [c_9]; rfl) (by decide) ?_
    refine lv_iconst (v := 0) hx hb dX11_isName_796 (by decide) ?_
    exact x_reti hC hX hr rfl (rt1 hF) (rt2 hF) dX11_isName_797
  replace hF := it_f hF c_9
  by_cases c_10 : x2 = (9 : Int32)
  · replace hF := it_t hF c_10
    refine lv_tableIn (off := 128) (tgt := 796) hx hb dX11_isName_668 (by rw [c_10]; decide) (by rw [c_10]; decide) (by rw [c_10]; rfl) (by decide) ?_
    refine lv_iconst (v := 0) hx hb dX11_isName_796 (by decide) ?_
    exact x_reti hC hX hr rfl (rt1 hF) (rt2 hF) dX11_isName_797
  replace hF := it_f hF c_10
  by_cases c_11 : x2 = (10 : Int32)
  · replace hF := it_t hF c_11
    refine lv_tableIn (off := 128) (tgt := 796) hx hb dX11_isName_668 (by rw [c_11]; decide) (by rw [c_11]; decide) (by rw [c_11]; rfl) (by decide) ?_
    refine lv_iconst (v := 0) hx hb dX11_isName_796 (by decide) ?_
    exact x_reti hC hX hr rfl (rt1 hF) (rt2 hF) dX11_isName_797
  replace hF := it_f hF c_11
  by_cases c_12 : x2 = (11 : Int32)
  · replace hF := it_t hF c_12
    refine lv_tableIn (off := 128) (tgt := 796) hx hb dX11_isName_668 (by rw [c_12]; decide) (by rw [c_12]; decide) (by rw [c_12]; rfl) (by decide) ?_
    refine lv_iconst (v := 0) hx hb dX11_isName_796 (by decide) ?_
    exact x_reti hC hX hr rfl (rt1 hF) (rt2 hF) dX11_isName_797
  replace hF := it_f hF c_12
  by_cases c_13 : x2 = (12 : Int32)
  · replace hF := it_t hF c_13
    refine lv_tableIn (off := 128) (tgt := 796) hx hb dX11_isName_668 (by rw [c_13]; decide) (by rw [c_13]; decide) (by rw [c_13]; rfl) (by decide) ?_
    refine lv_iconst (v := 0) hx hb dX11_isName_796 (by decide) ?_
    exact x_reti hC hX hr rfl (rt1 hF) (rt2 hF) dX11_isName_797
  replace hF := it_f hF c_13
  by_cases c_14 : x2 = (13 : Int32)
  · replace hF := it_t hF c_14
    refine lv_tableIn (off := 128) (tgt := 796) hx hb dX11_isName_668 (by rw [c_14]; decide) (by rw [c_14]; decide) (by rw [c_14]; rfl) (by decide) ?_
    refine lv_iconst (v := 0) hx hb dX11_isName_796 (by decide) ?_
    exact x_reti hC hX hr rfl (rt1 hF) (rt2 hF) dX11_isName_797
  replace hF := it_f hF c_14
  by_cases c_15 : x2 = (14 : Int32)
  · replace hF := it_t hF c_15
    refine lv_tableIn (off := 128) (tgt := 796) hx hb dX11_isName_668 (by rw [c_15]; decide) (by rw [c_15]; decide) (by rw [c_15]; rfl) (by decide) ?_
    refine lv_iconst (v := 0) hx hb dX11_isName_796 (by decide) ?_
    exact x_reti hC hX hr rfl (rt1 hF) (rt2 hF) dX11_isName_797
  replace hF := it_f hF c_15
  by_cases c_16 : x2 = (15 : Int32)
  · replace hF := it_t hF c_16
    refine lv_tableIn (off := 128) (tgt := 796) hx hb dX11_isName_668 (by rw [c_16]; decide) (by rw [c_16]; decide) (by rw [c_16]; rfl) (by decide) ?_
    refine lv_iconst (v := 0) hx hb dX11_isName_796 (by decide) ?_
    exact x_reti hC hX hr rfl (rt1 hF) (rt2 hF) dX11_isName_797
  replace hF := it_f hF c_16
  by_cases c_17 : x2 = (16 : Int32)
  · replace hF := it_t hF c_17
    refine lv_tableIn (off := 128) (tgt := 796) hx hb dX11_isName_668 (by rw [c_17]; decide) (by rw [c_17]; decide) (by rw [c_17]; rfl) (by decide) ?_
    refine lv_iconst (v := 0) hx hb dX11_isName_796 (by decide) ?_
    exact x_reti hC hX hr rfl (rt1 hF) (rt2 hF) dX11_isName_797
  replace hF := it_f hF c_17
  by_cases c_18 : x2 = (17 : Int32)
  · replace hF := it_t hF c_18
    refine lv_tableIn (off := 128) (tgt := 796) hx hb dX11_isName_668 (by rw [c_18]; decide) (by rw [c_18]; decide) (by rw [c_18]; rfl) (by decide) ?_
    refine lv_iconst (v := 0) hx hb dX11_isName_796 (by decide) ?_
    exact x_reti hC hX hr rfl (rt1 hF) (rt2 hF) dX11_isName_797
  replace hF := it_f hF c_18
  by_cases c_19 : x2 = (18 : Int32)
  · replace hF := it_t hF c_19
    refine lv_tableIn (off := 128) (tgt := 796) hx hb dX11_isName_668 (by rw [c_19]; decide) (by rw [c_19]; decide) (by rw [c_19]; rfl) (by decide) ?_
    refine lv_iconst (v := 0) hx hb dX11_isName_796 (by decide) ?_
    exact x_reti hC hX hr rfl (rt1 hF) (rt2 hF) dX11_isName_797
  replace hF := it_f hF c_19
  by_cases c_20 : x2 = (19 : Int32)
  · replace hF := it_t hF c_20
    refine lv_tableIn (off := 128) (tgt := 796) hx hb dX11_isName_668 (by rw [c_20]; decide) (by rw [c_20]; decide) (by rw [c_20]; rfl) (by decide) ?_
    refine lv_iconst (v := 0) hx hb dX11_isName_796 (by decide) ?_
    exact x_reti hC hX hr rfl (rt1 hF) (rt2 hF) dX11_isName_797
  replace hF := it_f hF c_20
  by_cases c_21 : x2 = (20 : Int32)
  · replace hF := it_t hF c_21
    refine lv_tableIn (off := 128) (tgt := 796) hx hb dX11_isName_668 (by rw [c_21]; decide) (by rw [c_21]; decide) (by rw [c_21]; rfl) (by decide) ?_
    refine lv_iconst (v := 0) hx hb dX11_isName_796 (by decide) ?_
    exact x_reti hC hX hr rfl (rt1 hF) (rt2 hF) dX11_isName_797
  replace hF := it_f hF c_21
  by_cases c_22 : x2 = (21 : Int32)
  · replace hF := it_t hF c_22
    refine lv_tableIn (off := 128) (tgt := 796) hx hb dX11_isName_668 (by rw [c_22]; decide) (by rw [c_22]; decide) (by rw [c_22]; rfl) (by decide) ?_
    refine lv_iconst (v := 0) hx hb dX11_isName_796 (by decide) ?_
    exact x_reti hC hX hr rfl (rt1 hF) (rt2 hF) dX11_isName_797
  replace hF := it_f hF c_22
  by_cases c_23 : x2 = (22 : Int32)
  · replace hF := it_t hF c_23
    refine lv_tableIn (off := 128) (tgt := 796) hx hb dX11_isName_668 (by rw [c_23]; decide) (by rw [c_23]; decide) (by rw [c_23]; rfl) (by decide) ?_
    refine lv_iconst (v := 0) hx hb dX11_isName_796 (by decide) ?_
    exact x_reti hC hX hr rfl (rt1 hF) (rt2 hF) dX11_isName_797
  replace hF := it_f hF c_23
  by_cases c_24 : x2 = (23 : Int32)
  · replace hF := it_t hF c_24
    refine lv_tableIn (off := 128) (tgt := 796) hx hb dX11_isName_668 (by rw [c_24]; decide) (by rw [c_24]; decide) (by rw [c_24]; rfl) (by decide) ?_
    refine lv_iconst (v := 0) hx hb dX11_isName_796 (by decide) ?_
    exact x_reti hC hX hr rfl (rt1 hF) (rt2 hF) dX11_isName_797
  replace hF := it_f hF c_24
  by_cases c_25 : x2 = (24 : Int32)
  · replace hF := it_t hF c_25
    refine lv_tableIn (off := 128) (tgt := 796) hx hb dX11_isName_668 (by rw [c_25]; decide) (by rw [c_25]; decide) (by rw [c_25]; rfl) (by decide) ?_
    refine lv_iconst (v := 0) hx hb dX11_isName_796 (by decide) ?_
    exact x_reti hC hX hr rfl (rt1 hF) (rt2 hF) dX11_isName_797
  replace hF := it_f hF c_25
  by_cases c_26 : x2 = (25 : Int32)
  · replace hF := it_t hF c_26
    refine lv_tableIn (off := 128) (tgt := 796) hx hb dX11_isName_668 (by rw [c_26]; decide) (by rw [c_26]; decide) (by rw [c_26]; rfl) (by decide) ?_
    refine lv_iconst (v := 0) hx hb dX11_isName_796 (by decide) ?_
    exact x_reti hC hX hr rfl (rt1 hF) (rt2 hF) dX11_isName_797
  replace hF := it_f hF c_26
  by_cases c_27 : x2 = (26 : Int32)
  · replace hF := it_t hF c_27
    refine lv_tableIn (off := 128) (tgt := 796) hx hb dX11_isName_668 (by rw [c_27]; decide) (by rw [c_27]; decide) (by rw [c_27]; rfl) (by decide) ?_
    refine lv_iconst (v := 0) hx hb dX11_isName_796 (by decide) ?_
    exact x_reti hC hX hr rfl (rt1 hF) (rt2 hF) dX11_isName_797
  replace hF := it_f hF c_27
  by_cases c_28 : x2 = (27 : Int32)
  · replace hF := it_t hF c_28
    refine lv_tableIn (off := 128) (tgt := 796) hx hb dX11_isName_668 (by rw [c_28]; decide) (by rw [c_28]; decide) (by rw [c_28]; rfl) (by decide) ?_
    refine lv_iconst (v := 0) hx hb dX11_isName_796 (by decide) ?_
    exact x_reti hC hX hr rfl (rt1 hF) (rt2 hF) dX11_isName_797
  replace hF := it_f hF c_28
  refine lv_tableD (keys := [0, 1, 2, 3, 4, 5, 6, 7, 8, 9, 10, 11, 12, 13, 14, 15, 16, 17, 18, 19, 20, 21, 22, 23, 24, 25, 26, 27]) (tgt := 798) hx hb dX11_isName_668 (List.forall_mem_cons.mpr ⟨ne_toInt c_1 rfl, (List.forall_mem_cons.mpr ⟨ne_toInt c_2 rfl, (List.forall_mem_cons.mpr ⟨ne_toInt c_3 rfl, (List.forall_mem_cons.mpr ⟨ne_toInt c_4 rfl, (List.forall_mem_cons.mpr ⟨ne_toInt c_5 rfl, (List.forall_mem_cons.mpr ⟨ne_toInt c_6 rfl, (List.forall_mem_cons.mpr ⟨ne_toInt c_7 rfl, (List.forall_mem_cons.mpr ⟨ne_toInt c_8 rfl, (List.forall_mem_cons.mpr ⟨ne_toInt c_9 rfl, (List.forall_mem_cons.mpr ⟨ne_toInt c_10 rfl, (List.forall_mem_cons.mpr ⟨ne_toInt c_11 rfl, (List.forall_mem_cons.mpr ⟨ne_toInt c_12 rfl, (List.forall_mem_cons.mpr ⟨ne_toInt c_13 rfl, (List.forall_mem_cons.mpr ⟨ne_toInt c_14 rfl, (List.forall_mem_cons.mpr ⟨ne_toInt c_15 rfl, (List.forall_mem_cons.mpr ⟨ne_toInt c_16 rfl, (List.forall_mem_cons.mpr ⟨ne_toInt c_17 rfl, (List.forall_mem_cons.mpr ⟨ne_toInt c_18 rfl, (List.forall_mem_cons.mpr ⟨ne_toInt c_19 rfl, (List.forall_mem_cons.mpr ⟨ne_toInt c_20 rfl, (List.forall_mem_cons.mpr ⟨ne_toInt c_21 rfl, (List.forall_mem_cons.mpr ⟨ne_toInt c_22 rfl, (List.forall_mem_cons.mpr ⟨ne_toInt c_23 rfl, (List.forall_mem_cons.mpr ⟨ne_toInt c_24 rfl, (List.forall_mem_cons.mpr ⟨ne_toInt c_25 rfl, (List.forall_mem_cons.mpr ⟨ne_toInt c_26 rfl, (List.forall_mem_cons.mpr ⟨ne_toInt c_27 rfl, (List.forall_mem_cons.mpr ⟨ne_toInt c_28 rfl, (fun _ h => nomatch h)⟩)⟩)⟩)⟩)⟩)⟩)⟩)⟩)⟩)⟩)⟩)⟩)⟩)⟩)⟩)⟩)⟩)⟩)⟩)⟩)⟩)⟩)⟩)⟩)⟩)⟩)⟩)⟩) rfl rfl (by decide) ?_
  refine lv_iconst (v := 1) hx hb dX11_isName_798 (by decide) ?_
  exact x_reti hC hX hr rfl (rt1 hF) (rt2 hF) dX11_isName_799
def F_X11_isName (K : Nat → Nat) (a0 : Nat) (h : TH) : Option (Int32 × TH) :=
  gd (hasF (hT h a0) 68 = true) <|
  if (hI h 68 a0) = (1 : Int32) then
    gd (hasF (hT h a0) 72 = true) <|
    lt (hR h 72 a0) fun r_4 =>
    gd (hT h r_4 = 9 ∨ hT h r_4 = 41) <|
    bd2 (F_J11_hashCode K r_4 h) fun r_8 h_7 =>
    if r_8 = (-1224619983 : Int32) then
      lt ((K 14)) fun r_10 =>
      gd (hT h_7 r_4 = 9 ∨ hT h_7 r_4 = 41) <|
      bd (F_J11_equals K h_7 r_4 r_10) fun r_13 =>
      if r_13 = 0 then
        F_X11_isName_b667 K (-1 : Int32) h_7
      else
        F_X11_isName_b667 K (20 : Int32) h_7
    else
    if r_8 = (-991808881 : Int32) then
      lt ((K 1)) fun r_16 =>
      gd (hT h_7 r_4 = 9 ∨ hT h_7 r_4 = 41) <|
      bd (F_J11_equals K h_7 r_4 r_16) fun r_19 =>
      if r_19 = 0 then
        F_X11_isName_b667 K (-1 : Int32) h_7
      else
        F_X11_isName_b667 K (0 : Int32) h_7
    else
    if r_8 = (3304 : Int32) then
      lt ((K 28)) fun r_22 =>
      gd (hT h_7 r_4 = 9 ∨ hT h_7 r_4 = 41) <|
      bd (F_J11_equals K h_7 r_4 r_22) fun r_25 =>
      if r_25 = 0 then
        F_X11_isName_b667 K (-1 : Int32) h_7
      else
        F_X11_isName_b667 K (7 : Int32) h_7
    else
    if r_8 = (3357 : Int32) then
      lt ((K 22)) fun r_28 =>
      gd (hT h_7 r_4 = 9 ∨ hT h_7 r_4 = 41) <|
      bd (F_J11_equals K h_7 r_4 r_28) fun r_31 =>
      if r_31 = 0 then
        F_X11_isName_b667 K (-1 : Int32) h_7
      else
        F_X11_isName_b667 K (6 : Int32) h_7
    else
    if r_8 = (3543 : Int32) then
      lt ((K 17)) fun r_34 =>
      gd (hT h_7 r_4 = 9 ∨ hT h_7 r_4 = 41) <|
      bd (F_J11_equals K h_7 r_4 r_34) fun r_37 =>
      if r_37 = 0 then
        F_X11_isName_b667 K (-1 : Int32) h_7
      else
        F_X11_isName_b667 K (22 : Int32) h_7
    else
    if r_8 = (3555 : Int32) then
      lt ((K 9)) fun r_40 =>
      gd (hT h_7 r_4 = 9 ∨ hT h_7 r_4 = 41) <|
      bd (F_J11_equals K h_7 r_4 r_40) fun r_43 =>
      if r_43 = 0 then
        F_X11_isName_b667 K (-1 : Int32) h_7
      else
        F_X11_isName_b667 K (26 : Int32) h_7
    else
    if r_8 = (3707 : Int32) then
      lt ((K 18)) fun r_46 =>
      gd (hT h_7 r_4 = 9 ∨ hT h_7 r_4 = 41) <|
      bd (F_J11_equals K h_7 r_4 r_46) fun r_49 =>
      if r_49 = 0 then
        F_X11_isName_b667 K (-1 : Int32) h_7
      else
        F_X11_isName_b667 K (19 : Int32) h_7
    else
    if r_8 = (96673 : Int32) then
      lt ((K 7)) fun r_52 =>
      gd (hT h_7 r_4 = 9 ∨ hT h_7 r_4 = 41) <|
      bd (F_J11_equals K h_7 r_4 r_52) fun r_55 =>
      if r_55 = 0 then
        F_X11_isName_b667 K (-1 : Int32) h_7
      else
        F_X11_isName_b667 K (24 : Int32) h_7
    else
    if r_8 = (96727 : Int32) then
      lt ((K 8)) fun r_58 =>
      gd (hT h_7 r_4 = 9 ∨ hT h_7 r_4 = 41) <|
      bd (F_J11_equals K h_7 r_4 r_58) fun r_61 =>
      if r_61 = 0 then
        F_X11_isName_b667 K (-1 : Int32) h_7
      else
        F_X11_isName_b667 K (25 : Int32) h_7
    else
    if r_8 = (96737 : Int32) then
      lt ((K 4)) fun r_64 =>
      gd (hT h_7 r_4 = 9 ∨ hT h_7 r_4 = 41) <|
      bd (F_J11_equals K h_7 r_4 r_64) fun r_67 =>
      if r_67 = 0 then
        F_X11_isName_b667 K (-1 : Int32) h_7
      else
        F_X11_isName_b667 K (11 : Int32) h_7
    else
    if r_8 = (97717 : Int32) then
      lt ((K 5)) fun r_70 =>
      gd (hT h_7 r_4 = 9 ∨ hT h_7 r_4 = 41) <|
      bd (F_J11_equals K h_7 r_4 r_70) fun r_73 =>
      if r_73 = 0 then
        F_X11_isName_b667 K (-1 : Int32) h_7
      else
        F_X11_isName_b667 K (12 : Int32) h_7
    else
    if r_8 = (98882 : Int32) then
      lt ((K 13)) fun r_76 =>
      gd (hT h_7 r_4 = 9 ∨ hT h_7 r_4 = 41) <|
      bd (F_J11_equals K h_7 r_4 r_76) fun r_79 =>
      if r_79 = 0 then
        F_X11_isName_b667 K (-1 : Int32) h_7
      else
        F_X11_isName_b667 K (18 : Int32) h_7
    else
    if r_8 = (98990 : Int32) then
      lt ((K 6)) fun r_82 =>
      gd (hT h_7 r_4 = 9 ∨ hT h_7 r_4 = 41) <|
      bd (F_J11_equals K h_7 r_4 r_82) fun r_85 =>
      if r_85 = 0 then
        F_X11_isName_b667 K (-1 : Int32) h_7
      else
        F_X11_isName_b667 K (13 : Int32) h_7
    else
    if r_8 = (100571 : Int32) then
      lt ((K 24)) fun r_88 =>
      gd (hT h_7 r_4 = 9 ∨ hT h_7 r_4 = 41) <|
      bd (F_J11_equals K h_7 r_4 r_88) fun r_91 =>
      if r_91 = 0 then
        F_X11_isName_b667 K (-1 : Int32) h_7
      else
        F_X11_isName_b667 K (9 : Int32) h_7
    else
    if r_8 = (106916 : Int32) then
      lt ((K 20)) fun r_94 =>
      gd (hT h_7 r_4 = 9 ∨ hT h_7 r_4 = 41) <|
      bd (F_J11_equals K h_7 r_4 r_94) fun r_97 =>
      if r_97 = 0 then
        F_X11_isName_b667 K (-1 : Int32) h_7
      else
        F_X11_isName_b667 K (3 : Int32) h_7
    else
    if r_8 = (107877 : Int32) then
      lt ((K 10)) fun r_100 =>
      gd (hT h_7 r_4 = 9 ∨ hT h_7 r_4 = 41) <|
      bd (F_J11_equals K h_7 r_4 r_100) fun r_103 =>
      if r_103 = 0 then
        F_X11_isName_b667 K (-1 : Int32) h_7
      else
        F_X11_isName_b667 K (2 : Int32) h_7
    else
    if r_8 = (108124 : Int32) then
      lt ((K 16)) fun r_106 =>
      gd (hT h_7 r_4 = 9 ∨ hT h_7 r_4 = 41) <|
      bd (F_J11_equals K h_7 r_4 r_106) fun r_109 =>
      if r_109 = 0 then
        F_X11_isName_b667 K (-1 : Int32) h_7
      else
        F_X11_isName_b667 K (23 : Int32) h_7
    else
    if r_8 = (109267 : Int32) then
      lt ((K 3)) fun r_112 =>
      gd (hT h_7 r_4 = 9 ∨ hT h_7 r_4 = 41) <|
      bd (F_J11_equals K h_7 r_4 r_112) fun r_115 =>
      if r_115 = 0 then
        F_X11_isName_b667 K (-1 : Int32) h_7
      else
        F_X11_isName_b667 K (27 : Int32) h_7
    else
    if r_8 = (111375 : Int32) then
      lt ((K 21)) fun r_118 =>
      gd (hT h_7 r_4 = 9 ∨ hT h_7 r_4 = 41) <|
      bd (F_J11_equals K h_7 r_4 r_118) fun r_121 =>
      if r_121 = 0 then
        F_X11_isName_b667 K (-1 : Int32) h_7
      else
        F_X11_isName_b667 K (4 : Int32) h_7
    else
    if r_8 = (112785 : Int32) then
      lt ((K 26)) fun r_124 =>
      gd (hT h_7 r_4 = 9 ∨ hT h_7 r_4 = 41) <|
      bd (F_J11_equals K h_7 r_4 r_124) fun r_127 =>
      if r_127 = 0 then
        F_X11_isName_b667 K (-1 : Int32) h_7
      else
        F_X11_isName_b667 K (14 : Int32) h_7
    else
    if r_8 = (113114 : Int32) then
      lt ((K 12)) fun r_130 =>
      gd (hT h_7 r_4 = 9 ∨ hT h_7 r_4 = 41) <|
      bd (F_J11_equals K h_7 r_4 r_130) fun r_133 =>
      if r_133 = 0 then
        F_X11_isName_b667 K (-1 : Int32) h_7
      else
        F_X11_isName_b667 K (17 : Int32) h_7
    else
    if r_8 = (3003674 : Int32) then
      lt ((K 2)) fun r_136 =>
      gd (hT h_7 r_4 = 9 ∨ hT h_7 r_4 = 41) <|
      bd (F_J11_equals K h_7 r_4 r_136) fun r_139 =>
      if r_139 = 0 then
        F_X11_isName_b667 K (-1 : Int32) h_7
      else
        F_X11_isName_b667 K (1 : Int32) h_7
    else
    if r_8 = (3344077 : Int32) then
      lt ((K 23)) fun r_142 =>
      gd (hT h_7 r_4 = 9 ∨ hT h_7 r_4 = 41) <|
      bd (F_J11_equals K h_7 r_4 r_142) fun r_145 =>
      if r_145 = 0 then
        F_X11_isName_b667 K (-1 : Int32) h_7
      else
        F_X11_isName_b667 K (8 : Int32) h_7
    else
    if r_8 = (3417674 : Int32) then
      lt ((K 19)) fun r_148 =>
      gd (hT h_7 r_4 = 9 ∨ hT h_7 r_4 = 41) <|
      bd (F_J11_equals K h_7 r_4 r_148) fun r_151 =>
      if r_151 = 0 then
        F_X11_isName_b667 K (-1 : Int32) h_7
      else
        F_X11_isName_b667 K (5 : Int32) h_7
    else
    if r_8 = (3523048 : Int32) then
      lt ((K 25)) fun r_154 =>
      gd (hT h_7 r_4 = 9 ∨ hT h_7 r_4 = 41) <|
      bd (F_J11_equals K h_7 r_4 r_154) fun r_157 =>
      if r_157 = 0 then
        F_X11_isName_b667 K (-1 : Int32) h_7
      else
        F_X11_isName_b667 K (10 : Int32) h_7
    else
    if r_8 = (3543443 : Int32) then
      lt ((K 11)) fun r_160 =>
      gd (hT h_7 r_4 = 9 ∨ hT h_7 r_4 = 41) <|
      bd (F_J11_equals K h_7 r_4 r_160) fun r_163 =>
      if r_163 = 0 then
        F_X11_isName_b667 K (-1 : Int32) h_7
      else
        F_X11_isName_b667 K (16 : Int32) h_7
    else
    if r_8 = (93818879 : Int32) then
      lt ((K 27)) fun r_166 =>
      gd (hT h_7 r_4 = 9 ∨ hT h_7 r_4 = 41) <|
      bd (F_J11_equals K h_7 r_4 r_166) fun r_169 =>
      if r_169 = 0 then
        F_X11_isName_b667 K (-1 : Int32) h_7
      else
        F_X11_isName_b667 K (15 : Int32) h_7
    else
    if r_8 = (106669441 : Int32) then
      lt ((K 15)) fun r_172 =>
      gd (hT h_7 r_4 = 9 ∨ hT h_7 r_4 = 41) <|
      bd (F_J11_equals K h_7 r_4 r_172) fun r_175 =>
      if r_175 = 0 then
        F_X11_isName_b667 K (-1 : Int32) h_7
      else
        F_X11_isName_b667 K (21 : Int32) h_7
    else
      F_X11_isName_b667 K (-1 : Int32) h_7
  else
    some ((0 : Int32), h)
set_option maxHeartbeats 4000000 in
theorem w_X11_isName {p : Program} {l : Launch} {e : Env} {s : State} {m : MethodId} {args : Array Value} {below : List Frame} {meth : Method} {c : Code} {D : XD} {h0 : TH} (hC : XCx D cX11_isName 3 RX11 h0 p (xRm 4 90 h0) s m args meth c) (hr : meth.sig.returnType = some .boolean) (hnh : c.exceptionTable.isEmpty = true) (hin : meth.name = "isName") {x : (Int32 × TH)} :
    ∀ (a0 : Nat) (h : TH), F_X11_isName D.2.2.2 a0 h = some x → XJ p l e (xRm 4 90 h0) s m args below meth c D 3 (.returned (some (.int x.1))) h0 x.2 0 [(0, rv a0)] [] h := by
  have hx := hC.1
  have hb := hC.2.1
  intro a0 h hF H locs cells slots ls hX hl
  rw [F_X11_isName] at hF
  refine X_aload_n hx hb dX11_isName_0 rfl (lv_at hl 0 rfl) ?_
  obtain ⟨h_1, hF⟩ := gd_ok hF
  refine gX_X11_46 hC hX h_1 dX11_isName_1 ?_
  refine lv_iconst (v := 1) hx hb dX11_isName_4 (by decide) ?_
  refine lv_icmp_eq (tgt := 10) hx hb dX11_isName_5 (by decide) (fun c_2 => ?_) (fun c_2 => ?_)
  · replace hF := it_t hF c_2
    refine X_aload_n hx hb dX11_isName_10 rfl (lv_at hl 0 rfl) ?_
    obtain ⟨h_3, hF⟩ := gd_ok hF
    refine gX_X11_17 hC hX h_3 dX11_isName_11 ?_
    refine lv_topr (fun r_4 er_4 => ?_)
    replace hF := lt_at hF er_4
    refine X_astore_n (i := 1) hx hb dX11_isName_14 rfl hl (by decide) rfl (fun ls hl => ?_)
    replace hl : lv_has ls 3 [(1, rv r_4), (0, rv a0)] := lv_subS hl (List.forall_mem_cons.mpr ⟨Or.inl rfl, (List.forall_mem_cons.mpr ⟨Or.inr ⟨List.mem_of_getElem? (i := 0) rfl, by simp [rv_cat]⟩, (fun _ h => nomatch h)⟩)⟩)
    refine lv_iconst (v := -1) hx hb dX11_isName_15 (by decide) ?_
    refine lv_istore_n (i := 2) hx hb dX11_isName_16 rfl hl (by decide) rfl (fun ls hl => ?_)
    replace hl : lv_has ls 3 [(2, .int (-1 : Int32)), (1, rv r_4), (0, rv a0)] := lv_subS hl (List.forall_mem_cons.mpr ⟨Or.inl rfl, (List.forall_mem_cons.mpr ⟨Or.inr ⟨List.mem_of_getElem? (i := 0) rfl, by simp [rv_cat]⟩, (List.forall_mem_cons.mpr ⟨Or.inr ⟨List.mem_of_getElem? (i := 1) rfl, rfl⟩, (fun _ h => nomatch h)⟩)⟩)⟩)
    refine X_aload_n hx hb dX11_isName_17 rfl (lv_at hl 1 rfl) ?_
    obtain ⟨h_5, hF⟩ := gd_ok hF
    obtain ⟨r_8, h_7, hc_6, hF⟩ := bd2_ok hF
    refine iX_X11_97 hC hX h_5 hc_6 hl.1 (Nat.le_of_ble_eq_true rfl) (Nat.le_of_ble_eq_true rfl) (Nat.le_of_ble_eq_true rfl) dX11_isName_18 (fun H locs cells slots hX => ?_)
    by_cases c_9 : r_8 = (-1224619983 : Int32)
    · replace hF := it_t hF c_9
      refine lv_lookup (off := 529) (tgt := 550) hx hb dX11_isName_21 rfl (by rw [c_9]; rfl) (by decide) ?_
      refine X_aload_n hx hb dX11_isName_550 rfl (lv_at hl 1 rfl) ?_
      refine X_ldcS hC (i := 14) (List.mem_of_getElem? (i := 14) rfl) dX11_isName_551 ?_
      refine lv_topr (fun r_10 er_10 => ?_)
      replace hF := lt_at hF er_10
      obtain ⟨h_11, hF⟩ := gd_ok hF
      obtain ⟨r_13, hc_12, hF⟩ := bd_ok hF
      refine iX_X11_80 hC hX h_11 hc_12 hl.1 (Nat.le_of_ble_eq_true rfl) (Nat.le_of_ble_eq_true rfl) (Nat.le_of_ble_eq_true rfl) dX11_isName_553 (fun H locs cells slots hX => ?_)
      refine lv_if_eq (tgt := 667) hx hb dX11_isName_556 (by decide) (fun c_14 => ?_) (fun c_14 => ?_)
      · replace hF := it_t hF c_14
        exact w_X11_isName_b667 hC hr hnh hin (-1 : Int32) h_7 hF H locs cells slots ls hX (lv_sub hl [0] rfl)
      · replace hF := it_f hF c_14
        refine lv_bipush (v := 20) hx hb dX11_isName_559 (by decide) ?_
        refine lv_istore_n (i := 2) hx hb dX11_isName_561 rfl hl (by decide) rfl (fun ls hl => ?_)
        replace hl : lv_has ls 3 [(2, .int (20 : Int32)), (1, rv r_4), (0, rv a0)] := lv_subS hl (List.forall_mem_cons.mpr ⟨Or.inl rfl, (List.forall_mem_cons.mpr ⟨Or.inr ⟨List.mem_of_getElem? (i := 1) rfl, by simp [rv_cat]⟩, (List.forall_mem_cons.mpr ⟨Or.inr ⟨List.mem_of_getElem? (i := 2) rfl, rfl⟩, (fun _ h => nomatch h)⟩)⟩)⟩)
        refine lv_goto (tgt := 667) hx hb dX11_isName_562 (by decide) ?_
        exact w_X11_isName_b667 hC hr hnh hin (20 : Int32) h_7 hF H locs cells slots ls hX (lv_sub hl [0] rfl)
    replace hF := it_f hF c_9
    by_cases c_15 : r_8 = (-991808881 : Int32)
    · replace hF := it_t hF c_15
      refine lv_lookup (off := 235) (tgt := 256) hx hb dX11_isName_21 rfl (by rw [c_15]; rfl) (by decide) ?_
      refine X_aload_n hx hb dX11_isName_256 rfl (lv_at hl 1 rfl) ?_
      refine X_ldcS hC (i := 1) (List.mem_of_getElem? (i := 1) rfl) dX11_isName_257 ?_
      refine lv_topr (fun r_16 er_16 => ?_)
      replace hF := lt_at hF er_16
      obtain ⟨h_17, hF⟩ := gd_ok hF
      obtain ⟨r_19, hc_18, hF⟩ := bd_ok hF
      refine iX_X11_80 hC hX h_17 hc_18 hl.1 (Nat.le_of_ble_eq_true rfl) (Nat.le_of_ble_eq_true rfl) (Nat.le_of_ble_eq_true rfl) dX11_isName_259 (fun H locs cells slots hX => ?_)
      refine lv_if_eq (tgt := 667) hx hb dX11_isName_262 (by decide) (fun c_20 => ?_) (fun c_20 => ?_)
      · replace hF := it_t hF c_20
        exact w_X11_isName_b667 hC hr hnh hin (-1 : Int32) h_7 hF H locs cells slots ls hX (lv_sub hl [0] rfl)
      · replace hF := it_f hF c_20
        refine lv_iconst (v := 0) hx hb dX11_isName_265 (by decide) ?_
        refine lv_istore_n (i := 2) hx hb dX11_isName_266 rfl hl (by decide) rfl (fun ls hl => ?_)
        replace hl : lv_has ls 3 [(2, .int (0 : Int32)), (1, rv r_4), (0, rv a0)] := lv_subS hl (List.forall_mem_cons.mpr ⟨Or.inl rfl, (List.forall_mem_cons.mpr ⟨Or.inr ⟨List.mem_of_getElem? (i := 1) rfl, by simp [rv_cat]⟩, (List.forall_mem_cons.mpr ⟨Or.inr ⟨List.mem_of_getElem? (i := 2) rfl, rfl⟩, (fun _ h => nomatch h)⟩)⟩)⟩)
        refine lv_goto (tgt := 667) hx hb dX11_isName_267 (by decide) ?_
        exact w_X11_isName_b667 hC hr hnh hin (0 : Int32) h_7 hF H locs cells slots ls hX (lv_sub hl [0] rfl)
    replace hF := it_f hF c_15
    by_cases c_21 : r_8 = (3304 : Int32)
    · replace hF := it_t hF c_21
      refine lv_lookup (off := 334) (tgt := 355) hx hb dX11_isName_21 rfl (by rw [c_21]; rfl) (by decide) ?_
      refine X_aload_n hx hb dX11_isName_355 rfl (lv_at hl 1 rfl) ?_
      refine X_ldcS hC (i := 28) (List.mem_of_getElem? (i := 28) rfl) dX11_isName_356 ?_
      refine lv_topr (fun r_22 er_22 => ?_)
      replace hF := lt_at hF er_22
      obtain ⟨h_23, hF⟩ := gd_ok hF
      obtain ⟨r_25, hc_24, hF⟩ := bd_ok hF
      refine iX_X11_80 hC hX h_23 hc_24 hl.1 (Nat.le_of_ble_eq_true rfl) (Nat.le_of_ble_eq_true rfl) (Nat.le_of_ble_eq_true rfl) dX11_isName_358 (fun H locs cells slots hX => ?_)
      refine lv_if_eq (tgt := 667) hx hb dX11_isName_361 (by decide) (fun c_26 => ?_) (fun c_26 => ?_)
      · replace hF := it_t hF c_26
        exact w_X11_isName_b667 hC hr hnh hin (-1 : Int32) h_7 hF H locs cells slots ls hX (lv_sub hl [0] rfl)
      · replace hF := it_f hF c_26
        refine lv_bipush (v := 7) hx hb dX11_isName_364 (by decide) ?_
        refine lv_istore_n (i := 2) hx hb dX11_isName_366 rfl hl (by decide) rfl (fun ls hl => ?_)
        replace hl : lv_has ls 3 [(2, .int (7 : Int32)), (1, rv r_4), (0, rv a0)] := lv_subS hl (List.forall_mem_cons.mpr ⟨Or.inl rfl, (List.forall_mem_cons.mpr ⟨Or.inr ⟨List.mem_of_getElem? (i := 1) rfl, by simp [rv_cat]⟩, (List.forall_mem_cons.mpr ⟨Or.inr ⟨List.mem_of_getElem? (i := 2) rfl, rfl⟩, (fun _ h => nomatch h)⟩)⟩)⟩)
        refine lv_goto (tgt := 667) hx hb dX11_isName_367 (by decide) ?_
        exact w_X11_isName_b667 hC hr hnh hin (7 : Int32) h_7 hF H locs cells slots ls hX (lv_sub hl [0] rfl)
    replace hF := it_f hF c_21
    by_cases c_27 : r_8 = (3357 : Int32)
    · replace hF := it_t hF c_27
      refine lv_lookup (off := 319) (tgt := 340) hx hb dX11_isName_21 rfl (by rw [c_27]; rfl) (by decide) ?_
      refine X_aload_n hx hb dX11_isName_340 rfl (lv_at hl 1 rfl) ?_
      refine X_ldcS hC (i := 22) (List.mem_of_getElem? (i := 22) rfl) dX11_isName_341 ?_
      refine lv_topr (fun r_28 er_28 => ?_)
      replace hF := lt_at hF er_28
      obtain ⟨h_29, hF⟩ := gd_ok hF
      obtain ⟨r_31, hc_30, hF⟩ := bd_ok hF
      refine iX_X11_80 hC hX h_29 hc_30 hl.1 (Nat.le_of_ble_eq_true rfl) (Nat.le_of_ble_eq_true rfl) (Nat.le_of_ble_eq_true rfl) dX11_isName_343 (fun H locs cells slots hX => ?_)
      refine lv_if_eq (tgt := 667) hx hb dX11_isName_346 (by decide) (fun c_32 => ?_) (fun c_32 => ?_)
      · replace hF := it_t hF c_32
        exact w_X11_isName_b667 hC hr hnh hin (-1 : Int32) h_7 hF H locs cells slots ls hX (lv_sub hl [0] rfl)
      · replace hF := it_f hF c_32
        refine lv_bipush (v := 6) hx hb dX11_isName_349 (by decide) ?_
        refine lv_istore_n (i := 2) hx hb dX11_isName_351 rfl hl (by decide) rfl (fun ls hl => ?_)
        replace hl : lv_has ls 3 [(2, .int (6 : Int32)), (1, rv r_4), (0, rv a0)] := lv_subS hl (List.forall_mem_cons.mpr ⟨Or.inl rfl, (List.forall_mem_cons.mpr ⟨Or.inr ⟨List.mem_of_getElem? (i := 1) rfl, by simp [rv_cat]⟩, (List.forall_mem_cons.mpr ⟨Or.inr ⟨List.mem_of_getElem? (i := 2) rfl, rfl⟩, (fun _ h => nomatch h)⟩)⟩)⟩)
        refine lv_goto (tgt := 667) hx hb dX11_isName_352 (by decide) ?_
        exact w_X11_isName_b667 hC hr hnh hin (6 : Int32) h_7 hF H locs cells slots ls hX (lv_sub hl [0] rfl)
    replace hF := it_f hF c_27
    by_cases c_33 : r_8 = (3543 : Int32)
    · replace hF := it_t hF c_33
      refine lv_lookup (off := 559) (tgt := 580) hx hb dX11_isName_21 rfl (by rw [c_33]; rfl) (by decide) ?_
      refine X_aload_n hx hb dX11_isName_580 rfl (lv_at hl 1 rfl) ?_
      refine X_ldcS hC (i := 17) (List.mem_of_getElem? (i := 17) rfl) dX11_isName_581 ?_
      refine lv_topr (fun r_34 er_34 => ?_)
      replace hF := lt_at hF er_34
      obtain ⟨h_35, hF⟩ := gd_ok hF
      obtain ⟨r_37, hc_36, hF⟩ := bd_ok hF
      refine iX_X11_80 hC hX h_35 hc_36 hl.1 (Nat.le_of_ble_eq_true rfl) (Nat.le_of_ble_eq_true rfl) (Nat.le_of_ble_eq_true rfl) dX11_isName_583 (fun H locs cells slots hX => ?_)
      refine lv_if_eq (tgt := 667) hx hb dX11_isName_586 (by decide) (fun c_38 => ?_) (fun c_38 => ?_)
      · replace hF := it_t hF c_38
        exact w_X11_isName_b667 hC hr hnh hin (-1 : Int32) h_7 hF H locs cells slots ls hX (lv_sub hl [0] rfl)
      · replace hF := it_f hF c_38
        refine lv_bipush (v := 22) hx hb dX11_isName_589 (by decide) ?_
        refine lv_istore_n (i := 2) hx hb dX11_isName_591 rfl hl (by decide) rfl (fun ls hl => ?_)
        replace hl : lv_has ls 3 [(2, .int (22 : Int32)), (1, rv r_4), (0, rv a0)] := lv_subS hl (List.forall_mem_cons.mpr ⟨Or.inl rfl, (List.forall_mem_cons.mpr ⟨Or.inr ⟨List.mem_of_getElem? (i := 1) rfl, by simp [rv_cat]⟩, (List.forall_mem_cons.mpr ⟨Or.inr ⟨List.mem_of_getElem? (i := 2) rfl, rfl⟩, (fun _ h => nomatch h)⟩)⟩)⟩)
        refine lv_goto (tgt := 667) hx hb dX11_isName_592 (by decide) ?_
        exact w_X11_isName_b667 hC hr hnh hin (22 : Int32) h_7 hF H locs cells slots ls hX (lv_sub hl [0] rfl)
    replace hF := it_f hF c_33
    by_cases c_39 : r_8 = (3555 : Int32)
    · replace hF := it_t hF c_39
      refine lv_lookup (off := 619) (tgt := 640) hx hb dX11_isName_21 rfl (by rw [c_39]; rfl) (by decide) ?_
      refine X_aload_n hx hb dX11_isName_640 rfl (lv_at hl 1 rfl) ?_
      refine X_ldcS hC (i := 9) (List.mem_of_getElem? (i := 9) rfl) dX11_isName_641 ?_
      refine lv_topr (fun r_40 er_40 => ?_)
      replace hF := lt_at hF er_40
      obtain ⟨h_41, hF⟩ := gd_ok hF
      obtain ⟨r_43, hc_42, hF⟩ := bd_ok hF
      refine iX_X11_80 hC hX h_41 hc_42 hl.1 (Nat.le_of_ble_eq_true rfl) (Nat.le_of_ble_eq_true rfl) (Nat.le_of_ble_eq_true rfl) dX11_isName_643 (fun H locs cells slots hX => ?_)
      refine lv_if_eq (tgt := 667) hx hb dX11_isName_646 (by decide) (fun c_44 => ?_) (fun c_44 => ?_)
      · replace hF := it_t hF c_44
        exact w_X11_isName_b667 hC hr hnh hin (-1 : Int32) h_7 hF H locs cells slots ls hX (lv_sub hl [0] rfl)
      · replace hF := it_f hF c_44
        refine lv_bipush (v := 26) hx hb dX11_isName_649 (by decide) ?_
        refine lv_istore_n (i := 2) hx hb dX11_isName_651 rfl hl (by decide) rfl (fun ls hl => ?_)
        replace hl : lv_has ls 3 [(2, .int (26 : Int32)), (1, rv r_4), (0, rv a0)] := lv_subS hl (List.forall_mem_cons.mpr ⟨Or.inl rfl, (List.forall_mem_cons.mpr ⟨Or.inr ⟨List.mem_of_getElem? (i := 1) rfl, by simp [rv_cat]⟩, (List.forall_mem_cons.mpr ⟨Or.inr ⟨List.mem_of_getElem? (i := 2) rfl, rfl⟩, (fun _ h => nomatch h)⟩)⟩)⟩)
        refine lv_goto (tgt := 667) hx hb dX11_isName_652 (by decide) ?_
        exact w_X11_isName_b667 hC hr hnh hin (26 : Int32) h_7 hF H locs cells slots ls hX (lv_sub hl [0] rfl)
    replace hF := it_f hF c_39
    by_cases c_45 : r_8 = (3707 : Int32)
    · replace hF := it_t hF c_45
      refine lv_lookup (off := 514) (tgt := 535) hx hb dX11_isName_21 rfl (by rw [c_45]; rfl) (by decide) ?_
      refine X_aload_n hx hb dX11_isName_535 rfl (lv_at hl 1 rfl) ?_
      refine X_ldcS hC (i := 18) (List.mem_of_getElem? (i := 18) rfl) dX11_isName_536 ?_
      refine lv_topr (fun r_46 er_46 => ?_)
      replace hF := lt_at hF er_46
      obtain ⟨h_47, hF⟩ := gd_ok hF
      obtain ⟨r_49, hc_48, hF⟩ := bd_ok hF
      refine iX_X11_80 hC hX h_47 hc_48 hl.1 (Nat.le_of_ble_eq_true rfl) (Nat.le_of_ble_eq_true rfl) (Nat.le_of_ble_eq_true rfl) dX11_isName_538 (fun H locs cells slots hX => ?_)
      refine lv_if_eq (tgt := 667) hx hb dX11_isName_541 (by decide) (fun c_50 => ?_) (fun c_50 => ?_)
      · replace hF := it_t hF c_50
        exact w_X11_isName_b667 hC hr hnh hin (-1 : Int32) h_7 hF H locs cells slots ls hX (lv_sub hl [0] rfl)
      · replace hF := it_f hF c_50
        refine lv_bipush (v := 19) hx hb dX11_isName_544 (by decide) ?_
        refine lv_istore_n (i := 2) hx hb dX11_isName_546 rfl hl (by decide) rfl (fun ls hl => ?_)
        replace hl : lv_has ls 3 [(2, .int (19 : Int32)), (1, rv r_4), (0, rv a0)] := lv_subS hl (List.forall_mem_cons.mpr ⟨Or.inl rfl, (List.forall_mem_cons.mpr ⟨Or.inr ⟨List.mem_of_getElem? (i := 1) rfl, by simp [rv_cat]⟩, (List.forall_mem_cons.mpr ⟨Or.inr ⟨List.mem_of_getElem? (i := 2) rfl, rfl⟩, (fun _ h => nomatch h)⟩)⟩)⟩)
        refine lv_goto (tgt := 667) hx hb dX11_isName_547 (by decide) ?_
        exact w_X11_isName_b667 hC hr hnh hin (19 : Int32) h_7 hF H locs cells slots ls hX (lv_sub hl [0] rfl)
    replace hF := it_f hF c_45
    by_cases c_51 : r_8 = (96673 : Int32)
    · replace hF := it_t hF c_51
      refine lv_lookup (off := 589) (tgt := 610) hx hb dX11_isName_21 rfl (by rw [c_51]; rfl) (by decide) ?_
      refine X_aload_n hx hb dX11_isName_610 rfl (lv_at hl 1 rfl) ?_
      refine X_ldcS hC (i := 7) (List.mem_of_getElem? (i := 7) rfl) dX11_isName_611 ?_
      refine lv_topr (fun r_52 er_52 => ?_)
      replace hF := lt_at hF er_52
      obtain ⟨h_53, hF⟩ := gd_ok hF
      obtain ⟨r_55, hc_54, hF⟩ := bd_ok hF
      refine iX_X11_80 hC hX h_53 hc_54 hl.1 (Nat.le_of_ble_eq_true rfl) (Nat.le_of_ble_eq_true rfl) (Nat.le_of_ble_eq_true rfl) dX11_isName_613 (fun H locs cells slots hX => ?_)
      refine lv_if_eq (tgt := 667) hx hb dX11_isName_616 (by decide) (fun c_56 => ?_) (fun c_56 => ?_)
      · replace hF := it_t hF c_56
        exact w_X11_isName_b667 hC hr hnh hin (-1 : Int32) h_7 hF H locs cells slots ls hX (lv_sub hl [0] rfl)
      · replace hF := it_f hF c_56
        refine lv_bipush (v := 24) hx hb dX11_isName_619 (by decide) ?_
        refine lv_istore_n (i := 2) hx hb dX11_isName_621 rfl hl (by decide) rfl (fun ls hl => ?_)
        replace hl : lv_has ls 3 [(2, .int (24 : Int32)), (1, rv r_4), (0, rv a0)] := lv_subS hl (List.forall_mem_cons.mpr ⟨Or.inl rfl, (List.forall_mem_cons.mpr ⟨Or.inr ⟨List.mem_of_getElem? (i := 1) rfl, by simp [rv_cat]⟩, (List.forall_mem_cons.mpr ⟨Or.inr ⟨List.mem_of_getElem? (i := 2) rfl, rfl⟩, (fun _ h => nomatch h)⟩)⟩)⟩)
        refine lv_goto (tgt := 667) hx hb dX11_isName_622 (by decide) ?_
        exact w_X11_isName_b667 hC hr hnh hin (24 : Int32) h_7 hF H locs cells slots ls hX (lv_sub hl [0] rfl)
    replace hF := it_f hF c_51
    by_cases c_57 : r_8 = (96727 : Int32)
    · replace hF := it_t hF c_57
      refine lv_lookup (off := 604) (tgt := 625) hx hb dX11_isName_21 rfl (by rw [c_57]; rfl) (by decide) ?_
      refine X_aload_n hx hb dX11_isName_625 rfl (lv_at hl 1 rfl) ?_
      refine X_ldcS hC (i := 8) (List.mem_of_getElem? (i := 8) rfl) dX11_isName_626 ?_
      refine lv_topr (fun r_58 er_58 => ?_)
      replace hF := lt_at hF er_58
      obtain ⟨h_59, hF⟩ := gd_ok hF
      obtain ⟨r_61, hc_60, hF⟩ := bd_ok hF
      refine iX_X11_80 hC hX h_59 hc_60 hl.1 (Nat.le_of_ble_eq_true rfl) (Nat.le_of_ble_eq_true rfl) (Nat.le_of_ble_eq_true rfl) dX11_isName_628 (fun H locs cells slots hX => ?_)
      refine lv_if_eq (tgt := 667) hx hb dX11_isName_631 (by decide) (fun c_62 => ?_) (fun c_62 => ?_)
      · replace hF := it_t hF c_62
        exact w_X11_isName_b667 hC hr hnh hin (-1 : Int32) h_7 hF H locs cells slots ls hX (lv_sub hl [0] rfl)
      · replace hF := it_f hF c_62
        refine lv_bipush (v := 25) hx hb dX11_isName_634 (by decide) ?_
        refine lv_istore_n (i := 2) hx hb dX11_isName_636 rfl hl (by decide) rfl (fun ls hl => ?_)
        replace hl : lv_has ls 3 [(2, .int (25 : Int32)), (1, rv r_4), (0, rv a0)] := lv_subS hl (List.forall_mem_cons.mpr ⟨Or.inl rfl, (List.forall_mem_cons.mpr ⟨Or.inr ⟨List.mem_of_getElem? (i := 1) rfl, by simp [rv_cat]⟩, (List.forall_mem_cons.mpr ⟨Or.inr ⟨List.mem_of_getElem? (i := 2) rfl, rfl⟩, (fun _ h => nomatch h)⟩)⟩)⟩)
        refine lv_goto (tgt := 667) hx hb dX11_isName_637 (by decide) ?_
        exact w_X11_isName_b667 hC hr hnh hin (25 : Int32) h_7 hF H locs cells slots ls hX (lv_sub hl [0] rfl)
    replace hF := it_f hF c_57
    by_cases c_63 : r_8 = (96737 : Int32)
    · replace hF := it_t hF c_63
      refine lv_lookup (off := 394) (tgt := 415) hx hb dX11_isName_21 rfl (by rw [c_63]; rfl) (by decide) ?_
      refine X_aload_n hx hb dX11_isName_415 rfl (lv_at hl 1 rfl) ?_
      refine X_ldcS hC (i := 4) (List.mem_of_getElem? (i := 4) rfl) dX11_isName_416 ?_
      refine lv_topr (fun r_64 er_64 => ?_)
      replace hF := lt_at hF er_64
      obtain ⟨h_65, hF⟩ := gd_ok hF
      obtain ⟨r_67, hc_66, hF⟩ := bd_ok hF
      refine iX_X11_80 hC hX h_65 hc_66 hl.1 (Nat.le_of_ble_eq_true rfl) (Nat.le_of_ble_eq_true rfl) (Nat.le_of_ble_eq_true rfl) dX11_isName_418 (fun H locs cells slots hX => ?_)
      refine lv_if_eq (tgt := 667) hx hb dX11_isName_421 (by decide) (fun c_68 => ?_) (fun c_68 => ?_)
      · replace hF := it_t hF c_68
        exact w_X11_isName_b667 hC hr hnh hin (-1 : Int32) h_7 hF H locs cells slots ls hX (lv_sub hl [0] rfl)
      · replace hF := it_f hF c_68
        refine lv_bipush (v := 11) hx hb dX11_isName_424 (by decide) ?_
        refine lv_istore_n (i := 2) hx hb dX11_isName_426 rfl hl (by decide) rfl (fun ls hl => ?_)
        replace hl : lv_has ls 3 [(2, .int (11 : Int32)), (1, rv r_4), (0, rv a0)] := lv_subS hl (List.forall_mem_cons.mpr ⟨Or.inl rfl, (List.forall_mem_cons.mpr ⟨Or.inr ⟨List.mem_of_getElem? (i := 1) rfl, by simp [rv_cat]⟩, (List.forall_mem_cons.mpr ⟨Or.inr ⟨List.mem_of_getElem? (i := 2) rfl, rfl⟩, (fun _ h => nomatch h)⟩)⟩)⟩)
        refine lv_goto (tgt := 667) hx hb dX11_isName_427 (by decide) ?_
        exact w_X11_isName_b667 hC hr hnh hin (11 : Int32) h_7 hF H locs cells slots ls hX (lv_sub hl [0] rfl)
    replace hF := it_f hF c_63
    by_cases c_69 : r_8 = (97717 : Int32)
    · replace hF := it_t hF c_69
      refine lv_lookup (off := 409) (tgt := 430) hx hb dX11_isName_21 rfl (by rw [c_69]; rfl) (by decide) ?_
      refine X_aload_n hx hb dX11_isName_430 rfl (lv_at hl 1 rfl) ?_
      refine X_ldcS hC (i := 5) (List.mem_of_getElem? (i := 5) rfl) dX11_isName_431 ?_
      refine lv_topr (fun r_70 er_70 => ?_)
      replace hF := lt_at hF er_70
      obtain ⟨h_71, hF⟩ := gd_ok hF
      obtain ⟨r_73, hc_72, hF⟩ := bd_ok hF
      refine iX_X11_80 hC hX h_71 hc_72 hl.1 (Nat.le_of_ble_eq_true rfl) (Nat.le_of_ble_eq_true rfl) (Nat.le_of_ble_eq_true rfl) dX11_isName_433 (fun H locs cells slots hX => ?_)
      refine lv_if_eq (tgt := 667) hx hb dX11_isName_436 (by decide) (fun c_74 => ?_) (fun c_74 => ?_)
      · replace hF := it_t hF c_74
        exact w_X11_isName_b667 hC hr hnh hin (-1 : Int32) h_7 hF H locs cells slots ls hX (lv_sub hl [0] rfl)
      · replace hF := it_f hF c_74
        refine lv_bipush (v := 12) hx hb dX11_isName_439 (by decide) ?_
        refine lv_istore_n (i := 2) hx hb dX11_isName_441 rfl hl (by decide) rfl (fun ls hl => ?_)
        replace hl : lv_has ls 3 [(2, .int (12 : Int32)), (1, rv r_4), (0, rv a0)] := lv_subS hl (List.forall_mem_cons.mpr ⟨Or.inl rfl, (List.forall_mem_cons.mpr ⟨Or.inr ⟨List.mem_of_getElem? (i := 1) rfl, by simp [rv_cat]⟩, (List.forall_mem_cons.mpr ⟨Or.inr ⟨List.mem_of_getElem? (i := 2) rfl, rfl⟩, (fun _ h => nomatch h)⟩)⟩)⟩)
        refine lv_goto (tgt := 667) hx hb dX11_isName_442 (by decide) ?_
        exact w_X11_isName_b667 hC hr hnh hin (12 : Int32) h_7 hF H locs cells slots ls hX (lv_sub hl [0] rfl)
    replace hF := it_f hF c_69
    by_cases c_75 : r_8 = (98882 : Int32)
    · replace hF := it_t hF c_75
      refine lv_lookup (off := 499) (tgt := 520) hx hb dX11_isName_21 rfl (by rw [c_75]; rfl) (by decide) ?_
      refine X_aload_n hx hb dX11_isName_520 rfl (lv_at hl 1 rfl) ?_
      refine X_ldcS hC (i := 13) (List.mem_of_getElem? (i := 13) rfl) dX11_isName_521 ?_
      refine lv_topr (fun r_76 er_76 => ?_)
      replace hF := lt_at hF er_76
      obtain ⟨h_77, hF⟩ := gd_ok hF
      obtain ⟨r_79, hc_78, hF⟩ := bd_ok hF
      refine iX_X11_80 hC hX h_77 hc_78 hl.1 (Nat.le_of_ble_eq_true rfl) (Nat.le_of_ble_eq_true rfl) (Nat.le_of_ble_eq_true rfl) dX11_isName_523 (fun H locs cells slots hX => ?_)
      refine lv_if_eq (tgt := 667) hx hb dX11_isName_526 (by decide) (fun c_80 => ?_) (fun c_80 => ?_)
      · replace hF := it_t hF c_80
        exact w_X11_isName_b667 hC hr hnh hin (-1 : Int32) h_7 hF H locs cells slots ls hX (lv_sub hl [0] rfl)
      · replace hF := it_f hF c_80
        refine lv_bipush (v := 18) hx hb dX11_isName_529 (by decide) ?_
        refine lv_istore_n (i := 2) hx hb dX11_isName_531 rfl hl (by decide) rfl (fun ls hl => ?_)
        replace hl : lv_has ls 3 [(2, .int (18 : Int32)), (1, rv r_4), (0, rv a0)] := lv_subS hl (List.forall_mem_cons.mpr ⟨Or.inl rfl, (List.forall_mem_cons.mpr ⟨Or.inr ⟨List.mem_of_getElem? (i := 1) rfl, by simp [rv_cat]⟩, (List.forall_mem_cons.mpr ⟨Or.inr ⟨List.mem_of_getElem? (i := 2) rfl, rfl⟩, (fun _ h => nomatch h)⟩)⟩)⟩)
        refine lv_goto (tgt := 667) hx hb dX11_isName_532 (by decide) ?_
        exact w_X11_isName_b667 hC hr hnh hin (18 : Int32) h_7 hF H locs cells slots ls hX (lv_sub hl [0] rfl)
    replace hF := it_f hF c_75
    by_cases c_81 : r_8 = (98990 : Int32)
    · replace hF := it_t hF c_81
      refine lv_lookup (off := 424) (tgt := 445) hx hb dX11_isName_21 rfl (by rw [c_81]; rfl) (by decide) ?_
      refine X_aload_n hx hb dX11_isName_445 rfl (lv_at hl 1 rfl) ?_
      refine X_ldcS hC (i := 6) (List.mem_of_getElem? (i := 6) rfl) dX11_isName_446 ?_
      refine lv_topr (fun r_82 er_82 => ?_)
      replace hF := lt_at hF er_82
      obtain ⟨h_83, hF⟩ := gd_ok hF
      obtain ⟨r_85, hc_84, hF⟩ := bd_ok hF
      refine iX_X11_80 hC hX h_83 hc_84 hl.1 (Nat.le_of_ble_eq_true rfl) (Nat.le_of_ble_eq_true rfl) (Nat.le_of_ble_eq_true rfl) dX11_isName_448 (fun H locs cells slots hX => ?_)
      refine lv_if_eq (tgt := 667) hx hb dX11_isName_451 (by decide) (fun c_86 => ?_) (fun c_86 => ?_)
      · replace hF := it_t hF c_86
        exact w_X11_isName_b667 hC hr hnh hin (-1 : Int32) h_7 hF H locs cells slots ls hX (lv_sub hl [0] rfl)
      · replace hF := it_f hF c_86
        refine lv_bipush (v := 13) hx hb dX11_isName_454 (by decide) ?_
        refine lv_istore_n (i := 2) hx hb dX11_isName_456 rfl hl (by decide) rfl (fun ls hl => ?_)
        replace hl : lv_has ls 3 [(2, .int (13 : Int32)), (1, rv r_4), (0, rv a0)] := lv_subS hl (List.forall_mem_cons.mpr ⟨Or.inl rfl, (List.forall_mem_cons.mpr ⟨Or.inr ⟨List.mem_of_getElem? (i := 1) rfl, by simp [rv_cat]⟩, (List.forall_mem_cons.mpr ⟨Or.inr ⟨List.mem_of_getElem? (i := 2) rfl, rfl⟩, (fun _ h => nomatch h)⟩)⟩)⟩)
        refine lv_goto (tgt := 667) hx hb dX11_isName_457 (by decide) ?_
        exact w_X11_isName_b667 hC hr hnh hin (13 : Int32) h_7 hF H locs cells slots ls hX (lv_sub hl [0] rfl)
    replace hF := it_f hF c_81
    by_cases c_87 : r_8 = (100571 : Int32)
    · replace hF := it_t hF c_87
      refine lv_lookup (off := 364) (tgt := 385) hx hb dX11_isName_21 rfl (by rw [c_87]; rfl) (by decide) ?_
      refine X_aload_n hx hb dX11_isName_385 rfl (lv_at hl 1 rfl) ?_
      refine X_ldcS hC (i := 24) (List.mem_of_getElem? (i := 24) rfl) dX11_isName_386 ?_
      refine lv_topr (fun r_88 er_88 => ?_)
      replace hF := lt_at hF er_88
      obtain ⟨h_89, hF⟩ := gd_ok hF
      obtain ⟨r_91, hc_90, hF⟩ := bd_ok hF
      refine iX_X11_80 hC hX h_89 hc_90 hl.1 (Nat.le_of_ble_eq_true rfl) (Nat.le_of_ble_eq_true rfl) (Nat.le_of_ble_eq_true rfl) dX11_isName_388 (fun H locs cells slots hX => ?_)
      refine lv_if_eq (tgt := 667) hx hb dX11_isName_391 (by decide) (fun c_92 => ?_) (fun c_92 => ?_)
      · replace hF := it_t hF c_92
        exact w_X11_isName_b667 hC hr hnh hin (-1 : Int32) h_7 hF H locs cells slots ls hX (lv_sub hl [0] rfl)
      · replace hF := it_f hF c_92
        refine lv_bipush (v := 9) hx hb dX11_isName_394 (by decide) ?_
        refine lv_istore_n (i := 2) hx hb dX11_isName_396 rfl hl (by decide) rfl (fun ls hl => ?_)
        replace hl : lv_has ls 3 [(2, .int (9 : Int32)), (1, rv r_4), (0, rv a0)] := lv_subS hl (List.forall_mem_cons.mpr ⟨Or.inl rfl, (List.forall_mem_cons.mpr ⟨Or.inr ⟨List.mem_of_getElem? (i := 1) rfl, by simp [rv_cat]⟩, (List.forall_mem_cons.mpr ⟨Or.inr ⟨List.mem_of_getElem? (i := 2) rfl, rfl⟩, (fun _ h => nomatch h)⟩)⟩)⟩)
        refine lv_goto (tgt := 667) hx hb dX11_isName_397 (by decide) ?_
        exact w_X11_isName_b667 hC hr hnh hin (9 : Int32) h_7 hF H locs cells slots ls hX (lv_sub hl [0] rfl)
    replace hF := it_f hF c_87
    by_cases c_93 : r_8 = (106916 : Int32)
    · replace hF := it_t hF c_93
      refine lv_lookup (off := 277) (tgt := 298) hx hb dX11_isName_21 rfl (by rw [c_93]; rfl) (by decide) ?_
      refine X_aload_n hx hb dX11_isName_298 rfl (lv_at hl 1 rfl) ?_
      refine X_ldcS hC (i := 20) (List.mem_of_getElem? (i := 20) rfl) dX11_isName_299 ?_
      refine lv_topr (fun r_94 er_94 => ?_)
      replace hF := lt_at hF er_94
      obtain ⟨h_95, hF⟩ := gd_ok hF
      obtain ⟨r_97, hc_96, hF⟩ := bd_ok hF
      refine iX_X11_80 hC hX h_95 hc_96 hl.1 (Nat.le_of_ble_eq_true rfl) (Nat.le_of_ble_eq_true rfl) (Nat.le_of_ble_eq_true rfl) dX11_isName_301 (fun H locs cells slots hX => ?_)
      refine lv_if_eq (tgt := 667) hx hb dX11_isName_304 (by decide) (fun c_98 => ?_) (fun c_98 => ?_)
      · replace hF := it_t hF c_98
        exact w_X11_isName_b667 hC hr hnh hin (-1 : Int32) h_7 hF H locs cells slots ls hX (lv_sub hl [0] rfl)
      · replace hF := it_f hF c_98
        refine lv_iconst (v := 3) hx hb dX11_isName_307 (by decide) ?_
        refine lv_istore_n (i := 2) hx hb dX11_isName_308 rfl hl (by decide) rfl (fun ls hl => ?_)
        replace hl : lv_has ls 3 [(2, .int (3 : Int32)), (1, rv r_4), (0, rv a0)] := lv_subS hl (List.forall_mem_cons.mpr ⟨Or.inl rfl, (List.forall_mem_cons.mpr ⟨Or.inr ⟨List.mem_of_getElem? (i := 1) rfl, by simp [rv_cat]⟩, (List.forall_mem_cons.mpr ⟨Or.inr ⟨List.mem_of_getElem? (i := 2) rfl, rfl⟩, (fun _ h => nomatch h)⟩)⟩)⟩)
        refine lv_goto (tgt := 667) hx hb dX11_isName_309 (by decide) ?_
        exact w_X11_isName_b667 hC hr hnh hin (3 : Int32) h_7 hF H locs cells slots ls hX (lv_sub hl [0] rfl)
    replace hF := it_f hF c_93
    by_cases c_99 : r_8 = (107877 : Int32)
    · replace hF := it_t hF c_99
      refine lv_lookup (off := 263) (tgt := 284) hx hb dX11_isName_21 rfl (by rw [c_99]; rfl) (by decide) ?_
      refine X_aload_n hx hb dX11_isName_284 rfl (lv_at hl 1 rfl) ?_
      refine X_ldcS hC (i := 10) (List.mem_of_getElem? (i := 10) rfl) dX11_isName_285 ?_
      refine lv_topr (fun r_100 er_100 => ?_)
      replace hF := lt_at hF er_100
      obtain ⟨h_101, hF⟩ := gd_ok hF
      obtain ⟨r_103, hc_102, hF⟩ := bd_ok hF
      refine iX_X11_80 hC hX h_101 hc_102 hl.1 (Nat.le_of_ble_eq_true rfl) (Nat.le_of_ble_eq_true rfl) (Nat.le_of_ble_eq_true rfl) dX11_isName_287 (fun H locs cells slots hX => ?_)
      refine lv_if_eq (tgt := 667) hx hb dX11_isName_290 (by decide) (fun c_104 => ?_) (fun c_104 => ?_)
      · replace hF := it_t hF c_104
        exact w_X11_isName_b667 hC hr hnh hin (-1 : Int32) h_7 hF H locs cells slots ls hX (lv_sub hl [0] rfl)
      · replace hF := it_f hF c_104
        refine lv_iconst (v := 2) hx hb dX11_isName_293 (by decide) ?_
        refine lv_istore_n (i := 2) hx hb dX11_isName_294 rfl hl (by decide) rfl (fun ls hl => ?_)
        replace hl : lv_has ls 3 [(2, .int (2 : Int32)), (1, rv r_4), (0, rv a0)] := lv_subS hl (List.forall_mem_cons.mpr ⟨Or.inl rfl, (List.forall_mem_cons.mpr ⟨Or.inr ⟨List.mem_of_getElem? (i := 1) rfl, by simp [rv_cat]⟩, (List.forall_mem_cons.mpr ⟨Or.inr ⟨List.mem_of_getElem? (i := 2) rfl, rfl⟩, (fun _ h => nomatch h)⟩)⟩)⟩)
        refine lv_goto (tgt := 667) hx hb dX11_isName_295 (by decide) ?_
        exact w_X11_isName_b667 hC hr hnh hin (2 : Int32) h_7 hF H locs cells slots ls hX (lv_sub hl [0] rfl)
    replace hF := it_f hF c_99
    by_cases c_105 : r_8 = (108124 : Int32)
    · replace hF := it_t hF c_105
      refine lv_lookup (off := 574) (tgt := 595) hx hb dX11_isName_21 rfl (by rw [c_105]; rfl) (by decide) ?_
      refine X_aload_n hx hb dX11_isName_595 rfl (lv_at hl 1 rfl) ?_
      refine X_ldcS hC (i := 16) (List.mem_of_getElem? (i := 16) rfl) dX11_isName_596 ?_
      refine lv_topr (fun r_106 er_106 => ?_)
      replace hF := lt_at hF er_106
      obtain ⟨h_107, hF⟩ := gd_ok hF
      obtain ⟨r_109, hc_108, hF⟩ := bd_ok hF
      refine iX_X11_80 hC hX h_107 hc_108 hl.1 (Nat.le_of_ble_eq_true rfl) (Nat.le_of_ble_eq_true rfl) (Nat.le_of_ble_eq_true rfl) dX11_isName_598 (fun H locs cells slots hX => ?_)
      refine lv_if_eq (tgt := 667) hx hb dX11_isName_601 (by decide) (fun c_110 => ?_) (fun c_110 => ?_)
      · replace hF := it_t hF c_110
        exact w_X11_isName_b667 hC hr hnh hin (-1 : Int32) h_7 hF H locs cells slots ls hX (lv_sub hl [0] rfl)
      · replace hF := it_f hF c_110
        refine lv_bipush (v := 23) hx hb dX11_isName_604 (by decide) ?_
        refine lv_istore_n (i := 2) hx hb dX11_isName_606 rfl hl (by decide) rfl (fun ls hl => ?_)
        replace hl : lv_has ls 3 [(2, .int (23 : Int32)), (1, rv r_4), (0, rv a0)] := lv_subS hl (List.forall_mem_cons.mpr ⟨Or.inl rfl, (List.forall_mem_cons.mpr ⟨Or.inr ⟨List.mem_of_getElem? (i := 1) rfl, by simp [rv_cat]⟩, (List.forall_mem_cons.mpr ⟨Or.inr ⟨List.mem_of_getElem? (i := 2) rfl, rfl⟩, (fun _ h => nomatch h)⟩)⟩)⟩)
        refine lv_goto (tgt := 667) hx hb dX11_isName_607 (by decide) ?_
        exact w_X11_isName_b667 hC hr hnh hin (23 : Int32) h_7 hF H locs cells slots ls hX (lv_sub hl [0] rfl)
    replace hF := it_f hF c_105
    by_cases c_111 : r_8 = (109267 : Int32)
    · replace hF := it_t hF c_111
      refine lv_lookup (off := 634) (tgt := 655) hx hb dX11_isName_21 rfl (by rw [c_111]; rfl) (by decide) ?_
      refine X_aload_n hx hb dX11_isName_655 rfl (lv_at hl 1 rfl) ?_
      refine X_ldcS hC (i := 3) (List.mem_of_getElem? (i := 3) rfl) dX11_isName_656 ?_
      refine lv_topr (fun r_112 er_112 => ?_)
      replace hF := lt_at hF er_112
      obtain ⟨h_113, hF⟩ := gd_ok hF
      obtain ⟨r_115, hc_114, hF⟩ := bd_ok hF
      refine iX_X11_80 hC hX h_113 hc_114 hl.1 (Nat.le_of_ble_eq_true rfl) (Nat.le_of_ble_eq_true rfl) (Nat.le_of_ble_eq_true rfl) dX11_isName_658 (fun H locs cells slots hX => ?_)
      refine lv_if_eq (tgt := 667) hx hb dX11_isName_661 (by decide) (fun c_116 => ?_) (fun c_116 => ?_)
      · replace hF := it_t hF c_116
        exact w_X11_isName_b667 hC hr hnh hin (-1 : Int32) h_7 hF H locs cells slots ls hX (lv_sub hl [0] rfl)
      · replace hF := it_f hF c_116
        refine lv_bipush (v := 27) hx hb dX11_isName_664 (by decide) ?_
        refine lv_istore_n (i := 2) hx hb dX11_isName_666 rfl hl (by decide) rfl (fun ls hl => ?_)
        replace hl : lv_has ls 3 [(2, .int (27 : Int32)), (1, rv r_4), (0, rv a0)] := lv_subS hl (List.forall_mem_cons.mpr ⟨Or.inl rfl, (List.forall_mem_cons.mpr ⟨Or.inr ⟨List.mem_of_getElem? (i := 1) rfl, by simp [rv_cat]⟩, (List.forall_mem_cons.mpr ⟨Or.inr ⟨List.mem_of_getElem? (i := 2) rfl, rfl⟩, (fun _ h => nomatch h)⟩)⟩)⟩)
        exact w_X11_isName_b667 hC hr hnh hin (27 : Int32) h_7 hF H locs cells slots ls hX (lv_sub hl [0] rfl)
    replace hF := it_f hF c_111
    by_cases c_117 : r_8 = (111375 : Int32)
    · replace hF := it_t hF c_117
      refine lv_lookup (off := 291) (tgt := 312) hx hb dX11_isName_21 rfl (by rw [c_117]; rfl) (by decide) ?_
      refine X_aload_n hx hb dX11_isName_312 rfl (lv_at hl 1 rfl) ?_
      refine X_ldcS hC (i := 21) (List.mem_of_getElem? (i := 21) rfl) dX11_isName_313 ?_
      refine lv_topr (fun r_118 er_118 => ?_)
      replace hF := lt_at hF er_118
      obtain ⟨h_119, hF⟩ := gd_ok hF
      obtain ⟨r_121, hc_120, hF⟩ := bd_ok hF
      refine iX_X11_80 hC hX h_119 hc_120 hl.1 (Nat.le_of_ble_eq_true rfl) (Nat.le_of_ble_eq_true rfl) (Nat.le_of_ble_eq_true rfl) dX11_isName_315 (fun H locs cells slots hX => ?_)
      refine lv_if_eq (tgt := 667) hx hb dX11_isName_318 (by decide) (fun c_122 => ?_) (fun c_122 => ?_)
      · replace hF := it_t hF c_122
        exact w_X11_isName_b667 hC hr hnh hin (-1 : Int32) h_7 hF H locs cells slots ls hX (lv_sub hl [0] rfl)
      · replace hF := it_f hF c_122
        refine lv_iconst (v := 4) hx hb dX11_isName_321 (by decide) ?_
        refine lv_istore_n (i := 2) hx hb dX11_isName_322 rfl hl (by decide) rfl (fun ls hl => ?_)
        replace hl : lv_has ls 3 [(2, .int (4 : Int32)), (1, rv r_4), (0, rv a0)] := lv_subS hl (List.forall_mem_cons.mpr ⟨Or.inl rfl, (List.forall_mem_cons.mpr ⟨Or.inr ⟨List.mem_of_getElem? (i := 1) rfl, by simp [rv_cat]⟩, (List.forall_mem_cons.mpr ⟨Or.inr ⟨List.mem_of_getElem? (i := 2) rfl, rfl⟩, (fun _ h => nomatch h)⟩)⟩)⟩)
        refine lv_goto (tgt := 667) hx hb dX11_isName_323 (by decide) ?_
        exact w_X11_isName_b667 hC hr hnh hin (4 : Int32) h_7 hF H locs cells slots ls hX (lv_sub hl [0] rfl)
    replace hF := it_f hF c_117
    by_cases c_123 : r_8 = (112785 : Int32)
    · replace hF := it_t hF c_123
      refine lv_lookup (off := 439) (tgt := 460) hx hb dX11_isName_21 rfl (by rw [c_123]; rfl) (by decide) ?_
      refine X_aload_n hx hb dX11_isName_460 rfl (lv_at hl 1 rfl) ?_
      refine X_ldcS hC (i := 26) (List.mem_of_getElem? (i := 26) rfl) dX11_isName_461 ?_
      refine lv_topr (fun r_124 er_124 => ?_)
      replace hF := lt_at hF er_124
      obtain ⟨h_125, hF⟩ := gd_ok hF
      obtain ⟨r_127, hc_126, hF⟩ := bd_ok hF
      refine iX_X11_80 hC hX h_125 hc_126 hl.1 (Nat.le_of_ble_eq_true rfl) (Nat.le_of_ble_eq_true rfl) (Nat.le_of_ble_eq_true rfl) dX11_isName_463 (fun H locs cells slots hX => ?_)
      refine lv_if_eq (tgt := 667) hx hb dX11_isName_466 (by decide) (fun c_128 => ?_) (fun c_128 => ?_)
      · replace hF := it_t hF c_128
        exact w_X11_isName_b667 hC hr hnh hin (-1 : Int32) h_7 hF H locs cells slots ls hX (lv_sub hl [0] rfl)
      · replace hF := it_f hF c_128
        refine lv_bipush (v := 14) hx hb dX11_isName_469 (by decide) ?_
        refine lv_istore_n (i := 2) hx hb dX11_isName_471 rfl hl (by decide) rfl (fun ls hl => ?_)
        replace hl : lv_has ls 3 [(2, .int (14 : Int32)), (1, rv r_4), (0, rv a0)] := lv_subS hl (List.forall_mem_cons.mpr ⟨Or.inl rfl, (List.forall_mem_cons.mpr ⟨Or.inr ⟨List.mem_of_getElem? (i := 1) rfl, by simp [rv_cat]⟩, (List.forall_mem_cons.mpr ⟨Or.inr ⟨List.mem_of_getElem? (i := 2) rfl, rfl⟩, (fun _ h => nomatch h)⟩)⟩)⟩)
        refine lv_goto (tgt := 667) hx hb dX11_isName_472 (by decide) ?_
        exact w_X11_isName_b667 hC hr hnh hin (14 : Int32) h_7 hF H locs cells slots ls hX (lv_sub hl [0] rfl)
    replace hF := it_f hF c_123
    by_cases c_129 : r_8 = (113114 : Int32)
    · replace hF := it_t hF c_129
      refine lv_lookup (off := 484) (tgt := 505) hx hb dX11_isName_21 rfl (by rw [c_129]; rfl) (by decide) ?_
      refine X_aload_n hx hb dX11_isName_505 rfl (lv_at hl 1 rfl) ?_
      refine X_ldcS hC (i := 12) (List.mem_of_getElem? (i := 12) rfl) dX11_isName_506 ?_
      refine lv_topr (fun r_130 er_130 => ?_)
      replace hF := lt_at hF er_130
      obtain ⟨h_131, hF⟩ := gd_ok hF
      obtain ⟨r_133, hc_132, hF⟩ := bd_ok hF
      refine iX_X11_80 hC hX h_131 hc_132 hl.1 (Nat.le_of_ble_eq_true rfl) (Nat.le_of_ble_eq_true rfl) (Nat.le_of_ble_eq_true rfl) dX11_isName_508 (fun H locs cells slots hX => ?_)
      refine lv_if_eq (tgt := 667) hx hb dX11_isName_511 (by decide) (fun c_134 => ?_) (fun c_134 => ?_)
      · replace hF := it_t hF c_134
        exact w_X11_isName_b667 hC hr hnh hin (-1 : Int32) h_7 hF H locs cells slots ls hX (lv_sub hl [0] rfl)
      · replace hF := it_f hF c_134
        refine lv_bipush (v := 17) hx hb dX11_isName_514 (by decide) ?_
        refine lv_istore_n (i := 2) hx hb dX11_isName_516 rfl hl (by decide) rfl (fun ls hl => ?_)
        replace hl : lv_has ls 3 [(2, .int (17 : Int32)), (1, rv r_4), (0, rv a0)] := lv_subS hl (List.forall_mem_cons.mpr ⟨Or.inl rfl, (List.forall_mem_cons.mpr ⟨Or.inr ⟨List.mem_of_getElem? (i := 1) rfl, by simp [rv_cat]⟩, (List.forall_mem_cons.mpr ⟨Or.inr ⟨List.mem_of_getElem? (i := 2) rfl, rfl⟩, (fun _ h => nomatch h)⟩)⟩)⟩)
        refine lv_goto (tgt := 667) hx hb dX11_isName_517 (by decide) ?_
        exact w_X11_isName_b667 hC hr hnh hin (17 : Int32) h_7 hF H locs cells slots ls hX (lv_sub hl [0] rfl)
    replace hF := it_f hF c_129
    by_cases c_135 : r_8 = (3003674 : Int32)
    · replace hF := it_t hF c_135
      refine lv_lookup (off := 249) (tgt := 270) hx hb dX11_isName_21 rfl (by rw [c_135]; rfl) (by decide) ?_
      refine X_aload_n hx hb dX11_isName_270 rfl (lv_at hl 1 rfl) ?_
      refine X_ldcS hC (i := 2) (List.mem_of_getElem? (i := 2) rfl) dX11_isName_271 ?_
      refine lv_topr (fun r_136 er_136 => ?_)
      replace hF := lt_at hF er_136
      obtain ⟨h_137, hF⟩ := gd_ok hF
      obtain ⟨r_139, hc_138, hF⟩ := bd_ok hF
      refine iX_X11_80 hC hX h_137 hc_138 hl.1 (Nat.le_of_ble_eq_true rfl) (Nat.le_of_ble_eq_true rfl) (Nat.le_of_ble_eq_true rfl) dX11_isName_273 (fun H locs cells slots hX => ?_)
      refine lv_if_eq (tgt := 667) hx hb dX11_isName_276 (by decide) (fun c_140 => ?_) (fun c_140 => ?_)
      · replace hF := it_t hF c_140
        exact w_X11_isName_b667 hC hr hnh hin (-1 : Int32) h_7 hF H locs cells slots ls hX (lv_sub hl [0] rfl)
      · replace hF := it_f hF c_140
        refine lv_iconst (v := 1) hx hb dX11_isName_279 (by decide) ?_
        refine lv_istore_n (i := 2) hx hb dX11_isName_280 rfl hl (by decide) rfl (fun ls hl => ?_)
        replace hl : lv_has ls 3 [(2, .int (1 : Int32)), (1, rv r_4), (0, rv a0)] := lv_subS hl (List.forall_mem_cons.mpr ⟨Or.inl rfl, (List.forall_mem_cons.mpr ⟨Or.inr ⟨List.mem_of_getElem? (i := 1) rfl, by simp [rv_cat]⟩, (List.forall_mem_cons.mpr ⟨Or.inr ⟨List.mem_of_getElem? (i := 2) rfl, rfl⟩, (fun _ h => nomatch h)⟩)⟩)⟩)
        refine lv_goto (tgt := 667) hx hb dX11_isName_281 (by decide) ?_
        exact w_X11_isName_b667 hC hr hnh hin (1 : Int32) h_7 hF H locs cells slots ls hX (lv_sub hl [0] rfl)
    replace hF := it_f hF c_135
    by_cases c_141 : r_8 = (3344077 : Int32)
    · replace hF := it_t hF c_141
      refine lv_lookup (off := 349) (tgt := 370) hx hb dX11_isName_21 rfl (by rw [c_141]; rfl) (by decide) ?_
      refine X_aload_n hx hb dX11_isName_370 rfl (lv_at hl 1 rfl) ?_
      refine X_ldcS hC (i := 23) (List.mem_of_getElem? (i := 23) rfl) dX11_isName_371 ?_
      refine lv_topr (fun r_142 er_142 => ?_)
      replace hF := lt_at hF er_142
      obtain ⟨h_143, hF⟩ := gd_ok hF
      obtain ⟨r_145, hc_144, hF⟩ := bd_ok hF
      refine iX_X11_80 hC hX h_143 hc_144 hl.1 (Nat.le_of_ble_eq_true rfl) (Nat.le_of_ble_eq_true rfl) (Nat.le_of_ble_eq_true rfl) dX11_isName_373 (fun H locs cells slots hX => ?_)
      refine lv_if_eq (tgt := 667) hx hb dX11_isName_376 (by decide) (fun c_146 => ?_) (fun c_146 => ?_)
      · replace hF := it_t hF c_146
        exact w_X11_isName_b667 hC hr hnh hin (-1 : Int32) h_7 hF H locs cells slots ls hX (lv_sub hl [0] rfl)
      · replace hF := it_f hF c_146
        refine lv_bipush (v := 8) hx hb dX11_isName_379 (by decide) ?_
        refine lv_istore_n (i := 2) hx hb dX11_isName_381 rfl hl (by decide) rfl (fun ls hl => ?_)
        replace hl : lv_has ls 3 [(2, .int (8 : Int32)), (1, rv r_4), (0, rv a0)] := lv_subS hl (List.forall_mem_cons.mpr ⟨Or.inl rfl, (List.forall_mem_cons.mpr ⟨Or.inr ⟨List.mem_of_getElem? (i := 1) rfl, by simp [rv_cat]⟩, (List.forall_mem_cons.mpr ⟨Or.inr ⟨List.mem_of_getElem? (i := 2) rfl, rfl⟩, (fun _ h => nomatch h)⟩)⟩)⟩)
        refine lv_goto (tgt := 667) hx hb dX11_isName_382 (by decide) ?_
        exact w_X11_isName_b667 hC hr hnh hin (8 : Int32) h_7 hF H locs cells slots ls hX (lv_sub hl [0] rfl)
    replace hF := it_f hF c_141
    by_cases c_147 : r_8 = (3417674 : Int32)
    · replace hF := it_t hF c_147
      refine lv_lookup (off := 305) (tgt := 326) hx hb dX11_isName_21 rfl (by rw [c_147]; rfl) (by decide) ?_
      refine X_aload_n hx hb dX11_isName_326 rfl (lv_at hl 1 rfl) ?_
      refine X_ldcS hC (i := 19) (List.mem_of_getElem? (i := 19) rfl) dX11_isName_327 ?_
      refine lv_topr (fun r_148 er_148 => ?_)
      replace hF := lt_at hF er_148
      obtain ⟨h_149, hF⟩ := gd_ok hF
      obtain ⟨r_151, hc_150, hF⟩ := bd_ok hF
      refine iX_X11_80 hC hX h_149 hc_150 hl.1 (Nat.le_of_ble_eq_true rfl) (Nat.le_of_ble_eq_true rfl) (Nat.le_of_ble_eq_true rfl) dX11_isName_329 (fun H locs cells slots hX => ?_)
      refine lv_if_eq (tgt := 667) hx hb dX11_isName_332 (by decide) (fun c_152 => ?_) (fun c_152 => ?_)
      · replace hF := it_t hF c_152
        exact w_X11_isName_b667 hC hr hnh hin (-1 : Int32) h_7 hF H locs cells slots ls hX (lv_sub hl [0] rfl)
      · replace hF := it_f hF c_152
        refine lv_iconst (v := 5) hx hb dX11_isName_335 (by decide) ?_
        refine lv_istore_n (i := 2) hx hb dX11_isName_336 rfl hl (by decide) rfl (fun ls hl => ?_)
        replace hl : lv_has ls 3 [(2, .int (5 : Int32)), (1, rv r_4), (0, rv a0)] := lv_subS hl (List.forall_mem_cons.mpr ⟨Or.inl rfl, (List.forall_mem_cons.mpr ⟨Or.inr ⟨List.mem_of_getElem? (i := 1) rfl, by simp [rv_cat]⟩, (List.forall_mem_cons.mpr ⟨Or.inr ⟨List.mem_of_getElem? (i := 2) rfl, rfl⟩, (fun _ h => nomatch h)⟩)⟩)⟩)
        refine lv_goto (tgt := 667) hx hb dX11_isName_337 (by decide) ?_
        exact w_X11_isName_b667 hC hr hnh hin (5 : Int32) h_7 hF H locs cells slots ls hX (lv_sub hl [0] rfl)
    replace hF := it_f hF c_147
    by_cases c_153 : r_8 = (3523048 : Int32)
    · replace hF := it_t hF c_153
      refine lv_lookup (off := 379) (tgt := 400) hx hb dX11_isName_21 rfl (by rw [c_153]; rfl) (by decide) ?_
      refine X_aload_n hx hb dX11_isName_400 rfl (lv_at hl 1 rfl) ?_
      refine X_ldcS hC (i := 25) (List.mem_of_getElem? (i := 25) rfl) dX11_isName_401 ?_
      refine lv_topr (fun r_154 er_154 => ?_)
      replace hF := lt_at hF er_154
      obtain ⟨h_155, hF⟩ := gd_ok hF
      obtain ⟨r_157, hc_156, hF⟩ := bd_ok hF
      refine iX_X11_80 hC hX h_155 hc_156 hl.1 (Nat.le_of_ble_eq_true rfl) (Nat.le_of_ble_eq_true rfl) (Nat.le_of_ble_eq_true rfl) dX11_isName_403 (fun H locs cells slots hX => ?_)
      refine lv_if_eq (tgt := 667) hx hb dX11_isName_406 (by decide) (fun c_158 => ?_) (fun c_158 => ?_)
      · replace hF := it_t hF c_158
        exact w_X11_isName_b667 hC hr hnh hin (-1 : Int32) h_7 hF H locs cells slots ls hX (lv_sub hl [0] rfl)
      · replace hF := it_f hF c_158
        refine lv_bipush (v := 10) hx hb dX11_isName_409 (by decide) ?_
        refine lv_istore_n (i := 2) hx hb dX11_isName_411 rfl hl (by decide) rfl (fun ls hl => ?_)
        replace hl : lv_has ls 3 [(2, .int (10 : Int32)), (1, rv r_4), (0, rv a0)] := lv_subS hl (List.forall_mem_cons.mpr ⟨Or.inl rfl, (List.forall_mem_cons.mpr ⟨Or.inr ⟨List.mem_of_getElem? (i := 1) rfl, by simp [rv_cat]⟩, (List.forall_mem_cons.mpr ⟨Or.inr ⟨List.mem_of_getElem? (i := 2) rfl, rfl⟩, (fun _ h => nomatch h)⟩)⟩)⟩)
        refine lv_goto (tgt := 667) hx hb dX11_isName_412 (by decide) ?_
        exact w_X11_isName_b667 hC hr hnh hin (10 : Int32) h_7 hF H locs cells slots ls hX (lv_sub hl [0] rfl)
    replace hF := it_f hF c_153
    by_cases c_159 : r_8 = (3543443 : Int32)
    · replace hF := it_t hF c_159
      refine lv_lookup (off := 469) (tgt := 490) hx hb dX11_isName_21 rfl (by rw [c_159]; rfl) (by decide) ?_
      refine X_aload_n hx hb dX11_isName_490 rfl (lv_at hl 1 rfl) ?_
      refine X_ldcS hC (i := 11) (List.mem_of_getElem? (i := 11) rfl) dX11_isName_491 ?_
      refine lv_topr (fun r_160 er_160 => ?_)
      replace hF := lt_at hF er_160
      obtain ⟨h_161, hF⟩ := gd_ok hF
      obtain ⟨r_163, hc_162, hF⟩ := bd_ok hF
      refine iX_X11_80 hC hX h_161 hc_162 hl.1 (Nat.le_of_ble_eq_true rfl) (Nat.le_of_ble_eq_true rfl) (Nat.le_of_ble_eq_true rfl) dX11_isName_493 (fun H locs cells slots hX => ?_)
      refine lv_if_eq (tgt := 667) hx hb dX11_isName_496 (by decide) (fun c_164 => ?_) (fun c_164 => ?_)
      · replace hF := it_t hF c_164
        exact w_X11_isName_b667 hC hr hnh hin (-1 : Int32) h_7 hF H locs cells slots ls hX (lv_sub hl [0] rfl)
      · replace hF := it_f hF c_164
        refine lv_bipush (v := 16) hx hb dX11_isName_499 (by decide) ?_
        refine lv_istore_n (i := 2) hx hb dX11_isName_501 rfl hl (by decide) rfl (fun ls hl => ?_)
        replace hl : lv_has ls 3 [(2, .int (16 : Int32)), (1, rv r_4), (0, rv a0)] := lv_subS hl (List.forall_mem_cons.mpr ⟨Or.inl rfl, (List.forall_mem_cons.mpr ⟨Or.inr ⟨List.mem_of_getElem? (i := 1) rfl, by simp [rv_cat]⟩, (List.forall_mem_cons.mpr ⟨Or.inr ⟨List.mem_of_getElem? (i := 2) rfl, rfl⟩, (fun _ h => nomatch h)⟩)⟩)⟩)
        refine lv_goto (tgt := 667) hx hb dX11_isName_502 (by decide) ?_
        exact w_X11_isName_b667 hC hr hnh hin (16 : Int32) h_7 hF H locs cells slots ls hX (lv_sub hl [0] rfl)
    replace hF := it_f hF c_159
    by_cases c_165 : r_8 = (93818879 : Int32)
    · replace hF := it_t hF c_165
      refine lv_lookup (off := 454) (tgt := 475) hx hb dX11_isName_21 rfl (by rw [c_165]; rfl) (by decide) ?_
      refine X_aload_n hx hb dX11_isName_475 rfl (lv_at hl 1 rfl) ?_
      refine X_ldcS hC (i := 27) (List.mem_of_getElem? (i := 27) rfl) dX11_isName_476 ?_
      refine lv_topr (fun r_166 er_166 => ?_)
      replace hF := lt_at hF er_166
      obtain ⟨h_167, hF⟩ := gd_ok hF
      obtain ⟨r_169, hc_168, hF⟩ := bd_ok hF
      refine iX_X11_80 hC hX h_167 hc_168 hl.1 (Nat.le_of_ble_eq_true rfl) (Nat.le_of_ble_eq_true rfl) (Nat.le_of_ble_eq_true rfl) dX11_isName_478 (fun H locs cells slots hX => ?_)
      refine lv_if_eq (tgt := 667) hx hb dX11_isName_481 (by decide) (fun c_170 => ?_) (fun c_170 => ?_)
      · replace hF := it_t hF c_170
        exact w_X11_isName_b667 hC hr hnh hin (-1 : Int32) h_7 hF H locs cells slots ls hX (lv_sub hl [0] rfl)
      · replace hF := it_f hF c_170
        refine lv_bipush (v := 15) hx hb dX11_isName_484 (by decide) ?_
        refine lv_istore_n (i := 2) hx hb dX11_isName_486 rfl hl (by decide) rfl (fun ls hl => ?_)
        replace hl : lv_has ls 3 [(2, .int (15 : Int32)), (1, rv r_4), (0, rv a0)] := lv_subS hl (List.forall_mem_cons.mpr ⟨Or.inl rfl, (List.forall_mem_cons.mpr ⟨Or.inr ⟨List.mem_of_getElem? (i := 1) rfl, by simp [rv_cat]⟩, (List.forall_mem_cons.mpr ⟨Or.inr ⟨List.mem_of_getElem? (i := 2) rfl, rfl⟩, (fun _ h => nomatch h)⟩)⟩)⟩)
        refine lv_goto (tgt := 667) hx hb dX11_isName_487 (by decide) ?_
        exact w_X11_isName_b667 hC hr hnh hin (15 : Int32) h_7 hF H locs cells slots ls hX (lv_sub hl [0] rfl)
    replace hF := it_f hF c_165
    by_cases c_171 : r_8 = (106669441 : Int32)
    · replace hF := it_t hF c_171
      refine lv_lookup (off := 544) (tgt := 565) hx hb dX11_isName_21 rfl (by rw [c_171]; rfl) (by decide) ?_
      refine X_aload_n hx hb dX11_isName_565 rfl (lv_at hl 1 rfl) ?_
      refine X_ldcS hC (i := 15) (List.mem_of_getElem? (i := 15) rfl) dX11_isName_566 ?_
      refine lv_topr (fun r_172 er_172 => ?_)
      replace hF := lt_at hF er_172
      obtain ⟨h_173, hF⟩ := gd_ok hF
      obtain ⟨r_175, hc_174, hF⟩ := bd_ok hF
      refine iX_X11_80 hC hX h_173 hc_174 hl.1 (Nat.le_of_ble_eq_true rfl) (Nat.le_of_ble_eq_true rfl) (Nat.le_of_ble_eq_true rfl) dX11_isName_568 (fun H locs cells slots hX => ?_)
      refine lv_if_eq (tgt := 667) hx hb dX11_isName_571 (by decide) (fun c_176 => ?_) (fun c_176 => ?_)
      · replace hF := it_t hF c_176
        exact w_X11_isName_b667 hC hr hnh hin (-1 : Int32) h_7 hF H locs cells slots ls hX (lv_sub hl [0] rfl)
      · replace hF := it_f hF c_176
        refine lv_bipush (v := 21) hx hb dX11_isName_574 (by decide) ?_
        refine lv_istore_n (i := 2) hx hb dX11_isName_576 rfl hl (by decide) rfl (fun ls hl => ?_)
        replace hl : lv_has ls 3 [(2, .int (21 : Int32)), (1, rv r_4), (0, rv a0)] := lv_subS hl (List.forall_mem_cons.mpr ⟨Or.inl rfl, (List.forall_mem_cons.mpr ⟨Or.inr ⟨List.mem_of_getElem? (i := 1) rfl, by simp [rv_cat]⟩, (List.forall_mem_cons.mpr ⟨Or.inr ⟨List.mem_of_getElem? (i := 2) rfl, rfl⟩, (fun _ h => nomatch h)⟩)⟩)⟩)
        refine lv_goto (tgt := 667) hx hb dX11_isName_577 (by decide) ?_
        exact w_X11_isName_b667 hC hr hnh hin (21 : Int32) h_7 hF H locs cells slots ls hX (lv_sub hl [0] rfl)
    replace hF := it_f hF c_171
    refine lv_lookupD (tgt := 667) hx hb dX11_isName_21 rfl (List.forall_mem_cons.mpr ⟨ne_toInt c_9 rfl, (List.forall_mem_cons.mpr ⟨ne_toInt c_15 rfl, (List.forall_mem_cons.mpr ⟨ne_toInt c_21 rfl, (List.forall_mem_cons.mpr ⟨ne_toInt c_27 rfl, (List.forall_mem_cons.mpr ⟨ne_toInt c_33 rfl, (List.forall_mem_cons.mpr ⟨ne_toInt c_39 rfl, (List.forall_mem_cons.mpr ⟨ne_toInt c_45 rfl, (List.forall_mem_cons.mpr ⟨ne_toInt c_51 rfl, (List.forall_mem_cons.mpr ⟨ne_toInt c_57 rfl, (List.forall_mem_cons.mpr ⟨ne_toInt c_63 rfl, (List.forall_mem_cons.mpr ⟨ne_toInt c_69 rfl, (List.forall_mem_cons.mpr ⟨ne_toInt c_75 rfl, (List.forall_mem_cons.mpr ⟨ne_toInt c_81 rfl, (List.forall_mem_cons.mpr ⟨ne_toInt c_87 rfl, (List.forall_mem_cons.mpr ⟨ne_toInt c_93 rfl, (List.forall_mem_cons.mpr ⟨ne_toInt c_99 rfl, (List.forall_mem_cons.mpr ⟨ne_toInt c_105 rfl, (List.forall_mem_cons.mpr ⟨ne_toInt c_111 rfl, (List.forall_mem_cons.mpr ⟨ne_toInt c_117 rfl, (List.forall_mem_cons.mpr ⟨ne_toInt c_123 rfl, (List.forall_mem_cons.mpr ⟨ne_toInt c_129 rfl, (List.forall_mem_cons.mpr ⟨ne_toInt c_135 rfl, (List.forall_mem_cons.mpr ⟨ne_toInt c_141 rfl, (List.forall_mem_cons.mpr ⟨ne_toInt c_147 rfl, (List.forall_mem_cons.mpr ⟨ne_toInt c_153 rfl, (List.forall_mem_cons.mpr ⟨ne_toInt c_159 rfl, (List.forall_mem_cons.mpr ⟨ne_toInt c_165 rfl, (List.forall_mem_cons.mpr ⟨ne_toInt c_171 rfl, (fun _ h => nomatch h)⟩)⟩)⟩)⟩)⟩)⟩)⟩)⟩)⟩)⟩)⟩)⟩)⟩)⟩)⟩)⟩)⟩)⟩)⟩)⟩)⟩)⟩)⟩)⟩)⟩)⟩)⟩)⟩) (by decide) ?_
    exact w_X11_isName_b667 hC hr hnh hin (-1 : Int32) h_7 hF H locs cells slots ls hX (lv_sub hl [0] rfl)
  · replace hF := it_f hF c_2
    refine lv_iconst (v := 0) hx hb dX11_isName_8 (by decide) ?_
    exact x_reti hC hX hr rfl (rt1 hF) (rt2 hF) dX11_isName_9
theorem m_X11_isName (l : Launch) (D : XD) (a0 : Nat) (h : TH) (x : (Int32 × TH)) (hF : F_X11_isName D.2.2.2 a0 h = some x) : XMt l yX11_isName (ws_ yX11_isName cX11_isName 3 (some .boolean)) 4 90 D [rv a0] h (.returned (some (.int x.1))) x.2 := by
  refine x_met (by decide +kernel) ?_ ?_
  · simp [lg_sl, rv_cat, cat_i, cat_l]
  intro p e s m below meth c hC hr hnh hin ls hl hX
  replace hl : lv_has ls 3 [(0, rv a0)] := by simpa [lv_args, rv_cat, cat_i, cat_l] using hl
  exact w_X11_isName hC hr hnh hin a0 h hF s.heap [] 0 0 ls hX hl
/-! BlindCards$Reader.red -/
def F_X11_red_b23 (K : Nat → Nat) (x0 : Nat) (h : TH) : Option ((Int32 ⊕ Nat) × TH) :=
  lt ((K 26)) fun r_1 =>
  gd (hT h x0 = 7) <|
  bd (F_X11_is K h x0 r_1) fun r_4 =>
  gd (hT h x0 = 7) <|
  bd (F_X11_go K x0 h) fun h_7 =>
  gd (r_4 = 0 ∨ r_4 = 1) <|
  some (.inl r_4, h_7)
set_option maxHeartbeats 4000000 in
theorem w_X11_red_b23 {p : Program} {l : Launch} {e : Env} {s : State} {m : MethodId} {args : Array Value} {below : List Frame} {meth : Method} {c : Code} {D : XD} {h0 : TH} (hC : XCx D cX11_red 2 RX11 h0 p (xRm 7 194 h0) s m args meth c) (hr : meth.sig.returnType = some .boolean) (hnh : c.exceptionTable.isEmpty = true) (hin : meth.name = "red") {x : ((Int32 ⊕ Nat) × TH)} :
    ∀ (x0 : Nat) (h : TH), F_X11_red_b23 D.2.2.2 x0 h = some x → XJ p l e (xRm 7 194 h0) s m args below meth c D 2 (ocI x.1) h0 x.2 23 [(0, rv x0)] [] h := by
  have hx := hC.1
  have hb := hC.2.1
  intro x0 h hF H locs cells slots ls hX hl
  rw [F_X11_red_b23] at hF
  refine X_aload_n hx hb dX11_red_23 rfl (lv_at hl 0 rfl) ?_
  refine X_ldcS hC (i := 26) (List.mem_of_getElem? (i := 26) rfl) dX11_red_24 ?_
  refine lv_topr (fun r_1 er_1 => ?_)
  replace hF := lt_at hF er_1
  obtain ⟨h_2, hF⟩ := gd_ok hF
  obtain ⟨r_4, hc_3, hF⟩ := bd_ok hF
  refine iX_X11_86 hC hX h_2 hc_3 hl.1 (Nat.le_of_ble_eq_true rfl) (Nat.le_of_ble_eq_true rfl) (Nat.le_of_ble_eq_true rfl) dX11_red_26 (fun H locs cells slots hX => ?_)
  refine lv_istore_n (i := 1) hx hb dX11_red_29 rfl hl (by decide) rfl (fun ls hl => ?_)
  replace hl : lv_has ls 2 [(1, .int r_4), (0, rv x0)] := lv_subS hl (List.forall_mem_cons.mpr ⟨Or.inl rfl, (List.forall_mem_cons.mpr ⟨Or.inr ⟨List.mem_of_getElem? (i := 0) rfl, by simp [rv_cat]⟩, (fun _ h => nomatch h)⟩)⟩)
  refine X_aload_n hx hb dX11_red_30 rfl (lv_at hl 1 rfl) ?_
  obtain ⟨h_5, hF⟩ := gd_ok hF
  obtain ⟨h_7, hc_6, hF⟩ := bd_ok hF
  refine iX_X11_94 hC hX h_5 hc_6 hl.1 (Nat.le_of_ble_eq_true rfl) (Nat.le_of_ble_eq_true rfl) (Nat.le_of_ble_eq_true rfl) dX11_red_31 (fun H locs cells slots hX => ?_)
  refine lv_iload_n hx hb dX11_red_34 rfl (lv_at hl 0 rfl) ?_
  obtain ⟨h_8, hF⟩ := gd_ok hF
  cases hF
  exact x_reti hC hX hr (zb_nar h_8).1 rfl rfl dX11_red_35
def F_X11_red (K : Nat → Nat) (a0 : Nat) (h : TH) : Option ((Int32 ⊕ Nat) × TH) :=
  lt ((K 26)) fun r_1 =>
  gd (hT h a0 = 7) <|
  bd (F_X11_is K h a0 r_1) fun r_4 =>
  if r_4 = 0 then
    lt ((K 27)) fun r_6 =>
    gd (hT h a0 = 7) <|
    bd (F_X11_is K h a0 r_6) fun r_9 =>
    if r_9 = 0 then
      gd (hT h a0 = 7) <|
      bd2 (F_X11_wrong K a0 h) fun r_14 h_13 =>
      gd (r_14 ≠ 0) <|
      some (.inr r_14, h_13)
    else
      F_X11_red_b23 K a0 h
  else
    F_X11_red_b23 K a0 h
set_option maxHeartbeats 4000000 in
theorem w_X11_red {p : Program} {l : Launch} {e : Env} {s : State} {m : MethodId} {args : Array Value} {below : List Frame} {meth : Method} {c : Code} {D : XD} {h0 : TH} (hC : XCx D cX11_red 2 RX11 h0 p (xRm 7 194 h0) s m args meth c) (hr : meth.sig.returnType = some .boolean) (hnh : c.exceptionTable.isEmpty = true) (hin : meth.name = "red") {x : ((Int32 ⊕ Nat) × TH)} :
    ∀ (a0 : Nat) (h : TH), F_X11_red D.2.2.2 a0 h = some x → XJ p l e (xRm 7 194 h0) s m args below meth c D 2 (ocI x.1) h0 x.2 0 [(0, rv a0)] [] h := by
  have hx := hC.1
  have hb := hC.2.1
  intro a0 h hF H locs cells slots ls hX hl
  rw [F_X11_red] at hF
  refine X_aload_n hx hb dX11_red_0 rfl (lv_at hl 0 rfl) ?_
  refine X_ldcS hC (i := 26) (List.mem_of_getElem? (i := 26) rfl) dX11_red_1 ?_
  refine lv_topr (fun r_1 er_1 => ?_)
  replace hF := lt_at hF er_1
  obtain ⟨h_2, hF⟩ := gd_ok hF
  obtain ⟨r_4, hc_3, hF⟩ := bd_ok hF
  refine iX_X11_86 hC hX h_2 hc_3 hl.1 (Nat.le_of_ble_eq_true rfl) (Nat.le_of_ble_eq_true rfl) (Nat.le_of_ble_eq_true rfl) dX11_red_3 (fun H locs cells slots hX => ?_)
  refine lv_if_ne (tgt := 23) hx hb dX11_red_6 (by decide) (fun c_5 => ?_) (fun c_5 => ?_)
  · replace hF := it_f hF c_5
    exact w_X11_red_b23 hC hr hnh hin a0 h hF H locs cells slots ls hX (lv_sub hl [0] rfl)
  · replace hF := it_t hF c_5
    refine X_aload_n hx hb dX11_red_9 rfl (lv_at hl 0 rfl) ?_
    refine X_ldcS hC (i := 27) (List.mem_of_getElem? (i := 27) rfl) dX11_red_10 ?_
    refine lv_topr (fun r_6 er_6 => ?_)
    replace hF := lt_at hF er_6
    obtain ⟨h_7, hF⟩ := gd_ok hF
    obtain ⟨r_9, hc_8, hF⟩ := bd_ok hF
    refine iX_X11_86 hC hX h_7 hc_8 hl.1 (Nat.le_of_ble_eq_true rfl) (Nat.le_of_ble_eq_true rfl) (Nat.le_of_ble_eq_true rfl) dX11_red_12 (fun H locs cells slots hX => ?_)
    refine lv_if_ne (tgt := 23) hx hb dX11_red_15 (by decide) (fun c_10 => ?_) (fun c_10 => ?_)
    · replace hF := it_f hF c_10
      exact w_X11_red_b23 hC hr hnh hin a0 h hF H locs cells slots ls hX (lv_sub hl [0] rfl)
    · replace hF := it_t hF c_10
      refine X_aload_n hx hb dX11_red_18 rfl (lv_at hl 0 rfl) ?_
      obtain ⟨h_11, hF⟩ := gd_ok hF
      obtain ⟨r_14, h_13, hc_12, hF⟩ := bd2_ok hF
      refine iX_X11_90 hC hX h_11 hc_12 hl.1 (Nat.le_of_ble_eq_true rfl) (Nat.le_of_ble_eq_true rfl) (Nat.le_of_ble_eq_true rfl) dX11_red_19 (fun H locs cells slots hX => ?_)
      obtain ⟨h_15, hF⟩ := gd_ok hF
      cases hF
      exact x_throw hC hX hnh h_15 rfl rfl dX11_red_22
theorem m_X11_red (l : Launch) (D : XD) (a0 : Nat) (h : TH) (x : ((Int32 ⊕ Nat) × TH)) (hF : F_X11_red D.2.2.2 a0 h = some x) : XMt l yX11_red (ws_ yX11_red cX11_red 2 (some .boolean)) 7 194 D [rv a0] h (ocI x.1) x.2 := by
  refine x_met (by decide +kernel) ?_ ?_
  · simp [lg_sl, rv_cat, cat_i, cat_l]
  intro p e s m below meth c hC hr hnh hin ls hl hX
  replace hl : lv_has ls 2 [(0, rv a0)] := by simpa [lv_args, rv_cat, cat_i, cat_l] using hl
  exact w_X11_red hC hr hnh hin a0 h hF s.heap [] 0 0 ls hX hl
theorem gX_X1_50 {p : Program} {l : Launch} {e : Env} {R : Room} {s : State} {m : MethodId} {args : Array Value} {below : List Frame} {meth : Method} {c : Code} {H : Heap} {locs : List Loc} {cells slots nL : Nat} {Q : State → Prop} {D : XD} {h0 h : TH} {cc : ByteArray} {pc : Nat} {ls : Array Slot} {rest : List Value} (hC : XCx D cc nL RX1 h0 p R s m args meth c) (hX : XSt D s h0 h H locs cells slots) {a : Nat} (hf : hasF (hT h a) 111 = true) (hdg : decode cc pc = .ok (.getfield 50, 3)) (kk : W p l e R s m args below meth c H locs cells slots Q (F0 m (pc + 3) ls (rv (hR h 111 a) :: rest))) : W p l e R s m args below meth c H locs cells slots Q (F0 m pc ls (rv a :: rest)) :=
  X_getr hC hX 111 hf rfl (fun q => absurd q (by decide)) q1541 (fun _ h => h) hdg kk
theorem iX_X1_54 {p : Program} {l : Launch} {e : Env} {R : Room} {s : State} {m : MethodId} {args : Array Value} {below : List Frame} {meth : Method} {c : Code} {H : Heap} {locs : List Loc} {cells slots nL : Nat} {Q : State → Prop} {D : XD} {h0 h : TH} {cc : ByteArray} {pc : Nat} {ls : Array Slot} {rest : List Value} (hC : XCx D cc nL RX1 h0 p R s m args meth c) (hX : XSt D s h0 h H locs cells slots) {a : Nat} {b0 : Nat} {x : Int32} (ht : hT h a = 9 ∨ hT h a = 41) (hcF : F_J11_equals D.2.2.2 h a b0 = some x) (hl : ls.size = nL) (hW : (rest.map fun v => v.category).sum ≤ 8) (hRf : 1 + 1 ≤ R.frames) (hRl : 44 ≤ R.locals) (hdg : decode cc pc = .ok (.invokevirtual 54, 3)) (kk : ∀ (H1 : Heap) (locs1 : List Loc) (cells1 slots1 : Nat), XSt D s h0 h H1 locs1 cells1 slots1 → W p l e R s m args below meth c H1 locs1 cells1 slots1 Q (F0 m (pc + 3) ls (.int x :: rest))) : W p l e R s m args below meth c H locs cells slots Q (F0 m pc ls (rv b0 :: rv a :: rest)) := by
  rcases ht with q | q
  · exact X_callV hC hX (by rw [q]; decide) (by rw [q]; rfl) (As := [rv b0]) (m_J11_equals l D a b0 h _ hcF) (cwV 1 hC.2.2.2.2.1 (lw_V q1498 q1094 q1095 q149 q1096) rfl rfl rfl (by decide +kernel) ⟨Nat.le_trans (Nat.le_of_ble_eq_true rfl) hRf, Nat.le_trans (Nat.le_of_ble_eq_true rfl) hRl⟩) rfl rfl hl hW hdg kk
  · exact X_callV hC hX (by rw [q]; decide) (by rw [q]; rfl) (As := [rv b0]) (m_J11_equals l D a b0 h _ hcF) (cwV 1 hC.2.2.2.2.1 (lw_V q1498 q1094 q1095 q149 q1096) rfl rfl rfl (by decide +kernel) ⟨Nat.le_trans (Nat.le_of_ble_eq_true rfl) hRf, Nat.le_trans (Nat.le_of_ble_eq_true rfl) hRl⟩) rfl rfl hl hW hdg kk
/-! BlindCards$Recipe.mark -/
def F_X1_mark_b52 (K : Nat → Nat) (h : TH) (k4 : Nat → Nat → Int32 → Int32 → Option Int32) (x0 : Nat) (x1 : Nat) (x2 : Int32) (x3 : Int32) : Option Int32 :=
  lt (x3 + (1 : Int32)) fun x3_1 =>
  k4 x0 x1 x2 x3_1
set_option maxHeartbeats 4000000 in
theorem w_X1_mark_b52 {p : Program} {l : Launch} {e : Env} {s : State} {m : MethodId} {args : Array Value} {below : List Frame} {meth : Method} {c : Code} {D : XD} {h : TH} (hC : XCx D cX1_mark 4 RX1 h p (xRm 3 64 h) s m args meth c) (hr : meth.sig.returnType = some .int) (hnh : c.exceptionTable.isEmpty = true) (hin : meth.name = "mark") {x : Int32} (k4 : Nat → Nat → Int32 → Int32 → Option Int32) (hk4 : ∀ (x0 : Nat) (x1 : Nat) (x2 : Int32) (x3 : Int32), k4 x0 x1 x2 x3 = some x → XJ p l e (xRm 3 64 h) s m args below meth c D 4 (.returned (some (.int x))) h h 4 [(0, rv x0), (1, rv x1), (2, .int x2), (3, .int x3)] [] h) :
    ∀ (x0 : Nat) (x1 : Nat) (x2 : Int32) (x3 : Int32), F_X1_mark_b52 D.2.2.2 h k4 x0 x1 x2 x3 = some x → XJ p l e (xRm 3 64 h) s m args below meth c D 4 (.returned (some (.int x))) h h 52 [(0, rv x0), (1, rv x1), (2, .int x2), (3, .int x3)] [] h := by
  have hx := hC.1
  have hb := hC.2.1
  intro x0 x1 x2 x3 hF H locs cells slots ls hX hl
  rw [F_X1_mark_b52] at hF
  obtain ⟨x3_1, ex3_1, hF⟩ := lt_ok hF
  refine lv_iinc (v := x3_1) (lv' := [(3, .int x3_1), (0, rv x0), (1, rv x1), (2, .int x2)]) hx hb dX1_mark_52 hl (k := 3) rfl (by rw [ex3_1]; rfl) (by decide) rfl (fun ls hl => ?_)
  refine lv_goto (tgt := 4) hx hb dX1_mark_55 (by decide) ?_
  exact hk4 x0 x1 x2 x3_1 hF H locs cells slots ls hX (lv_sub hl [1, 2, 3, 0] rfl)
def F_X1_mark_L4 (K : Nat → Nat) (h : TH) : Nat → Nat → Nat → Int32 → Int32 → Option Int32
  | 0, _, _, _, _ => none
  | fu + 1, x0, x1, x2, x3 =>
    gd (hasF (hT h x0) 30 = true) <|
    lt (hR h 30 x0) fun r_2 =>
    gd (hT h r_2 = 3) <|
    bd (F_J2_size K h r_2) fun r_5 =>
    if r_5 ≤ x3 then
      some x2
    else
      gd (hasF (hT h x0) 30 = true) <|
      lt (hR h 30 x0) fun r_8 =>
      gd (hT h r_8 = 3) <|
      bd (F_J2_get K h r_8 x3) fun r_11 =>
      bd (isI h r_11 "BlindCards$Mark") fun r_12 =>
      if r_12 = 0 then
        F_X1_mark_b52 K h (F_X1_mark_L4 K h fu) x0 x1 x2 x3
      else
        gd (hasF (hT h x0) 30 = true) <|
        lt (hR h 30 x0) fun r_16 =>
        gd (hT h r_16 = 3) <|
        bd (F_J2_get K h r_16 x3) fun r_19 =>
        gd (r_19 = 0 ∨ castB (hT h r_19) "BlindCards$Mark" = true) <|
        gd (hasF (hT h r_19) 111 = true) <|
        lt (hR h 111 r_19) fun r_22 =>
        gd (hT h r_22 = 9 ∨ hT h r_22 = 41) <|
        bd (F_J11_equals K h r_22 x1) fun r_25 =>
        if r_25 = 0 then
          F_X1_mark_b52 K h (F_X1_mark_L4 K h fu) x0 x1 x2 x3
        else
          F_X1_mark_b52 K h (F_X1_mark_L4 K h fu) x0 x1 x3 x3
set_option maxHeartbeats 4000000 in
theorem w_X1_mark_L4 {p : Program} {l : Launch} {e : Env} {s : State} {m : MethodId} {args : Array Value} {below : List Frame} {meth : Method} {c : Code} {D : XD} {h : TH} (hC : XCx D cX1_mark 4 RX1 h p (xRm 3 64 h) s m args meth c) (hr : meth.sig.returnType = some .int) (hnh : c.exceptionTable.isEmpty = true) (hin : meth.name = "mark") {x : Int32} :
    ∀ (fu : Nat) (x0 : Nat) (x1 : Nat) (x2 : Int32) (x3 : Int32), F_X1_mark_L4 D.2.2.2 h fu x0 x1 x2 x3 = some x → XJ p l e (xRm 3 64 h) s m args below meth c D 4 (.returned (some (.int x))) h h 4 [(0, rv x0), (1, rv x1), (2, .int x2), (3, .int x3)] [] h := by
  have hx := hC.1
  have hb := hC.2.1
  intro fu
  induction fu with
  | zero => intro x0 x1 x2 x3 hF; exact nm_none hF
  | succ fu ih =>
    intro x0 x1 x2 x3 hF H locs cells slots ls hX hl
    rw [F_X1_mark_L4] at hF
    refine lv_iload_n hx hb dX1_mark_4 rfl (lv_at hl 3 rfl) ?_
    refine X_aload_n hx hb dX1_mark_5 rfl (lv_at hl 0 rfl) ?_
    obtain ⟨h_1, hF⟩ := gd_ok hF
    refine gX_X1_14 hC hX h_1 dX1_mark_6 ?_
    refine lv_topr (fun r_2 er_2 => ?_)
    replace hF := lt_at hF er_2
    obtain ⟨h_3, hF⟩ := gd_ok hF
    obtain ⟨r_5, hc_4, hF⟩ := bd_ok hF
    refine iX_X1_40 hC hX h_3 hc_4 hl.1 (Nat.le_of_ble_eq_true rfl) (Nat.le_of_ble_eq_true rfl) (Nat.le_of_ble_eq_true rfl) dX1_mark_9 (fun H locs cells slots hX => ?_)
    refine lv_icmp_ge (tgt := 58) hx hb dX1_mark_12 (by decide) (fun c_6 => ?_) (fun c_6 => ?_)
    · replace hF := it_t hF c_6
      refine lv_iload_n hx hb dX1_mark_58 rfl (lv_at hl 2 rfl) ?_
      exact x_reti hC hX hr rfl (Option.some.inj hF) rfl dX1_mark_59
    · replace hF := it_f hF c_6
      refine X_aload_n hx hb dX1_mark_15 rfl (lv_at hl 0 rfl) ?_
      obtain ⟨h_7, hF⟩ := gd_ok hF
      refine gX_X1_14 hC hX h_7 dX1_mark_16 ?_
      refine lv_topr (fun r_8 er_8 => ?_)
      replace hF := lt_at hF er_8
      refine lv_iload_n hx hb dX1_mark_19 rfl (lv_at hl 3 rfl) ?_
      obtain ⟨h_9, hF⟩ := gd_ok hF
      obtain ⟨r_11, hc_10, hF⟩ := bd_ok hF
      refine iX_X1_44 hC hX h_9 hc_10 hl.1 (Nat.le_of_ble_eq_true rfl) (Nat.le_of_ble_eq_true rfl) (Nat.le_of_ble_eq_true rfl) dX1_mark_20 (fun H locs cells slots hX => ?_)
      obtain ⟨r_12, hc_13, hF⟩ := bd_ok hF
      refine X_inst hC hX hc_13 q1497 dX1_mark_23 ?_
      refine lv_if_eq (tgt := 52) hx hb dX1_mark_26 (by decide) (fun c_14 => ?_) (fun c_14 => ?_)
      · replace hF := it_t hF c_14
        exact w_X1_mark_b52 hC hr hnh hin (F_X1_mark_L4 D.2.2.2 h fu) ih x0 x1 x2 x3 hF H locs cells slots ls hX (lv_sub hl [0, 1, 2, 3] rfl)
      · replace hF := it_f hF c_14
        refine X_aload_n hx hb dX1_mark_29 rfl (lv_at hl 0 rfl) ?_
        obtain ⟨h_15, hF⟩ := gd_ok hF
        refine gX_X1_14 hC hX h_15 dX1_mark_30 ?_
        refine lv_topr (fun r_16 er_16 => ?_)
        replace hF := lt_at hF er_16
        refine lv_iload_n hx hb dX1_mark_33 rfl (lv_at hl 3 rfl) ?_
        obtain ⟨h_17, hF⟩ := gd_ok hF
        obtain ⟨r_19, hc_18, hF⟩ := bd_ok hF
        refine iX_X1_44 hC hX h_17 hc_18 hl.1 (Nat.le_of_ble_eq_true rfl) (Nat.le_of_ble_eq_true rfl) (Nat.le_of_ble_eq_true rfl) dX1_mark_34 (fun H locs cells slots hX => ?_)
        obtain ⟨h_20, hF⟩ := gd_ok hF
        refine X_cast hC hX h_20 q1497 dX1_mark_37 ?_
        obtain ⟨h_21, hF⟩ := gd_ok hF
        refine gX_X1_50 hC hX h_21 dX1_mark_40 ?_
        refine lv_topr (fun r_22 er_22 => ?_)
        replace hF := lt_at hF er_22
        refine X_aload_n hx hb dX1_mark_43 rfl (lv_at hl 1 rfl) ?_
        obtain ⟨h_23, hF⟩ := gd_ok hF
        obtain ⟨r_25, hc_24, hF⟩ := bd_ok hF
        refine iX_X1_54 hC hX h_23 hc_24 hl.1 (Nat.le_of_ble_eq_true rfl) (Nat.le_of_ble_eq_true rfl) (Nat.le_of_ble_eq_true rfl) dX1_mark_44 (fun H locs cells slots hX => ?_)
        refine lv_if_eq (tgt := 52) hx hb dX1_mark_47 (by decide) (fun c_26 => ?_) (fun c_26 => ?_)
        · replace hF := it_t hF c_26
          exact w_X1_mark_b52 hC hr hnh hin (F_X1_mark_L4 D.2.2.2 h fu) ih x0 x1 x2 x3 hF H locs cells slots ls hX (lv_sub hl [0, 1, 2, 3] rfl)
        · replace hF := it_f hF c_26
          refine lv_iload_n hx hb dX1_mark_50 rfl (lv_at hl 3 rfl) ?_
          refine lv_istore_n (i := 2) hx hb dX1_mark_51 rfl hl (by decide) rfl (fun ls hl => ?_)
          replace hl : lv_has ls 4 [(2, .int x3), (0, rv x0), (1, rv x1), (3, .int x3)] := lv_subS hl (List.forall_mem_cons.mpr ⟨Or.inl rfl, (List.forall_mem_cons.mpr ⟨Or.inr ⟨List.mem_of_getElem? (i := 0) rfl, rfl⟩, (List.forall_mem_cons.mpr ⟨Or.inr ⟨List.mem_of_getElem? (i := 1) rfl, by simp [rv_cat]⟩, (List.forall_mem_cons.mpr ⟨Or.inr ⟨List.mem_of_getElem? (i := 3) rfl, rfl⟩, (fun _ h => nomatch h)⟩)⟩)⟩)⟩)
          exact w_X1_mark_b52 hC hr hnh hin (F_X1_mark_L4 D.2.2.2 h fu) ih x0 x1 x3 x3 hF H locs cells slots ls hX (lv_sub hl [1, 2, 0, 3] rfl)
def F_X1_mark (K : Nat → Nat) (h : TH) (a0 : Nat) (b0 : Nat) : Option Int32 :=
  F_X1_mark_L4 K h MN a0 b0 (-1 : Int32) (0 : Int32)
set_option maxHeartbeats 4000000 in
theorem w_X1_mark {p : Program} {l : Launch} {e : Env} {s : State} {m : MethodId} {args : Array Value} {below : List Frame} {meth : Method} {c : Code} {D : XD} {h : TH} (hC : XCx D cX1_mark 4 RX1 h p (xRm 3 64 h) s m args meth c) (hr : meth.sig.returnType = some .int) (hnh : c.exceptionTable.isEmpty = true) (hin : meth.name = "mark") {x : Int32} :
    ∀ (a0 : Nat) (b0 : Nat), F_X1_mark D.2.2.2 h a0 b0 = some x → XJ p l e (xRm 3 64 h) s m args below meth c D 4 (.returned (some (.int x))) h h 0 [(0, rv a0), (1, rv b0)] [] h := by
  have hx := hC.1
  have hb := hC.2.1
  intro a0 b0 hF H locs cells slots ls hX hl
  rw [F_X1_mark] at hF
  refine lv_iconst (v := -1) hx hb dX1_mark_0 (by decide) ?_
  refine lv_istore_n (i := 2) hx hb dX1_mark_1 rfl hl (by decide) rfl (fun ls hl => ?_)
  replace hl : lv_has ls 4 [(2, .int (-1 : Int32)), (0, rv a0), (1, rv b0)] := lv_subS hl (List.forall_mem_cons.mpr ⟨Or.inl rfl, (List.forall_mem_cons.mpr ⟨Or.inr ⟨List.mem_of_getElem? (i := 0) rfl, rfl⟩, (List.forall_mem_cons.mpr ⟨Or.inr ⟨List.mem_of_getElem? (i := 1) rfl, by simp [rv_cat]⟩, (fun _ h => nomatch h)⟩)⟩)⟩)
  refine lv_iconst (v := 0) hx hb dX1_mark_2 (by decide) ?_
  refine lv_istore_n (lv' := [(3, .int (0 : Int32)), (2, .int (-1 : Int32)), (0, rv a0), (1, rv b0)]) hx hb dX1_mark_3 rfl hl (by decide) rfl (fun ls hl => ?_)
  exact w_X1_mark_L4 hC hr hnh hin MN a0 b0 (-1 : Int32) (0 : Int32) hF H locs cells slots ls hX (lv_sub hl [2, 3, 1, 0] rfl)
theorem m_X1_mark (l : Launch) (D : XD) (a0 : Nat) (b0 : Nat) (h : TH) (x : Int32) (hF : F_X1_mark D.2.2.2 h a0 b0 = some x) : XMt l yX1_mark (ws_ yX1_mark cX1_mark 4 (some .int)) 3 64 D [rv a0, rv b0] h (.returned (some (.int x))) h := by
  refine x_met (by decide +kernel) ?_ ?_
  · simp [lg_sl, rv_cat, cat_i, cat_l]
  intro p e s m below meth c hC hr hnh hin ls hl hX
  replace hl : lv_has ls 4 [(0, rv a0), (1, rv b0)] := by simpa [lv_args, rv_cat, cat_i, cat_l] using hl
  exact w_X1_mark hC hr hnh hin a0 b0 hF s.heap [] 0 0 ls hX hl
theorem iX_X11_261 {p : Program} {l : Launch} {e : Env} {R : Room} {s : State} {m : MethodId} {args : Array Value} {below : List Frame} {meth : Method} {c : Code} {H : Heap} {locs : List Loc} {cells slots nL : Nat} {Q : State → Prop} {D : XD} {h0 h : TH} {cc : ByteArray} {pc : Nat} {ls : Array Slot} {rest : List Value} {h1 : TH} (hC : XCx D cc nL RX11 h0 p R s m args meth c) (hX : XSt D s h0 h H locs cells slots) {a : Nat} {x : Int32} (ht : hT h a = 7) (hcF : F_X11_red D.2.2.2 a h = some (.inl x, h1)) (hl : ls.size = nL) (hW : (rest.map fun v => v.category).sum ≤ 8) (hRf : 7 + 1 ≤ R.frames) (hRl : 215 ≤ R.locals) (hdg : decode cc pc = .ok (.invokevirtual 261, 3)) (kk : ∀ (H1 : Heap) (locs1 : List Loc) (cells1 slots1 : Nat), XSt D s h0 h1 H1 locs1 cells1 slots1 → W p l e R s m args below meth c H1 locs1 cells1 slots1 Q (F0 m (pc + 3) ls (.int x :: rest))) : W p l e R s m args below meth c H locs cells slots Q (F0 m pc ls (rv a :: rest)) := by
  have q := ht
  exact X_callV hC hX (by rw [q]; decide) (by rw [q]; rfl) (As := []) (m_X11_red l D a h _ hcF) (cwV 0 hC.2.2.2.2.1 (lw_V q1423 q1425 qs35 q146 q1426) rfl rfl rfl (by decide +kernel) ⟨Nat.le_trans (Nat.le_of_ble_eq_true rfl) hRf, Nat.le_trans (Nat.le_of_ble_eq_true rfl) hRl⟩) rfl rfl hl hW hdg kk
theorem iX_X11_261_t {p : Program} {l : Launch} {e : Env} {R : Room} {s : State} {m : MethodId} {args : Array Value} {below : List Frame} {meth : Method} {c : Code} {H : Heap} {locs : List Loc} {cells slots nL : Nat} {D : XD} {h0 h : TH} {cc : ByteArray} {pc : Nat} {ls : Array Slot} {rest : List Value} {h1 : TH} (hC : XCx D cc nL RX11 h0 p R s m args meth c) (hX : XSt D s h0 h H locs cells slots) (hnh : c.exceptionTable.isEmpty = true) {a : Nat} {x : Nat} (ht : hT h a = 7) (hcF : F_X11_red D.2.2.2 a h = some (.inr x, h1)) (hl : ls.size = nL) (hW : (rest.map fun v => v.category).sum ≤ 8) (hRf : 7 + 1 ≤ R.frames) (hRl : 215 ≤ R.locals) (hdg : decode cc pc = .ok (.invokevirtual 261, 3)) : W p l e R s m args below meth c H locs cells slots (XMQ below D (.threw (x - 1)) h0 h1 s) (F0 m pc ls (rv a :: rest)) := by
  have q := ht
  exact X_callVT hC hX hnh (by rw [q]; decide) (by rw [q]; rfl) (As := []) (m_X11_red l D a h _ hcF) (cwV 0 hC.2.2.2.2.1 (lw_V q1423 q1425 qs35 q146 q1426) rfl rfl rfl (by decide +kernel) ⟨Nat.le_trans (Nat.le_of_ble_eq_true rfl) hRf, Nat.le_trans (Nat.le_of_ble_eq_true rfl) hRl⟩) rfl rfl hl hW hdg rfl
theorem iX_X11_308 {p : Program} {l : Launch} {e : Env} {R : Room} {s : State} {m : MethodId} {args : Array Value} {below : List Frame} {meth : Method} {c : Code} {H : Heap} {locs : List Loc} {cells slots nL : Nat} {Q : State → Prop} {D : XD} {h0 h : TH} {cc : ByteArray} {pc : Nat} {ls : Array Slot} {rest : List Value} {h1 : TH} (hC : XCx D cc nL RX11 h0 p R s m args meth c) (hX : XSt D s h0 h H locs cells slots) {a : Nat} {x : Int32} (ht : hT h a = 7) (hcF : F_X11_isName D.2.2.2 a h = some (x, h1)) (hl : ls.size = nL) (hW : (rest.map fun v => v.category).sum ≤ 8) (hRf : 4 + 1 ≤ R.frames) (hRl : 112 ≤ R.locals) (hdg : decode cc pc = .ok (.invokevirtual 308, 3)) (kk : ∀ (H1 : Heap) (locs1 : List Loc) (cells1 slots1 : Nat), XSt D s h0 h1 H1 locs1 cells1 slots1 → W p l e R s m args below meth c H1 locs1 cells1 slots1 Q (F0 m (pc + 3) ls (.int x :: rest))) : W p l e R s m args below meth c H locs cells slots Q (F0 m pc ls (rv a :: rest)) := by
  have q := ht
  exact X_callV hC hX (by rw [q]; decide) (by rw [q]; rfl) (As := []) (m_X11_isName l D a h _ hcF) (cwV 0 hC.2.2.2.2.1 (lw_V q1434 q1436 qs37 q146 q1437) rfl rfl rfl (by decide +kernel) ⟨Nat.le_trans (Nat.le_of_ble_eq_true rfl) hRf, Nat.le_trans (Nat.le_of_ble_eq_true rfl) hRl⟩) rfl rfl hl hW hdg kk
theorem iX_X11_177 {p : Program} {l : Launch} {e : Env} {R : Room} {s : State} {m : MethodId} {args : Array Value} {below : List Frame} {meth : Method} {c : Code} {H : Heap} {locs : List Loc} {cells slots nL : Nat} {Q : State → Prop} {D : XD} {h0 h : TH} {cc : ByteArray} {pc : Nat} {ls : Array Slot} {rest : List Value} (hC : XCx D cc nL RX11 h0 p R s m args meth c) (hX : XSt D s h0 h H locs cells slots) {a : Nat} {b0 : Nat} {x : Int32} (ht : hT h a = 2) (hcF : F_X1_mark D.2.2.2 h a b0 = some x) (hl : ls.size = nL) (hW : (rest.map fun v => v.category).sum ≤ 8) (hRf : 3 + 1 ≤ R.frames) (hRl : 87 ≤ R.locals) (hdg : decode cc pc = .ok (.invokevirtual 177, 3)) (kk : ∀ (H1 : Heap) (locs1 : List Loc) (cells1 slots1 : Nat), XSt D s h0 h H1 locs1 cells1 slots1 → W p l e R s m args below meth c H1 locs1 cells1 slots1 Q (F0 m (pc + 3) ls (.int x :: rest))) : W p l e R s m args below meth c H locs cells slots Q (F0 m pc ls (rv b0 :: rv a :: rest)) := by
  have q := ht
  exact X_callV hC hX (by rw [q]; decide) (by rw [q]; rfl) (As := [rv b0]) (m_X1_mark l D a b0 h _ hcF) (cwV 1 hC.2.2.2.2.1 (lw_V q1491 q1492 q1493 q126 q1494) rfl rfl rfl (by decide +kernel) ⟨Nat.le_trans (Nat.le_of_ble_eq_true rfl) hRf, Nat.le_trans (Nat.le_of_ble_eq_true rfl) hRl⟩) rfl rfl hl hW hdg kk
theorem nX_X11_172 {p : Program} {l : Launch} {e : Env} {R : Room} {s : State} {m : MethodId} {args : Array Value} {below : List Frame} {meth : Method} {c : Code} {H : Heap} {locs : List Loc} {cells slots nL : Nat} {Q : State → Prop} {D : XD} {h0 h : TH} {cc : ByteArray} {pc : Nat} {ls : Array Slot} {rest : List Value} (hC : XCx D cc nL RX11 h0 p R s m args meth c) (hX : XSt D s h0 h H locs cells slots) (hroom : hc h + 1 ≤ XC ∧ hs h + 5 ≤ XS) (hdg : decode cc pc = .ok (.new 172, 3)) (kk : ∀ (H1 : Heap) (cells1 slots1 : Nat), XSt D s h0 (nO h 20 5) H1 locs cells1 slots1 → W p l e R s m args below meth c H1 locs cells1 slots1 Q (F0 m (pc + 3) ls (rv (hz h + 1) :: rest))) : W p l e R s m args below meth c H locs cells slots Q (F0 m pc ls rest) :=
  X_new hC hX 20 ⟨by decide, by decide⟩ rfl q1499 q1500 q164 hroom hdg kk
theorem iX_X11_311 {p : Program} {l : Launch} {e : Env} {R : Room} {s : State} {m : MethodId} {args : Array Value} {below : List Frame} {meth : Method} {c : Code} {H : Heap} {locs : List Loc} {cells slots nL : Nat} {Q : State → Prop} {D : XD} {h0 h : TH} {cc : ByteArray} {pc : Nat} {ls : Array Slot} {rest : List Value} (hC : XCx D cc nL RX11 h0 p R s m args meth c) (hX : XSt D s h0 h H locs cells slots) {a : Nat} {b0 : Int32} {b1 : Int32} {b2 : Nat} {b3 : Int32} {x : TH} (ha : a ≠ 0) (hcF : F_X20_init D.2.2.2 a b0 b1 b2 b3 h = some x) (hl : ls.size = nL) (hW : (rest.map fun v => v.category).sum ≤ 8) (hRf : 2 + 1 ≤ R.frames) (hRl : 74 ≤ R.locals) (hdg : decode cc pc = .ok (.invokespecial 311, 3)) (kk : ∀ (H1 : Heap) (locs1 : List Loc) (cells1 slots1 : Nat), XSt D s h0 x H1 locs1 cells1 slots1 → W p l e R s m args below meth c H1 locs1 cells1 slots1 Q (F0 m (pc + 3) ls (rest))) : W p l e R s m args below meth c H locs cells slots Q (F0 m pc ls (.int b3 :: rv b2 :: .int b1 :: .int b0 :: rv a :: rest)) := by
  exact X_callI hC hX ha (As := [.int b0, .int b1, rv b2, .int b3]) (m_X20_init l D a b0 b1 b2 b3 h _ hcF) (cwI 4 hC.2.2.2.2.1 (lw_meth q1503) rfl rfl rfl (hC.2.2.2.2.1 _ q164) (hC.2.2.2.2.1 _ q1501) (hC.2.2.2.2.1 _ q1502) rfl (by decide +kernel) ⟨Nat.le_trans (Nat.le_of_ble_eq_true rfl) hRf, Nat.le_trans (Nat.le_of_ble_eq_true rfl) hRl⟩) rfl rfl hl hW hdg kk
/-! BlindCards$Reader.branch -/
def F_X11_branch (K : Nat → Nat) (a0 : Nat) (h : TH) : Option ((Nat ⊕ Nat) × TH) :=
  gd (hT h a0 = 7) <|
  bd (F_X11_go K a0 h) fun h_3 =>
  gd (hT h_3 a0 = 7) <|
  bt (F_X11_place K a0 h_3) fun r_6 h_7 =>
  gd (hT h_7 a0 = 7) <|
  bt (F_X11_red K a0 h_7) fun r_11 h_12 =>
  lt ((K 28)) fun r_14 =>
  gd (hT h_12 a0 = 7) <|
  bt (F_X11_key K a0 r_14 h_12) fun r_17 h_18 =>
  gd (hT h_18 a0 = 7) <|
  bd2 (F_X11_isName K a0 h_18) fun r_23 h_22 =>
  if r_23 = 0 then
    gd (hT h_22 a0 = 7) <|
    bd2 (F_X11_wrong K a0 h_22) fun r_56 h_55 =>
    gd (r_56 ≠ 0) <|
    some (.inr r_56, h_55)
  else
    gd (hasF (hT h_22 a0) 73 = true) <|
    lt (hR h_22 73 a0) fun r_26 =>
    gd (hasF (hT h_22 a0) 72 = true) <|
    lt (hR h_22 72 a0) fun r_28 =>
    gd (hT h_22 r_26 = 2) <|
    bd (F_X1_mark K h_22 r_26 r_28) fun r_31 =>
    if r_31 < 0 then
      gd (hc h_22 + 1 ≤ XC ∧ hs h_22 + 5 ≤ XS) <|
      lt (hz h_22 + 1) fun r_34 =>
      lt (nO h_22 20 5) fun h_35 =>
      gd (hasF (hT h_35 a0) 72 = true) <|
      lt (hR h_35 72 a0) fun r_37 =>
      gd (hasF (hT h_35 a0) 69 = true) <|
      gd (r_34 ≠ 0) <|
      bd (F_X20_init K r_34 r_6 r_11 r_37 (hI h_35 69 a0) h_35) fun h_41 =>
      gd (hT h_41 a0 = 7) <|
      bd (F_X11_go K a0 h_41) fun h_44 =>
      some (.inl r_34, h_44)
    else
      gd (hc h_22 + 1 ≤ XC ∧ hs h_22 + 8 ≤ XS) <|
      lt (hz h_22 + 1) fun r_46 =>
      lt (nO h_22 10 8) fun h_47 =>
      gd (hasF (hT h_47 a0) 69 = true) <|
      gd (r_46 ≠ 0) <|
      bd (F_X12_init K r_46 (6 : Int32) (hI h_47 69 a0) h_47) fun h_51 =>
      gd (r_46 ≠ 0) <|
      some (.inr r_46, h_51)
set_option maxHeartbeats 4000000 in
theorem w_X11_branch {p : Program} {l : Launch} {e : Env} {s : State} {m : MethodId} {args : Array Value} {below : List Frame} {meth : Method} {c : Code} {D : XD} {h0 : TH} (hC : XCx D cX11_branch 4 RX11 h0 p (xRm 9 237 h0) s m args meth c) (hr : meth.sig.returnType = some (.object "BlindCards$Step")) (hnh : c.exceptionTable.isEmpty = true) (hin : meth.name = "branch") {x : ((Nat ⊕ Nat) × TH)} :
    ∀ (a0 : Nat) (h : TH), F_X11_branch D.2.2.2 a0 h = some x → XJ p l e (xRm 9 237 h0) s m args below meth c D 4 (ocR x.1) h0 x.2 0 [(0, rv a0)] [] h := by
  have hx := hC.1
  have hb := hC.2.1
  intro a0 h hF H locs cells slots ls hX hl
  rw [F_X11_branch] at hF
  refine X_aload_n hx hb dX11_branch_0 rfl (lv_at hl 0 rfl) ?_
  obtain ⟨h_1, hF⟩ := gd_ok hF
  obtain ⟨h_3, hc_2, hF⟩ := bd_ok hF
  refine iX_X11_94 hC hX h_1 hc_2 hl.1 (Nat.le_of_ble_eq_true rfl) (Nat.le_of_ble_eq_true rfl) (Nat.le_of_ble_eq_true rfl) dX11_branch_1 (fun H locs cells slots hX => ?_)
  refine X_aload_n hx hb dX11_branch_4 rfl (lv_at hl 0 rfl) ?_
  obtain ⟨h_4, hF⟩ := gd_ok hF
  rcases bt_ok hF with ⟨r_6, h_7, hc_5, hF⟩ | ⟨z_8, h_7, hc_5, hxx⟩
  rotate_left
  · subst hxx
    exact iX_X11_271_t hC hX hnh h_4 hc_5 hl.1 (Nat.le_of_ble_eq_true rfl) (Nat.le_of_ble_eq_true rfl) (Nat.le_of_ble_eq_true rfl) dX11_branch_5
  refine iX_X11_271 hC hX h_4 hc_5 hl.1 (Nat.le_of_ble_eq_true rfl) (Nat.le_of_ble_eq_true rfl) (Nat.le_of_ble_eq_true rfl) dX11_branch_5 (fun H locs cells slots hX => ?_)
  refine lv_istore_n (i := 1) hx hb dX11_branch_8 rfl hl (by decide) rfl (fun ls hl => ?_)
  replace hl : lv_has ls 4 [(1, .int r_6), (0, rv a0)] := lv_subS hl (List.forall_mem_cons.mpr ⟨Or.inl rfl, (List.forall_mem_cons.mpr ⟨Or.inr ⟨List.mem_of_getElem? (i := 0) rfl, by simp [rv_cat]⟩, (fun _ h => nomatch h)⟩)⟩)
  refine X_aload_n hx hb dX11_branch_9 rfl (lv_at hl 1 rfl) ?_
  obtain ⟨h_9, hF⟩ := gd_ok hF
  rcases bt_ok hF with ⟨r_11, h_12, hc_10, hF⟩ | ⟨z_13, h_12, hc_10, hxx⟩
  rotate_left
  · subst hxx
    exact iX_X11_261_t hC hX hnh h_9 hc_10 hl.1 (Nat.le_of_ble_eq_true rfl) (Nat.le_of_ble_eq_true rfl) (Nat.le_of_ble_eq_true rfl) dX11_branch_10
  refine iX_X11_261 hC hX h_9 hc_10 hl.1 (Nat.le_of_ble_eq_true rfl) (Nat.le_of_ble_eq_true rfl) (Nat.le_of_ble_eq_true rfl) dX11_branch_10 (fun H locs cells slots hX => ?_)
  refine lv_istore_n (lv' := [(2, .int r_11), (1, .int r_6), (0, rv a0)]) hx hb dX11_branch_13 rfl hl (by decide) rfl (fun ls hl => ?_)
  refine X_aload_n hx hb dX11_branch_14 rfl (lv_at hl 2 rfl) ?_
  refine X_ldcS hC (i := 28) (List.mem_of_getElem? (i := 28) rfl) dX11_branch_15 ?_
  refine lv_topr (fun r_14 er_14 => ?_)
  replace hF := lt_at hF er_14
  obtain ⟨h_15, hF⟩ := gd_ok hF
  rcases bt_ok hF with ⟨r_17, h_18, hc_16, hF⟩ | ⟨z_19, h_18, hc_16, hxx⟩
  rotate_left
  · subst hxx
    exact iX_X11_267_t hC hX hnh h_15 hc_16 hl.1 (Nat.le_of_ble_eq_true rfl) (Nat.le_of_ble_eq_true rfl) (Nat.le_of_ble_eq_true rfl) dX11_branch_17
  refine iX_X11_267 hC hX h_15 hc_16 hl.1 (Nat.le_of_ble_eq_true rfl) (Nat.le_of_ble_eq_true rfl) (Nat.le_of_ble_eq_true rfl) dX11_branch_17 (fun H locs cells slots hX => ?_)
  refine X_aload_n hx hb dX11_branch_20 rfl (lv_at hl 2 rfl) ?_
  obtain ⟨h_20, hF⟩ := gd_ok hF
  obtain ⟨r_23, h_22, hc_21, hF⟩ := bd2_ok hF
  refine iX_X11_308 hC hX h_20 hc_21 hl.1 (Nat.le_of_ble_eq_true rfl) (Nat.le_of_ble_eq_true rfl) (Nat.le_of_ble_eq_true rfl) dX11_branch_21 (fun H locs cells slots hX => ?_)
  refine lv_if_ne (tgt := 32) hx hb dX11_branch_24 (by decide) (fun c_24 => ?_) (fun c_24 => ?_)
  · replace hF := it_f hF c_24
    refine X_aload_n hx hb dX11_branch_32 rfl (lv_at hl 2 rfl) ?_
    obtain ⟨h_25, hF⟩ := gd_ok hF
    refine gX_X11_24 hC hX h_25 dX11_branch_33 ?_
    refine lv_topr (fun r_26 er_26 => ?_)
    replace hF := lt_at hF er_26
    refine X_aload_n hx hb dX11_branch_36 rfl (lv_at hl 2 rfl) ?_
    obtain ⟨h_27, hF⟩ := gd_ok hF
    refine gX_X11_17 hC hX h_27 dX11_branch_37 ?_
    refine lv_topr (fun r_28 er_28 => ?_)
    replace hF := lt_at hF er_28
    obtain ⟨h_29, hF⟩ := gd_ok hF
    obtain ⟨r_31, hc_30, hF⟩ := bd_ok hF
    refine iX_X11_177 hC hX h_29 hc_30 hl.1 (Nat.le_of_ble_eq_true rfl) (Nat.le_of_ble_eq_true rfl) (Nat.le_of_ble_eq_true rfl) dX11_branch_40 (fun H locs cells slots hX => ?_)
    refine lv_if_lt (tgt := 60) hx hb dX11_branch_43 (by decide) (fun c_32 => ?_) (fun c_32 => ?_)
    · replace hF := it_t hF c_32
      obtain ⟨h_33, hF⟩ := gd_ok hF
      refine nX_X11_172 hC hX h_33 dX11_branch_60 (fun H cells slots hX => ?_)
      refine lv_topr (fun r_34 er_34 => ?_)
      replace hF := lt_at hF er_34
      obtain ⟨h_35, eh_35, hF⟩ := lt_ok hF
      rw [← eh_35] at hX
      refine lv_dup hx hb dX11_branch_63 (rv_cat _) ?_
      refine lv_iload_n hx hb dX11_branch_64 rfl (lv_at hl 1 rfl) ?_
      refine lv_iload_n hx hb dX11_branch_65 rfl (lv_at hl 0 rfl) ?_
      refine X_aload_n hx hb dX11_branch_66 rfl (lv_at hl 2 rfl) ?_
      obtain ⟨h_36, hF⟩ := gd_ok hF
      refine gX_X11_17 hC hX h_36 dX11_branch_67 ?_
      refine lv_topr (fun r_37 er_37 => ?_)
      replace hF := lt_at hF er_37
      refine X_aload_n hx hb dX11_branch_70 rfl (lv_at hl 2 rfl) ?_
      obtain ⟨h_38, hF⟩ := gd_ok hF
      refine gX_X11_43 hC hX h_38 dX11_branch_71 ?_
      obtain ⟨h_39, hF⟩ := gd_ok hF
      obtain ⟨h_41, hc_40, hF⟩ := bd_ok hF
      refine iX_X11_311 hC hX h_39 hc_40 hl.1 (cat4 (Nat.le_of_ble_eq_true rfl)) (Nat.le_of_ble_eq_true rfl) (Nat.le_of_ble_eq_true rfl) dX11_branch_74 (fun H locs cells slots hX => ?_)
      refine X_astore_n (lv' := [(3, rv r_34), (2, .int r_11), (1, .int r_6), (0, rv a0)]) hx hb dX11_branch_77 rfl hl (by decide) rfl (fun ls hl => ?_)
      refine X_aload_n hx hb dX11_branch_78 rfl (lv_at hl 3 rfl) ?_
      obtain ⟨h_42, hF⟩ := gd_ok hF
      obtain ⟨h_44, hc_43, hF⟩ := bd_ok hF
      refine iX_X11_94 hC hX h_42 hc_43 hl.1 (Nat.le_of_ble_eq_true rfl) (Nat.le_of_ble_eq_true rfl) (Nat.le_of_ble_eq_true rfl) dX11_branch_79 (fun H locs cells slots hX => ?_)
      refine X_aload_n hx hb dX11_branch_82 rfl (lv_at hl 0 rfl) ?_
      cases hF
      exact x_reta hC hX hr (Or.inl ⟨_, rfl⟩) rfl rfl dX11_branch_83
    · replace hF := it_f hF c_32
      obtain ⟨h_45, hF⟩ := gd_ok hF
      refine nX_X11_75 hC hX h_45 dX11_branch_46 (fun H cells slots hX => ?_)
      refine lv_topr (fun r_46 er_46 => ?_)
      replace hF := lt_at hF er_46
      obtain ⟨h_47, eh_47, hF⟩ := lt_ok hF
      rw [← eh_47] at hX
      refine lv_dup hx hb dX11_branch_49 (rv_cat _) ?_
      refine lv_bipush (v := 6) hx hb dX11_branch_50 (by decide) ?_
      refine X_aload_n hx hb dX11_branch_52 rfl (lv_at hl 2 rfl) ?_
      obtain ⟨h_48, hF⟩ := gd_ok hF
      refine gX_X11_43 hC hX h_48 dX11_branch_53 ?_
      obtain ⟨h_49, hF⟩ := gd_ok hF
      obtain ⟨h_51, hc_50, hF⟩ := bd_ok hF
      refine iX_X11_77 hC hX h_49 hc_50 hl.1 (cat4 (Nat.le_of_ble_eq_true rfl)) (Nat.le_of_ble_eq_true rfl) (Nat.le_of_ble_eq_true rfl) dX11_branch_56 (fun H locs cells slots hX => ?_)
      obtain ⟨h_52, hF⟩ := gd_ok hF
      cases hF
      exact x_throw hC hX hnh h_52 rfl rfl dX11_branch_59
  · replace hF := it_t hF c_24
    refine X_aload_n hx hb dX11_branch_27 rfl (lv_at hl 2 rfl) ?_
    obtain ⟨h_53, hF⟩ := gd_ok hF
    obtain ⟨r_56, h_55, hc_54, hF⟩ := bd2_ok hF
    refine iX_X11_90 hC hX h_53 hc_54 hl.1 (Nat.le_of_ble_eq_true rfl) (Nat.le_of_ble_eq_true rfl) (Nat.le_of_ble_eq_true rfl) dX11_branch_28 (fun H locs cells slots hX => ?_)
    obtain ⟨h_57, hF⟩ := gd_ok hF
    cases hF
    exact x_throw hC hX hnh h_57 rfl rfl dX11_branch_31
theorem m_X11_branch (l : Launch) (D : XD) (a0 : Nat) (h : TH) (x : ((Nat ⊕ Nat) × TH)) (hF : F_X11_branch D.2.2.2 a0 h = some x) : XMt l yX11_branch (ws_ yX11_branch cX11_branch 4 (some (.object "BlindCards$Step"))) 9 237 D [rv a0] h (ocR x.1) x.2 := by
  refine x_met (by decide +kernel) ?_ ?_
  · simp [lg_sl, rv_cat, cat_i, cat_l]
  intro p e s m below meth c hC hr hnh hin ls hl hX
  replace hl : lv_has ls 4 [(0, rv a0)] := by simpa [lv_args, rv_cat, cat_i, cat_l] using hl
  exact w_X11_branch hC hr hnh hin a0 h hF s.heap [] 0 0 ls hX hl
end
