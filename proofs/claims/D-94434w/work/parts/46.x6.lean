set_option maxRecDepth 100000
noncomputable section
theorem iX_X22_3 {p : Program} {l : Launch} {e : Env} {R : Room} {s : State} {m : MethodId} {args : Array Value} {below : List Frame} {meth : Method} {c : Code} {H : Heap} {locs : List Loc} {cells slots nL : Nat} {Q : State → Prop} {D : XD} {h0 h : TH} {cc : ByteArray} {pc : Nat} {ls : Array Slot} {rest : List Value} (hC : XCx D cc nL RX22 h0 p R s m args meth c) (hX : XSt D s h0 h H locs cells slots) {a : Nat} {x : Unit} (ha : a ≠ 0) (hcF : F_X6_init D.2.2.2 h a = some x) (hl : ls.size = nL) (hW : (rest.map fun v => v.category).sum ≤ 8) (hRf : 1 + 1 ≤ R.frames) (hRl : 50 ≤ R.locals) (hdg : decode cc pc = .ok (.invokespecial 3, 3)) (kk : ∀ (H1 : Heap) (locs1 : List Loc) (cells1 slots1 : Nat), XSt D s h0 h H1 locs1 cells1 slots1 → W p l e R s m args below meth c H1 locs1 cells1 slots1 Q (F0 m (pc + 3) ls (rest))) : W p l e R s m args below meth c H locs cells slots Q (F0 m pc ls (rv a :: rest)) := by
  exact X_callIN hC hX ha (As := []) (m_X6_init l D a h _ hcF) ⟨va_cnB 0 hC.2.2.2.2.1 (lw_meth q1303) rfl rfl rfl (xm21 hC.2.2.2.2.2.2.1) (hC.2.2.2.2.1 _ q140) (by decide +kernel) ⟨Nat.le_trans (Nat.le_of_ble_eq_true rfl) hRf, Nat.le_trans (Nat.le_of_ble_eq_true rfl) hRl⟩, rfl, hC.2.2.2.2.1 _ q1302⟩ rfl rfl hl hW hdg kk
theorem pX_X22_9 {p : Program} {l : Launch} {e : Env} {R : Room} {s : State} {m : MethodId} {args : Array Value} {below : List Frame} {meth : Method} {c : Code} {H : Heap} {locs : List Loc} {cells slots nL : Nat} {Q : State → Prop} {D : XD} {h0 h : TH} {cc : ByteArray} {pc : Nat} {ls : Array Slot} {rest : List Value} (hC : XCx D cc nL RX22 h0 p R s m args meth c) (hX : XSt D s h0 h H locs cells slots) (hinit : meth.name = "<init>") {a : Nat} {v : Int32} (hf : hasF (hT h a) 112 = true) (hw : hT h a ≤ 24) (hdg : decode cc pc = .ok (.putfield 9, 3)) (kk : ∀ (H1 : Heap) (locs1 : List Loc), XSt D s h0 (uI h 112 a v) H1 locs1 cells slots → W p l e R s m args below meth c H1 locs1 cells slots Q (F0 m (pc + 3) ls rest)) : W p l e R s m args below meth c H locs cells slots Q (F0 m pc ls (.int v :: rv a :: rest)) :=
  X_putiF hC hX hinit 112 hf hw rfl rfl rfl q1555 ⟨rfl, rfl⟩ hdg kk
theorem pX_X22_15 {p : Program} {l : Launch} {e : Env} {R : Room} {s : State} {m : MethodId} {args : Array Value} {below : List Frame} {meth : Method} {c : Code} {H : Heap} {locs : List Loc} {cells slots nL : Nat} {Q : State → Prop} {D : XD} {h0 h : TH} {cc : ByteArray} {pc : Nat} {ls : Array Slot} {rest : List Value} (hC : XCx D cc nL RX22 h0 p R s m args meth c) (hX : XSt D s h0 h H locs cells slots) (hinit : meth.name = "<init>") {a : Nat} {v : Int32} (hf : hasF (hT h a) 113 = true) (hw : hT h a ≤ 24) (hdg : decode cc pc = .ok (.putfield 15, 3)) (kk : ∀ (H1 : Heap) (locs1 : List Loc), XSt D s h0 (uI h 113 a v) H1 locs1 cells slots → W p l e R s m args below meth c H1 locs1 cells slots Q (F0 m (pc + 3) ls rest)) : W p l e R s m args below meth c H locs cells slots Q (F0 m pc ls (.int v :: rv a :: rest)) :=
  X_putiF hC hX hinit 113 hf hw rfl rfl rfl q1556 ⟨rfl, rfl⟩ hdg kk
/-! BlindCards$End.<init> -/
def F_X22_init (K : Nat → Nat) (a0 : Nat) (b0 : Int32) (b1 : Int32) (h : TH) : Option TH :=
  gd (a0 ≠ 0) <|
  bd (F_X6_init K h a0) fun u_3 =>
  gd (hasF (hT h a0) 112 = true) <|
  gd (hT h a0 ≤ 24) <|
  lt (uI h 112 a0 b0) fun h_6 =>
  gd (hasF (hT h_6 a0) 113 = true) <|
  gd (hT h_6 a0 ≤ 24) <|
  lt (uI h_6 113 a0 b1) fun h_9 =>
  some h_9
set_option maxHeartbeats 4000000 in
theorem w_X22_init {p : Program} {l : Launch} {e : Env} {s : State} {m : MethodId} {args : Array Value} {below : List Frame} {meth : Method} {c : Code} {D : XD} {h0 : TH} (hC : XCx D cX22_init 3 RX22 h0 p (xRm 2 50 h0) s m args meth c) (hr : meth.sig.returnType = none) (hnh : c.exceptionTable.isEmpty = true) (hin : meth.name = "<init>") {x : TH} :
    ∀ (a0 : Nat) (b0 : Int32) (b1 : Int32) (h : TH), F_X22_init D.2.2.2 a0 b0 b1 h = some x → XJ p l e (xRm 2 50 h0) s m args below meth c D 3 (.returned none) h0 x 0 [(0, rv a0), (1, .int b0), (2, .int b1)] [] h := by
  have hx := hC.1
  have hb := hC.2.1
  intro a0 b0 b1 h hF H locs cells slots ls hX hl
  rw [F_X22_init] at hF
  refine X_aload_n hx hb dX22_init_0 rfl (lv_at hl 0 rfl) ?_
  obtain ⟨h_1, hF⟩ := gd_ok hF
  obtain ⟨u_3, hc_2, hF⟩ := bd_ok hF
  refine iX_X22_3 hC hX h_1 hc_2 hl.1 (Nat.le_of_ble_eq_true rfl) (Nat.le_of_ble_eq_true rfl) (Nat.le_of_ble_eq_true rfl) dX22_init_1 (fun H locs cells slots hX => ?_)
  refine X_aload_n hx hb dX22_init_4 rfl (lv_at hl 0 rfl) ?_
  refine lv_iload_n hx hb dX22_init_5 rfl (lv_at hl 1 rfl) ?_
  obtain ⟨h_4, hF⟩ := gd_ok hF
  obtain ⟨h_5, hF⟩ := gd_ok hF
  refine pX_X22_9 hC hX hin h_4 h_5 dX22_init_6 (fun H locs hX => ?_)
  obtain ⟨h_6, eh_6, hF⟩ := lt_ok hF
  rw [← eh_6] at hX
  refine X_aload_n hx hb dX22_init_9 rfl (lv_at hl 0 rfl) ?_
  refine lv_iload_n hx hb dX22_init_10 rfl (lv_at hl 2 rfl) ?_
  obtain ⟨h_7, hF⟩ := gd_ok hF
  obtain ⟨h_8, hF⟩ := gd_ok hF
  refine pX_X22_15 hC hX hin h_7 h_8 dX22_init_11 (fun H locs hX => ?_)
  obtain ⟨h_9, eh_9, hF⟩ := lt_ok hF
  rw [← eh_9] at hX
  exact x_retv hC hX hr (Option.some.inj hF) dX22_init_14
theorem m_X22_init (l : Launch) (D : XD) (a0 : Nat) (b0 : Int32) (b1 : Int32) (h : TH) (x : TH) (hF : F_X22_init D.2.2.2 a0 b0 b1 h = some x) : XMt l yX22_init (ws_ yX22_init cX22_init 3 (none)) 2 50 D [rv a0, .int b0, .int b1] h (.returned none) x := by
  refine x_met (by decide +kernel) ?_ ?_
  · simp [lg_sl, rv_cat, cat_i, cat_l]
  intro p e s m below meth c hC hr hnh hin ls hl hX
  replace hl : lv_has ls 3 [(0, rv a0), (1, .int b0), (2, .int b1)] := by simpa [lv_args, rv_cat, cat_i, cat_l] using hl
  exact w_X22_init hC hr hnh hin a0 b0 b1 h hF s.heap [] 0 0 ls hX hl
theorem nX_X11_318 {p : Program} {l : Launch} {e : Env} {R : Room} {s : State} {m : MethodId} {args : Array Value} {below : List Frame} {meth : Method} {c : Code} {H : Heap} {locs : List Loc} {cells slots nL : Nat} {Q : State → Prop} {D : XD} {h0 h : TH} {cc : ByteArray} {pc : Nat} {ls : Array Slot} {rest : List Value} (hC : XCx D cc nL RX11 h0 p R s m args meth c) (hX : XSt D s h0 h H locs cells slots) (hroom : hc h + 1 ≤ XC ∧ hs h + 2 ≤ XS) (hdg : decode cc pc = .ok (.new 318, 3)) (kk : ∀ (H1 : Heap) (cells1 slots1 : Nat), XSt D s h0 (nO h 22 2) H1 locs cells1 slots1 → W p l e R s m args below meth c H1 locs cells1 slots1 Q (F0 m (pc + 3) ls (rv (hz h + 1) :: rest))) : W p l e R s m args below meth c H locs cells slots Q (F0 m pc ls rest) :=
  X_new hC hX 22 ⟨by decide, by decide⟩ rfl q1549 q1550 q166 hroom hdg kk
theorem iX_X11_320 {p : Program} {l : Launch} {e : Env} {R : Room} {s : State} {m : MethodId} {args : Array Value} {below : List Frame} {meth : Method} {c : Code} {H : Heap} {locs : List Loc} {cells slots nL : Nat} {Q : State → Prop} {D : XD} {h0 h : TH} {cc : ByteArray} {pc : Nat} {ls : Array Slot} {rest : List Value} (hC : XCx D cc nL RX11 h0 p R s m args meth c) (hX : XSt D s h0 h H locs cells slots) {a : Nat} {b0 : Int32} {b1 : Int32} {x : TH} (ha : a ≠ 0) (hcF : F_X22_init D.2.2.2 a b0 b1 h = some x) (hl : ls.size = nL) (hW : (rest.map fun v => v.category).sum ≤ 8) (hRf : 2 + 1 ≤ R.frames) (hRl : 72 ≤ R.locals) (hdg : decode cc pc = .ok (.invokespecial 320, 3)) (kk : ∀ (H1 : Heap) (locs1 : List Loc) (cells1 slots1 : Nat), XSt D s h0 x H1 locs1 cells1 slots1 → W p l e R s m args below meth c H1 locs1 cells1 slots1 Q (F0 m (pc + 3) ls (rest))) : W p l e R s m args below meth c H locs cells slots Q (F0 m pc ls (.int b1 :: .int b0 :: rv a :: rest)) := by
  exact X_callI hC hX ha (As := [.int b0, .int b1]) (m_X22_init l D a b0 b1 h _ hcF) (cwI 2 hC.2.2.2.2.1 (lw_meth q1553) rfl rfl rfl (hC.2.2.2.2.1 _ q166) (hC.2.2.2.2.1 _ q1551) (hC.2.2.2.2.1 _ q1552) rfl (by decide +kernel) ⟨Nat.le_trans (Nat.le_of_ble_eq_true rfl) hRf, Nat.le_trans (Nat.le_of_ble_eq_true rfl) hRl⟩) rfl rfl hl hW hdg kk
/-! BlindCards$Reader.end -/
def F_X11_end (K : Nat → Nat) (a0 : Nat) (h : TH) : Option ((Nat ⊕ Nat) × TH) :=
  gd (hT h a0 = 7) <|
  bd (F_X11_go K a0 h) fun h_3 =>
  gd (hT h_3 a0 = 7) <|
  bt (F_X11_place K a0 h_3) fun r_6 h_7 =>
  gd (hasF (hT h_7 a0) 69 = true) <|
  lt ((hI h_7 69 a0)) fun x_10 =>
  gd (hT h_7 a0 = 7) <|
  bt (F_X11_place K a0 h_7) fun r_13 h_14 =>
  if r_6 = r_13 then
    gd (hc h_14 + 1 ≤ XC ∧ hs h_14 + 8 ≤ XS) <|
    lt (hz h_14 + 1) fun r_24 =>
    lt (nO h_14 10 8) fun h_25 =>
    gd (r_24 ≠ 0) <|
    bd (F_X12_init K r_24 (4 : Int32) x_10 h_25) fun h_28 =>
    gd (r_24 ≠ 0) <|
    some (.inr r_24, h_28)
  else
    gd (hc h_14 + 1 ≤ XC ∧ hs h_14 + 2 ≤ XS) <|
    lt (hz h_14 + 1) fun r_18 =>
    lt (nO h_14 22 2) fun h_19 =>
    gd (r_18 ≠ 0) <|
    bd (F_X22_init K r_18 r_6 r_13 h_19) fun h_22 =>
    some (.inl r_18, h_22)
set_option maxHeartbeats 4000000 in
theorem w_X11_end {p : Program} {l : Launch} {e : Env} {s : State} {m : MethodId} {args : Array Value} {below : List Frame} {meth : Method} {c : Code} {D : XD} {h0 : TH} (hC : XCx D cX11_end 4 RX11 h0 p (xRm 9 237 h0) s m args meth c) (hr : meth.sig.returnType = some (.object "BlindCards$Step")) (hnh : c.exceptionTable.isEmpty = true) (hin : meth.name = "end") {x : ((Nat ⊕ Nat) × TH)} :
    ∀ (a0 : Nat) (h : TH), F_X11_end D.2.2.2 a0 h = some x → XJ p l e (xRm 9 237 h0) s m args below meth c D 4 (ocR x.1) h0 x.2 0 [(0, rv a0)] [] h := by
  have hx := hC.1
  have hb := hC.2.1
  intro a0 h hF H locs cells slots ls hX hl
  rw [F_X11_end] at hF
  refine X_aload_n hx hb dX11_end_0 rfl (lv_at hl 0 rfl) ?_
  obtain ⟨h_1, hF⟩ := gd_ok hF
  obtain ⟨h_3, hc_2, hF⟩ := bd_ok hF
  refine iX_X11_94 hC hX h_1 hc_2 hl.1 (Nat.le_of_ble_eq_true rfl) (Nat.le_of_ble_eq_true rfl) (Nat.le_of_ble_eq_true rfl) dX11_end_1 (fun H locs cells slots hX => ?_)
  refine X_aload_n hx hb dX11_end_4 rfl (lv_at hl 0 rfl) ?_
  obtain ⟨h_4, hF⟩ := gd_ok hF
  rcases bt_ok hF with ⟨r_6, h_7, hc_5, hF⟩ | ⟨z_8, h_7, hc_5, hxx⟩
  rotate_left
  · subst hxx
    exact iX_X11_271_t hC hX hnh h_4 hc_5 hl.1 (Nat.le_of_ble_eq_true rfl) (Nat.le_of_ble_eq_true rfl) (Nat.le_of_ble_eq_true rfl) dX11_end_5
  refine iX_X11_271 hC hX h_4 hc_5 hl.1 (Nat.le_of_ble_eq_true rfl) (Nat.le_of_ble_eq_true rfl) (Nat.le_of_ble_eq_true rfl) dX11_end_5 (fun H locs cells slots hX => ?_)
  refine lv_istore_n (i := 1) hx hb dX11_end_8 rfl hl (by decide) rfl (fun ls hl => ?_)
  replace hl : lv_has ls 4 [(1, .int r_6), (0, rv a0)] := lv_subS hl (List.forall_mem_cons.mpr ⟨Or.inl rfl, (List.forall_mem_cons.mpr ⟨Or.inr ⟨List.mem_of_getElem? (i := 0) rfl, by simp [rv_cat]⟩, (fun _ h => nomatch h)⟩)⟩)
  refine X_aload_n hx hb dX11_end_9 rfl (lv_at hl 1 rfl) ?_
  obtain ⟨h_9, hF⟩ := gd_ok hF
  refine gX_X11_43 hC hX h_9 dX11_end_10 ?_
  refine lv_topi (fun x_10 ex_10 => ?_)
  replace hF := lt_at hF ex_10
  refine lv_istore_n (lv' := [(2, .int x_10), (1, .int r_6), (0, rv a0)]) hx hb dX11_end_13 rfl hl (by decide) rfl (fun ls hl => ?_)
  refine X_aload_n hx hb dX11_end_14 rfl (lv_at hl 2 rfl) ?_
  obtain ⟨h_11, hF⟩ := gd_ok hF
  rcases bt_ok hF with ⟨r_13, h_14, hc_12, hF⟩ | ⟨z_15, h_14, hc_12, hxx⟩
  rotate_left
  · subst hxx
    exact iX_X11_271_t hC hX hnh h_11 hc_12 hl.1 (Nat.le_of_ble_eq_true rfl) (Nat.le_of_ble_eq_true rfl) (Nat.le_of_ble_eq_true rfl) dX11_end_15
  refine iX_X11_271 hC hX h_11 hc_12 hl.1 (Nat.le_of_ble_eq_true rfl) (Nat.le_of_ble_eq_true rfl) (Nat.le_of_ble_eq_true rfl) dX11_end_15 (fun H locs cells slots hX => ?_)
  refine lv_istore_n (lv' := [(3, .int r_13), (2, .int x_10), (1, .int r_6), (0, rv a0)]) hx hb dX11_end_18 rfl hl (by decide) rfl (fun ls hl => ?_)
  refine lv_iload_n hx hb dX11_end_19 rfl (lv_at hl 2 rfl) ?_
  refine lv_iload_n hx hb dX11_end_20 rfl (lv_at hl 0 rfl) ?_
  refine lv_icmp_ne (tgt := 34) hx hb dX11_end_21 (by decide) (fun c_16 => ?_) (fun c_16 => ?_)
  · replace hF := it_f hF c_16
    obtain ⟨h_17, hF⟩ := gd_ok hF
    refine nX_X11_318 hC hX h_17 dX11_end_34 (fun H cells slots hX => ?_)
    refine lv_topr (fun r_18 er_18 => ?_)
    replace hF := lt_at hF er_18
    obtain ⟨h_19, eh_19, hF⟩ := lt_ok hF
    rw [← eh_19] at hX
    refine lv_dup hx hb dX11_end_37 (rv_cat _) ?_
    refine lv_iload_n hx hb dX11_end_38 rfl (lv_at hl 2 rfl) ?_
    refine lv_iload_n hx hb dX11_end_39 rfl (lv_at hl 0 rfl) ?_
    obtain ⟨h_20, hF⟩ := gd_ok hF
    obtain ⟨h_22, hc_21, hF⟩ := bd_ok hF
    refine iX_X11_320 hC hX h_20 hc_21 hl.1 (cat4 (Nat.le_of_ble_eq_true rfl)) (Nat.le_of_ble_eq_true rfl) (Nat.le_of_ble_eq_true rfl) dX11_end_40 (fun H locs cells slots hX => ?_)
    cases hF
    exact x_reta hC hX hr (Or.inl ⟨_, rfl⟩) rfl rfl dX11_end_43
  · replace hF := it_t hF c_16
    obtain ⟨h_23, hF⟩ := gd_ok hF
    refine nX_X11_75 hC hX h_23 dX11_end_24 (fun H cells slots hX => ?_)
    refine lv_topr (fun r_24 er_24 => ?_)
    replace hF := lt_at hF er_24
    obtain ⟨h_25, eh_25, hF⟩ := lt_ok hF
    rw [← eh_25] at hX
    refine lv_dup hx hb dX11_end_27 (rv_cat _) ?_
    refine lv_iconst (v := 4) hx hb dX11_end_28 (by decide) ?_
    refine lv_iload_n hx hb dX11_end_29 rfl (lv_at hl 1 rfl) ?_
    obtain ⟨h_26, hF⟩ := gd_ok hF
    obtain ⟨h_28, hc_27, hF⟩ := bd_ok hF
    refine iX_X11_77 hC hX h_26 hc_27 hl.1 (cat4 (Nat.le_of_ble_eq_true rfl)) (Nat.le_of_ble_eq_true rfl) (Nat.le_of_ble_eq_true rfl) dX11_end_30 (fun H locs cells slots hX => ?_)
    obtain ⟨h_29, hF⟩ := gd_ok hF
    cases hF
    exact x_throw hC hX hnh h_29 rfl rfl dX11_end_33
theorem m_X11_end (l : Launch) (D : XD) (a0 : Nat) (h : TH) (x : ((Nat ⊕ Nat) × TH)) (hF : F_X11_end D.2.2.2 a0 h = some x) : XMt l yX11_end (ws_ yX11_end cX11_end 4 (some (.object "BlindCards$Step"))) 9 237 D [rv a0] h (ocR x.1) x.2 := by
  refine x_met (by decide +kernel) ?_ ?_
  · simp [lg_sl, rv_cat, cat_i, cat_l]
  intro p e s m below meth c hC hr hnh hin ls hl hX
  replace hl : lv_has ls 4 [(0, rv a0)] := by simpa [lv_args, rv_cat, cat_i, cat_l] using hl
  exact w_X11_end hC hr hnh hin a0 h hF s.heap [] 0 0 ls hX hl
theorem iX_X19_1 {p : Program} {l : Launch} {e : Env} {R : Room} {s : State} {m : MethodId} {args : Array Value} {below : List Frame} {meth : Method} {c : Code} {H : Heap} {locs : List Loc} {cells slots nL : Nat} {Q : State → Prop} {D : XD} {h0 h : TH} {cc : ByteArray} {pc : Nat} {ls : Array Slot} {rest : List Value} (hC : XCx D cc nL RX19 h0 p R s m args meth c) (hX : XSt D s h0 h H locs cells slots) {a : Nat} {x : Unit} (ha : a ≠ 0) (hcF : F_X6_init D.2.2.2 h a = some x) (hl : ls.size = nL) (hW : (rest.map fun v => v.category).sum ≤ 8) (hRf : 1 + 1 ≤ R.frames) (hRl : 50 ≤ R.locals) (hdg : decode cc pc = .ok (.invokespecial 1, 3)) (kk : ∀ (H1 : Heap) (locs1 : List Loc) (cells1 slots1 : Nat), XSt D s h0 h H1 locs1 cells1 slots1 → W p l e R s m args below meth c H1 locs1 cells1 slots1 Q (F0 m (pc + 3) ls (rest))) : W p l e R s m args below meth c H locs cells slots Q (F0 m pc ls (rv a :: rest)) := by
  exact X_callIN hC hX ha (As := []) (m_X6_init l D a h _ hcF) ⟨va_cnB 0 hC.2.2.2.2.1 (lw_meth q1303) rfl rfl rfl (xm18 hC.2.2.2.2.2.2.1) (hC.2.2.2.2.1 _ q140) (by decide +kernel) ⟨Nat.le_trans (Nat.le_of_ble_eq_true rfl) hRf, Nat.le_trans (Nat.le_of_ble_eq_true rfl) hRl⟩, rfl, hC.2.2.2.2.1 _ q1302⟩ rfl rfl hl hW hdg kk
theorem pX_X19_7 {p : Program} {l : Launch} {e : Env} {R : Room} {s : State} {m : MethodId} {args : Array Value} {below : List Frame} {meth : Method} {c : Code} {H : Heap} {locs : List Loc} {cells slots nL : Nat} {Q : State → Prop} {D : XD} {h0 h : TH} {cc : ByteArray} {pc : Nat} {ls : Array Slot} {rest : List Value} (hC : XCx D cc nL RX19 h0 p R s m args meth c) (hX : XSt D s h0 h H locs cells slots) (hinit : meth.name = "<init>") {a : Nat} {v : Int32} (hf : hasF (hT h a) 104 = true) (hw : hT h a ≤ 24) (hdg : decode cc pc = .ok (.putfield 7, 3)) (kk : ∀ (H1 : Heap) (locs1 : List Loc), XSt D s h0 (uI h 104 a v) H1 locs1 cells slots → W p l e R s m args below meth c H1 locs1 cells slots Q (F0 m (pc + 3) ls rest)) : W p l e R s m args below meth c H locs cells slots Q (F0 m pc ls (.int v :: rv a :: rest)) :=
  X_putiF hC hX hinit 104 hf hw rfl rfl rfl q1412 ⟨rfl, rfl⟩ hdg kk
theorem pX_X19_13 {p : Program} {l : Launch} {e : Env} {R : Room} {s : State} {m : MethodId} {args : Array Value} {below : List Frame} {meth : Method} {c : Code} {H : Heap} {locs : List Loc} {cells slots nL : Nat} {Q : State → Prop} {D : XD} {h0 h : TH} {cc : ByteArray} {pc : Nat} {ls : Array Slot} {rest : List Value} (hC : XCx D cc nL RX19 h0 p R s m args meth c) (hX : XSt D s h0 h H locs cells slots) (hinit : meth.name = "<init>") {a : Nat} {v : Int32} (hf : hasF (hT h a) 105 = true) (hw : hT h a ≤ 24) (hg : v = 0 ∨ v = 1) (hdg : decode cc pc = .ok (.putfield 13, 3)) (kk : ∀ (H1 : Heap) (locs1 : List Loc), XSt D s h0 (uI h 105 a v) H1 locs1 cells slots → W p l e R s m args below meth c H1 locs1 cells slots Q (F0 m (pc + 3) ls rest)) : W p l e R s m args below meth c H locs cells slots Q (F0 m pc ls (.int v :: rv a :: rest)) :=
  X_putiF hC hX hinit 105 hf hw rfl rfl rfl q1413 (zb_nar hg) hdg kk
/-! BlindCards$Lay.<init> -/
def F_X19_init (K : Nat → Nat) (a0 : Nat) (b0 : Int32) (b1 : Int32) (h : TH) : Option TH :=
  gd (a0 ≠ 0) <|
  bd (F_X6_init K h a0) fun u_3 =>
  gd (hasF (hT h a0) 104 = true) <|
  gd (hT h a0 ≤ 24) <|
  lt (uI h 104 a0 b0) fun h_6 =>
  gd (hasF (hT h_6 a0) 105 = true) <|
  gd (hT h_6 a0 ≤ 24) <|
  gd (b1 = 0 ∨ b1 = 1) <|
  lt (uI h_6 105 a0 b1) fun h_10 =>
  some h_10
set_option maxHeartbeats 4000000 in
theorem w_X19_init {p : Program} {l : Launch} {e : Env} {s : State} {m : MethodId} {args : Array Value} {below : List Frame} {meth : Method} {c : Code} {D : XD} {h0 : TH} (hC : XCx D cX19_init 3 RX19 h0 p (xRm 2 50 h0) s m args meth c) (hr : meth.sig.returnType = none) (hnh : c.exceptionTable.isEmpty = true) (hin : meth.name = "<init>") {x : TH} :
    ∀ (a0 : Nat) (b0 : Int32) (b1 : Int32) (h : TH), F_X19_init D.2.2.2 a0 b0 b1 h = some x → XJ p l e (xRm 2 50 h0) s m args below meth c D 3 (.returned none) h0 x 0 [(0, rv a0), (1, .int b0), (2, .int b1)] [] h := by
  have hx := hC.1
  have hb := hC.2.1
  intro a0 b0 b1 h hF H locs cells slots ls hX hl
  rw [F_X19_init] at hF
  refine X_aload_n hx hb dX19_init_0 rfl (lv_at hl 0 rfl) ?_
  obtain ⟨h_1, hF⟩ := gd_ok hF
  obtain ⟨u_3, hc_2, hF⟩ := bd_ok hF
  refine iX_X19_1 hC hX h_1 hc_2 hl.1 (Nat.le_of_ble_eq_true rfl) (Nat.le_of_ble_eq_true rfl) (Nat.le_of_ble_eq_true rfl) dX19_init_1 (fun H locs cells slots hX => ?_)
  refine X_aload_n hx hb dX19_init_4 rfl (lv_at hl 0 rfl) ?_
  refine lv_iload_n hx hb dX19_init_5 rfl (lv_at hl 1 rfl) ?_
  obtain ⟨h_4, hF⟩ := gd_ok hF
  obtain ⟨h_5, hF⟩ := gd_ok hF
  refine pX_X19_7 hC hX hin h_4 h_5 dX19_init_6 (fun H locs hX => ?_)
  obtain ⟨h_6, eh_6, hF⟩ := lt_ok hF
  rw [← eh_6] at hX
  refine X_aload_n hx hb dX19_init_9 rfl (lv_at hl 0 rfl) ?_
  refine lv_iload_n hx hb dX19_init_10 rfl (lv_at hl 2 rfl) ?_
  obtain ⟨h_7, hF⟩ := gd_ok hF
  obtain ⟨h_8, hF⟩ := gd_ok hF
  obtain ⟨h_9, hF⟩ := gd_ok hF
  refine pX_X19_13 hC hX hin h_7 h_8 h_9 dX19_init_11 (fun H locs hX => ?_)
  obtain ⟨h_10, eh_10, hF⟩ := lt_ok hF
  rw [← eh_10] at hX
  exact x_retv hC hX hr (Option.some.inj hF) dX19_init_14
theorem m_X19_init (l : Launch) (D : XD) (a0 : Nat) (b0 : Int32) (b1 : Int32) (h : TH) (x : TH) (hF : F_X19_init D.2.2.2 a0 b0 b1 h = some x) : XMt l yX19_init (ws_ yX19_init cX19_init 3 (none)) 2 50 D [rv a0, .int b0, .int b1] h (.returned none) x := by
  refine x_met (by decide +kernel) ?_ ?_
  · simp [lg_sl, rv_cat, cat_i, cat_l]
  intro p e s m below meth c hC hr hnh hin ls hl hX
  replace hl : lv_has ls 3 [(0, rv a0), (1, .int b0), (2, .int b1)] := by simpa [lv_args, rv_cat, cat_i, cat_l] using hl
  exact w_X19_init hC hr hnh hin a0 b0 b1 h hF s.heap [] 0 0 ls hX hl
theorem pX_X11_190 {p : Program} {l : Launch} {e : Env} {R : Room} {s : State} {m : MethodId} {args : Array Value} {below : List Frame} {meth : Method} {c : Code} {H : Heap} {locs : List Loc} {cells slots nL : Nat} {Q : State → Prop} {D : XD} {h0 h : TH} {cc : ByteArray} {pc : Nat} {ls : Array Slot} {rest : List Value} (hC : XCx D cc nL RX11 h0 p R s m args meth c) (hX : XSt D s h0 h H locs cells slots) {a : Nat} {v : Int32} (hf : hasF (hT h a) 38 = true) (hw : hT h a ≤ 24) (hg : v = 0 ∨ v = 1) (hdg : decode cc pc = .ok (.putfield 190, 3)) (kk : ∀ (H1 : Heap) (locs1 : List Loc), XSt D s h0 (uI h 38 a v) H1 locs1 cells slots → W p l e R s m args below meth c H1 locs1 cells slots Q (F0 m (pc + 3) ls rest)) : W p l e R s m args below meth c H locs cells slots Q (F0 m pc ls (.int v :: rv a :: rest)) :=
  X_puti hC hX 38 hf hw rfl rfl q236 (fun _ h => h) (zb_nar hg) hdg kk
theorem nX_X11_253 {p : Program} {l : Launch} {e : Env} {R : Room} {s : State} {m : MethodId} {args : Array Value} {below : List Frame} {meth : Method} {c : Code} {H : Heap} {locs : List Loc} {cells slots nL : Nat} {Q : State → Prop} {D : XD} {h0 h : TH} {cc : ByteArray} {pc : Nat} {ls : Array Slot} {rest : List Value} (hC : XCx D cc nL RX11 h0 p R s m args meth c) (hX : XSt D s h0 h H locs cells slots) (hroom : hc h + 1 ≤ XC ∧ hs h + 2 ≤ XS) (hdg : decode cc pc = .ok (.new 253, 3)) (kk : ∀ (H1 : Heap) (cells1 slots1 : Nat), XSt D s h0 (nO h 19 2) H1 locs cells1 slots1 → W p l e R s m args below meth c H1 locs cells1 slots1 Q (F0 m (pc + 3) ls (rv (hz h + 1) :: rest))) : W p l e R s m args below meth c H locs cells slots Q (F0 m pc ls rest) :=
  X_new hC hX 19 ⟨by decide, by decide⟩ rfl q1406 q1407 q163 hroom hdg kk
theorem iX_X11_255 {p : Program} {l : Launch} {e : Env} {R : Room} {s : State} {m : MethodId} {args : Array Value} {below : List Frame} {meth : Method} {c : Code} {H : Heap} {locs : List Loc} {cells slots nL : Nat} {Q : State → Prop} {D : XD} {h0 h : TH} {cc : ByteArray} {pc : Nat} {ls : Array Slot} {rest : List Value} {h1 : TH} (hC : XCx D cc nL RX11 h0 p R s m args meth c) (hX : XSt D s h0 h H locs cells slots) {a : Nat} {x : Int32} (ht : hT h a = 7) (hcF : F_X11_who D.2.2.2 a h = some (.inl x, h1)) (hl : ls.size = nL) (hW : (rest.map fun v => v.category).sum ≤ 8) (hRf : 7 + 1 ≤ R.frames) (hRl : 215 ≤ R.locals) (hdg : decode cc pc = .ok (.invokevirtual 255, 3)) (kk : ∀ (H1 : Heap) (locs1 : List Loc) (cells1 slots1 : Nat), XSt D s h0 h1 H1 locs1 cells1 slots1 → W p l e R s m args below meth c H1 locs1 cells1 slots1 Q (F0 m (pc + 3) ls (.int x :: rest))) : W p l e R s m args below meth c H locs cells slots Q (F0 m pc ls (rv a :: rest)) := by
  have q := ht
  exact X_callV hC hX (by rw [q]; decide) (by rw [q]; rfl) (As := []) (m_X11_who l D a h _ hcF) (cwV 0 hC.2.2.2.2.1 (lw_V q1220 q1222 qs22 q146 q1223) rfl rfl rfl (by decide +kernel) ⟨Nat.le_trans (Nat.le_of_ble_eq_true rfl) hRf, Nat.le_trans (Nat.le_of_ble_eq_true rfl) hRl⟩) rfl rfl hl hW hdg kk
theorem iX_X11_255_t {p : Program} {l : Launch} {e : Env} {R : Room} {s : State} {m : MethodId} {args : Array Value} {below : List Frame} {meth : Method} {c : Code} {H : Heap} {locs : List Loc} {cells slots nL : Nat} {D : XD} {h0 h : TH} {cc : ByteArray} {pc : Nat} {ls : Array Slot} {rest : List Value} {h1 : TH} (hC : XCx D cc nL RX11 h0 p R s m args meth c) (hX : XSt D s h0 h H locs cells slots) (hnh : c.exceptionTable.isEmpty = true) {a : Nat} {x : Nat} (ht : hT h a = 7) (hcF : F_X11_who D.2.2.2 a h = some (.inr x, h1)) (hl : ls.size = nL) (hW : (rest.map fun v => v.category).sum ≤ 8) (hRf : 7 + 1 ≤ R.frames) (hRl : 215 ≤ R.locals) (hdg : decode cc pc = .ok (.invokevirtual 255, 3)) : W p l e R s m args below meth c H locs cells slots (XMQ below D (.threw (x - 1)) h0 h1 s) (F0 m pc ls (rv a :: rest)) := by
  have q := ht
  exact X_callVT hC hX hnh (by rw [q]; decide) (by rw [q]; rfl) (As := []) (m_X11_who l D a h _ hcF) (cwV 0 hC.2.2.2.2.1 (lw_V q1220 q1222 qs22 q146 q1223) rfl rfl rfl (by decide +kernel) ⟨Nat.le_trans (Nat.le_of_ble_eq_true rfl) hRf, Nat.le_trans (Nat.le_of_ble_eq_true rfl) hRl⟩) rfl rfl hl hW hdg rfl
theorem iX_X11_258 {p : Program} {l : Launch} {e : Env} {R : Room} {s : State} {m : MethodId} {args : Array Value} {below : List Frame} {meth : Method} {c : Code} {H : Heap} {locs : List Loc} {cells slots nL : Nat} {Q : State → Prop} {D : XD} {h0 h : TH} {cc : ByteArray} {pc : Nat} {ls : Array Slot} {rest : List Value} (hC : XCx D cc nL RX11 h0 p R s m args meth c) (hX : XSt D s h0 h H locs cells slots) {a : Nat} {b0 : Int32} {b1 : Int32} {x : TH} (ha : a ≠ 0) (hcF : F_X19_init D.2.2.2 a b0 b1 h = some x) (hl : ls.size = nL) (hW : (rest.map fun v => v.category).sum ≤ 8) (hRf : 2 + 1 ≤ R.frames) (hRl : 72 ≤ R.locals) (hdg : decode cc pc = .ok (.invokespecial 258, 3)) (kk : ∀ (H1 : Heap) (locs1 : List Loc) (cells1 slots1 : Nat), XSt D s h0 x H1 locs1 cells1 slots1 → W p l e R s m args below meth c H1 locs1 cells1 slots1 Q (F0 m (pc + 3) ls (rest))) : W p l e R s m args below meth c H locs cells slots Q (F0 m pc ls (.int b1 :: .int b0 :: rv a :: rest)) := by
  exact X_callI hC hX ha (As := [.int b0, .int b1]) (m_X19_init l D a b0 b1 h _ hcF) (cwI 2 hC.2.2.2.2.1 (lw_meth q1410) rfl rfl rfl (hC.2.2.2.2.1 _ q163) (hC.2.2.2.2.1 _ q1408) (hC.2.2.2.2.1 _ q1409) rfl (by decide +kernel) ⟨Nat.le_trans (Nat.le_of_ble_eq_true rfl) hRf, Nat.le_trans (Nat.le_of_ble_eq_true rfl) hRl⟩) rfl rfl hl hW hdg kk
/-! BlindCards$Reader.lay -/
def F_X11_lay (K : Nat → Nat) (a0 : Nat) (h : TH) : Option ((Nat ⊕ Nat) × TH) :=
  gd (hT h a0 = 7) <|
  bd (F_X11_go K a0 h) fun h_3 =>
  gd (hasF (hT h_3 a0) 73 = true) <|
  lt (hR h_3 73 a0) fun r_5 =>
  gd (hasF (hT h_3 r_5) 38 = true) <|
  gd (hT h_3 r_5 ≤ 24) <|
  lt (uI h_3 38 r_5 (1 : Int32)) fun h_8 =>
  gd (hc h_8 + 1 ≤ XC ∧ hs h_8 + 2 ≤ XS) <|
  lt (hz h_8 + 1) fun r_10 =>
  lt (nO h_8 19 2) fun h_11 =>
  gd (hT h_11 a0 = 7) <|
  bt (F_X11_who K a0 h_11) fun r_14 h_15 =>
  gd (r_10 ≠ 0) <|
  bd (F_X19_init K r_10 r_14 (0 : Int32) h_15) fun h_19 =>
  some (.inl r_10, h_19)
set_option maxHeartbeats 4000000 in
theorem w_X11_lay {p : Program} {l : Launch} {e : Env} {s : State} {m : MethodId} {args : Array Value} {below : List Frame} {meth : Method} {c : Code} {D : XD} {h0 : TH} (hC : XCx D cX11_lay 1 RX11 h0 p (xRm 8 215 h0) s m args meth c) (hr : meth.sig.returnType = some (.object "BlindCards$Step")) (hnh : c.exceptionTable.isEmpty = true) (hin : meth.name = "lay") {x : ((Nat ⊕ Nat) × TH)} :
    ∀ (a0 : Nat) (h : TH), F_X11_lay D.2.2.2 a0 h = some x → XJ p l e (xRm 8 215 h0) s m args below meth c D 1 (ocR x.1) h0 x.2 0 [(0, rv a0)] [] h := by
  have hx := hC.1
  have hb := hC.2.1
  intro a0 h hF H locs cells slots ls hX hl
  rw [F_X11_lay] at hF
  refine X_aload_n hx hb dX11_lay_0 rfl (lv_at hl 0 rfl) ?_
  obtain ⟨h_1, hF⟩ := gd_ok hF
  obtain ⟨h_3, hc_2, hF⟩ := bd_ok hF
  refine iX_X11_94 hC hX h_1 hc_2 hl.1 (Nat.le_of_ble_eq_true rfl) (Nat.le_of_ble_eq_true rfl) (Nat.le_of_ble_eq_true rfl) dX11_lay_1 (fun H locs cells slots hX => ?_)
  refine X_aload_n hx hb dX11_lay_4 rfl (lv_at hl 0 rfl) ?_
  obtain ⟨h_4, hF⟩ := gd_ok hF
  refine gX_X11_24 hC hX h_4 dX11_lay_5 ?_
  refine lv_topr (fun r_5 er_5 => ?_)
  replace hF := lt_at hF er_5
  refine lv_iconst (v := 1) hx hb dX11_lay_8 (by decide) ?_
  obtain ⟨h_6, hF⟩ := gd_ok hF
  obtain ⟨h_7, hF⟩ := gd_ok hF
  refine pX_X11_190 hC hX h_6 h_7 (Or.inr rfl) dX11_lay_9 (fun H locs hX => ?_)
  obtain ⟨h_8, eh_8, hF⟩ := lt_ok hF
  rw [← eh_8] at hX
  obtain ⟨h_9, hF⟩ := gd_ok hF
  refine nX_X11_253 hC hX h_9 dX11_lay_12 (fun H cells slots hX => ?_)
  refine lv_topr (fun r_10 er_10 => ?_)
  replace hF := lt_at hF er_10
  obtain ⟨h_11, eh_11, hF⟩ := lt_ok hF
  rw [← eh_11] at hX
  refine lv_dup hx hb dX11_lay_15 (rv_cat _) ?_
  refine X_aload_n hx hb dX11_lay_16 rfl (lv_at hl 0 rfl) ?_
  obtain ⟨h_12, hF⟩ := gd_ok hF
  rcases bt_ok hF with ⟨r_14, h_15, hc_13, hF⟩ | ⟨z_16, h_15, hc_13, hxx⟩
  rotate_left
  · subst hxx
    exact iX_X11_255_t hC hX hnh h_12 hc_13 hl.1 (cat4 (Nat.le_of_ble_eq_true rfl)) (Nat.le_of_ble_eq_true rfl) (Nat.le_of_ble_eq_true rfl) dX11_lay_17
  refine iX_X11_255 hC hX h_12 hc_13 hl.1 (cat4 (Nat.le_of_ble_eq_true rfl)) (Nat.le_of_ble_eq_true rfl) (Nat.le_of_ble_eq_true rfl) dX11_lay_17 (fun H locs cells slots hX => ?_)
  refine lv_iconst (v := 0) hx hb dX11_lay_20 (by decide) ?_
  obtain ⟨h_17, hF⟩ := gd_ok hF
  obtain ⟨h_19, hc_18, hF⟩ := bd_ok hF
  refine iX_X11_258 hC hX h_17 hc_18 hl.1 (cat4 (Nat.le_of_ble_eq_true rfl)) (Nat.le_of_ble_eq_true rfl) (Nat.le_of_ble_eq_true rfl) dX11_lay_21 (fun H locs cells slots hX => ?_)
  cases hF
  exact x_reta hC hX hr (Or.inl ⟨_, rfl⟩) rfl rfl dX11_lay_24
theorem m_X11_lay (l : Launch) (D : XD) (a0 : Nat) (h : TH) (x : ((Nat ⊕ Nat) × TH)) (hF : F_X11_lay D.2.2.2 a0 h = some x) : XMt l yX11_lay (ws_ yX11_lay cX11_lay 1 (some (.object "BlindCards$Step"))) 8 215 D [rv a0] h (ocR x.1) x.2 := by
  refine x_met (by decide +kernel) ?_ ?_
  · simp [lg_sl, rv_cat, cat_i, cat_l]
  intro p e s m below meth c hC hr hnh hin ls hl hX
  replace hl : lv_has ls 1 [(0, rv a0)] := by simpa [lv_args, rv_cat, cat_i, cat_l] using hl
  exact w_X11_lay hC hr hnh hin a0 h hF s.heap [] 0 0 ls hX hl
theorem iX_X21_1 {p : Program} {l : Launch} {e : Env} {R : Room} {s : State} {m : MethodId} {args : Array Value} {below : List Frame} {meth : Method} {c : Code} {H : Heap} {locs : List Loc} {cells slots nL : Nat} {Q : State → Prop} {D : XD} {h0 h : TH} {cc : ByteArray} {pc : Nat} {ls : Array Slot} {rest : List Value} (hC : XCx D cc nL RX21 h0 p R s m args meth c) (hX : XSt D s h0 h H locs cells slots) {a : Nat} {x : Unit} (ha : a ≠ 0) (hcF : F_X6_init D.2.2.2 h a = some x) (hl : ls.size = nL) (hW : (rest.map fun v => v.category).sum ≤ 8) (hRf : 1 + 1 ≤ R.frames) (hRl : 50 ≤ R.locals) (hdg : decode cc pc = .ok (.invokespecial 1, 3)) (kk : ∀ (H1 : Heap) (locs1 : List Loc) (cells1 slots1 : Nat), XSt D s h0 h H1 locs1 cells1 slots1 → W p l e R s m args below meth c H1 locs1 cells1 slots1 Q (F0 m (pc + 3) ls (rest))) : W p l e R s m args below meth c H locs cells slots Q (F0 m pc ls (rv a :: rest)) := by
  exact X_callIN hC hX ha (As := []) (m_X6_init l D a h _ hcF) ⟨va_cnB 0 hC.2.2.2.2.1 (lw_meth q1303) rfl rfl rfl (xm20 hC.2.2.2.2.2.2.1) (hC.2.2.2.2.1 _ q140) (by decide +kernel) ⟨Nat.le_trans (Nat.le_of_ble_eq_true rfl) hRf, Nat.le_trans (Nat.le_of_ble_eq_true rfl) hRl⟩, rfl, hC.2.2.2.2.1 _ q1302⟩ rfl rfl hl hW hdg kk
theorem pX_X21_7 {p : Program} {l : Launch} {e : Env} {R : Room} {s : State} {m : MethodId} {args : Array Value} {below : List Frame} {meth : Method} {c : Code} {H : Heap} {locs : List Loc} {cells slots nL : Nat} {Q : State → Prop} {D : XD} {h0 h : TH} {cc : ByteArray} {pc : Nat} {ls : Array Slot} {rest : List Value} (hC : XCx D cc nL RX21 h0 p R s m args meth c) (hX : XSt D s h0 h H locs cells slots) (hinit : meth.name = "<init>") {a : Nat} {v : Nat} (hf : hasF (hT h a) 111 = true) (hw : hT h a ≤ 24) (hsep : (111 = 58 ∨ 111 = 63 ∨ 111 = 66 → hR h 49 a = 0) ∧ (111 = 49 → ∀ g, g = 58 ∨ g = 63 ∨ g = 66 → hasF (hT h a) g = true → hR h g a = v)) (hdg : decode cc pc = .ok (.putfield 7, 3)) (kk : ∀ (H1 : Heap) (locs1 : List Loc), XSt D s h0 (uR h 111 a v) H1 locs1 cells slots → W p l e R s m args below meth c H1 locs1 cells slots Q (F0 m (pc + 3) ls rest)) : W p l e R s m args below meth c H locs cells slots Q (F0 m pc ls (rv v :: rv a :: rest)) :=
  X_putrF hC hX hinit 111 hf hw rfl rfl rfl q1540 hsep hdg kk
/-! BlindCards$Mark.<init> -/
def F_X21_init (K : Nat → Nat) (a0 : Nat) (b0 : Nat) (h : TH) : Option TH :=
  gd (a0 ≠ 0) <|
  bd (F_X6_init K h a0) fun u_3 =>
  gd (hasF (hT h a0) 111 = true) <|
  gd (hT h a0 ≤ 24) <|
  lt (uR h 111 a0 b0) fun h_6 =>
  some h_6
set_option maxHeartbeats 4000000 in
theorem w_X21_init {p : Program} {l : Launch} {e : Env} {s : State} {m : MethodId} {args : Array Value} {below : List Frame} {meth : Method} {c : Code} {D : XD} {h0 : TH} (hC : XCx D cX21_init 2 RX21 h0 p (xRm 2 50 h0) s m args meth c) (hr : meth.sig.returnType = none) (hnh : c.exceptionTable.isEmpty = true) (hin : meth.name = "<init>") {x : TH} :
    ∀ (a0 : Nat) (b0 : Nat) (h : TH), F_X21_init D.2.2.2 a0 b0 h = some x → XJ p l e (xRm 2 50 h0) s m args below meth c D 2 (.returned none) h0 x 0 [(0, rv a0), (1, rv b0)] [] h := by
  have hx := hC.1
  have hb := hC.2.1
  intro a0 b0 h hF H locs cells slots ls hX hl
  rw [F_X21_init] at hF
  refine X_aload_n hx hb dX21_init_0 rfl (lv_at hl 0 rfl) ?_
  obtain ⟨h_1, hF⟩ := gd_ok hF
  obtain ⟨u_3, hc_2, hF⟩ := bd_ok hF
  refine iX_X21_1 hC hX h_1 hc_2 hl.1 (Nat.le_of_ble_eq_true rfl) (Nat.le_of_ble_eq_true rfl) (Nat.le_of_ble_eq_true rfl) dX21_init_1 (fun H locs cells slots hX => ?_)
  refine X_aload_n hx hb dX21_init_4 rfl (lv_at hl 0 rfl) ?_
  refine X_aload_n hx hb dX21_init_5 rfl (lv_at hl 1 rfl) ?_
  obtain ⟨h_4, hF⟩ := gd_ok hF
  obtain ⟨h_5, hF⟩ := gd_ok hF
  refine pX_X21_7 hC hX hin h_4 h_5 ⟨fun q => absurd q (by decide), fun q => absurd q (by decide)⟩ dX21_init_6 (fun H locs hX => ?_)
  obtain ⟨h_6, eh_6, hF⟩ := lt_ok hF
  rw [← eh_6] at hX
  exact x_retv hC hX hr (Option.some.inj hF) dX21_init_9
theorem m_X21_init (l : Launch) (D : XD) (a0 : Nat) (b0 : Nat) (h : TH) (x : TH) (hF : F_X21_init D.2.2.2 a0 b0 h = some x) : XMt l yX21_init (ws_ yX21_init cX21_init 2 (none)) 2 50 D [rv a0, rv b0] h (.returned none) x := by
  refine x_met (by decide +kernel) ?_ ?_
  · simp [lg_sl, rv_cat, cat_i, cat_l]
  intro p e s m below meth c hC hr hnh hin ls hl hX
  replace hl : lv_has ls 2 [(0, rv a0), (1, rv b0)] := by simpa [lv_args, rv_cat, cat_i, cat_l] using hl
  exact w_X21_init hC hr hnh hin a0 b0 h hF s.heap [] 0 0 ls hX hl
theorem nX_X11_314 {p : Program} {l : Launch} {e : Env} {R : Room} {s : State} {m : MethodId} {args : Array Value} {below : List Frame} {meth : Method} {c : Code} {H : Heap} {locs : List Loc} {cells slots nL : Nat} {Q : State → Prop} {D : XD} {h0 h : TH} {cc : ByteArray} {pc : Nat} {ls : Array Slot} {rest : List Value} (hC : XCx D cc nL RX11 h0 p R s m args meth c) (hX : XSt D s h0 h H locs cells slots) (hroom : hc h + 1 ≤ XC ∧ hs h + 1 ≤ XS) (hdg : decode cc pc = .ok (.new 314, 3)) (kk : ∀ (H1 : Heap) (cells1 slots1 : Nat), XSt D s h0 (nO h 21 1) H1 locs cells1 slots1 → W p l e R s m args below meth c H1 locs cells1 slots1 Q (F0 m (pc + 3) ls (rv (hz h + 1) :: rest))) : W p l e R s m args below meth c H locs cells slots Q (F0 m pc ls rest) :=
  X_new hC hX 21 ⟨by decide, by decide⟩ rfl q1534 q1535 q165 hroom hdg kk
theorem iX_X11_316 {p : Program} {l : Launch} {e : Env} {R : Room} {s : State} {m : MethodId} {args : Array Value} {below : List Frame} {meth : Method} {c : Code} {H : Heap} {locs : List Loc} {cells slots nL : Nat} {Q : State → Prop} {D : XD} {h0 h : TH} {cc : ByteArray} {pc : Nat} {ls : Array Slot} {rest : List Value} (hC : XCx D cc nL RX11 h0 p R s m args meth c) (hX : XSt D s h0 h H locs cells slots) {a : Nat} {b0 : Nat} {x : TH} (ha : a ≠ 0) (hcF : F_X21_init D.2.2.2 a b0 h = some x) (hl : ls.size = nL) (hW : (rest.map fun v => v.category).sum ≤ 8) (hRf : 2 + 1 ≤ R.frames) (hRl : 71 ≤ R.locals) (hdg : decode cc pc = .ok (.invokespecial 316, 3)) (kk : ∀ (H1 : Heap) (locs1 : List Loc) (cells1 slots1 : Nat), XSt D s h0 x H1 locs1 cells1 slots1 → W p l e R s m args below meth c H1 locs1 cells1 slots1 Q (F0 m (pc + 3) ls (rest))) : W p l e R s m args below meth c H locs cells slots Q (F0 m pc ls (rv b0 :: rv a :: rest)) := by
  exact X_callI hC hX ha (As := [rv b0]) (m_X21_init l D a b0 h _ hcF) (cwI 1 hC.2.2.2.2.1 (lw_meth q1538) rfl rfl rfl (hC.2.2.2.2.1 _ q165) (hC.2.2.2.2.1 _ q1536) (hC.2.2.2.2.1 _ q1537) rfl (by decide +kernel) ⟨Nat.le_trans (Nat.le_of_ble_eq_true rfl) hRf, Nat.le_trans (Nat.le_of_ble_eq_true rfl) hRl⟩) rfl rfl hl hW hdg kk
/-! BlindCards$Reader.mark -/
def F_X11_mark (K : Nat → Nat) (a0 : Nat) (h : TH) : Option ((Nat ⊕ Nat) × TH) :=
  gd (hT h a0 = 7) <|
  bd (F_X11_go K a0 h) fun h_3 =>
  gd (hT h_3 a0 = 7) <|
  bd2 (F_X11_isName K a0 h_3) fun r_7 h_6 =>
  if r_7 = 0 then
    gd (hT h_6 a0 = 7) <|
    bd2 (F_X11_wrong K a0 h_6) fun r_39 h_38 =>
    gd (r_39 ≠ 0) <|
    some (.inr r_39, h_38)
  else
    gd (hasF (hT h_6 a0) 73 = true) <|
    lt (hR h_6 73 a0) fun r_10 =>
    gd (hasF (hT h_6 a0) 72 = true) <|
    lt (hR h_6 72 a0) fun r_12 =>
    gd (hT h_6 r_10 = 2) <|
    bd (F_X1_mark K h_6 r_10 r_12) fun r_15 =>
    if r_15 < 0 then
      gd (hc h_6 + 1 ≤ XC ∧ hs h_6 + 1 ≤ XS) <|
      lt (hz h_6 + 1) fun r_18 =>
      lt (nO h_6 21 1) fun h_19 =>
      gd (hasF (hT h_19 a0) 72 = true) <|
      lt (hR h_19 72 a0) fun r_21 =>
      gd (r_18 ≠ 0) <|
      bd (F_X21_init K r_18 r_21 h_19) fun h_24 =>
      gd (hT h_24 a0 = 7) <|
      bd (F_X11_go K a0 h_24) fun h_27 =>
      some (.inl r_18, h_27)
    else
      gd (hc h_6 + 1 ≤ XC ∧ hs h_6 + 8 ≤ XS) <|
      lt (hz h_6 + 1) fun r_29 =>
      lt (nO h_6 10 8) fun h_30 =>
      gd (hasF (hT h_30 a0) 69 = true) <|
      gd (r_29 ≠ 0) <|
      bd (F_X12_init K r_29 (3 : Int32) (hI h_30 69 a0) h_30) fun h_34 =>
      gd (r_29 ≠ 0) <|
      some (.inr r_29, h_34)
set_option maxHeartbeats 4000000 in
theorem w_X11_mark {p : Program} {l : Launch} {e : Env} {s : State} {m : MethodId} {args : Array Value} {below : List Frame} {meth : Method} {c : Code} {D : XD} {h0 : TH} (hC : XCx D cX11_mark 2 RX11 h0 p (xRm 7 194 h0) s m args meth c) (hr : meth.sig.returnType = some (.object "BlindCards$Step")) (hnh : c.exceptionTable.isEmpty = true) (hin : meth.name = "mark") {x : ((Nat ⊕ Nat) × TH)} :
    ∀ (a0 : Nat) (h : TH), F_X11_mark D.2.2.2 a0 h = some x → XJ p l e (xRm 7 194 h0) s m args below meth c D 2 (ocR x.1) h0 x.2 0 [(0, rv a0)] [] h := by
  have hx := hC.1
  have hb := hC.2.1
  intro a0 h hF H locs cells slots ls hX hl
  rw [F_X11_mark] at hF
  refine X_aload_n hx hb dX11_mark_0 rfl (lv_at hl 0 rfl) ?_
  obtain ⟨h_1, hF⟩ := gd_ok hF
  obtain ⟨h_3, hc_2, hF⟩ := bd_ok hF
  refine iX_X11_94 hC hX h_1 hc_2 hl.1 (Nat.le_of_ble_eq_true rfl) (Nat.le_of_ble_eq_true rfl) (Nat.le_of_ble_eq_true rfl) dX11_mark_1 (fun H locs cells slots hX => ?_)
  refine X_aload_n hx hb dX11_mark_4 rfl (lv_at hl 0 rfl) ?_
  obtain ⟨h_4, hF⟩ := gd_ok hF
  obtain ⟨r_7, h_6, hc_5, hF⟩ := bd2_ok hF
  refine iX_X11_308 hC hX h_4 hc_5 hl.1 (Nat.le_of_ble_eq_true rfl) (Nat.le_of_ble_eq_true rfl) (Nat.le_of_ble_eq_true rfl) dX11_mark_5 (fun H locs cells slots hX => ?_)
  refine lv_if_ne (tgt := 16) hx hb dX11_mark_8 (by decide) (fun c_8 => ?_) (fun c_8 => ?_)
  · replace hF := it_f hF c_8
    refine X_aload_n hx hb dX11_mark_16 rfl (lv_at hl 0 rfl) ?_
    obtain ⟨h_9, hF⟩ := gd_ok hF
    refine gX_X11_24 hC hX h_9 dX11_mark_17 ?_
    refine lv_topr (fun r_10 er_10 => ?_)
    replace hF := lt_at hF er_10
    refine X_aload_n hx hb dX11_mark_20 rfl (lv_at hl 0 rfl) ?_
    obtain ⟨h_11, hF⟩ := gd_ok hF
    refine gX_X11_17 hC hX h_11 dX11_mark_21 ?_
    refine lv_topr (fun r_12 er_12 => ?_)
    replace hF := lt_at hF er_12
    obtain ⟨h_13, hF⟩ := gd_ok hF
    obtain ⟨r_15, hc_14, hF⟩ := bd_ok hF
    refine iX_X11_177 hC hX h_13 hc_14 hl.1 (Nat.le_of_ble_eq_true rfl) (Nat.le_of_ble_eq_true rfl) (Nat.le_of_ble_eq_true rfl) dX11_mark_24 (fun H locs cells slots hX => ?_)
    refine lv_if_lt (tgt := 43) hx hb dX11_mark_27 (by decide) (fun c_16 => ?_) (fun c_16 => ?_)
    · replace hF := it_t hF c_16
      obtain ⟨h_17, hF⟩ := gd_ok hF
      refine nX_X11_314 hC hX h_17 dX11_mark_43 (fun H cells slots hX => ?_)
      refine lv_topr (fun r_18 er_18 => ?_)
      replace hF := lt_at hF er_18
      obtain ⟨h_19, eh_19, hF⟩ := lt_ok hF
      rw [← eh_19] at hX
      refine lv_dup hx hb dX11_mark_46 (rv_cat _) ?_
      refine X_aload_n hx hb dX11_mark_47 rfl (lv_at hl 0 rfl) ?_
      obtain ⟨h_20, hF⟩ := gd_ok hF
      refine gX_X11_17 hC hX h_20 dX11_mark_48 ?_
      refine lv_topr (fun r_21 er_21 => ?_)
      replace hF := lt_at hF er_21
      obtain ⟨h_22, hF⟩ := gd_ok hF
      obtain ⟨h_24, hc_23, hF⟩ := bd_ok hF
      refine iX_X11_316 hC hX h_22 hc_23 hl.1 (cat4 (Nat.le_of_ble_eq_true rfl)) (Nat.le_of_ble_eq_true rfl) (Nat.le_of_ble_eq_true rfl) dX11_mark_51 (fun H locs cells slots hX => ?_)
      refine X_astore_n (i := 1) hx hb dX11_mark_54 rfl hl (by decide) rfl (fun ls hl => ?_)
      replace hl : lv_has ls 2 [(1, rv r_18), (0, rv a0)] := lv_subS hl (List.forall_mem_cons.mpr ⟨Or.inl rfl, (List.forall_mem_cons.mpr ⟨Or.inr ⟨List.mem_of_getElem? (i := 0) rfl, by simp [rv_cat]⟩, (fun _ h => nomatch h)⟩)⟩)
      refine X_aload_n hx hb dX11_mark_55 rfl (lv_at hl 1 rfl) ?_
      obtain ⟨h_25, hF⟩ := gd_ok hF
      obtain ⟨h_27, hc_26, hF⟩ := bd_ok hF
      refine iX_X11_94 hC hX h_25 hc_26 hl.1 (Nat.le_of_ble_eq_true rfl) (Nat.le_of_ble_eq_true rfl) (Nat.le_of_ble_eq_true rfl) dX11_mark_56 (fun H locs cells slots hX => ?_)
      refine X_aload_n hx hb dX11_mark_59 rfl (lv_at hl 0 rfl) ?_
      cases hF
      exact x_reta hC hX hr (Or.inl ⟨_, rfl⟩) rfl rfl dX11_mark_60
    · replace hF := it_f hF c_16
      obtain ⟨h_28, hF⟩ := gd_ok hF
      refine nX_X11_75 hC hX h_28 dX11_mark_30 (fun H cells slots hX => ?_)
      refine lv_topr (fun r_29 er_29 => ?_)
      replace hF := lt_at hF er_29
      obtain ⟨h_30, eh_30, hF⟩ := lt_ok hF
      rw [← eh_30] at hX
      refine lv_dup hx hb dX11_mark_33 (rv_cat _) ?_
      refine lv_iconst (v := 3) hx hb dX11_mark_34 (by decide) ?_
      refine X_aload_n hx hb dX11_mark_35 rfl (lv_at hl 0 rfl) ?_
      obtain ⟨h_31, hF⟩ := gd_ok hF
      refine gX_X11_43 hC hX h_31 dX11_mark_36 ?_
      obtain ⟨h_32, hF⟩ := gd_ok hF
      obtain ⟨h_34, hc_33, hF⟩ := bd_ok hF
      refine iX_X11_77 hC hX h_32 hc_33 hl.1 (cat4 (Nat.le_of_ble_eq_true rfl)) (Nat.le_of_ble_eq_true rfl) (Nat.le_of_ble_eq_true rfl) dX11_mark_39 (fun H locs cells slots hX => ?_)
      obtain ⟨h_35, hF⟩ := gd_ok hF
      cases hF
      exact x_throw hC hX hnh h_35 rfl rfl dX11_mark_42
  · replace hF := it_t hF c_8
    refine X_aload_n hx hb dX11_mark_11 rfl (lv_at hl 0 rfl) ?_
    obtain ⟨h_36, hF⟩ := gd_ok hF
    obtain ⟨r_39, h_38, hc_37, hF⟩ := bd2_ok hF
    refine iX_X11_90 hC hX h_36 hc_37 hl.1 (Nat.le_of_ble_eq_true rfl) (Nat.le_of_ble_eq_true rfl) (Nat.le_of_ble_eq_true rfl) dX11_mark_12 (fun H locs cells slots hX => ?_)
    obtain ⟨h_40, hF⟩ := gd_ok hF
    cases hF
    exact x_throw hC hX hnh h_40 rfl rfl dX11_mark_15
theorem m_X11_mark (l : Launch) (D : XD) (a0 : Nat) (h : TH) (x : ((Nat ⊕ Nat) × TH)) (hF : F_X11_mark D.2.2.2 a0 h = some x) : XMt l yX11_mark (ws_ yX11_mark cX11_mark 2 (some (.object "BlindCards$Step"))) 7 194 D [rv a0] h (ocR x.1) x.2 := by
  refine x_met (by decide +kernel) ?_ ?_
  · simp [lg_sl, rv_cat, cat_i, cat_l]
  intro p e s m below meth c hC hr hnh hin ls hl hX
  replace hl : lv_has ls 2 [(0, rv a0)] := by simpa [lv_args, rv_cat, cat_i, cat_l] using hl
  exact w_X11_mark hC hr hnh hin a0 h hF s.heap [] 0 0 ls hX hl
/-! BlindCards$Reader.put -/
def F_X11_put (K : Nat → Nat) (a0 : Nat) (h : TH) : Option ((Nat ⊕ Nat) × TH) :=
  gd (hT h a0 = 7) <|
  bd (F_X11_go K a0 h) fun h_3 =>
  gd (hc h_3 + 1 ≤ XC ∧ hs h_3 + 2 ≤ XS) <|
  lt (hz h_3 + 1) fun r_5 =>
  lt (nO h_3 19 2) fun h_6 =>
  gd (hT h_6 a0 = 7) <|
  bt (F_X11_red K a0 h_6) fun r_9 h_10 =>
  gd (r_5 ≠ 0) <|
  bd (F_X19_init K r_5 (-1 : Int32) r_9 h_10) fun h_14 =>
  some (.inl r_5, h_14)
set_option maxHeartbeats 4000000 in
theorem w_X11_put {p : Program} {l : Launch} {e : Env} {s : State} {m : MethodId} {args : Array Value} {below : List Frame} {meth : Method} {c : Code} {D : XD} {h0 : TH} (hC : XCx D cX11_put 1 RX11 h0 p (xRm 8 215 h0) s m args meth c) (hr : meth.sig.returnType = some (.object "BlindCards$Step")) (hnh : c.exceptionTable.isEmpty = true) (hin : meth.name = "put") {x : ((Nat ⊕ Nat) × TH)} :
    ∀ (a0 : Nat) (h : TH), F_X11_put D.2.2.2 a0 h = some x → XJ p l e (xRm 8 215 h0) s m args below meth c D 1 (ocR x.1) h0 x.2 0 [(0, rv a0)] [] h := by
  have hx := hC.1
  have hb := hC.2.1
  intro a0 h hF H locs cells slots ls hX hl
  rw [F_X11_put] at hF
  refine X_aload_n hx hb dX11_put_0 rfl (lv_at hl 0 rfl) ?_
  obtain ⟨h_1, hF⟩ := gd_ok hF
  obtain ⟨h_3, hc_2, hF⟩ := bd_ok hF
  refine iX_X11_94 hC hX h_1 hc_2 hl.1 (Nat.le_of_ble_eq_true rfl) (Nat.le_of_ble_eq_true rfl) (Nat.le_of_ble_eq_true rfl) dX11_put_1 (fun H locs cells slots hX => ?_)
  obtain ⟨h_4, hF⟩ := gd_ok hF
  refine nX_X11_253 hC hX h_4 dX11_put_4 (fun H cells slots hX => ?_)
  refine lv_topr (fun r_5 er_5 => ?_)
  replace hF := lt_at hF er_5
  obtain ⟨h_6, eh_6, hF⟩ := lt_ok hF
  rw [← eh_6] at hX
  refine lv_dup hx hb dX11_put_7 (rv_cat _) ?_
  refine lv_iconst (v := -1) hx hb dX11_put_8 (by decide) ?_
  refine X_aload_n hx hb dX11_put_9 rfl (lv_at hl 0 rfl) ?_
  obtain ⟨h_7, hF⟩ := gd_ok hF
  rcases bt_ok hF with ⟨r_9, h_10, hc_8, hF⟩ | ⟨z_11, h_10, hc_8, hxx⟩
  rotate_left
  · subst hxx
    exact iX_X11_261_t hC hX hnh h_7 hc_8 hl.1 (cat4 (Nat.le_of_ble_eq_true rfl)) (Nat.le_of_ble_eq_true rfl) (Nat.le_of_ble_eq_true rfl) dX11_put_10
  refine iX_X11_261 hC hX h_7 hc_8 hl.1 (cat4 (Nat.le_of_ble_eq_true rfl)) (Nat.le_of_ble_eq_true rfl) (Nat.le_of_ble_eq_true rfl) dX11_put_10 (fun H locs cells slots hX => ?_)
  obtain ⟨h_12, hF⟩ := gd_ok hF
  obtain ⟨h_14, hc_13, hF⟩ := bd_ok hF
  refine iX_X11_258 hC hX h_12 hc_13 hl.1 (cat4 (Nat.le_of_ble_eq_true rfl)) (Nat.le_of_ble_eq_true rfl) (Nat.le_of_ble_eq_true rfl) dX11_put_13 (fun H locs cells slots hX => ?_)
  cases hF
  exact x_reta hC hX hr (Or.inl ⟨_, rfl⟩) rfl rfl dX11_put_16
theorem m_X11_put (l : Launch) (D : XD) (a0 : Nat) (h : TH) (x : ((Nat ⊕ Nat) × TH)) (hF : F_X11_put D.2.2.2 a0 h = some x) : XMt l yX11_put (ws_ yX11_put cX11_put 1 (some (.object "BlindCards$Step"))) 8 215 D [rv a0] h (ocR x.1) x.2 := by
  refine x_met (by decide +kernel) ?_ ?_
  · simp [lg_sl, rv_cat, cat_i, cat_l]
  intro p e s m below meth c hC hr hnh hin ls hl hX
  replace hl : lv_has ls 1 [(0, rv a0)] := by simpa [lv_args, rv_cat, cat_i, cat_l] using hl
  exact w_X11_put hC hr hnh hin a0 h hF s.heap [] 0 0 ls hX hl
theorem iX_X23_1 {p : Program} {l : Launch} {e : Env} {R : Room} {s : State} {m : MethodId} {args : Array Value} {below : List Frame} {meth : Method} {c : Code} {H : Heap} {locs : List Loc} {cells slots nL : Nat} {Q : State → Prop} {D : XD} {h0 h : TH} {cc : ByteArray} {pc : Nat} {ls : Array Slot} {rest : List Value} (hC : XCx D cc nL RX23 h0 p R s m args meth c) (hX : XSt D s h0 h H locs cells slots) {a : Nat} {x : Unit} (ha : a ≠ 0) (hcF : F_X6_init D.2.2.2 h a = some x) (hl : ls.size = nL) (hW : (rest.map fun v => v.category).sum ≤ 8) (hRf : 1 + 1 ≤ R.frames) (hRl : 50 ≤ R.locals) (hdg : decode cc pc = .ok (.invokespecial 1, 3)) (kk : ∀ (H1 : Heap) (locs1 : List Loc) (cells1 slots1 : Nat), XSt D s h0 h H1 locs1 cells1 slots1 → W p l e R s m args below meth c H1 locs1 cells1 slots1 Q (F0 m (pc + 3) ls (rest))) : W p l e R s m args below meth c H locs cells slots Q (F0 m pc ls (rv a :: rest)) := by
  exact X_callIN hC hX ha (As := []) (m_X6_init l D a h _ hcF) ⟨va_cnB 0 hC.2.2.2.2.1 (lw_meth q1303) rfl rfl rfl (xm22 hC.2.2.2.2.2.2.1) (hC.2.2.2.2.1 _ q140) (by decide +kernel) ⟨Nat.le_trans (Nat.le_of_ble_eq_true rfl) hRf, Nat.le_trans (Nat.le_of_ble_eq_true rfl) hRl⟩, rfl, hC.2.2.2.2.1 _ q1302⟩ rfl rfl hl hW hdg kk
theorem pX_X23_7 {p : Program} {l : Launch} {e : Env} {R : Room} {s : State} {m : MethodId} {args : Array Value} {below : List Frame} {meth : Method} {c : Code} {H : Heap} {locs : List Loc} {cells slots nL : Nat} {Q : State → Prop} {D : XD} {h0 h : TH} {cc : ByteArray} {pc : Nat} {ls : Array Slot} {rest : List Value} (hC : XCx D cc nL RX23 h0 p R s m args meth c) (hX : XSt D s h0 h H locs cells slots) (hinit : meth.name = "<init>") {a : Nat} {v : Int32} (hf : hasF (hT h a) 114 = true) (hw : hT h a ≤ 24) (hdg : decode cc pc = .ok (.putfield 7, 3)) (kk : ∀ (H1 : Heap) (locs1 : List Loc), XSt D s h0 (uI h 114 a v) H1 locs1 cells slots → W p l e R s m args below meth c H1 locs1 cells slots Q (F0 m (pc + 3) ls rest)) : W p l e R s m args below meth c H locs cells slots Q (F0 m pc ls (.int v :: rv a :: rest)) :=
  X_putiF hC hX hinit 114 hf hw rfl rfl rfl q1572 ⟨rfl, rfl⟩ hdg kk
/-! BlindCards$Says.<init> -/
def F_X23_init (K : Nat → Nat) (a0 : Nat) (b0 : Int32) (h : TH) : Option TH :=
  gd (a0 ≠ 0) <|
  bd (F_X6_init K h a0) fun u_3 =>
  gd (hasF (hT h a0) 114 = true) <|
  gd (hT h a0 ≤ 24) <|
  lt (uI h 114 a0 b0) fun h_6 =>
  some h_6
set_option maxHeartbeats 4000000 in
theorem w_X23_init {p : Program} {l : Launch} {e : Env} {s : State} {m : MethodId} {args : Array Value} {below : List Frame} {meth : Method} {c : Code} {D : XD} {h0 : TH} (hC : XCx D cX23_init 2 RX23 h0 p (xRm 2 50 h0) s m args meth c) (hr : meth.sig.returnType = none) (hnh : c.exceptionTable.isEmpty = true) (hin : meth.name = "<init>") {x : TH} :
    ∀ (a0 : Nat) (b0 : Int32) (h : TH), F_X23_init D.2.2.2 a0 b0 h = some x → XJ p l e (xRm 2 50 h0) s m args below meth c D 2 (.returned none) h0 x 0 [(0, rv a0), (1, .int b0)] [] h := by
  have hx := hC.1
  have hb := hC.2.1
  intro a0 b0 h hF H locs cells slots ls hX hl
  rw [F_X23_init] at hF
  refine X_aload_n hx hb dX23_init_0 rfl (lv_at hl 0 rfl) ?_
  obtain ⟨h_1, hF⟩ := gd_ok hF
  obtain ⟨u_3, hc_2, hF⟩ := bd_ok hF
  refine iX_X23_1 hC hX h_1 hc_2 hl.1 (Nat.le_of_ble_eq_true rfl) (Nat.le_of_ble_eq_true rfl) (Nat.le_of_ble_eq_true rfl) dX23_init_1 (fun H locs cells slots hX => ?_)
  refine X_aload_n hx hb dX23_init_4 rfl (lv_at hl 0 rfl) ?_
  refine lv_iload_n hx hb dX23_init_5 rfl (lv_at hl 1 rfl) ?_
  obtain ⟨h_4, hF⟩ := gd_ok hF
  obtain ⟨h_5, hF⟩ := gd_ok hF
  refine pX_X23_7 hC hX hin h_4 h_5 dX23_init_6 (fun H locs hX => ?_)
  obtain ⟨h_6, eh_6, hF⟩ := lt_ok hF
  rw [← eh_6] at hX
  exact x_retv hC hX hr (Option.some.inj hF) dX23_init_9
theorem m_X23_init (l : Launch) (D : XD) (a0 : Nat) (b0 : Int32) (h : TH) (x : TH) (hF : F_X23_init D.2.2.2 a0 b0 h = some x) : XMt l yX23_init (ws_ yX23_init cX23_init 2 (none)) 2 50 D [rv a0, .int b0] h (.returned none) x := by
  refine x_met (by decide +kernel) ?_ ?_
  · simp [lg_sl, rv_cat, cat_i, cat_l]
  intro p e s m below meth c hC hr hnh hin ls hl hX
  replace hl : lv_has ls 2 [(0, rv a0), (1, .int b0)] := by simpa [lv_args, rv_cat, cat_i, cat_l] using hl
  exact w_X23_init hC hr hnh hin a0 b0 h hF s.heap [] 0 0 ls hX hl
theorem nX_X11_321 {p : Program} {l : Launch} {e : Env} {R : Room} {s : State} {m : MethodId} {args : Array Value} {below : List Frame} {meth : Method} {c : Code} {H : Heap} {locs : List Loc} {cells slots nL : Nat} {Q : State → Prop} {D : XD} {h0 h : TH} {cc : ByteArray} {pc : Nat} {ls : Array Slot} {rest : List Value} (hC : XCx D cc nL RX11 h0 p R s m args meth c) (hX : XSt D s h0 h H locs cells slots) (hroom : hc h + 1 ≤ XC ∧ hs h + 1 ≤ XS) (hdg : decode cc pc = .ok (.new 321, 3)) (kk : ∀ (H1 : Heap) (cells1 slots1 : Nat), XSt D s h0 (nO h 23 1) H1 locs cells1 slots1 → W p l e R s m args below meth c H1 locs cells1 slots1 Q (F0 m (pc + 3) ls (rv (hz h + 1) :: rest))) : W p l e R s m args below meth c H locs cells slots Q (F0 m pc ls rest) :=
  X_new hC hX 23 ⟨by decide, by decide⟩ rfl q1566 q1567 q167 hroom hdg kk
theorem iX_X11_323 {p : Program} {l : Launch} {e : Env} {R : Room} {s : State} {m : MethodId} {args : Array Value} {below : List Frame} {meth : Method} {c : Code} {H : Heap} {locs : List Loc} {cells slots nL : Nat} {Q : State → Prop} {D : XD} {h0 h : TH} {cc : ByteArray} {pc : Nat} {ls : Array Slot} {rest : List Value} (hC : XCx D cc nL RX11 h0 p R s m args meth c) (hX : XSt D s h0 h H locs cells slots) {a : Nat} {b0 : Int32} {x : TH} (ha : a ≠ 0) (hcF : F_X23_init D.2.2.2 a b0 h = some x) (hl : ls.size = nL) (hW : (rest.map fun v => v.category).sum ≤ 8) (hRf : 2 + 1 ≤ R.frames) (hRl : 71 ≤ R.locals) (hdg : decode cc pc = .ok (.invokespecial 323, 3)) (kk : ∀ (H1 : Heap) (locs1 : List Loc) (cells1 slots1 : Nat), XSt D s h0 x H1 locs1 cells1 slots1 → W p l e R s m args below meth c H1 locs1 cells1 slots1 Q (F0 m (pc + 3) ls (rest))) : W p l e R s m args below meth c H locs cells slots Q (F0 m pc ls (.int b0 :: rv a :: rest)) := by
  exact X_callI hC hX ha (As := [.int b0]) (m_X23_init l D a b0 h _ hcF) (cwI 1 hC.2.2.2.2.1 (lw_meth q1570) rfl rfl rfl (hC.2.2.2.2.1 _ q167) (hC.2.2.2.2.1 _ q1568) (hC.2.2.2.2.1 _ q1569) rfl (by decide +kernel) ⟨Nat.le_trans (Nat.le_of_ble_eq_true rfl) hRf, Nat.le_trans (Nat.le_of_ble_eq_true rfl) hRl⟩) rfl rfl hl hW hdg kk
/-! BlindCards$Reader.says -/
def F_X11_says (K : Nat → Nat) (a0 : Nat) (h : TH) : Option ((Nat ⊕ Nat) × TH) :=
  gd (hT h a0 = 7) <|
  bd (F_X11_go K a0 h) fun h_3 =>
  gd (hc h_3 + 1 ≤ XC ∧ hs h_3 + 1 ≤ XS) <|
  lt (hz h_3 + 1) fun r_5 =>
  lt (nO h_3 23 1) fun h_6 =>
  gd (hT h_6 a0 = 7) <|
  bt (F_X11_number K a0 (0 : Int32) (9999 : Int32) h_6) fun r_9 h_10 =>
  gd (r_5 ≠ 0) <|
  bd (F_X23_init K r_5 r_9 h_10) fun h_14 =>
  some (.inl r_5, h_14)
set_option maxHeartbeats 4000000 in
theorem w_X11_says {p : Program} {l : Launch} {e : Env} {s : State} {m : MethodId} {args : Array Value} {below : List Frame} {meth : Method} {c : Code} {D : XD} {h0 : TH} (hC : XCx D cX11_says 1 RX11 h0 p (xRm 8 217 h0) s m args meth c) (hr : meth.sig.returnType = some (.object "BlindCards$Step")) (hnh : c.exceptionTable.isEmpty = true) (hin : meth.name = "says") {x : ((Nat ⊕ Nat) × TH)} :
    ∀ (a0 : Nat) (h : TH), F_X11_says D.2.2.2 a0 h = some x → XJ p l e (xRm 8 217 h0) s m args below meth c D 1 (ocR x.1) h0 x.2 0 [(0, rv a0)] [] h := by
  have hx := hC.1
  have hb := hC.2.1
  intro a0 h hF H locs cells slots ls hX hl
  rw [F_X11_says] at hF
  refine X_aload_n hx hb dX11_says_0 rfl (lv_at hl 0 rfl) ?_
  obtain ⟨h_1, hF⟩ := gd_ok hF
  obtain ⟨h_3, hc_2, hF⟩ := bd_ok hF
  refine iX_X11_94 hC hX h_1 hc_2 hl.1 (Nat.le_of_ble_eq_true rfl) (Nat.le_of_ble_eq_true rfl) (Nat.le_of_ble_eq_true rfl) dX11_says_1 (fun H locs cells slots hX => ?_)
  obtain ⟨h_4, hF⟩ := gd_ok hF
  refine nX_X11_321 hC hX h_4 dX11_says_4 (fun H cells slots hX => ?_)
  refine lv_topr (fun r_5 er_5 => ?_)
  replace hF := lt_at hF er_5
  obtain ⟨h_6, eh_6, hF⟩ := lt_ok hF
  rw [← eh_6] at hX
  refine lv_dup hx hb dX11_says_7 (rv_cat _) ?_
  refine X_aload_n hx hb dX11_says_8 rfl (lv_at hl 0 rfl) ?_
  refine lv_iconst (v := 0) hx hb dX11_says_9 (by decide) ?_
  refine lv_sipush (v := 9999) hx hb dX11_says_10 (by decide) ?_
  obtain ⟨h_7, hF⟩ := gd_ok hF
  rcases bt_ok hF with ⟨r_9, h_10, hc_8, hF⟩ | ⟨z_11, h_10, hc_8, hxx⟩
  rotate_left
  · subst hxx
    exact iX_X11_196_t hC hX hnh h_7 hc_8 hl.1 (cat4 (Nat.le_of_ble_eq_true rfl)) (Nat.le_of_ble_eq_true rfl) (Nat.le_of_ble_eq_true rfl) dX11_says_13
  refine iX_X11_196 hC hX h_7 hc_8 hl.1 (cat4 (Nat.le_of_ble_eq_true rfl)) (Nat.le_of_ble_eq_true rfl) (Nat.le_of_ble_eq_true rfl) dX11_says_13 (fun H locs cells slots hX => ?_)
  obtain ⟨h_12, hF⟩ := gd_ok hF
  obtain ⟨h_14, hc_13, hF⟩ := bd_ok hF
  refine iX_X11_323 hC hX h_12 hc_13 hl.1 (cat4 (Nat.le_of_ble_eq_true rfl)) (Nat.le_of_ble_eq_true rfl) (Nat.le_of_ble_eq_true rfl) dX11_says_16 (fun H locs cells slots hX => ?_)
  cases hF
  exact x_reta hC hX hr (Or.inl ⟨_, rfl⟩) rfl rfl dX11_says_19
theorem m_X11_says (l : Launch) (D : XD) (a0 : Nat) (h : TH) (x : ((Nat ⊕ Nat) × TH)) (hF : F_X11_says D.2.2.2 a0 h = some x) : XMt l yX11_says (ws_ yX11_says cX11_says 1 (some (.object "BlindCards$Step"))) 8 217 D [rv a0] h (ocR x.1) x.2 := by
  refine x_met (by decide +kernel) ?_ ?_
  · simp [lg_sl, rv_cat, cat_i, cat_l]
  intro p e s m below meth c hC hr hnh hin ls hl hX
  replace hl : lv_has ls 1 [(0, rv a0)] := by simpa [lv_args, rv_cat, cat_i, cat_l] using hl
  exact w_X11_says hC hr hnh hin a0 h hF s.heap [] 0 0 ls hX hl
/-! BlindCards.seed -/
def F_X0_seed (K : Nat → Nat) (a0 : Nat) (b0 : Int32) (h : TH) : Option (Int32 × TH) :=
  gd (hasF (hT h a0) 11 = true) <|
  lt ((hI h 11 a0)) fun x_2 =>
  gd (hasF (hT h a0) 11 = true) <|
  gd (hT h a0 ≤ 24) <|
  lt (uI h 11 a0 b0) fun h_5 =>
  some (x_2, h_5)
set_option maxHeartbeats 4000000 in
theorem w_X0_seed {p : Program} {l : Launch} {e : Env} {s : State} {m : MethodId} {args : Array Value} {below : List Frame} {meth : Method} {c : Code} {D : XD} {h0 : TH} (hC : XCx D cX0_seed 3 RX0 h0 p (xRm 0 0 h0) s m args meth c) (hr : meth.sig.returnType = some .int) (hnh : c.exceptionTable.isEmpty = true) (hin : meth.name = "seed") {x : (Int32 × TH)} :
    ∀ (a0 : Nat) (b0 : Int32) (h : TH), F_X0_seed D.2.2.2 a0 b0 h = some x → XJ p l e (xRm 0 0 h0) s m args below meth c D 3 (.returned (some (.int x.1))) h0 x.2 0 [(0, rv a0), (1, .int b0)] [] h := by
  have hx := hC.1
  have hb := hC.2.1
  intro a0 b0 h hF H locs cells slots ls hX hl
  rw [F_X0_seed] at hF
  refine X_aload_n hx hb dX0_seed_0 rfl (lv_at hl 0 rfl) ?_
  obtain ⟨h_1, hF⟩ := gd_ok hF
  refine gX_X0_75 hC hX h_1 dX0_seed_1 ?_
  refine lv_topi (fun x_2 ex_2 => ?_)
  replace hF := lt_at hF ex_2
  refine lv_istore_n (lv' := [(2, .int x_2), (0, rv a0), (1, .int b0)]) hx hb dX0_seed_4 rfl hl (by decide) rfl (fun ls hl => ?_)
  refine X_aload_n hx hb dX0_seed_5 rfl (lv_at hl 1 rfl) ?_
  refine lv_iload_n hx hb dX0_seed_6 rfl (lv_at hl 2 rfl) ?_
  obtain ⟨h_3, hF⟩ := gd_ok hF
  obtain ⟨h_4, hF⟩ := gd_ok hF
  refine pX_X0_75 hC hX h_3 h_4 dX0_seed_7 (fun H locs hX => ?_)
  obtain ⟨h_5, eh_5, hF⟩ := lt_ok hF
  rw [← eh_5] at hX
  refine lv_iload_n hx hb dX0_seed_10 rfl (lv_at hl 0 rfl) ?_
  exact x_reti hC hX hr rfl (rt1 hF) (rt2 hF) dX0_seed_11
theorem m_X0_seed (l : Launch) (D : XD) (a0 : Nat) (b0 : Int32) (h : TH) (x : (Int32 × TH)) (hF : F_X0_seed D.2.2.2 a0 b0 h = some x) : XMt l yX0_seed (ws_ yX0_seed cX0_seed 3 (some .int)) 0 0 D [rv a0, .int b0] h (.returned (some (.int x.1))) x.2 := by
  refine x_met (by decide +kernel) ?_ ?_
  · simp [lg_sl, rv_cat, cat_i, cat_l]
  intro p e s m below meth c hC hr hnh hin ls hl hX
  replace hl : lv_has ls 3 [(0, rv a0), (1, .int b0)] := by simpa [lv_args, rv_cat, cat_i, cat_l] using hl
  exact w_X0_seed hC hr hnh hin a0 b0 h hF s.heap [] 0 0 ls hX hl
/-! BlindCards$Look.untell -/
def F_X24_untell (K : Nat → Nat) (a0 : Nat) (b0 : Int32) (h : TH) : Option (Int32 × TH) :=
  gd (hasF (hT h a0) 117 = true) <|
  if (hI h 117 a0) < 0 then
    gd (hasF (hT h a0) 117 = true) <|
    gd (hT h a0 ≤ 24) <|
    lt (uI h 117 a0 b0) fun h_5 =>
    some ((1 : Int32), h_5)
  else
    some ((0 : Int32), h)
set_option maxHeartbeats 4000000 in
theorem w_X24_untell {p : Program} {l : Launch} {e : Env} {s : State} {m : MethodId} {args : Array Value} {below : List Frame} {meth : Method} {c : Code} {D : XD} {h0 : TH} (hC : XCx D cX24_untell 2 RX24 h0 p (xRm 0 0 h0) s m args meth c) (hr : meth.sig.returnType = some .boolean) (hnh : c.exceptionTable.isEmpty = true) (hin : meth.name = "untell") {x : (Int32 × TH)} :
    ∀ (a0 : Nat) (b0 : Int32) (h : TH), F_X24_untell D.2.2.2 a0 b0 h = some x → XJ p l e (xRm 0 0 h0) s m args below meth c D 2 (.returned (some (.int x.1))) h0 x.2 0 [(0, rv a0), (1, .int b0)] [] h := by
  have hx := hC.1
  have hb := hC.2.1
  intro a0 b0 h hF H locs cells slots ls hX hl
  rw [F_X24_untell] at hF
  refine X_aload_n hx hb dX24_untell_0 rfl (lv_at hl 0 rfl) ?_
  obtain ⟨h_1, hF⟩ := gd_ok hF
  refine gX_X24_9 hC hX h_1 dX24_untell_1 ?_
  refine lv_if_lt (tgt := 9) hx hb dX24_untell_4 (by decide) (fun c_2 => ?_) (fun c_2 => ?_)
  · replace hF := it_t hF c_2
    refine X_aload_n hx hb dX24_untell_9 rfl (lv_at hl 0 rfl) ?_
    refine lv_iload_n hx hb dX24_untell_10 rfl (lv_at hl 1 rfl) ?_
    obtain ⟨h_3, hF⟩ := gd_ok hF
    obtain ⟨h_4, hF⟩ := gd_ok hF
    refine pX_X24_9 hC hX h_3 h_4 dX24_untell_11 (fun H locs hX => ?_)
    obtain ⟨h_5, eh_5, hF⟩ := lt_ok hF
    rw [← eh_5] at hX
    refine lv_iconst (v := 1) hx hb dX24_untell_14 (by decide) ?_
    exact x_reti hC hX hr rfl (rt1 hF) (rt2 hF) dX24_untell_15
  · replace hF := it_f hF c_2
    refine lv_iconst (v := 0) hx hb dX24_untell_7 (by decide) ?_
    exact x_reti hC hX hr rfl (rt1 hF) (rt2 hF) dX24_untell_8
theorem m_X24_untell (l : Launch) (D : XD) (a0 : Nat) (b0 : Int32) (h : TH) (x : (Int32 × TH)) (hF : F_X24_untell D.2.2.2 a0 b0 h = some x) : XMt l yX24_untell (ws_ yX24_untell cX24_untell 2 (some .boolean)) 0 0 D [rv a0, .int b0] h (.returned (some (.int x.1))) x.2 := by
  refine x_met (by decide +kernel) ?_ ?_
  · simp [lg_sl, rv_cat, cat_i, cat_l]
  intro p e s m below meth c hC hr hnh hin ls hl hX
  replace hl : lv_has ls 2 [(0, rv a0), (1, .int b0)] := by simpa [lv_args, rv_cat, cat_i, cat_l] using hl
  exact w_X24_untell hC hr hnh hin a0 b0 h hF s.heap [] 0 0 ls hX hl
theorem iX_X0_335 {p : Program} {l : Launch} {e : Env} {R : Room} {s : State} {m : MethodId} {args : Array Value} {below : List Frame} {meth : Method} {c : Code} {H : Heap} {locs : List Loc} {cells slots nL : Nat} {Q : State → Prop} {D : XD} {h0 h : TH} {cc : ByteArray} {pc : Nat} {ls : Array Slot} {rest : List Value} {h1 : TH} (hC : XCx D cc nL RX0 h0 p R s m args meth c) (hX : XSt D s h0 h H locs cells slots) {a : Nat} {b0 : Int32} {x : Int32} (ht : hT h a = 24) (hcF : F_X24_untell D.2.2.2 a b0 h = some (x, h1)) (hl : ls.size = nL) (hW : (rest.map fun v => v.category).sum ≤ 8) (hRf : 0 + 1 ≤ R.frames) (hRl : 21 ≤ R.locals) (hdg : decode cc pc = .ok (.invokevirtual 335, 3)) (kk : ∀ (H1 : Heap) (locs1 : List Loc) (cells1 slots1 : Nat), XSt D s h0 h1 H1 locs1 cells1 slots1 → W p l e R s m args below meth c H1 locs1 cells1 slots1 Q (F0 m (pc + 3) ls (.int x :: rest))) : W p l e R s m args below meth c H locs cells slots Q (F0 m pc ls (.int b0 :: rv a :: rest)) := by
  have q := ht
  exact X_callV hC hX (by rw [q]; decide) (by rw [q]; rfl) (As := [.int b0]) (m_X24_untell l D a b0 h _ hcF) (cwV 1 hC.2.2.2.2.1 (lw_V q1766 q1767 q1768 q168 q1769) rfl rfl rfl (by decide +kernel) ⟨Nat.le_trans (Nat.le_of_ble_eq_true rfl) hRf, Nat.le_trans (Nat.le_of_ble_eq_true rfl) hRl⟩) rfl rfl hl hW hdg kk
/-! BlindCards.untell -/
def F_X0_untell (K : Nat → Nat) (a0 : Nat) (b0 : Int32) (h : TH) : Option (Int32 × TH) :=
  gd (hasF (hT h a0) 26 = true) <|
  lt (hR h 26 a0) fun r_2 =>
  gd (hT h r_2 = 3) <|
  bd (F_J2_size K h r_2) fun r_5 =>
  bd (F_X0_isIn K h b0 (0 : Int32) (r_5 - (1 : Int32))) fun r_7 =>
  if r_7 = 0 then
    some ((0 : Int32), h)
  else
    gd (hasF (hT h a0) 26 = true) <|
    lt (hR h 26 a0) fun r_10 =>
    gd (hT h r_10 = 3) <|
    bd (F_J2_get K h r_10 b0) fun r_13 =>
    gd (r_13 = 0 ∨ castB (hT h r_13) "BlindCards$Look" = true) <|
    gd (hasF (hT h a0) 12 = true) <|
    gd (hT h r_13 = 24) <|
    bd2 (F_X24_untell K r_13 (hI h 12 a0) h) fun r_19 h_18 =>
    if r_19 = 0 then
      some ((0 : Int32), h_18)
    else
      some ((1 : Int32), h_18)
set_option maxHeartbeats 4000000 in
theorem w_X0_untell {p : Program} {l : Launch} {e : Env} {s : State} {m : MethodId} {args : Array Value} {below : List Frame} {meth : Method} {c : Code} {D : XD} {h0 : TH} (hC : XCx D cX0_untell 2 RX0 h0 p (xRm 3 64 h0) s m args meth c) (hr : meth.sig.returnType = some .boolean) (hnh : c.exceptionTable.isEmpty = true) (hin : meth.name = "untell") {x : (Int32 × TH)} :
    ∀ (a0 : Nat) (b0 : Int32) (h : TH), F_X0_untell D.2.2.2 a0 b0 h = some x → XJ p l e (xRm 3 64 h0) s m args below meth c D 2 (.returned (some (.int x.1))) h0 x.2 0 [(0, rv a0), (1, .int b0)] [] h := by
  have hx := hC.1
  have hb := hC.2.1
  intro a0 b0 h hF H locs cells slots ls hX hl
  rw [F_X0_untell] at hF
  refine lv_iload_n hx hb dX0_untell_0 rfl (lv_at hl 1 rfl) ?_
  refine lv_iconst (v := 0) hx hb dX0_untell_1 (by decide) ?_
  refine X_aload_n hx hb dX0_untell_2 rfl (lv_at hl 0 rfl) ?_
  obtain ⟨h_1, hF⟩ := gd_ok hF
  refine gX_X0_96 hC hX h_1 dX0_untell_3 ?_
  refine lv_topr (fun r_2 er_2 => ?_)
  replace hF := lt_at hF er_2
  obtain ⟨h_3, hF⟩ := gd_ok hF
  obtain ⟨r_5, hc_4, hF⟩ := bd_ok hF
  refine iX_X0_148 hC hX h_3 hc_4 hl.1 (Nat.le_of_ble_eq_true rfl) (Nat.le_of_ble_eq_true rfl) (Nat.le_of_ble_eq_true rfl) dX0_untell_6 (fun H locs cells slots hX => ?_)
  refine lv_iconst (v := 1) hx hb dX0_untell_9 (by decide) ?_
  refine lv_isub hx hb dX0_untell_10 ?_
  obtain ⟨r_7, hc_6, hF⟩ := bd_ok hF
  refine iX_X0_155 hC hX hc_6 hl.1 (Nat.le_of_ble_eq_true rfl) (Nat.le_of_ble_eq_true rfl) (Nat.le_of_ble_eq_true rfl) dX0_untell_11 (fun H locs cells slots hX => ?_)
  refine lv_if_eq (tgt := 42) hx hb dX0_untell_14 (by decide) (fun c_8 => ?_) (fun c_8 => ?_)
  · replace hF := it_t hF c_8
    refine lv_iconst (v := 0) hx hb dX0_untell_42 (by decide) ?_
    exact x_reti hC hX hr rfl (rt1 hF) (rt2 hF) dX0_untell_43
  · replace hF := it_f hF c_8
    refine X_aload_n hx hb dX0_untell_17 rfl (lv_at hl 0 rfl) ?_
    obtain ⟨h_9, hF⟩ := gd_ok hF
    refine gX_X0_96 hC hX h_9 dX0_untell_18 ?_
    refine lv_topr (fun r_10 er_10 => ?_)
    replace hF := lt_at hF er_10
    refine lv_iload_n hx hb dX0_untell_21 rfl (lv_at hl 1 rfl) ?_
    obtain ⟨h_11, hF⟩ := gd_ok hF
    obtain ⟨r_13, hc_12, hF⟩ := bd_ok hF
    refine iX_X0_222 hC hX h_11 hc_12 hl.1 (Nat.le_of_ble_eq_true rfl) (Nat.le_of_ble_eq_true rfl) (Nat.le_of_ble_eq_true rfl) dX0_untell_22 (fun H locs cells slots hX => ?_)
    obtain ⟨h_14, hF⟩ := gd_ok hF
    refine X_cast hC hX h_14 q1745 dX0_untell_25 ?_
    refine X_aload_n hx hb dX0_untell_28 rfl (lv_at hl 0 rfl) ?_
    obtain ⟨h_15, hF⟩ := gd_ok hF
    refine gX_X0_329 hC hX h_15 dX0_untell_29 ?_
    obtain ⟨h_16, hF⟩ := gd_ok hF
    obtain ⟨r_19, h_18, hc_17, hF⟩ := bd2_ok hF
    refine iX_X0_335 hC hX h_16 hc_17 hl.1 (Nat.le_of_ble_eq_true rfl) (Nat.le_of_ble_eq_true rfl) (Nat.le_of_ble_eq_true rfl) dX0_untell_32 (fun H locs cells slots hX => ?_)
    refine lv_if_eq (tgt := 42) hx hb dX0_untell_35 (by decide) (fun c_20 => ?_) (fun c_20 => ?_)
    · replace hF := it_t hF c_20
      refine lv_iconst (v := 0) hx hb dX0_untell_42 (by decide) ?_
      exact x_reti hC hX hr rfl (rt1 hF) (rt2 hF) dX0_untell_43
    · replace hF := it_f hF c_20
      refine lv_iconst (v := 1) hx hb dX0_untell_38 (by decide) ?_
      refine lv_goto (tgt := 43) hx hb dX0_untell_39 (by decide) ?_
      exact x_reti hC hX hr rfl (rt1 hF) (rt2 hF) dX0_untell_43
theorem m_X0_untell (l : Launch) (D : XD) (a0 : Nat) (b0 : Int32) (h : TH) (x : (Int32 × TH)) (hF : F_X0_untell D.2.2.2 a0 b0 h = some x) : XMt l yX0_untell (ws_ yX0_untell cX0_untell 2 (some .boolean)) 3 64 D [rv a0, .int b0] h (.returned (some (.int x.1))) x.2 := by
  refine x_met (by decide +kernel) ?_ ?_
  · simp [lg_sl, rv_cat, cat_i, cat_l]
  intro p e s m below meth c hC hr hnh hin ls hl hX
  replace hl : lv_has ls 2 [(0, rv a0), (1, .int b0)] := by simpa [lv_args, rv_cat, cat_i, cat_l] using hl
  exact w_X0_untell hC hr hnh hin a0 b0 h hF s.heap [] 0 0 ls hX hl
theorem gX_X0_199 {p : Program} {l : Launch} {e : Env} {R : Room} {s : State} {m : MethodId} {args : Array Value} {below : List Frame} {meth : Method} {c : Code} {H : Heap} {locs : List Loc} {cells slots nL : Nat} {Q : State → Prop} {D : XD} {h0 h : TH} {cc : ByteArray} {pc : Nat} {ls : Array Slot} {rest : List Value} (hC : XCx D cc nL RX0 h0 p R s m args meth c) (hX : XSt D s h0 h H locs cells slots) {a : Nat} (hf : hasF (hT h a) 56 = true) (hdg : decode cc pc = .ok (.getfield 199, 3)) (kk : W p l e R s m args below meth c H locs cells slots Q (F0 m (pc + 3) ls (.int (hI h 56 a) :: rest))) : W p l e R s m args below meth c H locs cells slots Q (F0 m pc ls (rv a :: rest)) :=
  X_geti hC hX 56 hf rfl q282 (fun _ h => h) hdg kk
/-! BlindCards.wrong -/
def F_X0_wrong (K : Nat → Nat) (h : TH) (a0 : Nat) : Option Int32 :=
  gd (hasF (hT h a0) 8 = true) <|
  lt (hR h 8 a0) fun r_2 =>
  gd (hasF (hT h r_2) 57 = true) <|
  if (hI h 57 r_2) = 0 then
    gd (hasF (hT h a0) 8 = true) <|
    lt (hR h 8 a0) fun r_6 =>
    gd (hasF (hT h r_6) 56 = true) <|
    some (hI h 56 r_6)
  else
    some (-2 : Int32)
set_option maxHeartbeats 4000000 in
theorem w_X0_wrong {p : Program} {l : Launch} {e : Env} {s : State} {m : MethodId} {args : Array Value} {below : List Frame} {meth : Method} {c : Code} {D : XD} {h : TH} (hC : XCx D cX0_wrong 1 RX0 h p (xRm 0 0 h) s m args meth c) (hr : meth.sig.returnType = some .int) (hnh : c.exceptionTable.isEmpty = true) (hin : meth.name = "wrong") {x : Int32} :
    ∀ (a0 : Nat), F_X0_wrong D.2.2.2 h a0 = some x → XJ p l e (xRm 0 0 h) s m args below meth c D 1 (.returned (some (.int x))) h h 0 [(0, rv a0)] [] h := by
  have hx := hC.1
  have hb := hC.2.1
  intro a0 hF H locs cells slots ls hX hl
  rw [F_X0_wrong] at hF
  refine X_aload_n hx hb dX0_wrong_0 rfl (lv_at hl 0 rfl) ?_
  obtain ⟨h_1, hF⟩ := gd_ok hF
  refine gX_X0_57 hC hX h_1 dX0_wrong_1 ?_
  refine lv_topr (fun r_2 er_2 => ?_)
  replace hF := lt_at hF er_2
  obtain ⟨h_3, hF⟩ := gd_ok hF
  refine gX_X0_171 hC hX h_3 dX0_wrong_4 ?_
  refine lv_if_eq (tgt := 15) hx hb dX0_wrong_7 (by decide) (fun c_4 => ?_) (fun c_4 => ?_)
  · replace hF := it_t hF c_4
    refine X_aload_n hx hb dX0_wrong_15 rfl (lv_at hl 0 rfl) ?_
    obtain ⟨h_5, hF⟩ := gd_ok hF
    refine gX_X0_57 hC hX h_5 dX0_wrong_16 ?_
    refine lv_topr (fun r_6 er_6 => ?_)
    replace hF := lt_at hF er_6
    obtain ⟨h_7, hF⟩ := gd_ok hF
    refine gX_X0_199 hC hX h_7 dX0_wrong_19 ?_
    exact x_reti hC hX hr rfl (Option.some.inj hF) rfl dX0_wrong_22
  · replace hF := it_f hF c_4
    refine lv_bipush (v := -2) hx hb dX0_wrong_10 (by decide) ?_
    refine lv_goto (tgt := 22) hx hb dX0_wrong_12 (by decide) ?_
    exact x_reti hC hX hr rfl (Option.some.inj hF) rfl dX0_wrong_22
theorem m_X0_wrong (l : Launch) (D : XD) (a0 : Nat) (h : TH) (x : Int32) (hF : F_X0_wrong D.2.2.2 h a0 = some x) : XMt l yX0_wrong (ws_ yX0_wrong cX0_wrong 1 (some .int)) 0 0 D [rv a0] h (.returned (some (.int x))) h := by
  refine x_met (by decide +kernel) ?_ ?_
  · simp [lg_sl, rv_cat, cat_i, cat_l]
  intro p e s m below meth c hC hr hnh hin ls hl hX
  replace hl : lv_has ls 1 [(0, rv a0)] := by simpa [lv_args, rv_cat, cat_i, cat_l] using hl
  exact w_X0_wrong hC hr hnh hin a0 hF s.heap [] 0 0 ls hX hl
/-! BlindCards$Asked$1.of -/
def F_X25_of (K : Nat → Nat) (h : TH) (a0 : Nat) (b0 : Int32) : Option Int32 :=
  some (b0 &&& (1 : Int32))
set_option maxHeartbeats 4000000 in
theorem w_X25_of {p : Program} {l : Launch} {e : Env} {s : State} {m : MethodId} {args : Array Value} {below : List Frame} {meth : Method} {c : Code} {D : XD} {h : TH} (hC : XCx D cX25_of 2 RX25 h p (xRm 0 0 h) s m args meth c) (hr : meth.sig.returnType = some .int) (hnh : c.exceptionTable.isEmpty = true) (hin : meth.name = "of") {x : Int32} :
    ∀ (a0 : Nat) (b0 : Int32), F_X25_of D.2.2.2 h a0 b0 = some x → XJ p l e (xRm 0 0 h) s m args below meth c D 2 (.returned (some (.int x))) h h 0 [(0, rv a0), (1, .int b0)] [] h := by
  have hx := hC.1
  have hb := hC.2.1
  intro a0 b0 hF H locs cells slots ls hX hl
  rw [F_X25_of] at hF
  refine lv_iload_n hx hb dX25_of_0 rfl (lv_at hl 1 rfl) ?_
  refine lv_iconst (v := 1) hx hb dX25_of_1 (by decide) ?_
  refine lv_iand hx hb dX25_of_2 ?_
  exact x_reti hC hX hr rfl (Option.some.inj hF) rfl dX25_of_3
theorem m_X25_of (l : Launch) (D : XD) (a0 : Nat) (b0 : Int32) (h : TH) (x : Int32) (hF : F_X25_of D.2.2.2 h a0 b0 = some x) : XMt l yX25_of (ws_ yX25_of cX25_of 2 (some .int)) 0 0 D [rv a0, .int b0] h (.returned (some (.int x))) h := by
  refine x_met (by decide +kernel) ?_ ?_
  · simp [lg_sl, rv_cat, cat_i, cat_l]
  intro p e s m below meth c hC hr hnh hin ls hl hX
  replace hl : lv_has ls 2 [(0, rv a0), (1, .int b0)] := by simpa [lv_args, rv_cat, cat_i, cat_l] using hl
  exact w_X25_of hC hr hnh hin a0 b0 hF s.heap [] 0 0 ls hX hl
/-! BlindCards$Asked$2.of -/
def F_X26_of (K : Nat → Nat) (h : TH) (a0 : Nat) (b0 : Int32) : Option Int32 :=
  some ((b0 >>> ((1 : Int32) &&& 31)) &&& (1 : Int32))
set_option maxHeartbeats 4000000 in
theorem w_X26_of {p : Program} {l : Launch} {e : Env} {s : State} {m : MethodId} {args : Array Value} {below : List Frame} {meth : Method} {c : Code} {D : XD} {h : TH} (hC : XCx D cX26_of 2 RX26 h p (xRm 0 0 h) s m args meth c) (hr : meth.sig.returnType = some .int) (hnh : c.exceptionTable.isEmpty = true) (hin : meth.name = "of") {x : Int32} :
    ∀ (a0 : Nat) (b0 : Int32), F_X26_of D.2.2.2 h a0 b0 = some x → XJ p l e (xRm 0 0 h) s m args below meth c D 2 (.returned (some (.int x))) h h 0 [(0, rv a0), (1, .int b0)] [] h := by
  have hx := hC.1
  have hb := hC.2.1
  intro a0 b0 hF H locs cells slots ls hX hl
  rw [F_X26_of] at hF
  refine lv_iload_n hx hb dX26_of_0 rfl (lv_at hl 1 rfl) ?_
  refine lv_iconst (v := 1) hx hb dX26_of_1 (by decide) ?_
  refine lv_ishr hx hb dX26_of_2 ?_
  refine lv_iconst (v := 1) hx hb dX26_of_3 (by decide) ?_
  refine lv_iand hx hb dX26_of_4 ?_
  exact x_reti hC hX hr rfl (Option.some.inj hF) rfl dX26_of_5
theorem m_X26_of (l : Launch) (D : XD) (a0 : Nat) (b0 : Int32) (h : TH) (x : Int32) (hF : F_X26_of D.2.2.2 h a0 b0 = some x) : XMt l yX26_of (ws_ yX26_of cX26_of 2 (some .int)) 0 0 D [rv a0, .int b0] h (.returned (some (.int x))) h := by
  refine x_met (by decide +kernel) ?_ ?_
  · simp [lg_sl, rv_cat, cat_i, cat_l]
  intro p e s m below meth c hC hr hnh hin ls hl hX
  replace hl : lv_has ls 2 [(0, rv a0), (1, .int b0)] := by simpa [lv_args, rv_cat, cat_i, cat_l] using hl
  exact w_X26_of hC hr hnh hin a0 b0 hF s.heap [] 0 0 ls hX hl
/-! BlindCards$Asked$3.of -/
def F_X27_of (K : Nat → Nat) (h : TH) (a0 : Nat) (b0 : Int32) : Option Int32 :=
  some ((b0 >>> ((2 : Int32) &&& 31)) &&& (1 : Int32))
set_option maxHeartbeats 4000000 in
theorem w_X27_of {p : Program} {l : Launch} {e : Env} {s : State} {m : MethodId} {args : Array Value} {below : List Frame} {meth : Method} {c : Code} {D : XD} {h : TH} (hC : XCx D cX27_of 2 RX27 h p (xRm 0 0 h) s m args meth c) (hr : meth.sig.returnType = some .int) (hnh : c.exceptionTable.isEmpty = true) (hin : meth.name = "of") {x : Int32} :
    ∀ (a0 : Nat) (b0 : Int32), F_X27_of D.2.2.2 h a0 b0 = some x → XJ p l e (xRm 0 0 h) s m args below meth c D 2 (.returned (some (.int x))) h h 0 [(0, rv a0), (1, .int b0)] [] h := by
  have hx := hC.1
  have hb := hC.2.1
  intro a0 b0 hF H locs cells slots ls hX hl
  rw [F_X27_of] at hF
  refine lv_iload_n hx hb dX27_of_0 rfl (lv_at hl 1 rfl) ?_
  refine lv_iconst (v := 2) hx hb dX27_of_1 (by decide) ?_
  refine lv_ishr hx hb dX27_of_2 ?_
  refine lv_iconst (v := 1) hx hb dX27_of_3 (by decide) ?_
  refine lv_iand hx hb dX27_of_4 ?_
  exact x_reti hC hX hr rfl (Option.some.inj hF) rfl dX27_of_5
theorem m_X27_of (l : Launch) (D : XD) (a0 : Nat) (b0 : Int32) (h : TH) (x : Int32) (hF : F_X27_of D.2.2.2 h a0 b0 = some x) : XMt l yX27_of (ws_ yX27_of cX27_of 2 (some .int)) 0 0 D [rv a0, .int b0] h (.returned (some (.int x))) h := by
  refine x_met (by decide +kernel) ?_ ?_
  · simp [lg_sl, rv_cat, cat_i, cat_l]
  intro p e s m below meth c hC hr hnh hin ls hl hX
  replace hl : lv_has ls 2 [(0, rv a0), (1, .int b0)] := by simpa [lv_args, rv_cat, cat_i, cat_l] using hl
  exact w_X27_of hC hr hnh hin a0 b0 hF s.heap [] 0 0 ls hX hl
/-! java/lang/Integer.bitCount -/
def F_J8_bitCount (K : Nat → Nat) (h : TH) (b0 : Int32) : Option Int32 :=
  lt ((b0 - ((Int32.toUInt32 b0 >>> (Int32.toUInt32 (1 : Int32) &&& Int32.toUInt32 31)).toInt32 &&& (1431655765 : Int32)))) fun x_1 =>
  lt (((x_1 &&& (858993459 : Int32)) + ((Int32.toUInt32 x_1 >>> (Int32.toUInt32 (2 : Int32) &&& Int32.toUInt32 31)).toInt32 &&& (858993459 : Int32)))) fun x_2 =>
  lt (((x_2 + (Int32.toUInt32 x_2 >>> (Int32.toUInt32 (4 : Int32) &&& Int32.toUInt32 31)).toInt32) &&& (252645135 : Int32))) fun x_3 =>
  lt ((x_3 + (Int32.toUInt32 x_3 >>> (Int32.toUInt32 (8 : Int32) &&& Int32.toUInt32 31)).toInt32)) fun x_4 =>
  lt ((x_4 + (Int32.toUInt32 x_4 >>> (Int32.toUInt32 (16 : Int32) &&& Int32.toUInt32 31)).toInt32)) fun x_5 =>
  some (x_5 &&& (63 : Int32))
set_option maxHeartbeats 4000000 in
theorem w_J8_bitCount {p : Program} {l : Launch} {e : Env} {s : State} {m : MethodId} {args : Array Value} {below : List Frame} {meth : Method} {c : Code} {D : XD} {h : TH} (hC : XCx D cJ8_bitCount 1 RJ8 h p (xRm 0 0 h) s m args meth c) (hr : meth.sig.returnType = some .int) (hnh : c.exceptionTable.isEmpty = true) (hin : meth.name = "bitCount") {x : Int32} :
    ∀ (b0 : Int32), F_J8_bitCount D.2.2.2 h b0 = some x → XJ p l e (xRm 0 0 h) s m args below meth c D 1 (.returned (some (.int x))) h h 0 [(0, .int b0)] [] h := by
  have hx := hC.1
  have hb := hC.2.1
  intro b0 hF H locs cells slots ls hX hl
  rw [F_J8_bitCount] at hF
  refine lv_iload_n hx hb dJ8_bitCount_0 rfl (lv_at hl 0 rfl) ?_
  refine lv_iload_n hx hb dJ8_bitCount_1 rfl (lv_at hl 0 rfl) ?_
  refine lv_iconst (v := 1) hx hb dJ8_bitCount_2 (by decide) ?_
  refine lv_iushr hx hb dJ8_bitCount_3 rfl ?_
  refine lv_ldcw (v := 1431655765) hx hb hC.2.2.2.1 (hC.2.2.2.2.1 _ q689) dJ8_bitCount_4 ?_
  refine lv_iand hx hb dJ8_bitCount_7 ?_
  refine lv_isub hx hb dJ8_bitCount_8 ?_
  refine lv_topi (fun x_1 ex_1 => ?_)
  replace hF := lt_at hF ex_1
  refine lv_istore_n (lv' := [(0, .int x_1)]) hx hb dJ8_bitCount_9 rfl hl (by decide) rfl (fun ls hl => ?_)
  refine lv_iload_n hx hb dJ8_bitCount_10 rfl (lv_at hl 0 rfl) ?_
  refine lv_ldcw (v := 858993459) hx hb hC.2.2.2.1 (hC.2.2.2.2.1 _ q690) dJ8_bitCount_11 ?_
  refine lv_iand hx hb dJ8_bitCount_14 ?_
  refine lv_iload_n hx hb dJ8_bitCount_15 rfl (lv_at hl 0 rfl) ?_
  refine lv_iconst (v := 2) hx hb dJ8_bitCount_16 (by decide) ?_
  refine lv_iushr hx hb dJ8_bitCount_17 rfl ?_
  refine lv_ldcw (v := 858993459) hx hb hC.2.2.2.1 (hC.2.2.2.2.1 _ q690) dJ8_bitCount_18 ?_
  refine lv_iand hx hb dJ8_bitCount_21 ?_
  refine lv_iadd hx hb dJ8_bitCount_22 ?_
  refine lv_topi (fun x_2 ex_2 => ?_)
  replace hF := lt_at hF ex_2
  refine lv_istore_n (lv' := [(0, .int x_2)]) hx hb dJ8_bitCount_23 rfl hl (by decide) rfl (fun ls hl => ?_)
  refine lv_iload_n hx hb dJ8_bitCount_24 rfl (lv_at hl 0 rfl) ?_
  refine lv_iload_n hx hb dJ8_bitCount_25 rfl (lv_at hl 0 rfl) ?_
  refine lv_iconst (v := 4) hx hb dJ8_bitCount_26 (by decide) ?_
  refine lv_iushr hx hb dJ8_bitCount_27 rfl ?_
  refine lv_iadd hx hb dJ8_bitCount_28 ?_
  refine lv_ldcw (v := 252645135) hx hb hC.2.2.2.1 (hC.2.2.2.2.1 _ q691) dJ8_bitCount_29 ?_
  refine lv_iand hx hb dJ8_bitCount_32 ?_
  refine lv_topi (fun x_3 ex_3 => ?_)
  replace hF := lt_at hF ex_3
  refine lv_istore_n (lv' := [(0, .int x_3)]) hx hb dJ8_bitCount_33 rfl hl (by decide) rfl (fun ls hl => ?_)
  refine lv_iload_n hx hb dJ8_bitCount_34 rfl (lv_at hl 0 rfl) ?_
  refine lv_iload_n hx hb dJ8_bitCount_35 rfl (lv_at hl 0 rfl) ?_
  refine lv_bipush (v := 8) hx hb dJ8_bitCount_36 (by decide) ?_
  refine lv_iushr hx hb dJ8_bitCount_38 rfl ?_
  refine lv_iadd hx hb dJ8_bitCount_39 ?_
  refine lv_topi (fun x_4 ex_4 => ?_)
  replace hF := lt_at hF ex_4
  refine lv_istore_n (lv' := [(0, .int x_4)]) hx hb dJ8_bitCount_40 rfl hl (by decide) rfl (fun ls hl => ?_)
  refine lv_iload_n hx hb dJ8_bitCount_41 rfl (lv_at hl 0 rfl) ?_
  refine lv_iload_n hx hb dJ8_bitCount_42 rfl (lv_at hl 0 rfl) ?_
  refine lv_bipush (v := 16) hx hb dJ8_bitCount_43 (by decide) ?_
  refine lv_iushr hx hb dJ8_bitCount_45 rfl ?_
  refine lv_iadd hx hb dJ8_bitCount_46 ?_
  refine lv_topi (fun x_5 ex_5 => ?_)
  replace hF := lt_at hF ex_5
  refine lv_istore_n (lv' := [(0, .int x_5)]) hx hb dJ8_bitCount_47 rfl hl (by decide) rfl (fun ls hl => ?_)
  refine lv_iload_n hx hb dJ8_bitCount_48 rfl (lv_at hl 0 rfl) ?_
  refine lv_bipush (v := 63) hx hb dJ8_bitCount_49 (by decide) ?_
  refine lv_iand hx hb dJ8_bitCount_51 ?_
  exact x_reti hC hX hr rfl (Option.some.inj hF) rfl dJ8_bitCount_52
theorem m_J8_bitCount (l : Launch) (D : XD) (b0 : Int32) (h : TH) (x : Int32) (hF : F_J8_bitCount D.2.2.2 h b0 = some x) : XMt l yJ8_bitCount (ws_ yJ8_bitCount cJ8_bitCount 1 (some .int)) 0 0 D [.int b0] h (.returned (some (.int x))) h := by
  refine x_met (by decide +kernel) ?_ ?_
  · exact Nat.le_of_ble_eq_true rfl
  intro p e s m below meth c hC hr hnh hin ls hl hX
  replace hl : lv_has ls 1 [(0, .int b0)] := by simpa [lv_args, rv_cat, cat_i, cat_l] using hl
  exact w_J8_bitCount hC hr hnh hin b0 hF s.heap [] 0 0 ls hX hl
theorem iX_X28_7 {p : Program} {l : Launch} {e : Env} {R : Room} {s : State} {m : MethodId} {args : Array Value} {below : List Frame} {meth : Method} {c : Code} {H : Heap} {locs : List Loc} {cells slots nL : Nat} {Q : State → Prop} {D : XD} {h0 h : TH} {cc : ByteArray} {pc : Nat} {ls : Array Slot} {rest : List Value} (hC : XCx D cc nL RX28 h0 p R s m args meth c) (hX : XSt D s h0 h H locs cells slots) {b0 : Int32} {x : Int32} (hcF : F_J8_bitCount D.2.2.2 h b0 = some x) (hl : ls.size = nL) (hW : (rest.map fun v => v.category).sum ≤ 8) (hRf : 0 + 1 ≤ R.frames) (hRl : 20 ≤ R.locals) (hdg : decode cc pc = .ok (.invokestatic 7, 3)) (kk : ∀ (H1 : Heap) (locs1 : List Loc) (cells1 slots1 : Nat), XSt D s h0 h H1 locs1 cells1 slots1 → W p l e R s m args below meth c H1 locs1 cells1 slots1 Q (F0 m (pc + 3) ls (.int x :: rest))) : W p l e R s m args below meth c H locs cells slots Q (F0 m pc ls (.int b0 :: rest)) := by
  exact X_callS hC hX (As := [.int b0]) (m_J8_bitCount l D b0 h _ hcF) (va_cwS 1 hC.2.2.2.2.1 (lw_S q686 q687 q144 q688) rfl rfl rfl (by decide +kernel) ⟨Nat.le_trans (Nat.le_of_ble_eq_true rfl) hRf, Nat.le_trans (Nat.le_of_ble_eq_true rfl) hRl⟩) rfl rfl hl hW hdg kk
/-! BlindCards$Asked$4.of -/
def F_X28_of (K : Nat → Nat) (h : TH) (a0 : Nat) (b0 : Int32) : Option Int32 :=
  bd (F_J8_bitCount K h b0) fun r_2 =>
  some r_2
set_option maxHeartbeats 4000000 in
theorem w_X28_of {p : Program} {l : Launch} {e : Env} {s : State} {m : MethodId} {args : Array Value} {below : List Frame} {meth : Method} {c : Code} {D : XD} {h : TH} (hC : XCx D cX28_of 2 RX28 h p (xRm 1 20 h) s m args meth c) (hr : meth.sig.returnType = some .int) (hnh : c.exceptionTable.isEmpty = true) (hin : meth.name = "of") {x : Int32} :
    ∀ (a0 : Nat) (b0 : Int32), F_X28_of D.2.2.2 h a0 b0 = some x → XJ p l e (xRm 1 20 h) s m args below meth c D 2 (.returned (some (.int x))) h h 0 [(0, rv a0), (1, .int b0)] [] h := by
  have hx := hC.1
  have hb := hC.2.1
  intro a0 b0 hF H locs cells slots ls hX hl
  rw [F_X28_of] at hF
  refine lv_iload_n hx hb dX28_of_0 rfl (lv_at hl 1 rfl) ?_
  obtain ⟨r_2, hc_1, hF⟩ := bd_ok hF
  refine iX_X28_7 hC hX hc_1 hl.1 (Nat.le_of_ble_eq_true rfl) (Nat.le_of_ble_eq_true rfl) (Nat.le_of_ble_eq_true rfl) dX28_of_1 (fun H locs cells slots hX => ?_)
  exact x_reti hC hX hr rfl (Option.some.inj hF) rfl dX28_of_4
theorem m_X28_of (l : Launch) (D : XD) (a0 : Nat) (b0 : Int32) (h : TH) (x : Int32) (hF : F_X28_of D.2.2.2 h a0 b0 = some x) : XMt l yX28_of (ws_ yX28_of cX28_of 2 (some .int)) 1 20 D [rv a0, .int b0] h (.returned (some (.int x))) h := by
  refine x_met (by decide +kernel) ?_ ?_
  · simp [lg_sl, rv_cat, cat_i, cat_l]
  intro p e s m below meth c hC hr hnh hin ls hl hX
  replace hl : lv_has ls 2 [(0, rv a0), (1, .int b0)] := by simpa [lv_args, rv_cat, cat_i, cat_l] using hl
  exact w_X28_of hC hr hnh hin a0 b0 hF s.heap [] 0 0 ls hX hl
theorem gX_X14_7 {p : Program} {l : Launch} {e : Env} {R : Room} {s : State} {m : MethodId} {args : Array Value} {below : List Frame} {meth : Method} {c : Code} {H : Heap} {locs : List Loc} {cells slots nL : Nat} {Q : State → Prop} {D : XD} {h0 h : TH} {cc : ByteArray} {pc : Nat} {ls : Array Slot} {rest : List Value} (hC : XCx D cc nL RX14 h0 p R s m args meth c) (hX : XSt D s h0 h H locs cells slots) {a : Nat} (hf : hasF (hT h a) 92 = true) (hdg : decode cc pc = .ok (.getfield 7, 3)) (kk : W p l e R s m args below meth c H locs cells slots Q (F0 m (pc + 3) ls (.int (hI h 92 a) :: rest))) : W p l e R s m args below meth c H locs cells slots Q (F0 m pc ls (rv a :: rest)) :=
  X_geti hC hX 92 hf rfl q1238 (fun _ h => h) hdg kk
/-! BlindCards$Value.of -/
def F_X14_of (K : Nat → Nat) (h : TH) (a0 : Nat) (b0 : Int32) : Option Int32 :=
  gd (hasF (hT h a0) 92 = true) <|
  some (hI h 92 a0)
set_option maxHeartbeats 4000000 in
theorem w_X14_of {p : Program} {l : Launch} {e : Env} {s : State} {m : MethodId} {args : Array Value} {below : List Frame} {meth : Method} {c : Code} {D : XD} {h : TH} (hC : XCx D cX14_of 2 RX14 h p (xRm 0 0 h) s m args meth c) (hr : meth.sig.returnType = some .int) (hnh : c.exceptionTable.isEmpty = true) (hin : meth.name = "of") {x : Int32} :
    ∀ (a0 : Nat) (b0 : Int32), F_X14_of D.2.2.2 h a0 b0 = some x → XJ p l e (xRm 0 0 h) s m args below meth c D 2 (.returned (some (.int x))) h h 0 [(0, rv a0), (1, .int b0)] [] h := by
  have hx := hC.1
  have hb := hC.2.1
  intro a0 b0 hF H locs cells slots ls hX hl
  rw [F_X14_of] at hF
  refine X_aload_n hx hb dX14_of_0 rfl (lv_at hl 0 rfl) ?_
  obtain ⟨h_1, hF⟩ := gd_ok hF
  refine gX_X14_7 hC hX h_1 dX14_of_1 ?_
  exact x_reti hC hX hr rfl (Option.some.inj hF) rfl dX14_of_4
theorem m_X14_of (l : Launch) (D : XD) (a0 : Nat) (b0 : Int32) (h : TH) (x : Int32) (hF : F_X14_of D.2.2.2 h a0 b0 = some x) : XMt l yX14_of (ws_ yX14_of cX14_of 2 (some .int)) 0 0 D [rv a0, .int b0] h (.returned (some (.int x))) h := by
  refine x_met (by decide +kernel) ?_ ?_
  · simp [lg_sl, rv_cat, cat_i, cat_l]
  intro p e s m below meth c hC hr hnh hin ls hl hX
  replace hl : lv_has ls 2 [(0, rv a0), (1, .int b0)] := by simpa [lv_args, rv_cat, cat_i, cat_l] using hl
  exact w_X14_of hC hr hnh hin a0 b0 hF s.heap [] 0 0 ls hX hl
end
