set_option maxRecDepth 100000
noncomputable section
theorem pX_X2_3 {p : Program} {l : Launch} {e : Env} {R : Room} {s : State} {m : MethodId} {args : Array Value} {below : List Frame} {meth : Method} {c : Code} {H : Heap} {locs : List Loc} {cells slots nL : Nat} {Q : State → Prop} {D : XD} {h0 h : TH} {cc : ByteArray} {pc : Nat} {ls : Array Slot} {rest : List Value} (hC : XCx D cc nL RX2 h0 p R s m args meth c) (hX : XSt D s h0 h H locs cells slots) (hinit : meth.name = "<init>") {a : Nat} {v : Nat} (hf : hasF (hT h a) 49 = true) (hw : hT h a ≤ 24) (hsep : (49 = 58 ∨ 49 = 63 ∨ 49 = 66 → hR h 49 a = 0) ∧ (49 = 49 → ∀ g, g = 58 ∨ g = 63 ∨ g = 66 → hasF (hT h a) g = true → hR h g a = v)) (hdg : decode cc pc = .ok (.putfield 3, 3)) (kk : ∀ (H1 : Heap) (locs1 : List Loc), XSt D s h0 (uR h 49 a v) H1 locs1 cells slots → W p l e R s m args below meth c H1 locs1 cells slots Q (F0 m (pc + 3) ls rest)) : W p l e R s m args below meth c H locs cells slots Q (F0 m pc ls (rv v :: rv a :: rest)) :=
  X_putrF hC hX hinit 49 hf hw rfl rfl rfl q304 hsep hdg kk
theorem pX_X2_15 {p : Program} {l : Launch} {e : Env} {R : Room} {s : State} {m : MethodId} {args : Array Value} {below : List Frame} {meth : Method} {c : Code} {H : Heap} {locs : List Loc} {cells slots nL : Nat} {Q : State → Prop} {D : XD} {h0 h : TH} {cc : ByteArray} {pc : Nat} {ls : Array Slot} {rest : List Value} (hC : XCx D cc nL RX2 h0 p R s m args meth c) (hX : XSt D s h0 h H locs cells slots) {a : Nat} {v : Int32} (hf : hasF (hT h a) 43 = true) (hw : hT h a ≤ 24) (hdg : decode cc pc = .ok (.putfield 15, 3)) (kk : ∀ (H1 : Heap) (locs1 : List Loc), XSt D s h0 (uI h 43 a v) H1 locs1 cells slots → W p l e R s m args below meth c H1 locs1 cells slots Q (F0 m (pc + 3) ls rest)) : W p l e R s m args below meth c H locs cells slots Q (F0 m pc ls (.int v :: rv a :: rest)) :=
  X_puti hC hX 43 hf hw rfl rfl q286 (fun _ h => h) ⟨rfl, rfl⟩ hdg kk
theorem pX_X2_19 {p : Program} {l : Launch} {e : Env} {R : Room} {s : State} {m : MethodId} {args : Array Value} {below : List Frame} {meth : Method} {c : Code} {H : Heap} {locs : List Loc} {cells slots nL : Nat} {Q : State → Prop} {D : XD} {h0 h : TH} {cc : ByteArray} {pc : Nat} {ls : Array Slot} {rest : List Value} (hC : XCx D cc nL RX2 h0 p R s m args meth c) (hX : XSt D s h0 h H locs cells slots) {a : Nat} {v : Int32} (hf : hasF (hT h a) 44 = true) (hw : hT h a ≤ 24) (hdg : decode cc pc = .ok (.putfield 19, 3)) (kk : ∀ (H1 : Heap) (locs1 : List Loc), XSt D s h0 (uI h 44 a v) H1 locs1 cells slots → W p l e R s m args below meth c H1 locs1 cells slots Q (F0 m (pc + 3) ls rest)) : W p l e R s m args below meth c H locs cells slots Q (F0 m pc ls (.int v :: rv a :: rest)) :=
  X_puti hC hX 44 hf hw rfl rfl q289 (fun _ h => h) ⟨rfl, rfl⟩ hdg kk
theorem pX_X2_22 {p : Program} {l : Launch} {e : Env} {R : Room} {s : State} {m : MethodId} {args : Array Value} {below : List Frame} {meth : Method} {c : Code} {H : Heap} {locs : List Loc} {cells slots nL : Nat} {Q : State → Prop} {D : XD} {h0 h : TH} {cc : ByteArray} {pc : Nat} {ls : Array Slot} {rest : List Value} (hC : XCx D cc nL RX2 h0 p R s m args meth c) (hX : XSt D s h0 h H locs cells slots) {a : Nat} {v : Int32} (hf : hasF (hT h a) 45 = true) (hw : hT h a ≤ 24) (hdg : decode cc pc = .ok (.putfield 22, 3)) (kk : ∀ (H1 : Heap) (locs1 : List Loc), XSt D s h0 (uI h 45 a v) H1 locs1 cells slots → W p l e R s m args below meth c H1 locs1 cells slots Q (F0 m (pc + 3) ls rest)) : W p l e R s m args below meth c H locs cells slots Q (F0 m pc ls (.int v :: rv a :: rest)) :=
  X_puti hC hX 45 hf hw rfl rfl q292 (fun _ h => h) ⟨rfl, rfl⟩ hdg kk
theorem pX_X2_25 {p : Program} {l : Launch} {e : Env} {R : Room} {s : State} {m : MethodId} {args : Array Value} {below : List Frame} {meth : Method} {c : Code} {H : Heap} {locs : List Loc} {cells slots nL : Nat} {Q : State → Prop} {D : XD} {h0 h : TH} {cc : ByteArray} {pc : Nat} {ls : Array Slot} {rest : List Value} (hC : XCx D cc nL RX2 h0 p R s m args meth c) (hX : XSt D s h0 h H locs cells slots) (hinit : meth.name = "<init>") {a : Nat} {v : Nat} (hf : hasF (hT h a) 47 = true) (hw : hT h a ≤ 24) (hsep : (47 = 58 ∨ 47 = 63 ∨ 47 = 66 → hR h 49 a = 0) ∧ (47 = 49 → ∀ g, g = 58 ∨ g = 63 ∨ g = 66 → hasF (hT h a) g = true → hR h g a = v)) (hdg : decode cc pc = .ok (.putfield 25, 3)) (kk : ∀ (H1 : Heap) (locs1 : List Loc), XSt D s h0 (uR h 47 a v) H1 locs1 cells slots → W p l e R s m args below meth c H1 locs1 cells slots Q (F0 m (pc + 3) ls rest)) : W p l e R s m args below meth c H locs cells slots Q (F0 m pc ls (rv v :: rv a :: rest)) :=
  X_putrF hC hX hinit 47 hf hw rfl rfl rfl q298 hsep hdg kk
/-! BlindCards$Runs.<init> -/
def F_X2_init (K : Nat → Nat) (a0 : Nat) (b0 : Nat) (h : TH) : Option TH :=
  gd (hasF (hT h a0) 49 = true) <|
  gd (hT h a0 ≤ 24) <|
  gd (∀ q ∈ [58, 63, 66], hasF (hT h a0) q = true → hR h q a0 = b0) <|
  lt (uR h 49 a0 b0) fun h_4 =>
  gd (a0 ≠ 0) <|
  gd (hasF (hT h_4 a0) 43 = true) <|
  gd (hT h_4 a0 ≤ 24) <|
  lt (uI h_4 43 a0 (-1 : Int32)) fun h_8 =>
  gd (hasF (hT h_8 a0) 44 = true) <|
  gd (hT h_8 a0 ≤ 24) <|
  lt (uI h_8 44 a0 (-1 : Int32)) fun h_11 =>
  gd (hasF (hT h_11 a0) 45 = true) <|
  gd (hT h_11 a0 ≤ 24) <|
  lt (uI h_11 45 a0 (-1 : Int32)) fun h_14 =>
  gd (¬ (6 : Int32) < 0) <|
  gd (Int32.toNatClampNeg (6 : Int32) ≤ 67108864) <|
  gd (hc h_14 + 1 ≤ XC ∧ hs h_14 + Int32.toNatClampNeg (6 : Int32) ≤ XS) <|
  lt (hz h_14 + 1) fun r_18 =>
  lt (nA h_14 31 (Int32.toNatClampNeg (6 : Int32))) fun h_19 =>
  gd (hasF (hT h_19 a0) 47 = true) <|
  gd (hT h_19 a0 ≤ 24) <|
  lt (uR h_19 47 a0 r_18) fun h_22 =>
  some h_22
set_option maxHeartbeats 4000000 in
theorem w_X2_init {p : Program} {l : Launch} {e : Env} {s : State} {m : MethodId} {args : Array Value} {below : List Frame} {meth : Method} {c : Code} {D : XD} {h0 : TH} (hC : XCx D cX2_init 2 RX2 h0 p (xRm 1 30 h0) s m args meth c) (hr : meth.sig.returnType = none) (hnh : c.exceptionTable.isEmpty = true) (hin : meth.name = "<init>") {x : TH} :
    ∀ (a0 : Nat) (b0 : Nat) (h : TH), F_X2_init D.2.2.2 a0 b0 h = some x → XJ p l e (xRm 1 30 h0) s m args below meth c D 2 (.returned none) h0 x 0 [(0, rv a0), (1, rv b0)] [] h := by
  have hx := hC.1
  have hb := hC.2.1
  intro a0 b0 h hF H locs cells slots ls hX hl
  rw [F_X2_init] at hF
  refine X_aload_n hx hb dX2_init_0 rfl (lv_at hl 0 rfl) ?_
  refine X_aload_n hx hb dX2_init_1 rfl (lv_at hl 1 rfl) ?_
  obtain ⟨h_1, hF⟩ := gd_ok hF
  obtain ⟨h_2, hF⟩ := gd_ok hF
  obtain ⟨h_3, hF⟩ := gd_ok hF
  refine pX_X2_3 hC hX hin h_1 h_2 ⟨fun q => absurd q (by decide), fun _ q hq hq2 => h_3 q (by simpa using hq) hq2⟩ dX2_init_2 (fun H locs hX => ?_)
  obtain ⟨h_4, eh_4, hF⟩ := lt_ok hF
  rw [← eh_4] at hX
  refine X_aload_n hx hb dX2_init_5 rfl (lv_at hl 0 rfl) ?_
  obtain ⟨h_5, hF⟩ := gd_ok hF
  refine X_objInit hC h_5 q268 q175 q176 hl.1 (Nat.le_of_ble_eq_true rfl) (objlo (Nat.le_of_ble_eq_true rfl) (Nat.le_of_ble_eq_true rfl)) dX2_init_6 ?_
  refine X_aload_n hx hb dX2_init_9 rfl (lv_at hl 0 rfl) ?_
  refine lv_iconst (v := -1) hx hb dX2_init_10 (by decide) ?_
  obtain ⟨h_6, hF⟩ := gd_ok hF
  obtain ⟨h_7, hF⟩ := gd_ok hF
  refine pX_X2_15 hC hX h_6 h_7 dX2_init_11 (fun H locs hX => ?_)
  obtain ⟨h_8, eh_8, hF⟩ := lt_ok hF
  rw [← eh_8] at hX
  refine X_aload_n hx hb dX2_init_14 rfl (lv_at hl 0 rfl) ?_
  refine lv_iconst (v := -1) hx hb dX2_init_15 (by decide) ?_
  obtain ⟨h_9, hF⟩ := gd_ok hF
  obtain ⟨h_10, hF⟩ := gd_ok hF
  refine pX_X2_19 hC hX h_9 h_10 dX2_init_16 (fun H locs hX => ?_)
  obtain ⟨h_11, eh_11, hF⟩ := lt_ok hF
  rw [← eh_11] at hX
  refine X_aload_n hx hb dX2_init_19 rfl (lv_at hl 0 rfl) ?_
  refine lv_iconst (v := -1) hx hb dX2_init_20 (by decide) ?_
  obtain ⟨h_12, hF⟩ := gd_ok hF
  obtain ⟨h_13, hF⟩ := gd_ok hF
  refine pX_X2_22 hC hX h_12 h_13 dX2_init_21 (fun H locs hX => ?_)
  obtain ⟨h_14, eh_14, hF⟩ := lt_ok hF
  rw [← eh_14] at hX
  refine X_aload_n hx hb dX2_init_24 rfl (lv_at hl 0 rfl) ?_
  refine lv_bipush (v := 6) hx hb dX2_init_25 (by decide) ?_
  obtain ⟨h_15, hF⟩ := gd_ok hF
  obtain ⟨h_16, hF⟩ := gd_ok hF
  obtain ⟨h_17, hF⟩ := gd_ok hF
  refine X_newa hC hX (atype := .int) 31 (Or.inl rfl) rfl q216 h_15 h_16 h_17 dX2_init_27 (fun H cells slots hX => ?_)
  refine lv_topr (fun r_18 er_18 => ?_)
  replace hF := lt_at hF er_18
  obtain ⟨h_19, eh_19, hF⟩ := lt_ok hF
  rw [← eh_19] at hX
  obtain ⟨h_20, hF⟩ := gd_ok hF
  obtain ⟨h_21, hF⟩ := gd_ok hF
  refine pX_X2_25 hC hX hin h_20 h_21 ⟨fun q => absurd q (by decide), fun q => absurd q (by decide)⟩ dX2_init_29 (fun H locs hX => ?_)
  obtain ⟨h_22, eh_22, hF⟩ := lt_ok hF
  rw [← eh_22] at hX
  exact x_retv hC hX hr (Option.some.inj hF) dX2_init_32
theorem m_X2_init (l : Launch) (D : XD) (a0 : Nat) (b0 : Nat) (h : TH) (x : TH) (hF : F_X2_init D.2.2.2 a0 b0 h = some x) : XMt l yX2_init (ws_ yX2_init cX2_init 2 (none)) 1 30 D [rv a0, rv b0] h (.returned none) x := by
  refine x_met (by decide +kernel) ?_ ?_
  · simp [lg_sl, rv_cat, cat_i, cat_l]
  intro p e s m below meth c hC hr hnh hin ls hl hX
  replace hl : lv_has ls 2 [(0, rv a0), (1, rv b0)] := by simpa [lv_args, rv_cat, cat_i, cat_l] using hl
  exact w_X2_init hC hr hnh hin a0 b0 h hF s.heap [] 0 0 ls hX hl
theorem pX_X5_3 {p : Program} {l : Launch} {e : Env} {R : Room} {s : State} {m : MethodId} {args : Array Value} {below : List Frame} {meth : Method} {c : Code} {H : Heap} {locs : List Loc} {cells slots nL : Nat} {Q : State → Prop} {D : XD} {h0 h : TH} {cc : ByteArray} {pc : Nat} {ls : Array Slot} {rest : List Value} (hC : XCx D cc nL RX5 h0 p R s m args meth c) (hX : XSt D s h0 h H locs cells slots) (hinit : meth.name = "<init>") {a : Nat} {v : Nat} (hf : hasF (hT h a) 66 = true) (hw : hT h a ≤ 24) (hsep : (66 = 58 ∨ 66 = 63 ∨ 66 = 66 → hR h 49 a = 0) ∧ (66 = 49 → ∀ g, g = 58 ∨ g = 63 ∨ g = 66 → hasF (hT h a) g = true → hR h g a = v)) (hdg : decode cc pc = .ok (.putfield 3, 3)) (kk : ∀ (H1 : Heap) (locs1 : List Loc), XSt D s h0 (uR h 66 a v) H1 locs1 cells slots → W p l e R s m args below meth c H1 locs1 cells slots Q (F0 m (pc + 3) ls rest)) : W p l e R s m args below meth c H locs cells slots Q (F0 m pc ls (rv v :: rv a :: rest)) :=
  X_putrF hC hX hinit 66 hf hw rfl rfl rfl q375 hsep hdg kk
theorem iX_X5_9 {p : Program} {l : Launch} {e : Env} {R : Room} {s : State} {m : MethodId} {args : Array Value} {below : List Frame} {meth : Method} {c : Code} {H : Heap} {locs : List Loc} {cells slots nL : Nat} {Q : State → Prop} {D : XD} {h0 h : TH} {cc : ByteArray} {pc : Nat} {ls : Array Slot} {rest : List Value} (hC : XCx D cc nL RX5 h0 p R s m args meth c) (hX : XSt D s h0 h H locs cells slots) {a : Nat} {b0 : Nat} {x : TH} (ha : a ≠ 0) (hcF : F_X2_init D.2.2.2 a b0 h = some x) (hl : ls.size = nL) (hW : (rest.map fun v => v.category).sum ≤ 8) (hRf : 1 + 1 ≤ R.frames) (hRl : 51 ≤ R.locals) (hdg : decode cc pc = .ok (.invokespecial 9, 3)) (kk : ∀ (H1 : Heap) (locs1 : List Loc) (cells1 slots1 : Nat), XSt D s h0 x H1 locs1 cells1 slots1 → W p l e R s m args below meth c H1 locs1 cells1 slots1 Q (F0 m (pc + 3) ls (rest))) : W p l e R s m args below meth c H locs cells slots Q (F0 m pc ls (rv b0 :: rv a :: rest)) := by
  exact X_callIN hC hX ha (As := [rv b0]) (m_X2_init l D a b0 h _ hcF) ⟨va_cnB 1 hC.2.2.2.2.1 (lw_meth q267) rfl rfl rfl (xm6 hC.2.2.2.2.2.2.1) (hC.2.2.2.2.1 _ q130) (by decide +kernel) ⟨Nat.le_trans (Nat.le_of_ble_eq_true rfl) hRf, Nat.le_trans (Nat.le_of_ble_eq_true rfl) hRl⟩, rfl, hC.2.2.2.2.1 _ q266⟩ rfl rfl hl hW hdg kk
/-! BlindCards$Cheater.<init> -/
def F_X5_init (K : Nat → Nat) (a0 : Nat) (b0 : Nat) (h : TH) : Option TH :=
  gd (hasF (hT h a0) 66 = true) <|
  gd (hT h a0 ≤ 24) <|
  gd (hR h 49 a0 = 0) <|
  lt (uR h 66 a0 b0) fun h_4 =>
  gd (a0 ≠ 0) <|
  bd (F_X2_init K a0 b0 h_4) fun h_7 =>
  some h_7
set_option maxHeartbeats 4000000 in
theorem w_X5_init {p : Program} {l : Launch} {e : Env} {s : State} {m : MethodId} {args : Array Value} {below : List Frame} {meth : Method} {c : Code} {D : XD} {h0 : TH} (hC : XCx D cX5_init 2 RX5 h0 p (xRm 2 51 h0) s m args meth c) (hr : meth.sig.returnType = none) (hnh : c.exceptionTable.isEmpty = true) (hin : meth.name = "<init>") {x : TH} :
    ∀ (a0 : Nat) (b0 : Nat) (h : TH), F_X5_init D.2.2.2 a0 b0 h = some x → XJ p l e (xRm 2 51 h0) s m args below meth c D 2 (.returned none) h0 x 0 [(0, rv a0), (1, rv b0)] [] h := by
  have hx := hC.1
  have hb := hC.2.1
  intro a0 b0 h hF H locs cells slots ls hX hl
  rw [F_X5_init] at hF
  refine X_aload_n hx hb dX5_init_0 rfl (lv_at hl 0 rfl) ?_
  refine X_aload_n hx hb dX5_init_1 rfl (lv_at hl 1 rfl) ?_
  obtain ⟨h_1, hF⟩ := gd_ok hF
  obtain ⟨h_2, hF⟩ := gd_ok hF
  obtain ⟨h_3, hF⟩ := gd_ok hF
  refine pX_X5_3 hC hX hin h_1 h_2 ⟨fun _ => h_3, fun q => absurd q (by decide)⟩ dX5_init_2 (fun H locs hX => ?_)
  obtain ⟨h_4, eh_4, hF⟩ := lt_ok hF
  rw [← eh_4] at hX
  refine X_aload_n hx hb dX5_init_5 rfl (lv_at hl 0 rfl) ?_
  refine X_aload_n hx hb dX5_init_6 rfl (lv_at hl 1 rfl) ?_
  obtain ⟨h_5, hF⟩ := gd_ok hF
  obtain ⟨h_7, hc_6, hF⟩ := bd_ok hF
  refine iX_X5_9 hC hX h_5 hc_6 hl.1 (Nat.le_of_ble_eq_true rfl) (Nat.le_of_ble_eq_true rfl) (Nat.le_of_ble_eq_true rfl) dX5_init_7 (fun H locs cells slots hX => ?_)
  exact x_retv hC hX hr (Option.some.inj hF) dX5_init_10
theorem m_X5_init (l : Launch) (D : XD) (a0 : Nat) (b0 : Nat) (h : TH) (x : TH) (hF : F_X5_init D.2.2.2 a0 b0 h = some x) : XMt l yX5_init (ws_ yX5_init cX5_init 2 (none)) 2 51 D [rv a0, rv b0] h (.returned none) x := by
  refine x_met (by decide +kernel) ?_ ?_
  · simp [lg_sl, rv_cat, cat_i, cat_l]
  intro p e s m below meth c hC hr hnh hin ls hl hX
  replace hl : lv_has ls 2 [(0, rv a0), (1, rv b0)] := by simpa [lv_args, rv_cat, cat_i, cat_l] using hl
  exact w_X5_init hC hr hnh hin a0 b0 h hF s.heap [] 0 0 ls hX hl
theorem pX_X4_3 {p : Program} {l : Launch} {e : Env} {R : Room} {s : State} {m : MethodId} {args : Array Value} {below : List Frame} {meth : Method} {c : Code} {H : Heap} {locs : List Loc} {cells slots nL : Nat} {Q : State → Prop} {D : XD} {h0 h : TH} {cc : ByteArray} {pc : Nat} {ls : Array Slot} {rest : List Value} (hC : XCx D cc nL RX4 h0 p R s m args meth c) (hX : XSt D s h0 h H locs cells slots) (hinit : meth.name = "<init>") {a : Nat} {v : Nat} (hf : hasF (hT h a) 63 = true) (hw : hT h a ≤ 24) (hsep : (63 = 58 ∨ 63 = 63 ∨ 63 = 66 → hR h 49 a = 0) ∧ (63 = 49 → ∀ g, g = 58 ∨ g = 63 ∨ g = 66 → hasF (hT h a) g = true → hR h g a = v)) (hdg : decode cc pc = .ok (.putfield 3, 3)) (kk : ∀ (H1 : Heap) (locs1 : List Loc), XSt D s h0 (uR h 63 a v) H1 locs1 cells slots → W p l e R s m args below meth c H1 locs1 cells slots Q (F0 m (pc + 3) ls rest)) : W p l e R s m args below meth c H locs cells slots Q (F0 m pc ls (rv v :: rv a :: rest)) :=
  X_putrF hC hX hinit 63 hf hw rfl rfl rfl q348 hsep hdg kk
theorem iX_X4_9 {p : Program} {l : Launch} {e : Env} {R : Room} {s : State} {m : MethodId} {args : Array Value} {below : List Frame} {meth : Method} {c : Code} {H : Heap} {locs : List Loc} {cells slots nL : Nat} {Q : State → Prop} {D : XD} {h0 h : TH} {cc : ByteArray} {pc : Nat} {ls : Array Slot} {rest : List Value} (hC : XCx D cc nL RX4 h0 p R s m args meth c) (hX : XSt D s h0 h H locs cells slots) {a : Nat} {b0 : Nat} {x : TH} (ha : a ≠ 0) (hcF : F_X2_init D.2.2.2 a b0 h = some x) (hl : ls.size = nL) (hW : (rest.map fun v => v.category).sum ≤ 8) (hRf : 1 + 1 ≤ R.frames) (hRl : 51 ≤ R.locals) (hdg : decode cc pc = .ok (.invokespecial 9, 3)) (kk : ∀ (H1 : Heap) (locs1 : List Loc) (cells1 slots1 : Nat), XSt D s h0 x H1 locs1 cells1 slots1 → W p l e R s m args below meth c H1 locs1 cells1 slots1 Q (F0 m (pc + 3) ls (rest))) : W p l e R s m args below meth c H locs cells slots Q (F0 m pc ls (rv b0 :: rv a :: rest)) := by
  exact X_callIN hC hX ha (As := [rv b0]) (m_X2_init l D a b0 h _ hcF) ⟨va_cnB 1 hC.2.2.2.2.1 (lw_meth q267) rfl rfl rfl (xm4 hC.2.2.2.2.2.2.1) (hC.2.2.2.2.1 _ q130) (by decide +kernel) ⟨Nat.le_trans (Nat.le_of_ble_eq_true rfl) hRf, Nat.le_trans (Nat.le_of_ble_eq_true rfl) hRl⟩, rfl, hC.2.2.2.2.1 _ q266⟩ rfl rfl hl hW hdg kk
/-! BlindCards$Closer.<init> -/
def F_X4_init (K : Nat → Nat) (a0 : Nat) (b0 : Nat) (h : TH) : Option TH :=
  gd (hasF (hT h a0) 63 = true) <|
  gd (hT h a0 ≤ 24) <|
  gd (hR h 49 a0 = 0) <|
  lt (uR h 63 a0 b0) fun h_4 =>
  gd (a0 ≠ 0) <|
  bd (F_X2_init K a0 b0 h_4) fun h_7 =>
  some h_7
set_option maxHeartbeats 4000000 in
theorem w_X4_init {p : Program} {l : Launch} {e : Env} {s : State} {m : MethodId} {args : Array Value} {below : List Frame} {meth : Method} {c : Code} {D : XD} {h0 : TH} (hC : XCx D cX4_init 2 RX4 h0 p (xRm 2 51 h0) s m args meth c) (hr : meth.sig.returnType = none) (hnh : c.exceptionTable.isEmpty = true) (hin : meth.name = "<init>") {x : TH} :
    ∀ (a0 : Nat) (b0 : Nat) (h : TH), F_X4_init D.2.2.2 a0 b0 h = some x → XJ p l e (xRm 2 51 h0) s m args below meth c D 2 (.returned none) h0 x 0 [(0, rv a0), (1, rv b0)] [] h := by
  have hx := hC.1
  have hb := hC.2.1
  intro a0 b0 h hF H locs cells slots ls hX hl
  rw [F_X4_init] at hF
  refine X_aload_n hx hb dX4_init_0 rfl (lv_at hl 0 rfl) ?_
  refine X_aload_n hx hb dX4_init_1 rfl (lv_at hl 1 rfl) ?_
  obtain ⟨h_1, hF⟩ := gd_ok hF
  obtain ⟨h_2, hF⟩ := gd_ok hF
  obtain ⟨h_3, hF⟩ := gd_ok hF
  refine pX_X4_3 hC hX hin h_1 h_2 ⟨fun _ => h_3, fun q => absurd q (by decide)⟩ dX4_init_2 (fun H locs hX => ?_)
  obtain ⟨h_4, eh_4, hF⟩ := lt_ok hF
  rw [← eh_4] at hX
  refine X_aload_n hx hb dX4_init_5 rfl (lv_at hl 0 rfl) ?_
  refine X_aload_n hx hb dX4_init_6 rfl (lv_at hl 1 rfl) ?_
  obtain ⟨h_5, hF⟩ := gd_ok hF
  obtain ⟨h_7, hc_6, hF⟩ := bd_ok hF
  refine iX_X4_9 hC hX h_5 hc_6 hl.1 (Nat.le_of_ble_eq_true rfl) (Nat.le_of_ble_eq_true rfl) (Nat.le_of_ble_eq_true rfl) dX4_init_7 (fun H locs cells slots hX => ?_)
  exact x_retv hC hX hr (Option.some.inj hF) dX4_init_10
theorem m_X4_init (l : Launch) (D : XD) (a0 : Nat) (b0 : Nat) (h : TH) (x : TH) (hF : F_X4_init D.2.2.2 a0 b0 h = some x) : XMt l yX4_init (ws_ yX4_init cX4_init 2 (none)) 2 51 D [rv a0, rv b0] h (.returned none) x := by
  refine x_met (by decide +kernel) ?_ ?_
  · simp [lg_sl, rv_cat, cat_i, cat_l]
  intro p e s m below meth c hC hr hnh hin ls hl hX
  replace hl : lv_has ls 2 [(0, rv a0), (1, rv b0)] := by simpa [lv_args, rv_cat, cat_i, cat_l] using hl
  exact w_X4_init hC hr hnh hin a0 b0 h hF s.heap [] 0 0 ls hX hl
theorem pX_X3_3 {p : Program} {l : Launch} {e : Env} {R : Room} {s : State} {m : MethodId} {args : Array Value} {below : List Frame} {meth : Method} {c : Code} {H : Heap} {locs : List Loc} {cells slots nL : Nat} {Q : State → Prop} {D : XD} {h0 h : TH} {cc : ByteArray} {pc : Nat} {ls : Array Slot} {rest : List Value} (hC : XCx D cc nL RX3 h0 p R s m args meth c) (hX : XSt D s h0 h H locs cells slots) (hinit : meth.name = "<init>") {a : Nat} {v : Nat} (hf : hasF (hT h a) 58 = true) (hw : hT h a ≤ 24) (hsep : (58 = 58 ∨ 58 = 63 ∨ 58 = 66 → hR h 49 a = 0) ∧ (58 = 49 → ∀ g, g = 58 ∨ g = 63 ∨ g = 66 → hasF (hT h a) g = true → hR h g a = v)) (hdg : decode cc pc = .ok (.putfield 3, 3)) (kk : ∀ (H1 : Heap) (locs1 : List Loc), XSt D s h0 (uR h 58 a v) H1 locs1 cells slots → W p l e R s m args below meth c H1 locs1 cells slots Q (F0 m (pc + 3) ls rest)) : W p l e R s m args below meth c H locs cells slots Q (F0 m pc ls (rv v :: rv a :: rest)) :=
  X_putrF hC hX hinit 58 hf hw rfl rfl rfl q285 hsep hdg kk
theorem iX_X3_9 {p : Program} {l : Launch} {e : Env} {R : Room} {s : State} {m : MethodId} {args : Array Value} {below : List Frame} {meth : Method} {c : Code} {H : Heap} {locs : List Loc} {cells slots nL : Nat} {Q : State → Prop} {D : XD} {h0 h : TH} {cc : ByteArray} {pc : Nat} {ls : Array Slot} {rest : List Value} (hC : XCx D cc nL RX3 h0 p R s m args meth c) (hX : XSt D s h0 h H locs cells slots) {a : Nat} {b0 : Nat} {x : TH} (ha : a ≠ 0) (hcF : F_X2_init D.2.2.2 a b0 h = some x) (hl : ls.size = nL) (hW : (rest.map fun v => v.category).sum ≤ 8) (hRf : 1 + 1 ≤ R.frames) (hRl : 51 ≤ R.locals) (hdg : decode cc pc = .ok (.invokespecial 9, 3)) (kk : ∀ (H1 : Heap) (locs1 : List Loc) (cells1 slots1 : Nat), XSt D s h0 x H1 locs1 cells1 slots1 → W p l e R s m args below meth c H1 locs1 cells1 slots1 Q (F0 m (pc + 3) ls (rest))) : W p l e R s m args below meth c H locs cells slots Q (F0 m pc ls (rv b0 :: rv a :: rest)) := by
  exact X_callIN hC hX ha (As := [rv b0]) (m_X2_init l D a b0 h _ hcF) ⟨va_cnB 1 hC.2.2.2.2.1 (lw_meth q267) rfl rfl rfl (xm2 hC.2.2.2.2.2.2.1) (hC.2.2.2.2.1 _ q130) (by decide +kernel) ⟨Nat.le_trans (Nat.le_of_ble_eq_true rfl) hRf, Nat.le_trans (Nat.le_of_ble_eq_true rfl) hRl⟩, rfl, hC.2.2.2.2.1 _ q266⟩ rfl rfl hl hW hdg kk
theorem pX_X3_15 {p : Program} {l : Launch} {e : Env} {R : Room} {s : State} {m : MethodId} {args : Array Value} {below : List Frame} {meth : Method} {c : Code} {H : Heap} {locs : List Loc} {cells slots nL : Nat} {Q : State → Prop} {D : XD} {h0 h : TH} {cc : ByteArray} {pc : Nat} {ls : Array Slot} {rest : List Value} (hC : XCx D cc nL RX3 h0 p R s m args meth c) (hX : XSt D s h0 h H locs cells slots) (hinit : meth.name = "<init>") {a : Nat} {v : Nat} (hf : hasF (hT h a) 50 = true) (hw : hT h a ≤ 24) (hsep : (50 = 58 ∨ 50 = 63 ∨ 50 = 66 → hR h 49 a = 0) ∧ (50 = 49 → ∀ g, g = 58 ∨ g = 63 ∨ g = 66 → hasF (hT h a) g = true → hR h g a = v)) (hdg : decode cc pc = .ok (.putfield 15, 3)) (kk : ∀ (H1 : Heap) (locs1 : List Loc), XSt D s h0 (uR h 50 a v) H1 locs1 cells slots → W p l e R s m args below meth c H1 locs1 cells slots Q (F0 m (pc + 3) ls rest)) : W p l e R s m args below meth c H locs cells slots Q (F0 m pc ls (rv v :: rv a :: rest)) :=
  X_putrF hC hX hinit 50 hf hw rfl rfl rfl q269 hsep hdg kk
theorem pX_X3_19 {p : Program} {l : Launch} {e : Env} {R : Room} {s : State} {m : MethodId} {args : Array Value} {below : List Frame} {meth : Method} {c : Code} {H : Heap} {locs : List Loc} {cells slots nL : Nat} {Q : State → Prop} {D : XD} {h0 h : TH} {cc : ByteArray} {pc : Nat} {ls : Array Slot} {rest : List Value} (hC : XCx D cc nL RX3 h0 p R s m args meth c) (hX : XSt D s h0 h H locs cells slots) (hinit : meth.name = "<init>") {a : Nat} {v : Nat} (hf : hasF (hT h a) 51 = true) (hw : hT h a ≤ 24) (hsep : (51 = 58 ∨ 51 = 63 ∨ 51 = 66 → hR h 49 a = 0) ∧ (51 = 49 → ∀ g, g = 58 ∨ g = 63 ∨ g = 66 → hasF (hT h a) g = true → hR h g a = v)) (hdg : decode cc pc = .ok (.putfield 19, 3)) (kk : ∀ (H1 : Heap) (locs1 : List Loc), XSt D s h0 (uR h 51 a v) H1 locs1 cells slots → W p l e R s m args below meth c H1 locs1 cells slots Q (F0 m (pc + 3) ls rest)) : W p l e R s m args below meth c H locs cells slots Q (F0 m pc ls (rv v :: rv a :: rest)) :=
  X_putrF hC hX hinit 51 hf hw rfl rfl rfl q271 hsep hdg kk
theorem pX_X3_22 {p : Program} {l : Launch} {e : Env} {R : Room} {s : State} {m : MethodId} {args : Array Value} {below : List Frame} {meth : Method} {c : Code} {H : Heap} {locs : List Loc} {cells slots nL : Nat} {Q : State → Prop} {D : XD} {h0 h : TH} {cc : ByteArray} {pc : Nat} {ls : Array Slot} {rest : List Value} (hC : XCx D cc nL RX3 h0 p R s m args meth c) (hX : XSt D s h0 h H locs cells slots) (hinit : meth.name = "<init>") {a : Nat} {v : Nat} (hf : hasF (hT h a) 52 = true) (hw : hT h a ≤ 24) (hsep : (52 = 58 ∨ 52 = 63 ∨ 52 = 66 → hR h 49 a = 0) ∧ (52 = 49 → ∀ g, g = 58 ∨ g = 63 ∨ g = 66 → hasF (hT h a) g = true → hR h g a = v)) (hdg : decode cc pc = .ok (.putfield 22, 3)) (kk : ∀ (H1 : Heap) (locs1 : List Loc), XSt D s h0 (uR h 52 a v) H1 locs1 cells slots → W p l e R s m args below meth c H1 locs1 cells slots Q (F0 m (pc + 3) ls rest)) : W p l e R s m args below meth c H locs cells slots Q (F0 m pc ls (rv v :: rv a :: rest)) :=
  X_putrF hC hX hinit 52 hf hw rfl rfl rfl q273 hsep hdg kk
theorem pX_X3_25 {p : Program} {l : Launch} {e : Env} {R : Room} {s : State} {m : MethodId} {args : Array Value} {below : List Frame} {meth : Method} {c : Code} {H : Heap} {locs : List Loc} {cells slots nL : Nat} {Q : State → Prop} {D : XD} {h0 h : TH} {cc : ByteArray} {pc : Nat} {ls : Array Slot} {rest : List Value} (hC : XCx D cc nL RX3 h0 p R s m args meth c) (hX : XSt D s h0 h H locs cells slots) (hinit : meth.name = "<init>") {a : Nat} {v : Nat} (hf : hasF (hT h a) 53 = true) (hw : hT h a ≤ 24) (hsep : (53 = 58 ∨ 53 = 63 ∨ 53 = 66 → hR h 49 a = 0) ∧ (53 = 49 → ∀ g, g = 58 ∨ g = 63 ∨ g = 66 → hasF (hT h a) g = true → hR h g a = v)) (hdg : decode cc pc = .ok (.putfield 25, 3)) (kk : ∀ (H1 : Heap) (locs1 : List Loc), XSt D s h0 (uR h 53 a v) H1 locs1 cells slots → W p l e R s m args below meth c H1 locs1 cells slots Q (F0 m (pc + 3) ls rest)) : W p l e R s m args below meth c H locs cells slots Q (F0 m pc ls (rv v :: rv a :: rest)) :=
  X_putrF hC hX hinit 53 hf hw rfl rfl rfl q275 hsep hdg kk
theorem pX_X3_29 {p : Program} {l : Launch} {e : Env} {R : Room} {s : State} {m : MethodId} {args : Array Value} {below : List Frame} {meth : Method} {c : Code} {H : Heap} {locs : List Loc} {cells slots nL : Nat} {Q : State → Prop} {D : XD} {h0 h : TH} {cc : ByteArray} {pc : Nat} {ls : Array Slot} {rest : List Value} (hC : XCx D cc nL RX3 h0 p R s m args meth c) (hX : XSt D s h0 h H locs cells slots) (hinit : meth.name = "<init>") {a : Nat} {v : Nat} (hf : hasF (hT h a) 54 = true) (hw : hT h a ≤ 24) (hsep : (54 = 58 ∨ 54 = 63 ∨ 54 = 66 → hR h 49 a = 0) ∧ (54 = 49 → ∀ g, g = 58 ∨ g = 63 ∨ g = 66 → hasF (hT h a) g = true → hR h g a = v)) (hdg : decode cc pc = .ok (.putfield 29, 3)) (kk : ∀ (H1 : Heap) (locs1 : List Loc), XSt D s h0 (uR h 54 a v) H1 locs1 cells slots → W p l e R s m args below meth c H1 locs1 cells slots Q (F0 m (pc + 3) ls rest)) : W p l e R s m args below meth c H locs cells slots Q (F0 m pc ls (rv v :: rv a :: rest)) :=
  X_putrF hC hX hinit 54 hf hw rfl rfl rfl q277 hsep hdg kk
/-! BlindCards$Keeper.<init> -/
def F_X3_init (K : Nat → Nat) (a0 : Nat) (b0 : Nat) (h : TH) : Option TH :=
  gd (hasF (hT h a0) 58 = true) <|
  gd (hT h a0 ≤ 24) <|
  gd (hR h 49 a0 = 0) <|
  lt (uR h 58 a0 b0) fun h_4 =>
  gd (a0 ≠ 0) <|
  bd (F_X2_init K a0 b0 h_4) fun h_7 =>
  gd (¬ (1200 : Int32) < 0) <|
  gd (Int32.toNatClampNeg (1200 : Int32) ≤ 67108864) <|
  gd (hc h_7 + 1 ≤ XC ∧ hs h_7 + Int32.toNatClampNeg (1200 : Int32) ≤ XS) <|
  lt (hz h_7 + 1) fun r_11 =>
  lt (nA h_7 31 (Int32.toNatClampNeg (1200 : Int32))) fun h_12 =>
  gd (hasF (hT h_12 a0) 50 = true) <|
  gd (hT h_12 a0 ≤ 24) <|
  lt (uR h_12 50 a0 r_11) fun h_15 =>
  gd (¬ (200 : Int32) < 0) <|
  gd (Int32.toNatClampNeg (200 : Int32) ≤ 67108864) <|
  gd (hc h_15 + 1 ≤ XC ∧ hs h_15 + Int32.toNatClampNeg (200 : Int32) ≤ XS) <|
  lt (hz h_15 + 1) fun r_19 =>
  lt (nA h_15 31 (Int32.toNatClampNeg (200 : Int32))) fun h_20 =>
  gd (hasF (hT h_20 a0) 51 = true) <|
  gd (hT h_20 a0 ≤ 24) <|
  lt (uR h_20 51 a0 r_19) fun h_23 =>
  gd (¬ (1600 : Int32) < 0) <|
  gd (Int32.toNatClampNeg (1600 : Int32) ≤ 67108864) <|
  gd (hc h_23 + 1 ≤ XC ∧ hs h_23 + Int32.toNatClampNeg (1600 : Int32) ≤ XS) <|
  lt (hz h_23 + 1) fun r_27 =>
  lt (nA h_23 31 (Int32.toNatClampNeg (1600 : Int32))) fun h_28 =>
  gd (hasF (hT h_28 a0) 52 = true) <|
  gd (hT h_28 a0 ≤ 24) <|
  lt (uR h_28 52 a0 r_27) fun h_31 =>
  gd (¬ (1600 : Int32) < 0) <|
  gd (Int32.toNatClampNeg (1600 : Int32) ≤ 67108864) <|
  gd (hc h_31 + 1 ≤ XC ∧ hs h_31 + Int32.toNatClampNeg (1600 : Int32) ≤ XS) <|
  lt (hz h_31 + 1) fun r_35 =>
  lt (nA h_31 34 (Int32.toNatClampNeg (1600 : Int32))) fun h_36 =>
  gd (hasF (hT h_36 a0) 53 = true) <|
  gd (hT h_36 a0 ≤ 24) <|
  lt (uR h_36 53 a0 r_35) fun h_39 =>
  gd (¬ (200 : Int32) < 0) <|
  gd (Int32.toNatClampNeg (200 : Int32) ≤ 67108864) <|
  gd (hc h_39 + 1 ≤ XC ∧ hs h_39 + Int32.toNatClampNeg (200 : Int32) ≤ XS) <|
  lt (hz h_39 + 1) fun r_43 =>
  lt (nA h_39 34 (Int32.toNatClampNeg (200 : Int32))) fun h_44 =>
  gd (hasF (hT h_44 a0) 54 = true) <|
  gd (hT h_44 a0 ≤ 24) <|
  lt (uR h_44 54 a0 r_43) fun h_47 =>
  some h_47
set_option maxHeartbeats 4000000 in
theorem w_X3_init {p : Program} {l : Launch} {e : Env} {s : State} {m : MethodId} {args : Array Value} {below : List Frame} {meth : Method} {c : Code} {D : XD} {h0 : TH} (hC : XCx D cX3_init 2 RX3 h0 p (xRm 2 51 h0) s m args meth c) (hr : meth.sig.returnType = none) (hnh : c.exceptionTable.isEmpty = true) (hin : meth.name = "<init>") {x : TH} :
    ∀ (a0 : Nat) (b0 : Nat) (h : TH), F_X3_init D.2.2.2 a0 b0 h = some x → XJ p l e (xRm 2 51 h0) s m args below meth c D 2 (.returned none) h0 x 0 [(0, rv a0), (1, rv b0)] [] h := by
  have hx := hC.1
  have hb := hC.2.1
  intro a0 b0 h hF H locs cells slots ls hX hl
  rw [F_X3_init] at hF
  refine X_aload_n hx hb dX3_init_0 rfl (lv_at hl 0 rfl) ?_
  refine X_aload_n hx hb dX3_init_1 rfl (lv_at hl 1 rfl) ?_
  obtain ⟨h_1, hF⟩ := gd_ok hF
  obtain ⟨h_2, hF⟩ := gd_ok hF
  obtain ⟨h_3, hF⟩ := gd_ok hF
  refine pX_X3_3 hC hX hin h_1 h_2 ⟨fun _ => h_3, fun q => absurd q (by decide)⟩ dX3_init_2 (fun H locs hX => ?_)
  obtain ⟨h_4, eh_4, hF⟩ := lt_ok hF
  rw [← eh_4] at hX
  refine X_aload_n hx hb dX3_init_5 rfl (lv_at hl 0 rfl) ?_
  refine X_aload_n hx hb dX3_init_6 rfl (lv_at hl 1 rfl) ?_
  obtain ⟨h_5, hF⟩ := gd_ok hF
  obtain ⟨h_7, hc_6, hF⟩ := bd_ok hF
  refine iX_X3_9 hC hX h_5 hc_6 hl.1 (Nat.le_of_ble_eq_true rfl) (Nat.le_of_ble_eq_true rfl) (Nat.le_of_ble_eq_true rfl) dX3_init_7 (fun H locs cells slots hX => ?_)
  refine X_aload_n hx hb dX3_init_10 rfl (lv_at hl 0 rfl) ?_
  refine lv_sipush (v := 1200) hx hb dX3_init_11 (by decide) ?_
  obtain ⟨h_8, hF⟩ := gd_ok hF
  obtain ⟨h_9, hF⟩ := gd_ok hF
  obtain ⟨h_10, hF⟩ := gd_ok hF
  refine X_newa hC hX (atype := .int) 31 (Or.inl rfl) rfl q216 h_8 h_9 h_10 dX3_init_14 (fun H cells slots hX => ?_)
  refine lv_topr (fun r_11 er_11 => ?_)
  replace hF := lt_at hF er_11
  obtain ⟨h_12, eh_12, hF⟩ := lt_ok hF
  rw [← eh_12] at hX
  obtain ⟨h_13, hF⟩ := gd_ok hF
  obtain ⟨h_14, hF⟩ := gd_ok hF
  refine pX_X3_15 hC hX hin h_13 h_14 ⟨fun q => absurd q (by decide), fun q => absurd q (by decide)⟩ dX3_init_16 (fun H locs hX => ?_)
  obtain ⟨h_15, eh_15, hF⟩ := lt_ok hF
  rw [← eh_15] at hX
  refine X_aload_n hx hb dX3_init_19 rfl (lv_at hl 0 rfl) ?_
  refine lv_sipush (v := 200) hx hb dX3_init_20 (by decide) ?_
  obtain ⟨h_16, hF⟩ := gd_ok hF
  obtain ⟨h_17, hF⟩ := gd_ok hF
  obtain ⟨h_18, hF⟩ := gd_ok hF
  refine X_newa hC hX (atype := .int) 31 (Or.inl rfl) rfl q216 h_16 h_17 h_18 dX3_init_23 (fun H cells slots hX => ?_)
  refine lv_topr (fun r_19 er_19 => ?_)
  replace hF := lt_at hF er_19
  obtain ⟨h_20, eh_20, hF⟩ := lt_ok hF
  rw [← eh_20] at hX
  obtain ⟨h_21, hF⟩ := gd_ok hF
  obtain ⟨h_22, hF⟩ := gd_ok hF
  refine pX_X3_19 hC hX hin h_21 h_22 ⟨fun q => absurd q (by decide), fun q => absurd q (by decide)⟩ dX3_init_25 (fun H locs hX => ?_)
  obtain ⟨h_23, eh_23, hF⟩ := lt_ok hF
  rw [← eh_23] at hX
  refine X_aload_n hx hb dX3_init_28 rfl (lv_at hl 0 rfl) ?_
  refine lv_sipush (v := 1600) hx hb dX3_init_29 (by decide) ?_
  obtain ⟨h_24, hF⟩ := gd_ok hF
  obtain ⟨h_25, hF⟩ := gd_ok hF
  obtain ⟨h_26, hF⟩ := gd_ok hF
  refine X_newa hC hX (atype := .int) 31 (Or.inl rfl) rfl q216 h_24 h_25 h_26 dX3_init_32 (fun H cells slots hX => ?_)
  refine lv_topr (fun r_27 er_27 => ?_)
  replace hF := lt_at hF er_27
  obtain ⟨h_28, eh_28, hF⟩ := lt_ok hF
  rw [← eh_28] at hX
  obtain ⟨h_29, hF⟩ := gd_ok hF
  obtain ⟨h_30, hF⟩ := gd_ok hF
  refine pX_X3_22 hC hX hin h_29 h_30 ⟨fun q => absurd q (by decide), fun q => absurd q (by decide)⟩ dX3_init_34 (fun H locs hX => ?_)
  obtain ⟨h_31, eh_31, hF⟩ := lt_ok hF
  rw [← eh_31] at hX
  refine X_aload_n hx hb dX3_init_37 rfl (lv_at hl 0 rfl) ?_
  refine lv_sipush (v := 1600) hx hb dX3_init_38 (by decide) ?_
  obtain ⟨h_32, hF⟩ := gd_ok hF
  obtain ⟨h_33, hF⟩ := gd_ok hF
  obtain ⟨h_34, hF⟩ := gd_ok hF
  refine X_newa hC hX (atype := .long) 34 (Or.inr (Or.inr (Or.inr rfl))) rfl q215 h_32 h_33 h_34 dX3_init_41 (fun H cells slots hX => ?_)
  refine lv_topr (fun r_35 er_35 => ?_)
  replace hF := lt_at hF er_35
  obtain ⟨h_36, eh_36, hF⟩ := lt_ok hF
  rw [← eh_36] at hX
  obtain ⟨h_37, hF⟩ := gd_ok hF
  obtain ⟨h_38, hF⟩ := gd_ok hF
  refine pX_X3_25 hC hX hin h_37 h_38 ⟨fun q => absurd q (by decide), fun q => absurd q (by decide)⟩ dX3_init_43 (fun H locs hX => ?_)
  obtain ⟨h_39, eh_39, hF⟩ := lt_ok hF
  rw [← eh_39] at hX
  refine X_aload_n hx hb dX3_init_46 rfl (lv_at hl 0 rfl) ?_
  refine lv_sipush (v := 200) hx hb dX3_init_47 (by decide) ?_
  obtain ⟨h_40, hF⟩ := gd_ok hF
  obtain ⟨h_41, hF⟩ := gd_ok hF
  obtain ⟨h_42, hF⟩ := gd_ok hF
  refine X_newa hC hX (atype := .long) 34 (Or.inr (Or.inr (Or.inr rfl))) rfl q215 h_40 h_41 h_42 dX3_init_50 (fun H cells slots hX => ?_)
  refine lv_topr (fun r_43 er_43 => ?_)
  replace hF := lt_at hF er_43
  obtain ⟨h_44, eh_44, hF⟩ := lt_ok hF
  rw [← eh_44] at hX
  obtain ⟨h_45, hF⟩ := gd_ok hF
  obtain ⟨h_46, hF⟩ := gd_ok hF
  refine pX_X3_29 hC hX hin h_45 h_46 ⟨fun q => absurd q (by decide), fun q => absurd q (by decide)⟩ dX3_init_52 (fun H locs hX => ?_)
  obtain ⟨h_47, eh_47, hF⟩ := lt_ok hF
  rw [← eh_47] at hX
  exact x_retv hC hX hr (Option.some.inj hF) dX3_init_55
theorem m_X3_init (l : Launch) (D : XD) (a0 : Nat) (b0 : Nat) (h : TH) (x : TH) (hF : F_X3_init D.2.2.2 a0 b0 h = some x) : XMt l yX3_init (ws_ yX3_init cX3_init 2 (none)) 2 51 D [rv a0, rv b0] h (.returned none) x := by
  refine x_met (by decide +kernel) ?_ ?_
  · simp [lg_sl, rv_cat, cat_i, cat_l]
  intro p e s m below meth c hC hr hnh hin ls hl hX
  replace hl : lv_has ls 2 [(0, rv a0), (1, rv b0)] := by simpa [lv_args, rv_cat, cat_i, cat_l] using hl
  exact w_X3_init hC hr hnh hin a0 b0 h hF s.heap [] 0 0 ls hX hl
theorem gX_X1_26 {p : Program} {l : Launch} {e : Env} {R : Room} {s : State} {m : MethodId} {args : Array Value} {below : List Frame} {meth : Method} {c : Code} {H : Heap} {locs : List Loc} {cells slots nL : Nat} {Q : State → Prop} {D : XD} {h0 h : TH} {cc : ByteArray} {pc : Nat} {ls : Array Slot} {rest : List Value} (hC : XCx D cc nL RX1 h0 p R s m args meth c) (hX : XSt D s h0 h H locs cells slots) {a : Nat} (hf : hasF (hT h a) 33 = true) (hdg : decode cc pc = .ok (.getfield 26, 3)) (kk : W p l e R s m args below meth c H locs cells slots Q (F0 m (pc + 3) ls (.int (hI h 33 a) :: rest))) : W p l e R s m args below meth c H locs cells slots Q (F0 m pc ls (rv a :: rest)) :=
  X_geti hC hX 33 hf rfl q228 (fun _ h => h) hdg kk
/-! BlindCards$Recipe.inputs -/
def F_X1_inputs (K : Nat → Nat) (h : TH) (a0 : Nat) : Option Int32 :=
  gd (hasF (hT h a0) 33 = true) <|
  some ((1 : Int32) <<< ((hI h 33 a0) &&& 31))
set_option maxHeartbeats 4000000 in
theorem w_X1_inputs {p : Program} {l : Launch} {e : Env} {s : State} {m : MethodId} {args : Array Value} {below : List Frame} {meth : Method} {c : Code} {D : XD} {h : TH} (hC : XCx D cX1_inputs 1 RX1 h p (xRm 0 0 h) s m args meth c) (hr : meth.sig.returnType = some .int) (hnh : c.exceptionTable.isEmpty = true) (hin : meth.name = "inputs") {x : Int32} :
    ∀ (a0 : Nat), F_X1_inputs D.2.2.2 h a0 = some x → XJ p l e (xRm 0 0 h) s m args below meth c D 1 (.returned (some (.int x))) h h 0 [(0, rv a0)] [] h := by
  have hx := hC.1
  have hb := hC.2.1
  intro a0 hF H locs cells slots ls hX hl
  rw [F_X1_inputs] at hF
  refine lv_iconst (v := 1) hx hb dX1_inputs_0 (by decide) ?_
  refine X_aload_n hx hb dX1_inputs_1 rfl (lv_at hl 0 rfl) ?_
  obtain ⟨h_1, hF⟩ := gd_ok hF
  refine gX_X1_26 hC hX h_1 dX1_inputs_2 ?_
  refine lv_ishl hx hb dX1_inputs_5 ?_
  exact x_reti hC hX hr rfl (Option.some.inj hF) rfl dX1_inputs_6
theorem m_X1_inputs (l : Launch) (D : XD) (a0 : Nat) (h : TH) (x : Int32) (hF : F_X1_inputs D.2.2.2 h a0 = some x) : XMt l yX1_inputs (ws_ yX1_inputs cX1_inputs 1 (some .int)) 0 0 D [rv a0] h (.returned (some (.int x))) h := by
  refine x_met (by decide +kernel) ?_ ?_
  · simp [lg_sl, rv_cat, cat_i, cat_l]
  intro p e s m below meth c hC hr hnh hin ls hl hX
  replace hl : lv_has ls 1 [(0, rv a0)] := by simpa [lv_args, rv_cat, cat_i, cat_l] using hl
  exact w_X1_inputs hC hr hnh hin a0 hF s.heap [] 0 0 ls hX hl
theorem gX_X22_9 {p : Program} {l : Launch} {e : Env} {R : Room} {s : State} {m : MethodId} {args : Array Value} {below : List Frame} {meth : Method} {c : Code} {H : Heap} {locs : List Loc} {cells slots nL : Nat} {Q : State → Prop} {D : XD} {h0 h : TH} {cc : ByteArray} {pc : Nat} {ls : Array Slot} {rest : List Value} (hC : XCx D cc nL RX22 h0 p R s m args meth c) (hX : XSt D s h0 h H locs cells slots) {a : Nat} (hf : hasF (hT h a) 112 = true) (hdg : decode cc pc = .ok (.getfield 9, 3)) (kk : W p l e R s m args below meth c H locs cells slots Q (F0 m (pc + 3) ls (.int (hI h 112 a) :: rest))) : W p l e R s m args below meth c H locs cells slots Q (F0 m pc ls (rv a :: rest)) :=
  X_geti hC hX 112 hf rfl q1555 (fun _ h => h) hdg kk
theorem gX_X22_15 {p : Program} {l : Launch} {e : Env} {R : Room} {s : State} {m : MethodId} {args : Array Value} {below : List Frame} {meth : Method} {c : Code} {H : Heap} {locs : List Loc} {cells slots nL : Nat} {Q : State → Prop} {D : XD} {h0 h : TH} {cc : ByteArray} {pc : Nat} {ls : Array Slot} {rest : List Value} (hC : XCx D cc nL RX22 h0 p R s m args meth c) (hX : XSt D s h0 h H locs cells slots) {a : Nat} (hf : hasF (hT h a) 113 = true) (hdg : decode cc pc = .ok (.getfield 15, 3)) (kk : W p l e R s m args below meth c H locs cells slots Q (F0 m (pc + 3) ls (.int (hI h 113 a) :: rest))) : W p l e R s m args below meth c H locs cells slots Q (F0 m pc ls (rv a :: rest)) :=
  X_geti hC hX 113 hf rfl q1556 (fun _ h => h) hdg kk
/-! BlindCards$End.answer -/
def F_X22_answer (K : Nat → Nat) (h : TH) (a0 : Nat) (b0 : Int32) : Option Int32 :=
  gd (hasF (hT h a0) 112 = true) <|
  lt (((b0 >>> ((hI h 112 a0) &&& 31)) &&& (1 : Int32))) fun x_2 =>
  gd (hasF (hT h a0) 113 = true) <|
  lt (((b0 >>> ((hI h 113 a0) &&& 31)) &&& (1 : Int32))) fun x_4 =>
  if x_2 = x_4 then
    some (-1 : Int32)
  else
    some x_2
set_option maxHeartbeats 4000000 in
theorem w_X22_answer {p : Program} {l : Launch} {e : Env} {s : State} {m : MethodId} {args : Array Value} {below : List Frame} {meth : Method} {c : Code} {D : XD} {h : TH} (hC : XCx D cX22_answer 4 RX22 h p (xRm 0 0 h) s m args meth c) (hr : meth.sig.returnType = some .int) (hnh : c.exceptionTable.isEmpty = true) (hin : meth.name = "answer") {x : Int32} :
    ∀ (a0 : Nat) (b0 : Int32), F_X22_answer D.2.2.2 h a0 b0 = some x → XJ p l e (xRm 0 0 h) s m args below meth c D 4 (.returned (some (.int x))) h h 0 [(0, rv a0), (1, .int b0)] [] h := by
  have hx := hC.1
  have hb := hC.2.1
  intro a0 b0 hF H locs cells slots ls hX hl
  rw [F_X22_answer] at hF
  refine lv_iload_n hx hb dX22_answer_0 rfl (lv_at hl 1 rfl) ?_
  refine X_aload_n hx hb dX22_answer_1 rfl (lv_at hl 0 rfl) ?_
  obtain ⟨h_1, hF⟩ := gd_ok hF
  refine gX_X22_9 hC hX h_1 dX22_answer_2 ?_
  refine lv_ishr hx hb dX22_answer_5 ?_
  refine lv_iconst (v := 1) hx hb dX22_answer_6 (by decide) ?_
  refine lv_iand hx hb dX22_answer_7 ?_
  refine lv_topi (fun x_2 ex_2 => ?_)
  replace hF := lt_at hF ex_2
  refine lv_istore_n (lv' := [(2, .int x_2), (0, rv a0), (1, .int b0)]) hx hb dX22_answer_8 rfl hl (by decide) rfl (fun ls hl => ?_)
  refine lv_iload_n hx hb dX22_answer_9 rfl (lv_at hl 2 rfl) ?_
  refine X_aload_n hx hb dX22_answer_10 rfl (lv_at hl 1 rfl) ?_
  obtain ⟨h_3, hF⟩ := gd_ok hF
  refine gX_X22_15 hC hX h_3 dX22_answer_11 ?_
  refine lv_ishr hx hb dX22_answer_14 ?_
  refine lv_iconst (v := 1) hx hb dX22_answer_15 (by decide) ?_
  refine lv_iand hx hb dX22_answer_16 ?_
  refine lv_topi (fun x_4 ex_4 => ?_)
  replace hF := lt_at hF ex_4
  refine lv_istore_n (lv' := [(3, .int x_4), (2, .int x_2), (0, rv a0), (1, .int b0)]) hx hb dX22_answer_17 rfl hl (by decide) rfl (fun ls hl => ?_)
  refine lv_iload_n hx hb dX22_answer_18 rfl (lv_at hl 1 rfl) ?_
  refine lv_iload_n hx hb dX22_answer_19 rfl (lv_at hl 0 rfl) ?_
  refine lv_icmp_ne (tgt := 27) hx hb dX22_answer_20 (by decide) (fun c_5 => ?_) (fun c_5 => ?_)
  · replace hF := it_f hF c_5
    refine lv_iload_n hx hb dX22_answer_27 rfl (lv_at hl 1 rfl) ?_
    exact x_reti hC hX hr rfl (Option.some.inj hF) rfl dX22_answer_28
  · replace hF := it_t hF c_5
    refine lv_iconst (v := -1) hx hb dX22_answer_23 (by decide) ?_
    refine lv_goto (tgt := 28) hx hb dX22_answer_24 (by decide) ?_
    exact x_reti hC hX hr rfl (Option.some.inj hF) rfl dX22_answer_28
theorem m_X22_answer (l : Launch) (D : XD) (a0 : Nat) (b0 : Int32) (h : TH) (x : Int32) (hF : F_X22_answer D.2.2.2 h a0 b0 = some x) : XMt l yX22_answer (ws_ yX22_answer cX22_answer 4 (some .int)) 0 0 D [rv a0, .int b0] h (.returned (some (.int x))) h := by
  refine x_met (by decide +kernel) ?_ ?_
  · simp [lg_sl, rv_cat, cat_i, cat_l]
  intro p e s m below meth c hC hr hnh hin ls hl hX
  replace hl : lv_has ls 4 [(0, rv a0), (1, .int b0)] := by simpa [lv_args, rv_cat, cat_i, cat_l] using hl
  exact w_X22_answer hC hr hnh hin a0 b0 hF s.heap [] 0 0 ls hX hl
theorem gX_X0_9 {p : Program} {l : Launch} {e : Env} {R : Room} {s : State} {m : MethodId} {args : Array Value} {below : List Frame} {meth : Method} {c : Code} {H : Heap} {locs : List Loc} {cells slots nL : Nat} {Q : State → Prop} {D : XD} {h0 h : TH} {cc : ByteArray} {pc : Nat} {ls : Array Slot} {rest : List Value} (hC : XCx D cc nL RX0 h0 p R s m args meth c) (hX : XSt D s h0 h H locs cells slots) {a : Nat} (hf : hasF (hT h a) 114 = true) (hdg : decode cc pc = .ok (.getfield 9, 3)) (kk : W p l e R s m args below meth c H locs cells slots Q (F0 m (pc + 3) ls (.int (hI h 114 a) :: rest))) : W p l e R s m args below meth c H locs cells slots Q (F0 m pc ls (rv a :: rest)) :=
  X_geti hC hX 114 hf rfl q1573 (fun _ h => h) hdg kk
theorem iX_X0_3 {p : Program} {l : Launch} {e : Env} {R : Room} {s : State} {m : MethodId} {args : Array Value} {below : List Frame} {meth : Method} {c : Code} {H : Heap} {locs : List Loc} {cells slots nL : Nat} {Q : State → Prop} {D : XD} {h0 h : TH} {cc : ByteArray} {pc : Nat} {ls : Array Slot} {rest : List Value} (hC : XCx D cc nL RX0 h0 p R s m args meth c) (hX : XSt D s h0 h H locs cells slots) {a : Nat} {b0 : Int32} {x : Int32} (ht : hT h a = 22) (hcF : F_X22_answer D.2.2.2 h a b0 = some x) (hl : ls.size = nL) (hW : (rest.map fun v => v.category).sum ≤ 8) (hRf : 0 + 1 ≤ R.frames) (hRl : 23 ≤ R.locals) (hdg : decode cc pc = .ok (.invokevirtual 3, 3)) (kk : ∀ (H1 : Heap) (locs1 : List Loc) (cells1 slots1 : Nat), XSt D s h0 h H1 locs1 cells1 slots1 → W p l e R s m args below meth c H1 locs1 cells1 slots1 Q (F0 m (pc + 3) ls (.int x :: rest))) : W p l e R s m args below meth c H locs cells slots Q (F0 m pc ls (.int b0 :: rv a :: rest)) := by
  have q := ht
  exact X_callV hC hX (by rw [q]; decide) (by rw [q]; rfl) (As := [.int b0]) (m_X22_answer l D a b0 h _ hcF) (cwV 1 hC.2.2.2.2.1 (lw_V q638 q639 q640 q166 q641) rfl rfl rfl (by decide +kernel) ⟨Nat.le_trans (Nat.le_of_ble_eq_true rfl) hRf, Nat.le_trans (Nat.le_of_ble_eq_true rfl) hRl⟩) rfl rfl hl hW hdg kk
/-! BlindCards.answer -/
def F_X0_answer (K : Nat → Nat) (h : TH) (b0 : Nat) (b1 : Int32) : Option Int32 :=
  bd (isI h b0 "BlindCards$End") fun r_1 =>
  if r_1 = 0 then
    bd (isI h b0 "BlindCards$Says") fun r_4 =>
    if r_4 = 0 then
      some (-1 : Int32)
    else
      gd (b0 = 0 ∨ castB (hT h b0) "BlindCards$Says" = true) <|
      gd (hasF (hT h b0) 114 = true) <|
      some (hI h 114 b0)
  else
    gd (b0 = 0 ∨ castB (hT h b0) "BlindCards$End" = true) <|
    gd (hT h b0 = 22) <|
    bd (F_X22_answer K h b0 b1) fun r_12 =>
    some r_12
set_option maxHeartbeats 4000000 in
theorem w_X0_answer {p : Program} {l : Launch} {e : Env} {s : State} {m : MethodId} {args : Array Value} {below : List Frame} {meth : Method} {c : Code} {D : XD} {h : TH} (hC : XCx D cX0_answer 2 RX0 h p (xRm 1 23 h) s m args meth c) (hr : meth.sig.returnType = some .int) (hnh : c.exceptionTable.isEmpty = true) (hin : meth.name = "answer") {x : Int32} :
    ∀ (b0 : Nat) (b1 : Int32), F_X0_answer D.2.2.2 h b0 b1 = some x → XJ p l e (xRm 1 23 h) s m args below meth c D 2 (.returned (some (.int x))) h h 0 [(0, rv b0), (1, .int b1)] [] h := by
  have hx := hC.1
  have hb := hC.2.1
  intro b0 b1 hF H locs cells slots ls hX hl
  rw [F_X0_answer] at hF
  refine X_aload_n hx hb dX0_answer_0 rfl (lv_at hl 0 rfl) ?_
  obtain ⟨r_1, hc_2, hF⟩ := bd_ok hF
  refine X_inst hC hX hc_2 q637 dX0_answer_1 ?_
  refine lv_if_eq (tgt := 18) hx hb dX0_answer_4 (by decide) (fun c_3 => ?_) (fun c_3 => ?_)
  · replace hF := it_t hF c_3
    refine X_aload_n hx hb dX0_answer_18 rfl (lv_at hl 0 rfl) ?_
    obtain ⟨r_4, hc_5, hF⟩ := bd_ok hF
    refine X_inst hC hX hc_5 q642 dX0_answer_19 ?_
    refine lv_if_eq (tgt := 35) hx hb dX0_answer_22 (by decide) (fun c_6 => ?_) (fun c_6 => ?_)
    · replace hF := it_t hF c_6
      refine lv_iconst (v := -1) hx hb dX0_answer_35 (by decide) ?_
      exact x_reti hC hX hr rfl (Option.some.inj hF) rfl dX0_answer_36
    · replace hF := it_f hF c_6
      refine X_aload_n hx hb dX0_answer_25 rfl (lv_at hl 0 rfl) ?_
      obtain ⟨h_7, hF⟩ := gd_ok hF
      refine X_cast hC hX h_7 q642 dX0_answer_26 ?_
      obtain ⟨h_8, hF⟩ := gd_ok hF
      refine gX_X0_9 hC hX h_8 dX0_answer_29 ?_
      refine lv_goto (tgt := 36) hx hb dX0_answer_32 (by decide) ?_
      exact x_reti hC hX hr rfl (Option.some.inj hF) rfl dX0_answer_36
  · replace hF := it_f hF c_3
    refine X_aload_n hx hb dX0_answer_7 rfl (lv_at hl 0 rfl) ?_
    obtain ⟨h_9, hF⟩ := gd_ok hF
    refine X_cast hC hX h_9 q637 dX0_answer_8 ?_
    refine lv_iload_n hx hb dX0_answer_11 rfl (lv_at hl 1 rfl) ?_
    obtain ⟨h_10, hF⟩ := gd_ok hF
    obtain ⟨r_12, hc_11, hF⟩ := bd_ok hF
    refine iX_X0_3 hC hX h_10 hc_11 hl.1 (Nat.le_of_ble_eq_true rfl) (Nat.le_of_ble_eq_true rfl) (Nat.le_of_ble_eq_true rfl) dX0_answer_12 (fun H locs cells slots hX => ?_)
    refine lv_goto (tgt := 36) hx hb dX0_answer_15 (by decide) ?_
    exact x_reti hC hX hr rfl (Option.some.inj hF) rfl dX0_answer_36
theorem m_X0_answer (l : Launch) (D : XD) (b0 : Nat) (b1 : Int32) (h : TH) (x : Int32) (hF : F_X0_answer D.2.2.2 h b0 b1 = some x) : XMt l yX0_answer (ws_ yX0_answer cX0_answer 2 (some .int)) 1 23 D [rv b0, .int b1] h (.returned (some (.int x))) h := by
  refine x_met (by decide +kernel) ?_ ?_
  · simp [lg_sl, rv_cat, cat_i, cat_l]
  intro p e s m below meth c hC hr hnh hin ls hl hX
  replace hl : lv_has ls 2 [(0, rv b0), (1, .int b1)] := by simpa [lv_args, rv_cat, cat_i, cat_l] using hl
  exact w_X0_answer hC hr hnh hin b0 b1 hF s.heap [] 0 0 ls hX hl
/-! BlindCards.bitOf -/
def F_X0_bitOf (K : Nat → Nat) (h : TH) (b0 : Int32) : Option Int32 :=
  if 0 ≤ b0 then
    if b0 ≤ (9 : Int32) then
      some b0
    else
      some (11 : Int32)
  else
    some (10 : Int32)
set_option maxHeartbeats 4000000 in
theorem w_X0_bitOf {p : Program} {l : Launch} {e : Env} {s : State} {m : MethodId} {args : Array Value} {below : List Frame} {meth : Method} {c : Code} {D : XD} {h : TH} (hC : XCx D cX0_bitOf 1 RX0 h p (xRm 0 0 h) s m args meth c) (hr : meth.sig.returnType = some .int) (hnh : c.exceptionTable.isEmpty = true) (hin : meth.name = "bitOf") {x : Int32} :
    ∀ (b0 : Int32), F_X0_bitOf D.2.2.2 h b0 = some x → XJ p l e (xRm 0 0 h) s m args below meth c D 1 (.returned (some (.int x))) h h 0 [(0, .int b0)] [] h := by
  have hx := hC.1
  have hb := hC.2.1
  intro b0 hF H locs cells slots ls hX hl
  rw [F_X0_bitOf] at hF
  refine lv_iload_n hx hb dX0_bitOf_0 rfl (lv_at hl 0 rfl) ?_
  refine lv_if_ge (tgt := 9) hx hb dX0_bitOf_1 (by decide) (fun c_1 => ?_) (fun c_1 => ?_)
  · replace hF := it_t hF c_1
    refine lv_iload_n hx hb dX0_bitOf_9 rfl (lv_at hl 0 rfl) ?_
    refine lv_bipush (v := 9) hx hb dX0_bitOf_10 (by decide) ?_
    refine lv_icmp_le (tgt := 20) hx hb dX0_bitOf_12 (by decide) (fun c_2 => ?_) (fun c_2 => ?_)
    · replace hF := it_t hF c_2
      refine lv_iload_n hx hb dX0_bitOf_20 rfl (lv_at hl 0 rfl) ?_
      exact x_reti hC hX hr rfl (Option.some.inj hF) rfl dX0_bitOf_21
    · replace hF := it_f hF c_2
      refine lv_bipush (v := 11) hx hb dX0_bitOf_15 (by decide) ?_
      refine lv_goto (tgt := 21) hx hb dX0_bitOf_17 (by decide) ?_
      exact x_reti hC hX hr rfl (Option.some.inj hF) rfl dX0_bitOf_21
  · replace hF := it_f hF c_1
    refine lv_bipush (v := 10) hx hb dX0_bitOf_4 (by decide) ?_
    refine lv_goto (tgt := 21) hx hb dX0_bitOf_6 (by decide) ?_
    exact x_reti hC hX hr rfl (Option.some.inj hF) rfl dX0_bitOf_21
theorem m_X0_bitOf (l : Launch) (D : XD) (b0 : Int32) (h : TH) (x : Int32) (hF : F_X0_bitOf D.2.2.2 h b0 = some x) : XMt l yX0_bitOf (ws_ yX0_bitOf cX0_bitOf 1 (some .int)) 0 0 D [.int b0] h (.returned (some (.int x))) h := by
  refine x_met (by decide +kernel) ?_ ?_
  · exact Nat.le_of_ble_eq_true rfl
  intro p e s m below meth c hC hr hnh hin ls hl hX
  replace hl : lv_has ls 1 [(0, .int b0)] := by simpa [lv_args, rv_cat, cat_i, cat_l] using hl
  exact w_X0_bitOf hC hr hnh hin b0 hF s.heap [] 0 0 ls hX hl
theorem gX_X2_3 {p : Program} {l : Launch} {e : Env} {R : Room} {s : State} {m : MethodId} {args : Array Value} {below : List Frame} {meth : Method} {c : Code} {H : Heap} {locs : List Loc} {cells slots nL : Nat} {Q : State → Prop} {D : XD} {h0 h : TH} {cc : ByteArray} {pc : Nat} {ls : Array Slot} {rest : List Value} (hC : XCx D cc nL RX2 h0 p R s m args meth c) (hX : XSt D s h0 h H locs cells slots) {a : Nat} (hf : hasF (hT h a) 49 = true) (hsk : hR h 49 a ≠ 0) (hdg : decode cc pc = .ok (.getfield 3, 3)) (kk : W p l e R s m args below meth c H locs cells slots Q (F0 m (pc + 3) ls (rv (hR h 49 a) :: rest))) : W p l e R s m args below meth c H locs cells slots Q (F0 m pc ls (rv a :: rest)) :=
  X_getr hC hX 49 hf rfl (fun _ => hsk) q304 (fun _ h => h) hdg kk
theorem gX_X2_32 {p : Program} {l : Launch} {e : Env} {R : Room} {s : State} {m : MethodId} {args : Array Value} {below : List Frame} {meth : Method} {c : Code} {H : Heap} {locs : List Loc} {cells slots nL : Nat} {Q : State → Prop} {D : XD} {h0 h : TH} {cc : ByteArray} {pc : Nat} {ls : Array Slot} {rest : List Value} (hC : XCx D cc nL RX2 h0 p R s m args meth c) (hX : XSt D s h0 h H locs cells slots) {a : Nat} (hf : hasF (hT h a) 0 = true) (hdg : decode cc pc = .ok (.getfield 32, 3)) (kk : W p l e R s m args below meth c H locs cells slots Q (F0 m (pc + 3) ls (rv (hR h 0 a) :: rest))) : W p l e R s m args below meth c H locs cells slots Q (F0 m pc ls (rv a :: rest)) :=
  X_getrN hC hX 0 hf rfl (fun q => absurd q (by decide)) (List.mem_of_getElem? (i := 0) rfl) hdg kk
theorem iX_X2_161 {p : Program} {l : Launch} {e : Env} {R : Room} {s : State} {m : MethodId} {args : Array Value} {below : List Frame} {meth : Method} {c : Code} {H : Heap} {locs : List Loc} {cells slots nL : Nat} {Q : State → Prop} {D : XD} {h0 h : TH} {cc : ByteArray} {pc : Nat} {ls : Array Slot} {rest : List Value} (hC : XCx D cc nL RX2 h0 p R s m args meth c) (hX : XSt D s h0 h H locs cells slots) {b0 : Nat} {b1 : Int32} {x : Int32} (hcF : F_X0_answer D.2.2.2 h b0 b1 = some x) (hl : ls.size = nL) (hW : (rest.map fun v => v.category).sum ≤ 8) (hRf : 1 + 1 ≤ R.frames) (hRl : 44 ≤ R.locals) (hdg : decode cc pc = .ok (.invokestatic 161, 3)) (kk : ∀ (H1 : Heap) (locs1 : List Loc) (cells1 slots1 : Nat), XSt D s h0 h H1 locs1 cells1 slots1 → W p l e R s m args below meth c H1 locs1 cells1 slots1 Q (F0 m (pc + 3) ls (.int x :: rest))) : W p l e R s m args below meth c H locs cells slots Q (F0 m pc ls (.int b1 :: rv b0 :: rest)) := by
  exact X_callSN hC hX (As := [rv b0, .int b1]) (m_X0_answer l D b0 b1 h _ hcF) ⟨va_cnB 2 hC.2.2.2.2.1 (lw_meth q636) rfl rfl rfl (xm7 hC.2.2.2.2.2.2.1) (hC.2.2.2.2.1 _ q125) (by decide +kernel) ⟨Nat.le_trans (Nat.le_of_ble_eq_true rfl) hRf, Nat.le_trans (Nat.le_of_ble_eq_true rfl) hRl⟩, hC.2.2.2.2.1 _ q635, trivial⟩ rfl rfl hl hW hdg kk
theorem iX_X2_165 {p : Program} {l : Launch} {e : Env} {R : Room} {s : State} {m : MethodId} {args : Array Value} {below : List Frame} {meth : Method} {c : Code} {H : Heap} {locs : List Loc} {cells slots nL : Nat} {Q : State → Prop} {D : XD} {h0 h : TH} {cc : ByteArray} {pc : Nat} {ls : Array Slot} {rest : List Value} (hC : XCx D cc nL RX2 h0 p R s m args meth c) (hX : XSt D s h0 h H locs cells slots) {b0 : Int32} {x : Int32} (hcF : F_X0_bitOf D.2.2.2 h b0 = some x) (hl : ls.size = nL) (hW : (rest.map fun v => v.category).sum ≤ 8) (hRf : 0 + 1 ≤ R.frames) (hRl : 20 ≤ R.locals) (hdg : decode cc pc = .ok (.invokestatic 165, 3)) (kk : ∀ (H1 : Heap) (locs1 : List Loc) (cells1 slots1 : Nat), XSt D s h0 h H1 locs1 cells1 slots1 → W p l e R s m args below meth c H1 locs1 cells1 slots1 Q (F0 m (pc + 3) ls (.int x :: rest))) : W p l e R s m args below meth c H locs cells slots Q (F0 m pc ls (.int b0 :: rest)) := by
  exact X_callSN hC hX (As := [.int b0]) (m_X0_bitOf l D b0 h _ hcF) ⟨va_cnB 1 hC.2.2.2.2.1 (lw_meth q645) rfl rfl rfl (xm8 hC.2.2.2.2.2.2.1) (hC.2.2.2.2.1 _ q125) (by decide +kernel) ⟨Nat.le_trans (Nat.le_of_ble_eq_true rfl) hRf, Nat.le_trans (Nat.le_of_ble_eq_true rfl) hRl⟩, hC.2.2.2.2.1 _ q644, trivial⟩ rfl rfl hl hW hdg kk
/-! BlindCards$Runs.answers -/
def F_X2_answers_b54 (K : Nat → Nat) (h : TH) (k6 : Nat → Int32 → Nat → Int32 → Int32 → Int32 → Option Int32) (x0 : Nat) (x1 : Int32) (x2 : Nat) (x3 : Int32) (x5 : Int32) (y0 : Int32) (y1 : Int32) : Option Int32 :=
  lt ((y1 ||| y0)) fun x_1 =>
  lt (x5 + (1 : Int32)) fun x5_2 =>
  k6 x0 x1 x2 x3 x_1 x5_2
set_option maxHeartbeats 4000000 in
theorem w_X2_answers_b54 {p : Program} {l : Launch} {e : Env} {s : State} {m : MethodId} {args : Array Value} {below : List Frame} {meth : Method} {c : Code} {D : XD} {h : TH} (hC : XCx D cX2_answers 6 RX2 h p (xRm 2 44 h) s m args meth c) (hr : meth.sig.returnType = some .int) (hnh : c.exceptionTable.isEmpty = true) (hin : meth.name = "answers") {x : Int32} (k6 : Nat → Int32 → Nat → Int32 → Int32 → Int32 → Option Int32) (hk6 : ∀ (x0 : Nat) (x1 : Int32) (x2 : Nat) (x3 : Int32) (x4 : Int32) (x5 : Int32), k6 x0 x1 x2 x3 x4 x5 = some x → XJ p l e (xRm 2 44 h) s m args below meth c D 6 (.returned (some (.int x))) h h 6 [(0, rv x0), (1, .int x1), (2, rv x2), (3, .int x3), (4, .int x4), (5, .int x5)] [] h) :
    ∀ (x0 : Nat) (x1 : Int32) (x2 : Nat) (x3 : Int32) (x5 : Int32) (y0 : Int32) (y1 : Int32), F_X2_answers_b54 D.2.2.2 h k6 x0 x1 x2 x3 x5 y0 y1 = some x → XJ p l e (xRm 2 44 h) s m args below meth c D 6 (.returned (some (.int x))) h h 54 [(0, rv x0), (1, .int x1), (2, rv x2), (3, .int x3), (5, .int x5)] [.int y0, .int y1] h := by
  have hx := hC.1
  have hb := hC.2.1
  intro x0 x1 x2 x3 x5 y0 y1 hF H locs cells slots ls hX hl
  rw [F_X2_answers_b54] at hF
  refine lv_ior hx hb dX2_answers_54 ?_
  refine lv_topi (fun x_1 ex_1 => ?_)
  replace hF := lt_at hF ex_1
  refine lv_istore (lv' := [(4, .int x_1), (0, rv x0), (1, .int x1), (2, rv x2), (3, .int x3), (5, .int x5)]) hx hb dX2_answers_55 hl (by decide) rfl (fun ls hl => ?_)
  obtain ⟨x5_2, ex5_2, hF⟩ := lt_ok hF
  refine lv_iinc (v := x5_2) (lv' := [(5, .int x5_2), (4, .int x_1), (0, rv x0), (1, .int x1), (2, rv x2), (3, .int x3)]) hx hb dX2_answers_57 hl (k := 5) rfl (by rw [ex5_2]; rfl) (by decide) rfl (fun ls hl => ?_)
  refine lv_goto (tgt := 6) hx hb dX2_answers_60 (by decide) ?_
  exact hk6 x0 x1 x2 x3 x_1 x5_2 hF H locs cells slots ls hX (lv_sub hl [2, 3, 4, 5, 1, 0] rfl)
def F_X2_answers_L6 (K : Nat → Nat) (h : TH) : Nat → Nat → Int32 → Nat → Int32 → Int32 → Int32 → Option Int32
  | 0, _, _, _, _, _, _ => none
  | fu + 1, x0, x1, x2, x3, x4, x5 =>
    if (256 : Int32) ≤ x5 then
      some x4
    else
      gd (hasF (hT h x0) 49 = true) <|
      gd (hR h 49 x0 ≠ 0) <|
      lt (hR h 49 x0) fun r_4 =>
      gd (hasF (hT h r_4) 0 = true) <|
      lt (hR h 0 r_4) fun r_6 =>
      gd (hT h r_6 = 35 ∨ hT h r_6 = 36 ∨ hT h r_6 = 37 ∨ hT h r_6 = 48) <|
      gd (inb x1 (hN h r_6)) <|
      lt (hY h r_6 (Int32.toNatClampNeg x1)) fun r_9 =>
      gd (hT h r_9 = 34) <|
      gd (inb (((256 : Int32) * x3) + x5) (hN h r_9)) <|
      if (lg_cmp (hL h r_9 (Int32.toNatClampNeg (((256 : Int32) * x3) + x5))) (0 : Int64)) ≤ 0 then
        F_X2_answers_b54 K h (F_X2_answers_L6 K h fu) x0 x1 x2 x3 x5 (0 : Int32) x4
      else
        bd (F_X0_answer K h x2 x5) fun r_14 =>
        bd (F_X0_bitOf K h r_14) fun r_16 =>
        F_X2_answers_b54 K h (F_X2_answers_L6 K h fu) x0 x1 x2 x3 x5 ((1 : Int32) <<< (r_16 &&& 31)) x4
set_option maxHeartbeats 4000000 in
theorem w_X2_answers_L6 {p : Program} {l : Launch} {e : Env} {s : State} {m : MethodId} {args : Array Value} {below : List Frame} {meth : Method} {c : Code} {D : XD} {h : TH} (hC : XCx D cX2_answers 6 RX2 h p (xRm 2 44 h) s m args meth c) (hr : meth.sig.returnType = some .int) (hnh : c.exceptionTable.isEmpty = true) (hin : meth.name = "answers") {x : Int32} :
    ∀ (fu : Nat) (x0 : Nat) (x1 : Int32) (x2 : Nat) (x3 : Int32) (x4 : Int32) (x5 : Int32), F_X2_answers_L6 D.2.2.2 h fu x0 x1 x2 x3 x4 x5 = some x → XJ p l e (xRm 2 44 h) s m args below meth c D 6 (.returned (some (.int x))) h h 6 [(0, rv x0), (1, .int x1), (2, rv x2), (3, .int x3), (4, .int x4), (5, .int x5)] [] h := by
  have hx := hC.1
  have hb := hC.2.1
  intro fu
  induction fu with
  | zero => intro x0 x1 x2 x3 x4 x5 hF; exact nm_none hF
  | succ fu ih =>
    intro x0 x1 x2 x3 x4 x5 hF H locs cells slots ls hX hl
    rw [F_X2_answers_L6] at hF
    refine lv_iload hx hb dX2_answers_6 (lv_at hl 5 rfl) ?_
    refine lv_sipush (v := 256) hx hb dX2_answers_8 (by decide) ?_
    refine lv_icmp_ge (tgt := 63) hx hb dX2_answers_11 (by decide) (fun c_1 => ?_) (fun c_1 => ?_)
    · replace hF := it_t hF c_1
      refine lv_iload hx hb dX2_answers_63 (lv_at hl 4 rfl) ?_
      exact x_reti hC hX hr rfl (Option.some.inj hF) rfl dX2_answers_65
    · replace hF := it_f hF c_1
      refine lv_iload hx hb dX2_answers_14 (lv_at hl 4 rfl) ?_
      refine X_aload_n hx hb dX2_answers_16 rfl (lv_at hl 0 rfl) ?_
      obtain ⟨h_2, hF⟩ := gd_ok hF
      obtain ⟨h_3, hF⟩ := gd_ok hF
      refine gX_X2_3 hC hX h_2 h_3 dX2_answers_17 ?_
      refine lv_topr (fun r_4 er_4 => ?_)
      replace hF := lt_at hF er_4
      obtain ⟨h_5, hF⟩ := gd_ok hF
      refine gX_X2_32 hC hX h_5 dX2_answers_20 ?_
      refine lv_topr (fun r_6 er_6 => ?_)
      replace hF := lt_at hF er_6
      refine lv_iload_n hx hb dX2_answers_23 rfl (lv_at hl 1 rfl) ?_
      obtain ⟨h_7, hF⟩ := gd_ok hF
      obtain ⟨h_8, hF⟩ := gd_ok hF
      refine X_aald hC hX h_7 h_8 dX2_answers_24 ?_
      refine lv_topr (fun r_9 er_9 => ?_)
      replace hF := lt_at hF er_9
      refine lv_sipush (v := 256) hx hb dX2_answers_25 (by decide) ?_
      refine lv_iload_n hx hb dX2_answers_28 rfl (lv_at hl 3 rfl) ?_
      refine lv_imul hx hb dX2_answers_29 ?_
      refine lv_iload hx hb dX2_answers_30 (lv_at hl 5 rfl) ?_
      refine lv_iadd hx hb dX2_answers_32 ?_
      obtain ⟨h_10, hF⟩ := gd_ok hF
      obtain ⟨h_11, hF⟩ := gd_ok hF
      refine X_lald hC hX h_10 h_11 dX2_answers_33 ?_
      refine lv_lconst (v := 0) hx hb dX2_answers_34 (by decide) ?_
      refine W.lcmp hx hb dX2_answers_35 ?_
      refine lv_if_le (tgt := 53) hx hb dX2_answers_36 (by decide) (fun c_12 => ?_) (fun c_12 => ?_)
      · replace hF := it_t hF c_12
        refine lv_iconst (v := 0) hx hb dX2_answers_53 (by decide) ?_
        exact w_X2_answers_b54 hC hr hnh hin (F_X2_answers_L6 D.2.2.2 h fu) ih x0 x1 x2 x3 x5 (0 : Int32) x4 hF H locs cells slots ls hX (lv_sub hl [0, 1, 2, 3, 5] rfl)
      · replace hF := it_f hF c_12
        refine lv_iconst (v := 1) hx hb dX2_answers_39 (by decide) ?_
        refine X_aload_n hx hb dX2_answers_40 rfl (lv_at hl 2 rfl) ?_
        refine lv_iload hx hb dX2_answers_41 (lv_at hl 5 rfl) ?_
        obtain ⟨r_14, hc_13, hF⟩ := bd_ok hF
        refine iX_X2_161 hC hX hc_13 hl.1 (Nat.le_of_ble_eq_true rfl) (Nat.le_of_ble_eq_true rfl) (Nat.le_of_ble_eq_true rfl) dX2_answers_43 (fun H locs cells slots hX => ?_)
        obtain ⟨r_16, hc_15, hF⟩ := bd_ok hF
        refine iX_X2_165 hC hX hc_15 hl.1 (Nat.le_of_ble_eq_true rfl) (Nat.le_of_ble_eq_true rfl) (Nat.le_of_ble_eq_true rfl) dX2_answers_46 (fun H locs cells slots hX => ?_)
        refine lv_ishl hx hb dX2_answers_49 ?_
        refine lv_goto (tgt := 54) hx hb dX2_answers_50 (by decide) ?_
        exact w_X2_answers_b54 hC hr hnh hin (F_X2_answers_L6 D.2.2.2 h fu) ih x0 x1 x2 x3 x5 ((1 : Int32) <<< (r_16 &&& 31)) x4 hF H locs cells slots ls hX (lv_sub hl [0, 1, 2, 3, 5] rfl)
def F_X2_answers (K : Nat → Nat) (h : TH) (a0 : Nat) (b0 : Int32) (b1 : Nat) (b2 : Int32) : Option Int32 :=
  F_X2_answers_L6 K h MN a0 b0 b1 b2 (0 : Int32) (0 : Int32)
set_option maxHeartbeats 4000000 in
theorem w_X2_answers {p : Program} {l : Launch} {e : Env} {s : State} {m : MethodId} {args : Array Value} {below : List Frame} {meth : Method} {c : Code} {D : XD} {h : TH} (hC : XCx D cX2_answers 6 RX2 h p (xRm 2 44 h) s m args meth c) (hr : meth.sig.returnType = some .int) (hnh : c.exceptionTable.isEmpty = true) (hin : meth.name = "answers") {x : Int32} :
    ∀ (a0 : Nat) (b0 : Int32) (b1 : Nat) (b2 : Int32), F_X2_answers D.2.2.2 h a0 b0 b1 b2 = some x → XJ p l e (xRm 2 44 h) s m args below meth c D 6 (.returned (some (.int x))) h h 0 [(0, rv a0), (1, .int b0), (2, rv b1), (3, .int b2)] [] h := by
  have hx := hC.1
  have hb := hC.2.1
  intro a0 b0 b1 b2 hF H locs cells slots ls hX hl
  rw [F_X2_answers] at hF
  refine lv_iconst (v := 0) hx hb dX2_answers_0 (by decide) ?_
  refine lv_istore (lv' := [(4, .int (0 : Int32)), (0, rv a0), (1, .int b0), (2, rv b1), (3, .int b2)]) hx hb dX2_answers_1 hl (by decide) rfl (fun ls hl => ?_)
  refine lv_iconst (v := 0) hx hb dX2_answers_3 (by decide) ?_
  refine lv_istore (lv' := [(5, .int (0 : Int32)), (4, .int (0 : Int32)), (0, rv a0), (1, .int b0), (2, rv b1), (3, .int b2)]) hx hb dX2_answers_4 hl (by decide) rfl (fun ls hl => ?_)
  exact w_X2_answers_L6 hC hr hnh hin MN a0 b0 b1 b2 (0 : Int32) (0 : Int32) hF H locs cells slots ls hX (lv_sub hl [2, 3, 4, 5, 1, 0] rfl)
theorem m_X2_answers (l : Launch) (D : XD) (a0 : Nat) (b0 : Int32) (b1 : Nat) (b2 : Int32) (h : TH) (x : Int32) (hF : F_X2_answers D.2.2.2 h a0 b0 b1 b2 = some x) : XMt l yX2_answers (ws_ yX2_answers cX2_answers 6 (some .int)) 2 44 D [rv a0, .int b0, rv b1, .int b2] h (.returned (some (.int x))) h := by
  refine x_met (by decide +kernel) ?_ ?_
  · simp [lg_sl, rv_cat, cat_i, cat_l]
  intro p e s m below meth c hC hr hnh hin ls hl hX
  replace hl : lv_has ls 6 [(0, rv a0), (1, .int b0), (2, rv b1), (3, .int b2)] := by simpa [lv_args, rv_cat, cat_i, cat_l] using hl
  exact w_X2_answers hC hr hnh hin a0 b0 b1 b2 hF s.heap [] 0 0 ls hX hl
theorem gX_X5_23 {p : Program} {l : Launch} {e : Env} {R : Room} {s : State} {m : MethodId} {args : Array Value} {below : List Frame} {meth : Method} {c : Code} {H : Heap} {locs : List Loc} {cells slots nL : Nat} {Q : State → Prop} {D : XD} {h0 h : TH} {cc : ByteArray} {pc : Nat} {ls : Array Slot} {rest : List Value} (hC : XCx D cc nL RX5 h0 p R s m args meth c) (hX : XSt D s h0 h H locs cells slots) {a : Nat} (hf : hasF (hT h a) 64 = true) (hdg : decode cc pc = .ok (.getfield 23, 3)) (kk : W p l e R s m args below meth c H locs cells slots Q (F0 m (pc + 3) ls (.int (hI h 64 a) :: rest))) : W p l e R s m args below meth c H locs cells slots Q (F0 m pc ls (rv a :: rest)) :=
  X_geti hC hX 64 hf rfl q373 (fun _ h => h) hdg kk
theorem pX_X5_23 {p : Program} {l : Launch} {e : Env} {R : Room} {s : State} {m : MethodId} {args : Array Value} {below : List Frame} {meth : Method} {c : Code} {H : Heap} {locs : List Loc} {cells slots nL : Nat} {Q : State → Prop} {D : XD} {h0 h : TH} {cc : ByteArray} {pc : Nat} {ls : Array Slot} {rest : List Value} (hC : XCx D cc nL RX5 h0 p R s m args meth c) (hX : XSt D s h0 h H locs cells slots) {a : Nat} {v : Int32} (hf : hasF (hT h a) 64 = true) (hw : hT h a ≤ 24) (hdg : decode cc pc = .ok (.putfield 23, 3)) (kk : ∀ (H1 : Heap) (locs1 : List Loc), XSt D s h0 (uI h 64 a v) H1 locs1 cells slots → W p l e R s m args below meth c H1 locs1 cells slots Q (F0 m (pc + 3) ls rest)) : W p l e R s m args below meth c H locs cells slots Q (F0 m pc ls (.int v :: rv a :: rest)) :=
  X_puti hC hX 64 hf hw rfl rfl q373 (fun _ h => h) ⟨rfl, rfl⟩ hdg kk
theorem gX_X5_3 {p : Program} {l : Launch} {e : Env} {R : Room} {s : State} {m : MethodId} {args : Array Value} {below : List Frame} {meth : Method} {c : Code} {H : Heap} {locs : List Loc} {cells slots nL : Nat} {Q : State → Prop} {D : XD} {h0 h : TH} {cc : ByteArray} {pc : Nat} {ls : Array Slot} {rest : List Value} (hC : XCx D cc nL RX5 h0 p R s m args meth c) (hX : XSt D s h0 h H locs cells slots) {a : Nat} (hf : hasF (hT h a) 66 = true) (hdg : decode cc pc = .ok (.getfield 3, 3)) (kk : W p l e R s m args below meth c H locs cells slots Q (F0 m (pc + 3) ls (rv (hR h 66 a) :: rest))) : W p l e R s m args below meth c H locs cells slots Q (F0 m pc ls (rv a :: rest)) :=
  X_getr hC hX 66 hf rfl (fun q => absurd q (by decide)) q375 (fun _ h => h) hdg kk
theorem gX_X5_33 {p : Program} {l : Launch} {e : Env} {R : Room} {s : State} {m : MethodId} {args : Array Value} {below : List Frame} {meth : Method} {c : Code} {H : Heap} {locs : List Loc} {cells slots nL : Nat} {Q : State → Prop} {D : XD} {h0 h : TH} {cc : ByteArray} {pc : Nat} {ls : Array Slot} {rest : List Value} (hC : XCx D cc nL RX5 h0 p R s m args meth c) (hX : XSt D s h0 h H locs cells slots) {a : Nat} (hf : hasF (hT h a) 7 = true) (hdg : decode cc pc = .ok (.getfield 33, 3)) (kk : W p l e R s m args below meth c H locs cells slots Q (F0 m (pc + 3) ls (rv (hR h 7 a) :: rest))) : W p l e R s m args below meth c H locs cells slots Q (F0 m pc ls (rv a :: rest)) :=
  X_getrN hC hX 7 hf rfl (fun q => absurd q (by decide)) (List.mem_of_getElem? (i := 6) rfl) hdg kk
theorem iX_X5_37 {p : Program} {l : Launch} {e : Env} {R : Room} {s : State} {m : MethodId} {args : Array Value} {below : List Frame} {meth : Method} {c : Code} {H : Heap} {locs : List Loc} {cells slots nL : Nat} {Q : State → Prop} {D : XD} {h0 h : TH} {cc : ByteArray} {pc : Nat} {ls : Array Slot} {rest : List Value} (hC : XCx D cc nL RX5 h0 p R s m args meth c) (hX : XSt D s h0 h H locs cells slots) {a : Nat} {x : Int32} (ht : hT h a = 2) (hcF : F_X1_inputs D.2.2.2 h a = some x) (hl : ls.size = nL) (hW : (rest.map fun v => v.category).sum ≤ 8) (hRf : 0 + 1 ≤ R.frames) (hRl : 20 ≤ R.locals) (hdg : decode cc pc = .ok (.invokevirtual 37, 3)) (kk : ∀ (H1 : Heap) (locs1 : List Loc) (cells1 slots1 : Nat), XSt D s h0 h H1 locs1 cells1 slots1 → W p l e R s m args below meth c H1 locs1 cells1 slots1 Q (F0 m (pc + 3) ls (.int x :: rest))) : W p l e R s m args below meth c H locs cells slots Q (F0 m pc ls (rv a :: rest)) := by
  have q := ht
  exact X_callV hC hX (by rw [q]; decide) (by rw [q]; rfl) (As := []) (m_X1_inputs l D a h _ hcF) (cwV 0 hC.2.2.2.2.1 (lw_V q627 q480 q481 q126 q482) rfl rfl rfl (by decide +kernel) ⟨Nat.le_trans (Nat.le_of_ble_eq_true rfl) hRf, Nat.le_trans (Nat.le_of_ble_eq_true rfl) hRl⟩) rfl rfl hl hW hdg kk
theorem gX_X5_26 {p : Program} {l : Launch} {e : Env} {R : Room} {s : State} {m : MethodId} {args : Array Value} {below : List Frame} {meth : Method} {c : Code} {H : Heap} {locs : List Loc} {cells slots nL : Nat} {Q : State → Prop} {D : XD} {h0 h : TH} {cc : ByteArray} {pc : Nat} {ls : Array Slot} {rest : List Value} (hC : XCx D cc nL RX5 h0 p R s m args meth c) (hX : XSt D s h0 h H locs cells slots) {a : Nat} (hf : hasF (hT h a) 65 = true) (hdg : decode cc pc = .ok (.getfield 26, 3)) (kk : W p l e R s m args below meth c H locs cells slots Q (F0 m (pc + 3) ls (.int (hI h 65 a) :: rest))) : W p l e R s m args below meth c H locs cells slots Q (F0 m pc ls (rv a :: rest)) :=
  X_geti hC hX 65 hf rfl q374 (fun _ h => h) hdg kk
theorem iX_X5_43 {p : Program} {l : Launch} {e : Env} {R : Room} {s : State} {m : MethodId} {args : Array Value} {below : List Frame} {meth : Method} {c : Code} {H : Heap} {locs : List Loc} {cells slots nL : Nat} {Q : State → Prop} {D : XD} {h0 h : TH} {cc : ByteArray} {pc : Nat} {ls : Array Slot} {rest : List Value} (hC : XCx D cc nL RX5 h0 p R s m args meth c) (hX : XSt D s h0 h H locs cells slots) {a : Nat} {b0 : Int32} {b1 : Nat} {b2 : Int32} {x : Int32} (ht : hT h a = 6) (hcF : F_X2_answers D.2.2.2 h a b0 b1 b2 = some x) (hl : ls.size = nL) (hW : (rest.map fun v => v.category).sum ≤ 8) (hRf : 2 + 1 ≤ R.frames) (hRl : 69 ≤ R.locals) (hdg : decode cc pc = .ok (.invokevirtual 43, 3)) (kk : ∀ (H1 : Heap) (locs1 : List Loc) (cells1 slots1 : Nat), XSt D s h0 h H1 locs1 cells1 slots1 → W p l e R s m args below meth c H1 locs1 cells1 slots1 Q (F0 m (pc + 3) ls (.int x :: rest))) : W p l e R s m args below meth c H locs cells slots Q (F0 m pc ls (.int b2 :: rv b1 :: .int b0 :: rv a :: rest)) := by
  have q := ht
  exact X_callU hC hX (by rw [q]; decide) (by rw [q]; rfl) (As := [.int b0, rv b1, .int b2]) (m_X2_answers l D a b0 b1 b2 h _ hcF) (va_cwU 3 hC.2.2.2.2.1 (lw_U (owner := "BlindCards$Runs") q628 q629 q631 q632 q130 q633) rfl rfl rfl rfl (by decide +kernel) ⟨Nat.le_trans (Nat.le_of_ble_eq_true rfl) hRf, Nat.le_trans (Nat.le_of_ble_eq_true rfl) hRl⟩) rfl rfl hl hW hdg kk
theorem pX_X5_26 {p : Program} {l : Launch} {e : Env} {R : Room} {s : State} {m : MethodId} {args : Array Value} {below : List Frame} {meth : Method} {c : Code} {H : Heap} {locs : List Loc} {cells slots nL : Nat} {Q : State → Prop} {D : XD} {h0 h : TH} {cc : ByteArray} {pc : Nat} {ls : Array Slot} {rest : List Value} (hC : XCx D cc nL RX5 h0 p R s m args meth c) (hX : XSt D s h0 h H locs cells slots) {a : Nat} {v : Int32} (hf : hasF (hT h a) 65 = true) (hw : hT h a ≤ 24) (hdg : decode cc pc = .ok (.putfield 26, 3)) (kk : ∀ (H1 : Heap) (locs1 : List Loc), XSt D s h0 (uI h 65 a v) H1 locs1 cells slots → W p l e R s m args below meth c H1 locs1 cells slots Q (F0 m (pc + 3) ls rest)) : W p l e R s m args below meth c H locs cells slots Q (F0 m pc ls (.int v :: rv a :: rest)) :=
  X_puti hC hX 65 hf hw rfl rfl q374 (fun _ h => h) ⟨rfl, rfl⟩ hdg kk
/-! BlindCards$Cheater.end -/
def F_X5_end_L13 (K : Nat → Nat) : Nat → Nat → Int32 → Nat → Int32 → TH → Option TH
  | 0, _, _, _, _, _ => none
  | fu + 1, x0, x1, x2, x5, h =>
    gd (hasF (hT h x0) 66 = true) <|
    lt (hR h 66 x0) fun r_2 =>
    gd (hasF (hT h r_2) 7 = true) <|
    lt (hR h 7 r_2) fun r_4 =>
    gd (hT h r_4 = 2) <|
    bd (F_X1_inputs K h r_4) fun r_7 =>
    if r_7 ≤ x5 then
      some h
    else
      gd (hasF (hT h x0) 65 = true) <|
      gd (hT h x0 = 6) <|
      bd (F_X2_answers K h x0 x1 x2 x5) fun r_12 =>
      gd (hasF (hT h x0) 65 = true) <|
      gd (hT h x0 ≤ 24) <|
      lt (uI h 65 x0 ((hI h 65 x0) ||| r_12)) fun h_15 =>
      lt (x5 + (1 : Int32)) fun x5_16 =>
      F_X5_end_L13 K fu x0 x1 x2 x5_16 h_15
set_option maxHeartbeats 4000000 in
theorem w_X5_end_L13 {p : Program} {l : Launch} {e : Env} {s : State} {m : MethodId} {args : Array Value} {below : List Frame} {meth : Method} {c : Code} {D : XD} {h0 : TH} (hC : XCx D cX5_end 6 RX5 h0 p (xRm 3 69 h0) s m args meth c) (hr : meth.sig.returnType = none) (hnh : c.exceptionTable.isEmpty = true) (hin : meth.name = "end") {x : TH} :
    ∀ (fu : Nat) (x0 : Nat) (x1 : Int32) (x2 : Nat) (x5 : Int32) (h : TH), F_X5_end_L13 D.2.2.2 fu x0 x1 x2 x5 h = some x → XJ p l e (xRm 3 69 h0) s m args below meth c D 6 (.returned none) h0 x 13 [(0, rv x0), (1, .int x1), (2, rv x2), (5, .int x5)] [] h := by
  have hx := hC.1
  have hb := hC.2.1
  intro fu
  induction fu with
  | zero => intro x0 x1 x2 x5 h hF; exact nm_none hF
  | succ fu ih =>
    intro x0 x1 x2 x5 h hF H locs cells slots ls hX hl
    rw [F_X5_end_L13] at hF
    refine lv_iload hx hb dX5_end_13 (lv_at hl 3 rfl) ?_
    refine X_aload_n hx hb dX5_end_15 rfl (lv_at hl 0 rfl) ?_
    obtain ⟨h_1, hF⟩ := gd_ok hF
    refine gX_X5_3 hC hX h_1 dX5_end_16 ?_
    refine lv_topr (fun r_2 er_2 => ?_)
    replace hF := lt_at hF er_2
    obtain ⟨h_3, hF⟩ := gd_ok hF
    refine gX_X5_33 hC hX h_3 dX5_end_19 ?_
    refine lv_topr (fun r_4 er_4 => ?_)
    replace hF := lt_at hF er_4
    obtain ⟨h_5, hF⟩ := gd_ok hF
    obtain ⟨r_7, hc_6, hF⟩ := bd_ok hF
    refine iX_X5_37 hC hX h_5 hc_6 hl.1 (Nat.le_of_ble_eq_true rfl) (Nat.le_of_ble_eq_true rfl) (Nat.le_of_ble_eq_true rfl) dX5_end_22 (fun H locs cells slots hX => ?_)
    refine lv_icmp_ge (tgt := 51) hx hb dX5_end_25 (by decide) (fun c_8 => ?_) (fun c_8 => ?_)
    · replace hF := it_t hF c_8
      exact x_retv hC hX hr (Option.some.inj hF) dX5_end_51
    · replace hF := it_f hF c_8
      refine X_aload_n hx hb dX5_end_28 rfl (lv_at hl 0 rfl) ?_
      refine lv_dup hx hb dX5_end_29 (rv_cat _) ?_
      obtain ⟨h_9, hF⟩ := gd_ok hF
      refine gX_X5_26 hC hX h_9 dX5_end_30 ?_
      refine X_aload_n hx hb dX5_end_33 rfl (lv_at hl 0 rfl) ?_
      refine lv_iload_n hx hb dX5_end_34 rfl (lv_at hl 1 rfl) ?_
      refine X_aload_n hx hb dX5_end_35 rfl (lv_at hl 2 rfl) ?_
      refine lv_iload hx hb dX5_end_36 (lv_at hl 3 rfl) ?_
      obtain ⟨h_10, hF⟩ := gd_ok hF
      obtain ⟨r_12, hc_11, hF⟩ := bd_ok hF
      refine iX_X5_43 hC hX h_10 hc_11 hl.1 (cat4 (Nat.le_of_ble_eq_true rfl)) (Nat.le_of_ble_eq_true rfl) (Nat.le_of_ble_eq_true rfl) dX5_end_38 (fun H locs cells slots hX => ?_)
      refine lv_ior hx hb dX5_end_41 ?_
      obtain ⟨h_13, hF⟩ := gd_ok hF
      obtain ⟨h_14, hF⟩ := gd_ok hF
      refine pX_X5_26 hC hX h_13 h_14 dX5_end_42 (fun H locs hX => ?_)
      obtain ⟨h_15, eh_15, hF⟩ := lt_ok hF
      rw [← eh_15] at hX
      obtain ⟨x5_16, ex5_16, hF⟩ := lt_ok hF
      refine lv_iinc (v := x5_16) (lv' := [(5, .int x5_16), (0, rv x0), (1, .int x1), (2, rv x2)]) hx hb dX5_end_45 hl (k := 3) rfl (by rw [ex5_16]; rfl) (by decide) rfl (fun ls hl => ?_)
      refine lv_goto (tgt := 13) hx hb dX5_end_48 (by decide) ?_
      exact ih x0 x1 x2 x5_16 h_15 hF H locs cells slots ls hX (lv_sub hl [1, 2, 3, 0] rfl)
def F_X5_end (K : Nat → Nat) (a0 : Nat) (b0 : Int32) (b1 : Nat) (b2 : Int64) (h : TH) : Option TH :=
  gd (hasF (hT h a0) 64 = true) <|
  gd (hasF (hT h a0) 64 = true) <|
  gd (hT h a0 ≤ 24) <|
  lt (uI h 64 a0 ((hI h 64 a0) + (1 : Int32))) fun h_4 =>
  F_X5_end_L13 K MN a0 b0 b1 (0 : Int32) h_4
set_option maxHeartbeats 4000000 in
theorem w_X5_end {p : Program} {l : Launch} {e : Env} {s : State} {m : MethodId} {args : Array Value} {below : List Frame} {meth : Method} {c : Code} {D : XD} {h0 : TH} (hC : XCx D cX5_end 6 RX5 h0 p (xRm 3 69 h0) s m args meth c) (hr : meth.sig.returnType = none) (hnh : c.exceptionTable.isEmpty = true) (hin : meth.name = "end") {x : TH} :
    ∀ (a0 : Nat) (b0 : Int32) (b1 : Nat) (b2 : Int64) (h : TH), F_X5_end D.2.2.2 a0 b0 b1 b2 h = some x → XJ p l e (xRm 3 69 h0) s m args below meth c D 6 (.returned none) h0 x 0 [(0, rv a0), (1, .int b0), (2, rv b1), (3, .long b2)] [] h := by
  have hx := hC.1
  have hb := hC.2.1
  intro a0 b0 b1 b2 h hF H locs cells slots ls hX hl
  rw [F_X5_end] at hF
  refine X_aload_n hx hb dX5_end_0 rfl (lv_at hl 0 rfl) ?_
  refine lv_dup hx hb dX5_end_1 (rv_cat _) ?_
  obtain ⟨h_1, hF⟩ := gd_ok hF
  refine gX_X5_23 hC hX h_1 dX5_end_2 ?_
  refine lv_iconst (v := 1) hx hb dX5_end_5 (by decide) ?_
  refine lv_iadd hx hb dX5_end_6 ?_
  obtain ⟨h_2, hF⟩ := gd_ok hF
  obtain ⟨h_3, hF⟩ := gd_ok hF
  refine pX_X5_23 hC hX h_2 h_3 dX5_end_7 (fun H locs hX => ?_)
  obtain ⟨h_4, eh_4, hF⟩ := lt_ok hF
  rw [← eh_4] at hX
  refine lv_iconst (v := 0) hx hb dX5_end_10 (by decide) ?_
  refine lv_istore (lv' := [(5, .int (0 : Int32)), (0, rv a0), (1, .int b0), (2, rv b1), (3, .long b2)]) hx hb dX5_end_11 hl (by decide) rfl (fun ls hl => ?_)
  exact w_X5_end_L13 hC hr hnh hin MN a0 b0 b1 (0 : Int32) h_4 hF H locs cells slots ls hX (lv_sub hl [1, 2, 3, 0] rfl)
theorem m_X5_end (l : Launch) (D : XD) (a0 : Nat) (b0 : Int32) (b1 : Nat) (b2 : Int64) (h : TH) (x : TH) (hF : F_X5_end D.2.2.2 a0 b0 b1 b2 h = some x) : XMt l yX5_end (ws_ yX5_end cX5_end 6 (none)) 3 69 D [rv a0, .int b0, rv b1, .long b2] h (.returned none) x := by
  refine x_met (by decide +kernel) ?_ ?_
  · simp [lg_sl, rv_cat, cat_i, cat_l]
  intro p e s m below meth c hC hr hnh hin ls hl hX
  replace hl : lv_has ls 6 [(0, rv a0), (1, .int b0), (2, rv b1), (3, .long b2)] := by simpa [lv_args, rv_cat, cat_i, cat_l] using hl
  exact w_X5_end hC hr hnh hin a0 b0 b1 b2 h hF s.heap [] 0 0 ls hX hl
/-! BlindCards$Cheater.isDone -/
def F_X5_isDone (K : Nat → Nat) (h : TH) (a0 : Nat) : Option Int32 :=
  gd (hasF (hT h a0) 64 = true) <|
  if (hI h 64 a0) ≤ (5000 : Int32) then
    some (0 : Int32)
  else
    some (1 : Int32)
set_option maxHeartbeats 4000000 in
theorem w_X5_isDone {p : Program} {l : Launch} {e : Env} {s : State} {m : MethodId} {args : Array Value} {below : List Frame} {meth : Method} {c : Code} {D : XD} {h : TH} (hC : XCx D cX5_isDone 1 RX5 h p (xRm 0 0 h) s m args meth c) (hr : meth.sig.returnType = some .boolean) (hnh : c.exceptionTable.isEmpty = true) (hin : meth.name = "isDone") {x : Int32} :
    ∀ (a0 : Nat), F_X5_isDone D.2.2.2 h a0 = some x → XJ p l e (xRm 0 0 h) s m args below meth c D 1 (.returned (some (.int x))) h h 0 [(0, rv a0)] [] h := by
  have hx := hC.1
  have hb := hC.2.1
  intro a0 hF H locs cells slots ls hX hl
  rw [F_X5_isDone] at hF
  refine X_aload_n hx hb dX5_isDone_0 rfl (lv_at hl 0 rfl) ?_
  obtain ⟨h_1, hF⟩ := gd_ok hF
  refine gX_X5_23 hC hX h_1 dX5_isDone_1 ?_
  refine lv_sipush (v := 5000) hx hb dX5_isDone_4 (by decide) ?_
  refine lv_icmp_le (tgt := 14) hx hb dX5_isDone_7 (by decide) (fun c_2 => ?_) (fun c_2 => ?_)
  · replace hF := it_t hF c_2
    refine lv_iconst (v := 0) hx hb dX5_isDone_14 (by decide) ?_
    exact x_reti hC hX hr rfl (Option.some.inj hF) rfl dX5_isDone_15
  · replace hF := it_f hF c_2
    refine lv_iconst (v := 1) hx hb dX5_isDone_10 (by decide) ?_
    refine lv_goto (tgt := 15) hx hb dX5_isDone_11 (by decide) ?_
    exact x_reti hC hX hr rfl (Option.some.inj hF) rfl dX5_isDone_15
theorem m_X5_isDone (l : Launch) (D : XD) (a0 : Nat) (h : TH) (x : Int32) (hF : F_X5_isDone D.2.2.2 h a0 = some x) : XMt l yX5_isDone (ws_ yX5_isDone cX5_isDone 1 (some .boolean)) 0 0 D [rv a0] h (.returned (some (.int x))) h := by
  refine x_met (by decide +kernel) ?_ ?_
  · simp [lg_sl, rv_cat, cat_i, cat_l]
  intro p e s m below meth c hC hr hnh hin ls hl hX
  replace hl : lv_has ls 1 [(0, rv a0)] := by simpa [lv_args, rv_cat, cat_i, cat_l] using hl
  exact w_X5_isDone hC hr hnh hin a0 hF s.heap [] 0 0 ls hX hl
/-! BlindCards$Runs.sum -/
def F_X2_sum_L5 (K : Nat → Nat) (h : TH) : Nat → Nat → Int32 → Int32 → Int64 → Int32 → Option Int64
  | 0, _, _, _, _, _ => none
  | fu + 1, x0, x1, x2, x3, x5 =>
    if (256 : Int32) ≤ x5 then
      some x3
    else
      gd (hasF (hT h x0) 49 = true) <|
      gd (hR h 49 x0 ≠ 0) <|
      lt (hR h 49 x0) fun r_4 =>
      gd (hasF (hT h r_4) 0 = true) <|
      lt (hR h 0 r_4) fun r_6 =>
      gd (hT h r_6 = 35 ∨ hT h r_6 = 36 ∨ hT h r_6 = 37 ∨ hT h r_6 = 48) <|
      gd (inb x1 (hN h r_6)) <|
      lt (hY h r_6 (Int32.toNatClampNeg x1)) fun r_9 =>
      gd (hT h r_9 = 34) <|
      gd (inb (((256 : Int32) * x2) + x5) (hN h r_9)) <|
      lt ((x3 + (hL h r_9 (Int32.toNatClampNeg (((256 : Int32) * x2) + x5))))) fun x_12 =>
      lt (x5 + (1 : Int32)) fun x5_13 =>
      F_X2_sum_L5 K h fu x0 x1 x2 x_12 x5_13
set_option maxHeartbeats 4000000 in
theorem w_X2_sum_L5 {p : Program} {l : Launch} {e : Env} {s : State} {m : MethodId} {args : Array Value} {below : List Frame} {meth : Method} {c : Code} {D : XD} {h : TH} (hC : XCx D cX2_sum 6 RX2 h p (xRm 0 0 h) s m args meth c) (hr : meth.sig.returnType = some .long) (hnh : c.exceptionTable.isEmpty = true) (hin : meth.name = "sum") {x : Int64} :
    ∀ (fu : Nat) (x0 : Nat) (x1 : Int32) (x2 : Int32) (x3 : Int64) (x5 : Int32), F_X2_sum_L5 D.2.2.2 h fu x0 x1 x2 x3 x5 = some x → XJ p l e (xRm 0 0 h) s m args below meth c D 6 (.returned (some (.long x))) h h 5 [(0, rv x0), (1, .int x1), (2, .int x2), (3, .long x3), (5, .int x5)] [] h := by
  have hx := hC.1
  have hb := hC.2.1
  intro fu
  induction fu with
  | zero => intro x0 x1 x2 x3 x5 hF; exact nm_none hF
  | succ fu ih =>
    intro x0 x1 x2 x3 x5 hF H locs cells slots ls hX hl
    rw [F_X2_sum_L5] at hF
    refine lv_iload hx hb dX2_sum_5 (lv_at hl 4 rfl) ?_
    refine lv_sipush (v := 256) hx hb dX2_sum_7 (by decide) ?_
    refine lv_icmp_ge (tgt := 40) hx hb dX2_sum_10 (by decide) (fun c_1 => ?_) (fun c_1 => ?_)
    · replace hF := it_t hF c_1
      refine lv_lload_n hx hb dX2_sum_40 rfl (lv_at hl 3 rfl) ?_
      exact x_retl hC hX hr (Option.some.inj hF) rfl dX2_sum_41
    · replace hF := it_f hF c_1
      refine lv_lload_n hx hb dX2_sum_13 rfl (lv_at hl 3 rfl) ?_
      refine X_aload_n hx hb dX2_sum_14 rfl (lv_at hl 0 rfl) ?_
      obtain ⟨h_2, hF⟩ := gd_ok hF
      obtain ⟨h_3, hF⟩ := gd_ok hF
      refine gX_X2_3 hC hX h_2 h_3 dX2_sum_15 ?_
      refine lv_topr (fun r_4 er_4 => ?_)
      replace hF := lt_at hF er_4
      obtain ⟨h_5, hF⟩ := gd_ok hF
      refine gX_X2_32 hC hX h_5 dX2_sum_18 ?_
      refine lv_topr (fun r_6 er_6 => ?_)
      replace hF := lt_at hF er_6
      refine lv_iload_n hx hb dX2_sum_21 rfl (lv_at hl 1 rfl) ?_
      obtain ⟨h_7, hF⟩ := gd_ok hF
      obtain ⟨h_8, hF⟩ := gd_ok hF
      refine X_aald hC hX h_7 h_8 dX2_sum_22 ?_
      refine lv_topr (fun r_9 er_9 => ?_)
      replace hF := lt_at hF er_9
      refine lv_sipush (v := 256) hx hb dX2_sum_23 (by decide) ?_
      refine lv_iload_n hx hb dX2_sum_26 rfl (lv_at hl 2 rfl) ?_
      refine lv_imul hx hb dX2_sum_27 ?_
      refine lv_iload hx hb dX2_sum_28 (lv_at hl 4 rfl) ?_
      refine lv_iadd hx hb dX2_sum_30 ?_
      obtain ⟨h_10, hF⟩ := gd_ok hF
      obtain ⟨h_11, hF⟩ := gd_ok hF
      refine X_lald hC hX h_10 h_11 dX2_sum_31 ?_
      refine lv_ladd hx hb dX2_sum_32 ?_
      refine lv_topl (fun x_12 ex_12 => ?_)
      replace hF := lt_at hF ex_12
      refine lv_lstore_n (lv' := [(3, .long x_12), (0, rv x0), (1, .int x1), (2, .int x2), (5, .int x5)]) hx hb dX2_sum_33 rfl hl (by decide) rfl (fun ls hl => ?_)
      obtain ⟨x5_13, ex5_13, hF⟩ := lt_ok hF
      refine lv_iinc (v := x5_13) (lv' := [(5, .int x5_13), (3, .long x_12), (0, rv x0), (1, .int x1), (2, .int x2)]) hx hb dX2_sum_34 hl (k := 4) rfl (by rw [ex5_13]; rfl) (by decide) rfl (fun ls hl => ?_)
      refine lv_goto (tgt := 5) hx hb dX2_sum_37 (by decide) ?_
      exact ih x0 x1 x2 x_12 x5_13 hF H locs cells slots ls hX (lv_sub hl [2, 3, 4, 1, 0] rfl)
def F_X2_sum (K : Nat → Nat) (h : TH) (a0 : Nat) (b0 : Int32) (b1 : Int32) : Option Int64 :=
  F_X2_sum_L5 K h MN a0 b0 b1 (0 : Int64) (0 : Int32)
set_option maxHeartbeats 4000000 in
theorem w_X2_sum {p : Program} {l : Launch} {e : Env} {s : State} {m : MethodId} {args : Array Value} {below : List Frame} {meth : Method} {c : Code} {D : XD} {h : TH} (hC : XCx D cX2_sum 6 RX2 h p (xRm 0 0 h) s m args meth c) (hr : meth.sig.returnType = some .long) (hnh : c.exceptionTable.isEmpty = true) (hin : meth.name = "sum") {x : Int64} :
    ∀ (a0 : Nat) (b0 : Int32) (b1 : Int32), F_X2_sum D.2.2.2 h a0 b0 b1 = some x → XJ p l e (xRm 0 0 h) s m args below meth c D 6 (.returned (some (.long x))) h h 0 [(0, rv a0), (1, .int b0), (2, .int b1)] [] h := by
  have hx := hC.1
  have hb := hC.2.1
  intro a0 b0 b1 hF H locs cells slots ls hX hl
  rw [F_X2_sum] at hF
  refine lv_lconst (v := 0) hx hb dX2_sum_0 (by decide) ?_
  refine lv_lstore_n (lv' := [(3, .long (0 : Int64)), (0, rv a0), (1, .int b0), (2, .int b1)]) hx hb dX2_sum_1 rfl hl (by decide) rfl (fun ls hl => ?_)
  refine lv_iconst (v := 0) hx hb dX2_sum_2 (by decide) ?_
  refine lv_istore (lv' := [(5, .int (0 : Int32)), (3, .long (0 : Int64)), (0, rv a0), (1, .int b0), (2, .int b1)]) hx hb dX2_sum_3 hl (by decide) rfl (fun ls hl => ?_)
  exact w_X2_sum_L5 hC hr hnh hin MN a0 b0 b1 (0 : Int64) (0 : Int32) hF H locs cells slots ls hX (lv_sub hl [2, 3, 4, 1, 0] rfl)
theorem m_X2_sum (l : Launch) (D : XD) (a0 : Nat) (b0 : Int32) (b1 : Int32) (h : TH) (x : Int64) (hF : F_X2_sum D.2.2.2 h a0 b0 b1 = some x) : XMt l yX2_sum (ws_ yX2_sum cX2_sum 6 (some .long)) 0 0 D [rv a0, .int b0, .int b1] h (.returned (some (.long x))) h := by
  refine x_met (by decide +kernel) ?_ ?_
  · simp [lg_sl, rv_cat, cat_i, cat_l]
  intro p e s m below meth c hC hr hnh hin ls hl hX
  replace hl : lv_has ls 6 [(0, rv a0), (1, .int b0), (2, .int b1)] := by simpa [lv_args, rv_cat, cat_i, cat_l] using hl
  exact w_X2_sum hC hr hnh hin a0 b0 b1 hF s.heap [] 0 0 ls hX hl
theorem gX_X4_32 {p : Program} {l : Launch} {e : Env} {R : Room} {s : State} {m : MethodId} {args : Array Value} {below : List Frame} {meth : Method} {c : Code} {H : Heap} {locs : List Loc} {cells slots nL : Nat} {Q : State → Prop} {D : XD} {h0 h : TH} {cc : ByteArray} {pc : Nat} {ls : Array Slot} {rest : List Value} (hC : XCx D cc nL RX4 h0 p R s m args meth c) (hX : XSt D s h0 h H locs cells slots) {a : Nat} (hf : hasF (hT h a) 61 = true) (hdg : decode cc pc = .ok (.getfield 32, 3)) (kk : W p l e R s m args below meth c H locs cells slots Q (F0 m (pc + 3) ls (.int (hI h 61 a) :: rest))) : W p l e R s m args below meth c H locs cells slots Q (F0 m pc ls (rv a :: rest)) :=
  X_geti hC hX 61 hf rfl q346 (fun _ h => h) hdg kk
/-! BlindCards$Closer.isDone -/
def F_X4_isDone (K : Nat → Nat) (h : TH) (a0 : Nat) : Option Int32 :=
  gd (hasF (hT h a0) 61 = true) <|
  gd ((hI h 61 a0) = 0 ∨ (hI h 61 a0) = 1) <|
  some (hI h 61 a0)
set_option maxHeartbeats 4000000 in
theorem w_X4_isDone {p : Program} {l : Launch} {e : Env} {s : State} {m : MethodId} {args : Array Value} {below : List Frame} {meth : Method} {c : Code} {D : XD} {h : TH} (hC : XCx D cX4_isDone 1 RX4 h p (xRm 0 0 h) s m args meth c) (hr : meth.sig.returnType = some .boolean) (hnh : c.exceptionTable.isEmpty = true) (hin : meth.name = "isDone") {x : Int32} :
    ∀ (a0 : Nat), F_X4_isDone D.2.2.2 h a0 = some x → XJ p l e (xRm 0 0 h) s m args below meth c D 1 (.returned (some (.int x))) h h 0 [(0, rv a0)] [] h := by
  have hx := hC.1
  have hb := hC.2.1
  intro a0 hF H locs cells slots ls hX hl
  rw [F_X4_isDone] at hF
  refine X_aload_n hx hb dX4_isDone_0 rfl (lv_at hl 0 rfl) ?_
  obtain ⟨h_1, hF⟩ := gd_ok hF
  refine gX_X4_32 hC hX h_1 dX4_isDone_1 ?_
  obtain ⟨h_2, hF⟩ := gd_ok hF
  exact x_reti hC hX hr (zb_nar h_2).1 (Option.some.inj hF) rfl dX4_isDone_4
theorem m_X4_isDone (l : Launch) (D : XD) (a0 : Nat) (h : TH) (x : Int32) (hF : F_X4_isDone D.2.2.2 h a0 = some x) : XMt l yX4_isDone (ws_ yX4_isDone cX4_isDone 1 (some .boolean)) 0 0 D [rv a0] h (.returned (some (.int x))) h := by
  refine x_met (by decide +kernel) ?_ ?_
  · simp [lg_sl, rv_cat, cat_i, cat_l]
  intro p e s m below meth c hC hr hnh hin ls hl hX
  replace hl : lv_has ls 1 [(0, rv a0)] := by simpa [lv_args, rv_cat, cat_i, cat_l] using hl
  exact w_X4_isDone hC hr hnh hin a0 hF s.heap [] 0 0 ls hX hl
theorem gX_X8_13 {p : Program} {l : Launch} {e : Env} {R : Room} {s : State} {m : MethodId} {args : Array Value} {below : List Frame} {meth : Method} {c : Code} {H : Heap} {locs : List Loc} {cells slots nL : Nat} {Q : State → Prop} {D : XD} {h0 h : TH} {cc : ByteArray} {pc : Nat} {ls : Array Slot} {rest : List Value} (hC : XCx D cc nL RX8 h0 p R s m args meth c) (hX : XSt D s h0 h H locs cells slots) {a : Nat} (hf : hasF (hT h a) 99 = true) (hdg : decode cc pc = .ok (.getfield 13, 3)) (kk : W p l e R s m args below meth c H locs cells slots Q (F0 m (pc + 3) ls (.int (hI h 99 a) :: rest))) : W p l e R s m args below meth c H locs cells slots Q (F0 m pc ls (rv a :: rest)) :=
  X_geti hC hX 99 hf rfl q1335 (fun _ h => h) hdg kk
/-! BlindCards$Cut.needs -/
def F_X8_needs (K : Nat → Nat) (h : TH) (a0 : Nat) : Option Int32 :=
  gd (hasF (hT h a0) 99 = true) <|
  some ((hI h 99 a0) + (1 : Int32))
set_option maxHeartbeats 4000000 in
theorem w_X8_needs {p : Program} {l : Launch} {e : Env} {s : State} {m : MethodId} {args : Array Value} {below : List Frame} {meth : Method} {c : Code} {D : XD} {h : TH} (hC : XCx D cX8_needs 1 RX8 h p (xRm 0 0 h) s m args meth c) (hr : meth.sig.returnType = some .int) (hnh : c.exceptionTable.isEmpty = true) (hin : meth.name = "needs") {x : Int32} :
    ∀ (a0 : Nat), F_X8_needs D.2.2.2 h a0 = some x → XJ p l e (xRm 0 0 h) s m args below meth c D 1 (.returned (some (.int x))) h h 0 [(0, rv a0)] [] h := by
  have hx := hC.1
  have hb := hC.2.1
  intro a0 hF H locs cells slots ls hX hl
  rw [F_X8_needs] at hF
  refine X_aload_n hx hb dX8_needs_0 rfl (lv_at hl 0 rfl) ?_
  obtain ⟨h_1, hF⟩ := gd_ok hF
  refine gX_X8_13 hC hX h_1 dX8_needs_1 ?_
  refine lv_iconst (v := 1) hx hb dX8_needs_4 (by decide) ?_
  refine lv_iadd hx hb dX8_needs_5 ?_
  exact x_reti hC hX hr rfl (Option.some.inj hF) rfl dX8_needs_6
theorem m_X8_needs (l : Launch) (D : XD) (a0 : Nat) (h : TH) (x : Int32) (hF : F_X8_needs D.2.2.2 h a0 = some x) : XMt l yX8_needs (ws_ yX8_needs cX8_needs 1 (some .int)) 0 0 D [rv a0] h (.returned (some (.int x))) h := by
  refine x_met (by decide +kernel) ?_ ?_
  · simp [lg_sl, rv_cat, cat_i, cat_l]
  intro p e s m below meth c hC hr hnh hin ls hl hX
  replace hl : lv_has ls 1 [(0, rv a0)] := by simpa [lv_args, rv_cat, cat_i, cat_l] using hl
  exact w_X8_needs hC hr hnh hin a0 hF s.heap [] 0 0 ls hX hl
theorem gX_X8_7 {p : Program} {l : Launch} {e : Env} {R : Room} {s : State} {m : MethodId} {args : Array Value} {below : List Frame} {meth : Method} {c : Code} {H : Heap} {locs : List Loc} {cells slots nL : Nat} {Q : State → Prop} {D : XD} {h0 h : TH} {cc : ByteArray} {pc : Nat} {ls : Array Slot} {rest : List Value} (hC : XCx D cc nL RX8 h0 p R s m args meth c) (hX : XSt D s h0 h H locs cells slots) {a : Nat} (hf : hasF (hT h a) 98 = true) (hdg : decode cc pc = .ok (.getfield 7, 3)) (kk : W p l e R s m args below meth c H locs cells slots Q (F0 m (pc + 3) ls (.int (hI h 98 a) :: rest))) : W p l e R s m args below meth c H locs cells slots Q (F0 m pc ls (rv a :: rest)) :=
  X_geti hC hX 98 hf rfl q1332 (fun _ h => h) hdg kk
theorem gX_X8_16 {p : Program} {l : Launch} {e : Env} {R : Room} {s : State} {m : MethodId} {args : Array Value} {below : List Frame} {meth : Method} {c : Code} {H : Heap} {locs : List Loc} {cells slots nL : Nat} {Q : State → Prop} {D : XD} {h0 h : TH} {cc : ByteArray} {pc : Nat} {ls : Array Slot} {rest : List Value} (hC : XCx D cc nL RX8 h0 p R s m args meth c) (hX : XSt D s h0 h H locs cells slots) {a : Nat} (hf : hasF (hT h a) 100 = true) (hdg : decode cc pc = .ok (.getfield 16, 3)) (kk : W p l e R s m args below meth c H locs cells slots Q (F0 m (pc + 3) ls (.int (hI h 100 a) :: rest))) : W p l e R s m args below meth c H locs cells slots Q (F0 m pc ls (rv a :: rest)) :=
  X_geti hC hX 100 hf rfl q1338 (fun _ h => h) hdg kk
/-! BlindCards$Cut.to -/
def F_X8_to (K : Nat → Nat) (h : TH) (a0 : Nat) (b0 : Int32) (b1 : Int32) : Option Int32 :=
  gd (hasF (hT h a0) 98 = true) <|
  if b0 < (hI h 98 a0) then
    some b0
  else
    gd (hasF (hT h a0) 99 = true) <|
    if b0 ≤ (hI h 99 a0) then
      gd (hasF (hT h a0) 98 = true) <|
      gd (hasF (hT h a0) 98 = true) <|
      gd (hasF (hT h a0) 100 = true) <|
      gd (hasF (hT h a0) 99 = true) <|
      gd (hasF (hT h a0) 98 = true) <|
      gd (¬ (((hI h 99 a0) - (hI h 98 a0)) + (1 : Int32)) = 0) <|
      some ((hI h 98 a0) + (((b0 - (hI h 98 a0)) + (b1 * (hI h 100 a0))) - ((b0 - (hI h 98 a0)) + (b1 * (hI h 100 a0))) / (((hI h 99 a0) - (hI h 98 a0)) + (1 : Int32)) * (((hI h 99 a0) - (hI h 98 a0)) + (1 : Int32))))
    else
      some b0
set_option maxHeartbeats 4000000 in
theorem w_X8_to {p : Program} {l : Launch} {e : Env} {s : State} {m : MethodId} {args : Array Value} {below : List Frame} {meth : Method} {c : Code} {D : XD} {h : TH} (hC : XCx D cX8_to 3 RX8 h p (xRm 0 0 h) s m args meth c) (hr : meth.sig.returnType = some .int) (hnh : c.exceptionTable.isEmpty = true) (hin : meth.name = "to") {x : Int32} :
    ∀ (a0 : Nat) (b0 : Int32) (b1 : Int32), F_X8_to D.2.2.2 h a0 b0 b1 = some x → XJ p l e (xRm 0 0 h) s m args below meth c D 3 (.returned (some (.int x))) h h 0 [(0, rv a0), (1, .int b0), (2, .int b1)] [] h := by
  have hx := hC.1
  have hb := hC.2.1
  intro a0 b0 b1 hF H locs cells slots ls hX hl
  rw [F_X8_to] at hF
  refine lv_iload_n hx hb dX8_to_0 rfl (lv_at hl 1 rfl) ?_
  refine X_aload_n hx hb dX8_to_1 rfl (lv_at hl 0 rfl) ?_
  obtain ⟨h_1, hF⟩ := gd_ok hF
  refine gX_X8_7 hC hX h_1 dX8_to_2 ?_
  refine lv_icmp_lt (tgt := 16) hx hb dX8_to_5 (by decide) (fun c_2 => ?_) (fun c_2 => ?_)
  · replace hF := it_t hF c_2
    refine lv_iload_n hx hb dX8_to_16 rfl (lv_at hl 1 rfl) ?_
    refine lv_goto (tgt := 50) hx hb dX8_to_17 (by decide) ?_
    exact x_reti hC hX hr rfl (Option.some.inj hF) rfl dX8_to_50
  · replace hF := it_f hF c_2
    refine lv_iload_n hx hb dX8_to_8 rfl (lv_at hl 1 rfl) ?_
    refine X_aload_n hx hb dX8_to_9 rfl (lv_at hl 0 rfl) ?_
    obtain ⟨h_3, hF⟩ := gd_ok hF
    refine gX_X8_13 hC hX h_3 dX8_to_10 ?_
    refine lv_icmp_le (tgt := 20) hx hb dX8_to_13 (by decide) (fun c_4 => ?_) (fun c_4 => ?_)
    · replace hF := it_t hF c_4
      refine X_aload_n hx hb dX8_to_20 rfl (lv_at hl 0 rfl) ?_
      obtain ⟨h_5, hF⟩ := gd_ok hF
      refine gX_X8_7 hC hX h_5 dX8_to_21 ?_
      refine lv_iload_n hx hb dX8_to_24 rfl (lv_at hl 1 rfl) ?_
      refine X_aload_n hx hb dX8_to_25 rfl (lv_at hl 0 rfl) ?_
      obtain ⟨h_6, hF⟩ := gd_ok hF
      refine gX_X8_7 hC hX h_6 dX8_to_26 ?_
      refine lv_isub hx hb dX8_to_29 ?_
      refine lv_iload_n hx hb dX8_to_30 rfl (lv_at hl 2 rfl) ?_
      refine X_aload_n hx hb dX8_to_31 rfl (lv_at hl 0 rfl) ?_
      obtain ⟨h_7, hF⟩ := gd_ok hF
      refine gX_X8_16 hC hX h_7 dX8_to_32 ?_
      refine lv_imul hx hb dX8_to_35 ?_
      refine lv_iadd hx hb dX8_to_36 ?_
      refine X_aload_n hx hb dX8_to_37 rfl (lv_at hl 0 rfl) ?_
      obtain ⟨h_8, hF⟩ := gd_ok hF
      refine gX_X8_13 hC hX h_8 dX8_to_38 ?_
      refine X_aload_n hx hb dX8_to_41 rfl (lv_at hl 0 rfl) ?_
      obtain ⟨h_9, hF⟩ := gd_ok hF
      refine gX_X8_7 hC hX h_9 dX8_to_42 ?_
      refine lv_isub hx hb dX8_to_45 ?_
      refine lv_iconst (v := 1) hx hb dX8_to_46 (by decide) ?_
      refine lv_iadd hx hb dX8_to_47 ?_
      obtain ⟨h_10, hF⟩ := gd_ok hF
      refine lv_irem hx hb dX8_to_48 h_10 ?_
      refine lv_iadd hx hb dX8_to_49 ?_
      exact x_reti hC hX hr rfl (Option.some.inj hF) rfl dX8_to_50
    · replace hF := it_f hF c_4
      refine lv_iload_n hx hb dX8_to_16 rfl (lv_at hl 1 rfl) ?_
      refine lv_goto (tgt := 50) hx hb dX8_to_17 (by decide) ?_
      exact x_reti hC hX hr rfl (Option.some.inj hF) rfl dX8_to_50
theorem m_X8_to (l : Launch) (D : XD) (a0 : Nat) (b0 : Int32) (b1 : Int32) (h : TH) (x : Int32) (hF : F_X8_to D.2.2.2 h a0 b0 b1 = some x) : XMt l yX8_to (ws_ yX8_to cX8_to 3 (some .int)) 0 0 D [rv a0, .int b0, .int b1] h (.returned (some (.int x))) h := by
  refine x_met (by decide +kernel) ?_ ?_
  · simp [lg_sl, rv_cat, cat_i, cat_l]
  intro p e s m below meth c hC hr hnh hin ls hl hX
  replace hl : lv_has ls 3 [(0, rv a0), (1, .int b0), (2, .int b1)] := by simpa [lv_args, rv_cat, cat_i, cat_l] using hl
  exact w_X8_to hC hr hnh hin a0 b0 b1 hF s.heap [] 0 0 ls hX hl
/-! BlindCards$Cut.ways -/
def F_X8_ways (K : Nat → Nat) (h : TH) (a0 : Nat) : Option Int32 :=
  gd (hasF (hT h a0) 99 = true) <|
  gd (hasF (hT h a0) 98 = true) <|
  gd (hasF (hT h a0) 100 = true) <|
  gd (¬ (hI h 100 a0) = 0) <|
  some ((((hI h 99 a0) - (hI h 98 a0)) + (1 : Int32)) / (hI h 100 a0))
set_option maxHeartbeats 4000000 in
theorem w_X8_ways {p : Program} {l : Launch} {e : Env} {s : State} {m : MethodId} {args : Array Value} {below : List Frame} {meth : Method} {c : Code} {D : XD} {h : TH} (hC : XCx D cX8_ways 1 RX8 h p (xRm 0 0 h) s m args meth c) (hr : meth.sig.returnType = some .int) (hnh : c.exceptionTable.isEmpty = true) (hin : meth.name = "ways") {x : Int32} :
    ∀ (a0 : Nat), F_X8_ways D.2.2.2 h a0 = some x → XJ p l e (xRm 0 0 h) s m args below meth c D 1 (.returned (some (.int x))) h h 0 [(0, rv a0)] [] h := by
  have hx := hC.1
  have hb := hC.2.1
  intro a0 hF H locs cells slots ls hX hl
  rw [F_X8_ways] at hF
  refine X_aload_n hx hb dX8_ways_0 rfl (lv_at hl 0 rfl) ?_
  obtain ⟨h_1, hF⟩ := gd_ok hF
  refine gX_X8_13 hC hX h_1 dX8_ways_1 ?_
  refine X_aload_n hx hb dX8_ways_4 rfl (lv_at hl 0 rfl) ?_
  obtain ⟨h_2, hF⟩ := gd_ok hF
  refine gX_X8_7 hC hX h_2 dX8_ways_5 ?_
  refine lv_isub hx hb dX8_ways_8 ?_
  refine lv_iconst (v := 1) hx hb dX8_ways_9 (by decide) ?_
  refine lv_iadd hx hb dX8_ways_10 ?_
  refine X_aload_n hx hb dX8_ways_11 rfl (lv_at hl 0 rfl) ?_
  obtain ⟨h_3, hF⟩ := gd_ok hF
  refine gX_X8_16 hC hX h_3 dX8_ways_12 ?_
  obtain ⟨h_4, hF⟩ := gd_ok hF
  refine lv_idiv hx hb dX8_ways_15 h_4 ?_
  exact x_reti hC hX hr rfl (Option.some.inj hF) rfl dX8_ways_16
theorem m_X8_ways (l : Launch) (D : XD) (a0 : Nat) (h : TH) (x : Int32) (hF : F_X8_ways D.2.2.2 h a0 = some x) : XMt l yX8_ways (ws_ yX8_ways cX8_ways 1 (some .int)) 0 0 D [rv a0] h (.returned (some (.int x))) h := by
  refine x_met (by decide +kernel) ?_ ?_
  · simp [lg_sl, rv_cat, cat_i, cat_l]
  intro p e s m below meth c hC hr hnh hin ls hl hX
  replace hl : lv_has ls 1 [(0, rv a0)] := by simpa [lv_args, rv_cat, cat_i, cat_l] using hl
  exact w_X8_ways hC hr hnh hin a0 hF s.heap [] 0 0 ls hX hl
/-! java/lang/Math.max -/
def F_J4_max (K : Nat → Nat) (h : TH) (b0 : Int32) (b1 : Int32) : Option Int32 :=
  if b0 < b1 then
    some b1
  else
    some b0
set_option maxHeartbeats 4000000 in
theorem w_J4_max {p : Program} {l : Launch} {e : Env} {s : State} {m : MethodId} {args : Array Value} {below : List Frame} {meth : Method} {c : Code} {D : XD} {h : TH} (hC : XCx D cJ4_max 2 RJ4 h p (xRm 0 0 h) s m args meth c) (hr : meth.sig.returnType = some .int) (hnh : c.exceptionTable.isEmpty = true) (hin : meth.name = "max") {x : Int32} :
    ∀ (b0 : Int32) (b1 : Int32), F_J4_max D.2.2.2 h b0 b1 = some x → XJ p l e (xRm 0 0 h) s m args below meth c D 2 (.returned (some (.int x))) h h 0 [(0, .int b0), (1, .int b1)] [] h := by
  have hx := hC.1
  have hb := hC.2.1
  intro b0 b1 hF H locs cells slots ls hX hl
  rw [F_J4_max] at hF
  refine lv_iload_n hx hb dJ4_max_0 rfl (lv_at hl 0 rfl) ?_
  refine lv_iload_n hx hb dJ4_max_1 rfl (lv_at hl 1 rfl) ?_
  refine lv_icmp_lt (tgt := 9) hx hb dJ4_max_2 (by decide) (fun c_1 => ?_) (fun c_1 => ?_)
  · replace hF := it_t hF c_1
    refine lv_iload_n hx hb dJ4_max_9 rfl (lv_at hl 1 rfl) ?_
    exact x_reti hC hX hr rfl (Option.some.inj hF) rfl dJ4_max_10
  · replace hF := it_f hF c_1
    refine lv_iload_n hx hb dJ4_max_5 rfl (lv_at hl 0 rfl) ?_
    refine lv_goto (tgt := 10) hx hb dJ4_max_6 (by decide) ?_
    exact x_reti hC hX hr rfl (Option.some.inj hF) rfl dJ4_max_10
theorem m_J4_max (l : Launch) (D : XD) (b0 : Int32) (b1 : Int32) (h : TH) (x : Int32) (hF : F_J4_max D.2.2.2 h b0 b1 = some x) : XMt l yJ4_max (ws_ yJ4_max cJ4_max 2 (some .int)) 0 0 D [.int b0, .int b1] h (.returned (some (.int x))) h := by
  refine x_met (by decide +kernel) ?_ ?_
  · exact Nat.le_of_ble_eq_true rfl
  intro p e s m below meth c hC hr hnh hin ls hl hX
  replace hl : lv_has ls 2 [(0, .int b0), (1, .int b1)] := by simpa [lv_args, rv_cat, cat_i, cat_l] using hl
  exact w_J4_max hC hr hnh hin b0 b1 hF s.heap [] 0 0 ls hX hl
theorem iX_X22_18 {p : Program} {l : Launch} {e : Env} {R : Room} {s : State} {m : MethodId} {args : Array Value} {below : List Frame} {meth : Method} {c : Code} {H : Heap} {locs : List Loc} {cells slots nL : Nat} {Q : State → Prop} {D : XD} {h0 h : TH} {cc : ByteArray} {pc : Nat} {ls : Array Slot} {rest : List Value} (hC : XCx D cc nL RX22 h0 p R s m args meth c) (hX : XSt D s h0 h H locs cells slots) {b0 : Int32} {b1 : Int32} {x : Int32} (hcF : F_J4_max D.2.2.2 h b0 b1 = some x) (hl : ls.size = nL) (hW : (rest.map fun v => v.category).sum ≤ 8) (hRf : 0 + 1 ≤ R.frames) (hRl : 21 ≤ R.locals) (hdg : decode cc pc = .ok (.invokestatic 18, 3)) (kk : ∀ (H1 : Heap) (locs1 : List Loc) (cells1 slots1 : Nat), XSt D s h0 h H1 locs1 cells1 slots1 → W p l e R s m args below meth c H1 locs1 cells1 slots1 Q (F0 m (pc + 3) ls (.int x :: rest))) : W p l e R s m args below meth c H locs cells slots Q (F0 m pc ls (.int b1 :: .int b0 :: rest)) := by
  exact X_callS hC hX (As := [.int b0, .int b1]) (m_J4_max l D b0 b1 h _ hcF) (va_cwS 2 hC.2.2.2.2.1 (lw_S q527 q414 q135 q415) rfl rfl rfl (by decide +kernel) ⟨Nat.le_trans (Nat.le_of_ble_eq_true rfl) hRf, Nat.le_trans (Nat.le_of_ble_eq_true rfl) hRl⟩) rfl rfl hl hW hdg kk
/-! BlindCards$End.needs -/
def F_X22_needs (K : Nat → Nat) (h : TH) (a0 : Nat) : Option Int32 :=
  gd (hasF (hT h a0) 112 = true) <|
  gd (hasF (hT h a0) 113 = true) <|
  bd (F_J4_max K h (hI h 112 a0) (hI h 113 a0)) fun r_4 =>
  some (r_4 + (1 : Int32))
set_option maxHeartbeats 4000000 in
theorem w_X22_needs {p : Program} {l : Launch} {e : Env} {s : State} {m : MethodId} {args : Array Value} {below : List Frame} {meth : Method} {c : Code} {D : XD} {h : TH} (hC : XCx D cX22_needs 1 RX22 h p (xRm 1 21 h) s m args meth c) (hr : meth.sig.returnType = some .int) (hnh : c.exceptionTable.isEmpty = true) (hin : meth.name = "needs") {x : Int32} :
    ∀ (a0 : Nat), F_X22_needs D.2.2.2 h a0 = some x → XJ p l e (xRm 1 21 h) s m args below meth c D 1 (.returned (some (.int x))) h h 0 [(0, rv a0)] [] h := by
  have hx := hC.1
  have hb := hC.2.1
  intro a0 hF H locs cells slots ls hX hl
  rw [F_X22_needs] at hF
  refine X_aload_n hx hb dX22_needs_0 rfl (lv_at hl 0 rfl) ?_
  obtain ⟨h_1, hF⟩ := gd_ok hF
  refine gX_X22_9 hC hX h_1 dX22_needs_1 ?_
  refine X_aload_n hx hb dX22_needs_4 rfl (lv_at hl 0 rfl) ?_
  obtain ⟨h_2, hF⟩ := gd_ok hF
  refine gX_X22_15 hC hX h_2 dX22_needs_5 ?_
  obtain ⟨r_4, hc_3, hF⟩ := bd_ok hF
  refine iX_X22_18 hC hX hc_3 hl.1 (Nat.le_of_ble_eq_true rfl) (Nat.le_of_ble_eq_true rfl) (Nat.le_of_ble_eq_true rfl) dX22_needs_8 (fun H locs cells slots hX => ?_)
  refine lv_iconst (v := 1) hx hb dX22_needs_11 (by decide) ?_
  refine lv_iadd hx hb dX22_needs_12 ?_
  exact x_reti hC hX hr rfl (Option.some.inj hF) rfl dX22_needs_13
theorem m_X22_needs (l : Launch) (D : XD) (a0 : Nat) (h : TH) (x : Int32) (hF : F_X22_needs D.2.2.2 h a0 = some x) : XMt l yX22_needs (ws_ yX22_needs cX22_needs 1 (some .int)) 1 21 D [rv a0] h (.returned (some (.int x))) h := by
  refine x_met (by decide +kernel) ?_ ?_
  · simp [lg_sl, rv_cat, cat_i, cat_l]
  intro p e s m below meth c hC hr hnh hin ls hl hX
  replace hl : lv_has ls 1 [(0, rv a0)] := by simpa [lv_args, rv_cat, cat_i, cat_l] using hl
  exact w_X22_needs hC hr hnh hin a0 hF s.heap [] 0 0 ls hX hl
theorem iX_X3_87 {p : Program} {l : Launch} {e : Env} {R : Room} {s : State} {m : MethodId} {args : Array Value} {below : List Frame} {meth : Method} {c : Code} {H : Heap} {locs : List Loc} {cells slots nL : Nat} {Q : State → Prop} {D : XD} {h0 h : TH} {cc : ByteArray} {pc : Nat} {ls : Array Slot} {rest : List Value} (hC : XCx D cc nL RX3 h0 p R s m args meth c) (hX : XSt D s h0 h H locs cells slots) {b0 : Nat} {b1 : Int32} {x : Int32} (hcF : F_X0_answer D.2.2.2 h b0 b1 = some x) (hl : ls.size = nL) (hW : (rest.map fun v => v.category).sum ≤ 8) (hRf : 1 + 1 ≤ R.frames) (hRl : 44 ≤ R.locals) (hdg : decode cc pc = .ok (.invokestatic 87, 3)) (kk : ∀ (H1 : Heap) (locs1 : List Loc) (cells1 slots1 : Nat), XSt D s h0 h H1 locs1 cells1 slots1 → W p l e R s m args below meth c H1 locs1 cells1 slots1 Q (F0 m (pc + 3) ls (.int x :: rest))) : W p l e R s m args below meth c H locs cells slots Q (F0 m pc ls (.int b1 :: rv b0 :: rest)) := by
  exact X_callSN hC hX (As := [rv b0, .int b1]) (m_X0_answer l D b0 b1 h _ hcF) ⟨va_cnB 2 hC.2.2.2.2.1 (lw_meth q636) rfl rfl rfl (xm10 hC.2.2.2.2.2.2.1) (hC.2.2.2.2.1 _ q125) (by decide +kernel) ⟨Nat.le_trans (Nat.le_of_ble_eq_true rfl) hRf, Nat.le_trans (Nat.le_of_ble_eq_true rfl) hRl⟩, hC.2.2.2.2.1 _ q635, trivial⟩ rfl rfl hl hW hdg kk
/-! BlindCards$Keeper.isAnswer -/
def F_X3_isAnswer (K : Nat → Nat) (h : TH) (a0 : Nat) (b0 : Nat) (b1 : Int32) (b2 : Int32) : Option Int32 :=
  bd (F_X0_answer K h b0 b1) fun r_2 =>
  if r_2 < 0 then
    some (0 : Int32)
  else
    bd (F_X0_answer K h b0 b1) fun r_5 =>
    if r_5 = b2 then
      some (1 : Int32)
    else
      some (0 : Int32)
set_option maxHeartbeats 4000000 in
theorem w_X3_isAnswer {p : Program} {l : Launch} {e : Env} {s : State} {m : MethodId} {args : Array Value} {below : List Frame} {meth : Method} {c : Code} {D : XD} {h : TH} (hC : XCx D cX3_isAnswer 4 RX3 h p (xRm 2 44 h) s m args meth c) (hr : meth.sig.returnType = some .boolean) (hnh : c.exceptionTable.isEmpty = true) (hin : meth.name = "isAnswer") {x : Int32} :
    ∀ (a0 : Nat) (b0 : Nat) (b1 : Int32) (b2 : Int32), F_X3_isAnswer D.2.2.2 h a0 b0 b1 b2 = some x → XJ p l e (xRm 2 44 h) s m args below meth c D 4 (.returned (some (.int x))) h h 0 [(0, rv a0), (1, rv b0), (2, .int b1), (3, .int b2)] [] h := by
  have hx := hC.1
  have hb := hC.2.1
  intro a0 b0 b1 b2 hF H locs cells slots ls hX hl
  rw [F_X3_isAnswer] at hF
  refine X_aload_n hx hb dX3_isAnswer_0 rfl (lv_at hl 1 rfl) ?_
  refine lv_iload_n hx hb dX3_isAnswer_1 rfl (lv_at hl 2 rfl) ?_
  obtain ⟨r_2, hc_1, hF⟩ := bd_ok hF
  refine iX_X3_87 hC hX hc_1 hl.1 (Nat.le_of_ble_eq_true rfl) (Nat.le_of_ble_eq_true rfl) (Nat.le_of_ble_eq_true rfl) dX3_isAnswer_2 (fun H locs cells slots hX => ?_)
  refine lv_if_lt (tgt := 21) hx hb dX3_isAnswer_5 (by decide) (fun c_3 => ?_) (fun c_3 => ?_)
  · replace hF := it_t hF c_3
    refine lv_iconst (v := 0) hx hb dX3_isAnswer_21 (by decide) ?_
    exact x_reti hC hX hr rfl (Option.some.inj hF) rfl dX3_isAnswer_22
  · replace hF := it_f hF c_3
    refine X_aload_n hx hb dX3_isAnswer_8 rfl (lv_at hl 1 rfl) ?_
    refine lv_iload_n hx hb dX3_isAnswer_9 rfl (lv_at hl 2 rfl) ?_
    obtain ⟨r_5, hc_4, hF⟩ := bd_ok hF
    refine iX_X3_87 hC hX hc_4 hl.1 (Nat.le_of_ble_eq_true rfl) (Nat.le_of_ble_eq_true rfl) (Nat.le_of_ble_eq_true rfl) dX3_isAnswer_10 (fun H locs cells slots hX => ?_)
    refine lv_iload_n hx hb dX3_isAnswer_13 rfl (lv_at hl 3 rfl) ?_
    refine lv_icmp_ne (tgt := 21) hx hb dX3_isAnswer_14 (by decide) (fun c_6 => ?_) (fun c_6 => ?_)
    · replace hF := it_f hF c_6
      refine lv_iconst (v := 0) hx hb dX3_isAnswer_21 (by decide) ?_
      exact x_reti hC hX hr rfl (Option.some.inj hF) rfl dX3_isAnswer_22
    · replace hF := it_t hF c_6
      refine lv_iconst (v := 1) hx hb dX3_isAnswer_17 (by decide) ?_
      refine lv_goto (tgt := 22) hx hb dX3_isAnswer_18 (by decide) ?_
      exact x_reti hC hX hr rfl (Option.some.inj hF) rfl dX3_isAnswer_22
theorem m_X3_isAnswer (l : Launch) (D : XD) (a0 : Nat) (b0 : Nat) (b1 : Int32) (b2 : Int32) (h : TH) (x : Int32) (hF : F_X3_isAnswer D.2.2.2 h a0 b0 b1 b2 = some x) : XMt l yX3_isAnswer (ws_ yX3_isAnswer cX3_isAnswer 4 (some .boolean)) 2 44 D [rv a0, rv b0, .int b1, .int b2] h (.returned (some (.int x))) h := by
  refine x_met (by decide +kernel) ?_ ?_
  · simp [lg_sl, rv_cat, cat_i, cat_l]
  intro p e s m below meth c hC hr hnh hin ls hl hX
  replace hl : lv_has ls 4 [(0, rv a0), (1, rv b0), (2, .int b1), (3, .int b2)] := by simpa [lv_args, rv_cat, cat_i, cat_l] using hl
  exact w_X3_isAnswer hC hr hnh hin a0 b0 b1 b2 hF s.heap [] 0 0 ls hX hl
theorem gX_X3_39 {p : Program} {l : Launch} {e : Env} {R : Room} {s : State} {m : MethodId} {args : Array Value} {below : List Frame} {meth : Method} {c : Code} {H : Heap} {locs : List Loc} {cells slots nL : Nat} {Q : State → Prop} {D : XD} {h0 h : TH} {cc : ByteArray} {pc : Nat} {ls : Array Slot} {rest : List Value} (hC : XCx D cc nL RX3 h0 p R s m args meth c) (hX : XSt D s h0 h H locs cells slots) {a : Nat} (hf : hasF (hT h a) 57 = true) (hdg : decode cc pc = .ok (.getfield 39, 3)) (kk : W p l e R s m args below meth c H locs cells slots Q (F0 m (pc + 3) ls (.int (hI h 57 a) :: rest))) : W p l e R s m args below meth c H locs cells slots Q (F0 m pc ls (rv a :: rest)) :=
  X_geti hC hX 57 hf rfl q283 (fun _ h => h) hdg kk
/-! BlindCards$Keeper.isDone -/
def F_X3_isDone (K : Nat → Nat) (h : TH) (a0 : Nat) : Option Int32 :=
  gd (hasF (hT h a0) 57 = true) <|
  gd ((hI h 57 a0) = 0 ∨ (hI h 57 a0) = 1) <|
  some (hI h 57 a0)
set_option maxHeartbeats 4000000 in
theorem w_X3_isDone {p : Program} {l : Launch} {e : Env} {s : State} {m : MethodId} {args : Array Value} {below : List Frame} {meth : Method} {c : Code} {D : XD} {h : TH} (hC : XCx D cX3_isDone 1 RX3 h p (xRm 0 0 h) s m args meth c) (hr : meth.sig.returnType = some .boolean) (hnh : c.exceptionTable.isEmpty = true) (hin : meth.name = "isDone") {x : Int32} :
    ∀ (a0 : Nat), F_X3_isDone D.2.2.2 h a0 = some x → XJ p l e (xRm 0 0 h) s m args below meth c D 1 (.returned (some (.int x))) h h 0 [(0, rv a0)] [] h := by
  have hx := hC.1
  have hb := hC.2.1
  intro a0 hF H locs cells slots ls hX hl
  rw [F_X3_isDone] at hF
  refine X_aload_n hx hb dX3_isDone_0 rfl (lv_at hl 0 rfl) ?_
  obtain ⟨h_1, hF⟩ := gd_ok hF
  refine gX_X3_39 hC hX h_1 dX3_isDone_1 ?_
  obtain ⟨h_2, hF⟩ := gd_ok hF
  exact x_reti hC hX hr (zb_nar h_2).1 (Option.some.inj hF) rfl dX3_isDone_4
theorem m_X3_isDone (l : Launch) (D : XD) (a0 : Nat) (h : TH) (x : Int32) (hF : F_X3_isDone D.2.2.2 h a0 = some x) : XMt l yX3_isDone (ws_ yX3_isDone cX3_isDone 1 (some .boolean)) 0 0 D [rv a0] h (.returned (some (.int x))) h := by
  refine x_met (by decide +kernel) ?_ ?_
  · simp [lg_sl, rv_cat, cat_i, cat_l]
  intro p e s m below meth c hC hr hnh hin ls hl hX
  replace hl : lv_has ls 1 [(0, rv a0)] := by simpa [lv_args, rv_cat, cat_i, cat_l] using hl
  exact w_X3_isDone hC hr hnh hin a0 hF s.heap [] 0 0 ls hX hl
theorem gX_X19_7 {p : Program} {l : Launch} {e : Env} {R : Room} {s : State} {m : MethodId} {args : Array Value} {below : List Frame} {meth : Method} {c : Code} {H : Heap} {locs : List Loc} {cells slots nL : Nat} {Q : State → Prop} {D : XD} {h0 h : TH} {cc : ByteArray} {pc : Nat} {ls : Array Slot} {rest : List Value} (hC : XCx D cc nL RX19 h0 p R s m args meth c) (hX : XSt D s h0 h H locs cells slots) {a : Nat} (hf : hasF (hT h a) 104 = true) (hdg : decode cc pc = .ok (.getfield 7, 3)) (kk : W p l e R s m args below meth c H locs cells slots Q (F0 m (pc + 3) ls (.int (hI h 104 a) :: rest))) : W p l e R s m args below meth c H locs cells slots Q (F0 m pc ls (rv a :: rest)) :=
  X_geti hC hX 104 hf rfl q1412 (fun _ h => h) hdg kk
/-! BlindCards$Lay.many -/
def F_X19_many (K : Nat → Nat) (h : TH) (a0 : Nat) : Option Int32 :=
  gd (hasF (hT h a0) 104 = true) <|
  if 0 ≤ (hI h 104 a0) then
    some (2 : Int32)
  else
    some (1 : Int32)
set_option maxHeartbeats 4000000 in
theorem w_X19_many {p : Program} {l : Launch} {e : Env} {s : State} {m : MethodId} {args : Array Value} {below : List Frame} {meth : Method} {c : Code} {D : XD} {h : TH} (hC : XCx D cX19_many 1 RX19 h p (xRm 0 0 h) s m args meth c) (hr : meth.sig.returnType = some .int) (hnh : c.exceptionTable.isEmpty = true) (hin : meth.name = "many") {x : Int32} :
    ∀ (a0 : Nat), F_X19_many D.2.2.2 h a0 = some x → XJ p l e (xRm 0 0 h) s m args below meth c D 1 (.returned (some (.int x))) h h 0 [(0, rv a0)] [] h := by
  have hx := hC.1
  have hb := hC.2.1
  intro a0 hF H locs cells slots ls hX hl
  rw [F_X19_many] at hF
  refine X_aload_n hx hb dX19_many_0 rfl (lv_at hl 0 rfl) ?_
  obtain ⟨h_1, hF⟩ := gd_ok hF
  refine gX_X19_7 hC hX h_1 dX19_many_1 ?_
  refine lv_if_ge (tgt := 11) hx hb dX19_many_4 (by decide) (fun c_2 => ?_) (fun c_2 => ?_)
  · replace hF := it_t hF c_2
    refine lv_iconst (v := 2) hx hb dX19_many_11 (by decide) ?_
    exact x_reti hC hX hr rfl (Option.some.inj hF) rfl dX19_many_12
  · replace hF := it_f hF c_2
    refine lv_iconst (v := 1) hx hb dX19_many_7 (by decide) ?_
    refine lv_goto (tgt := 12) hx hb dX19_many_8 (by decide) ?_
    exact x_reti hC hX hr rfl (Option.some.inj hF) rfl dX19_many_12
theorem m_X19_many (l : Launch) (D : XD) (a0 : Nat) (h : TH) (x : Int32) (hF : F_X19_many D.2.2.2 h a0 = some x) : XMt l yX19_many (ws_ yX19_many cX19_many 1 (some .int)) 0 0 D [rv a0] h (.returned (some (.int x))) h := by
  refine x_met (by decide +kernel) ?_ ?_
  · simp [lg_sl, rv_cat, cat_i, cat_l]
  intro p e s m below meth c hC hr hnh hin ls hl hX
  replace hl : lv_has ls 1 [(0, rv a0)] := by simpa [lv_args, rv_cat, cat_i, cat_l] using hl
  exact w_X19_many hC hr hnh hin a0 hF s.heap [] 0 0 ls hX hl
/-! java/lang/Integer.numberOfTrailingZeros -/
def F_J8_numberOfTrailingZeros_b74 (K : Nat → Nat) (h : TH) (x0 : Int32) (x1 : Int32) : Option Int32 :=
  some (x1 + (Int32.toUInt32 x0 >>> (Int32.toUInt32 (1 : Int32) &&& Int32.toUInt32 31)).toInt32)
set_option maxHeartbeats 4000000 in
theorem w_J8_numberOfTrailingZeros_b74 {p : Program} {l : Launch} {e : Env} {s : State} {m : MethodId} {args : Array Value} {below : List Frame} {meth : Method} {c : Code} {D : XD} {h : TH} (hC : XCx D cJ8_numberOfTrailingZeros 2 RJ8 h p (xRm 0 0 h) s m args meth c) (hr : meth.sig.returnType = some .int) (hnh : c.exceptionTable.isEmpty = true) (hin : meth.name = "numberOfTrailingZeros") {x : Int32} :
    ∀ (x0 : Int32) (x1 : Int32), F_J8_numberOfTrailingZeros_b74 D.2.2.2 h x0 x1 = some x → XJ p l e (xRm 0 0 h) s m args below meth c D 2 (.returned (some (.int x))) h h 74 [(0, .int x0), (1, .int x1)] [] h := by
  have hx := hC.1
  have hb := hC.2.1
  intro x0 x1 hF H locs cells slots ls hX hl
  rw [F_J8_numberOfTrailingZeros_b74] at hF
  refine lv_iload_n hx hb dJ8_numberOfTrailingZeros_74 rfl (lv_at hl 1 rfl) ?_
  refine lv_iload_n hx hb dJ8_numberOfTrailingZeros_75 rfl (lv_at hl 0 rfl) ?_
  refine lv_iconst (v := 1) hx hb dJ8_numberOfTrailingZeros_76 (by decide) ?_
  refine lv_iushr hx hb dJ8_numberOfTrailingZeros_77 rfl ?_
  refine lv_iadd hx hb dJ8_numberOfTrailingZeros_78 ?_
  exact x_reti hC hX hr rfl (Option.some.inj hF) rfl dJ8_numberOfTrailingZeros_79
def F_J8_numberOfTrailingZeros_b62 (K : Nat → Nat) (h : TH) (x0 : Int32) (x1 : Int32) : Option Int32 :=
  if x0 ≤ (4 : Int32) then
    F_J8_numberOfTrailingZeros_b74 K h x0 x1
  else
    lt (x1 + (2 : Int32)) fun x1_2 =>
    lt ((Int32.toUInt32 x0 >>> (Int32.toUInt32 (2 : Int32) &&& Int32.toUInt32 31)).toInt32) fun x_3 =>
    F_J8_numberOfTrailingZeros_b74 K h x_3 x1_2
set_option maxHeartbeats 4000000 in
theorem w_J8_numberOfTrailingZeros_b62 {p : Program} {l : Launch} {e : Env} {s : State} {m : MethodId} {args : Array Value} {below : List Frame} {meth : Method} {c : Code} {D : XD} {h : TH} (hC : XCx D cJ8_numberOfTrailingZeros 2 RJ8 h p (xRm 0 0 h) s m args meth c) (hr : meth.sig.returnType = some .int) (hnh : c.exceptionTable.isEmpty = true) (hin : meth.name = "numberOfTrailingZeros") {x : Int32} :
    ∀ (x0 : Int32) (x1 : Int32), F_J8_numberOfTrailingZeros_b62 D.2.2.2 h x0 x1 = some x → XJ p l e (xRm 0 0 h) s m args below meth c D 2 (.returned (some (.int x))) h h 62 [(0, .int x0), (1, .int x1)] [] h := by
  have hx := hC.1
  have hb := hC.2.1
  intro x0 x1 hF H locs cells slots ls hX hl
  rw [F_J8_numberOfTrailingZeros_b62] at hF
  refine lv_iload_n hx hb dJ8_numberOfTrailingZeros_62 rfl (lv_at hl 0 rfl) ?_
  refine lv_iconst (v := 4) hx hb dJ8_numberOfTrailingZeros_63 (by decide) ?_
  refine lv_icmp_le (tgt := 74) hx hb dJ8_numberOfTrailingZeros_64 (by decide) (fun c_1 => ?_) (fun c_1 => ?_)
  · replace hF := it_t hF c_1
    exact w_J8_numberOfTrailingZeros_b74 hC hr hnh hin x0 x1 hF H locs cells slots ls hX (lv_sub hl [0, 1] rfl)
  · replace hF := it_f hF c_1
    obtain ⟨x1_2, ex1_2, hF⟩ := lt_ok hF
    refine lv_iinc (v := x1_2) (lv' := [(1, .int x1_2), (0, .int x0)]) hx hb dJ8_numberOfTrailingZeros_67 hl (k := 1) rfl (by rw [ex1_2]; rfl) (by decide) rfl (fun ls hl => ?_)
    refine lv_iload_n hx hb dJ8_numberOfTrailingZeros_70 rfl (lv_at hl 1 rfl) ?_
    refine lv_iconst (v := 2) hx hb dJ8_numberOfTrailingZeros_71 (by decide) ?_
    refine lv_iushr hx hb dJ8_numberOfTrailingZeros_72 rfl ?_
    refine lv_topi (fun x_3 ex_3 => ?_)
    replace hF := lt_at hF ex_3
    refine lv_istore_n (lv' := [(0, .int x_3), (1, .int x1_2)]) hx hb dJ8_numberOfTrailingZeros_73 rfl hl (by decide) rfl (fun ls hl => ?_)
    exact w_J8_numberOfTrailingZeros_b74 hC hr hnh hin x_3 x1_2 hF H locs cells slots ls hX (lv_sub hl [0, 1] rfl)
def F_J8_numberOfTrailingZeros_b49 (K : Nat → Nat) (h : TH) (x0 : Int32) (x1 : Int32) : Option Int32 :=
  if x0 ≤ (16 : Int32) then
    F_J8_numberOfTrailingZeros_b62 K h x0 x1
  else
    lt (x1 + (4 : Int32)) fun x1_2 =>
    lt ((Int32.toUInt32 x0 >>> (Int32.toUInt32 (4 : Int32) &&& Int32.toUInt32 31)).toInt32) fun x_3 =>
    F_J8_numberOfTrailingZeros_b62 K h x_3 x1_2
set_option maxHeartbeats 4000000 in
theorem w_J8_numberOfTrailingZeros_b49 {p : Program} {l : Launch} {e : Env} {s : State} {m : MethodId} {args : Array Value} {below : List Frame} {meth : Method} {c : Code} {D : XD} {h : TH} (hC : XCx D cJ8_numberOfTrailingZeros 2 RJ8 h p (xRm 0 0 h) s m args meth c) (hr : meth.sig.returnType = some .int) (hnh : c.exceptionTable.isEmpty = true) (hin : meth.name = "numberOfTrailingZeros") {x : Int32} :
    ∀ (x0 : Int32) (x1 : Int32), F_J8_numberOfTrailingZeros_b49 D.2.2.2 h x0 x1 = some x → XJ p l e (xRm 0 0 h) s m args below meth c D 2 (.returned (some (.int x))) h h 49 [(0, .int x0), (1, .int x1)] [] h := by
  have hx := hC.1
  have hb := hC.2.1
  intro x0 x1 hF H locs cells slots ls hX hl
  rw [F_J8_numberOfTrailingZeros_b49] at hF
  refine lv_iload_n hx hb dJ8_numberOfTrailingZeros_49 rfl (lv_at hl 0 rfl) ?_
  refine lv_bipush (v := 16) hx hb dJ8_numberOfTrailingZeros_50 (by decide) ?_
  refine lv_icmp_le (tgt := 62) hx hb dJ8_numberOfTrailingZeros_52 (by decide) (fun c_1 => ?_) (fun c_1 => ?_)
  · replace hF := it_t hF c_1
    exact w_J8_numberOfTrailingZeros_b62 hC hr hnh hin x0 x1 hF H locs cells slots ls hX (lv_sub hl [0, 1] rfl)
  · replace hF := it_f hF c_1
    obtain ⟨x1_2, ex1_2, hF⟩ := lt_ok hF
    refine lv_iinc (v := x1_2) (lv' := [(1, .int x1_2), (0, .int x0)]) hx hb dJ8_numberOfTrailingZeros_55 hl (k := 1) rfl (by rw [ex1_2]; rfl) (by decide) rfl (fun ls hl => ?_)
    refine lv_iload_n hx hb dJ8_numberOfTrailingZeros_58 rfl (lv_at hl 1 rfl) ?_
    refine lv_iconst (v := 4) hx hb dJ8_numberOfTrailingZeros_59 (by decide) ?_
    refine lv_iushr hx hb dJ8_numberOfTrailingZeros_60 rfl ?_
    refine lv_topi (fun x_3 ex_3 => ?_)
    replace hF := lt_at hF ex_3
    refine lv_istore_n (lv' := [(0, .int x_3), (1, .int x1_2)]) hx hb dJ8_numberOfTrailingZeros_61 rfl hl (by decide) rfl (fun ls hl => ?_)
    exact w_J8_numberOfTrailingZeros_b62 hC hr hnh hin x_3 x1_2 hF H locs cells slots ls hX (lv_sub hl [0, 1] rfl)
def F_J8_numberOfTrailingZeros_b34 (K : Nat → Nat) (h : TH) (x0 : Int32) (x1 : Int32) : Option Int32 :=
  if x0 ≤ (256 : Int32) then
    F_J8_numberOfTrailingZeros_b49 K h x0 x1
  else
    lt (x1 + (8 : Int32)) fun x1_2 =>
    lt ((Int32.toUInt32 x0 >>> (Int32.toUInt32 (8 : Int32) &&& Int32.toUInt32 31)).toInt32) fun x_3 =>
    F_J8_numberOfTrailingZeros_b49 K h x_3 x1_2
set_option maxHeartbeats 4000000 in
theorem w_J8_numberOfTrailingZeros_b34 {p : Program} {l : Launch} {e : Env} {s : State} {m : MethodId} {args : Array Value} {below : List Frame} {meth : Method} {c : Code} {D : XD} {h : TH} (hC : XCx D cJ8_numberOfTrailingZeros 2 RJ8 h p (xRm 0 0 h) s m args meth c) (hr : meth.sig.returnType = some .int) (hnh : c.exceptionTable.isEmpty = true) (hin : meth.name = "numberOfTrailingZeros") {x : Int32} :
    ∀ (x0 : Int32) (x1 : Int32), F_J8_numberOfTrailingZeros_b34 D.2.2.2 h x0 x1 = some x → XJ p l e (xRm 0 0 h) s m args below meth c D 2 (.returned (some (.int x))) h h 34 [(0, .int x0), (1, .int x1)] [] h := by
  have hx := hC.1
  have hb := hC.2.1
  intro x0 x1 hF H locs cells slots ls hX hl
  rw [F_J8_numberOfTrailingZeros_b34] at hF
  refine lv_iload_n hx hb dJ8_numberOfTrailingZeros_34 rfl (lv_at hl 0 rfl) ?_
  refine lv_sipush (v := 256) hx hb dJ8_numberOfTrailingZeros_35 (by decide) ?_
  refine lv_icmp_le (tgt := 49) hx hb dJ8_numberOfTrailingZeros_38 (by decide) (fun c_1 => ?_) (fun c_1 => ?_)
  · replace hF := it_t hF c_1
    exact w_J8_numberOfTrailingZeros_b49 hC hr hnh hin x0 x1 hF H locs cells slots ls hX (lv_sub hl [0, 1] rfl)
  · replace hF := it_f hF c_1
    obtain ⟨x1_2, ex1_2, hF⟩ := lt_ok hF
    refine lv_iinc (v := x1_2) (lv' := [(1, .int x1_2), (0, .int x0)]) hx hb dJ8_numberOfTrailingZeros_41 hl (k := 1) rfl (by rw [ex1_2]; rfl) (by decide) rfl (fun ls hl => ?_)
    refine lv_iload_n hx hb dJ8_numberOfTrailingZeros_44 rfl (lv_at hl 1 rfl) ?_
    refine lv_bipush (v := 8) hx hb dJ8_numberOfTrailingZeros_45 (by decide) ?_
    refine lv_iushr hx hb dJ8_numberOfTrailingZeros_47 rfl ?_
    refine lv_topi (fun x_3 ex_3 => ?_)
    replace hF := lt_at hF ex_3
    refine lv_istore_n (lv' := [(0, .int x_3), (1, .int x1_2)]) hx hb dJ8_numberOfTrailingZeros_48 rfl hl (by decide) rfl (fun ls hl => ?_)
    exact w_J8_numberOfTrailingZeros_b49 hC hr hnh hin x_3 x1_2 hF H locs cells slots ls hX (lv_sub hl [0, 1] rfl)
def F_J8_numberOfTrailingZeros (K : Nat → Nat) (h : TH) (b0 : Int32) : Option Int32 :=
  lt (((b0 ^^^ (-1 : Int32)) &&& (b0 - (1 : Int32)))) fun x_1 =>
  if 0 < x_1 then
    if x_1 ≤ (65536 : Int32) then
      F_J8_numberOfTrailingZeros_b34 K h x_1 (1 : Int32)
    else
      lt ((1 : Int32) + (16 : Int32)) fun x1_4 =>
      lt ((Int32.toUInt32 x_1 >>> (Int32.toUInt32 (16 : Int32) &&& Int32.toUInt32 31)).toInt32) fun x_5 =>
      F_J8_numberOfTrailingZeros_b34 K h x_5 x1_4
  else
    some (x_1 &&& (32 : Int32))
set_option maxHeartbeats 4000000 in
theorem w_J8_numberOfTrailingZeros {p : Program} {l : Launch} {e : Env} {s : State} {m : MethodId} {args : Array Value} {below : List Frame} {meth : Method} {c : Code} {D : XD} {h : TH} (hC : XCx D cJ8_numberOfTrailingZeros 2 RJ8 h p (xRm 0 0 h) s m args meth c) (hr : meth.sig.returnType = some .int) (hnh : c.exceptionTable.isEmpty = true) (hin : meth.name = "numberOfTrailingZeros") {x : Int32} :
    ∀ (b0 : Int32), F_J8_numberOfTrailingZeros D.2.2.2 h b0 = some x → XJ p l e (xRm 0 0 h) s m args below meth c D 2 (.returned (some (.int x))) h h 0 [(0, .int b0)] [] h := by
  have hx := hC.1
  have hb := hC.2.1
  intro b0 hF H locs cells slots ls hX hl
  rw [F_J8_numberOfTrailingZeros] at hF
  refine lv_iload_n hx hb dJ8_numberOfTrailingZeros_0 rfl (lv_at hl 0 rfl) ?_
  refine lv_iconst (v := -1) hx hb dJ8_numberOfTrailingZeros_1 (by decide) ?_
  refine lv_ixor hx hb dJ8_numberOfTrailingZeros_2 ?_
  refine lv_iload_n hx hb dJ8_numberOfTrailingZeros_3 rfl (lv_at hl 0 rfl) ?_
  refine lv_iconst (v := 1) hx hb dJ8_numberOfTrailingZeros_4 (by decide) ?_
  refine lv_isub hx hb dJ8_numberOfTrailingZeros_5 ?_
  refine lv_iand hx hb dJ8_numberOfTrailingZeros_6 ?_
  refine lv_topi (fun x_1 ex_1 => ?_)
  replace hF := lt_at hF ex_1
  refine lv_istore_n (lv' := [(0, .int x_1)]) hx hb dJ8_numberOfTrailingZeros_7 rfl hl (by decide) rfl (fun ls hl => ?_)
  refine lv_iload_n hx hb dJ8_numberOfTrailingZeros_8 rfl (lv_at hl 0 rfl) ?_
  refine lv_if_gt (tgt := 17) hx hb dJ8_numberOfTrailingZeros_9 (by decide) (fun c_2 => ?_) (fun c_2 => ?_)
  · replace hF := it_t hF c_2
    refine lv_iconst (v := 1) hx hb dJ8_numberOfTrailingZeros_17 (by decide) ?_
    refine lv_istore_n (lv' := [(1, .int (1 : Int32)), (0, .int x_1)]) hx hb dJ8_numberOfTrailingZeros_18 rfl hl (by decide) rfl (fun ls hl => ?_)
    refine lv_iload_n hx hb dJ8_numberOfTrailingZeros_19 rfl (lv_at hl 1 rfl) ?_
    refine lv_ldcw (v := 65536) hx hb hC.2.2.2.1 (hC.2.2.2.2.1 _ q591) dJ8_numberOfTrailingZeros_20 ?_
    refine lv_icmp_le (tgt := 34) hx hb dJ8_numberOfTrailingZeros_23 (by decide) (fun c_3 => ?_) (fun c_3 => ?_)
    · replace hF := it_t hF c_3
      exact w_J8_numberOfTrailingZeros_b34 hC hr hnh hin x_1 (1 : Int32) hF H locs cells slots ls hX (lv_sub hl [1, 0] rfl)
    · replace hF := it_f hF c_3
      obtain ⟨x1_4, ex1_4, hF⟩ := lt_ok hF
      refine lv_iinc (v := x1_4) (lv' := [(1, .int x1_4), (0, .int x_1)]) hx hb dJ8_numberOfTrailingZeros_26 hl (k := 0) rfl (by rw [ex1_4]; rfl) (by decide) rfl (fun ls hl => ?_)
      refine lv_iload_n hx hb dJ8_numberOfTrailingZeros_29 rfl (lv_at hl 1 rfl) ?_
      refine lv_bipush (v := 16) hx hb dJ8_numberOfTrailingZeros_30 (by decide) ?_
      refine lv_iushr hx hb dJ8_numberOfTrailingZeros_32 rfl ?_
      refine lv_topi (fun x_5 ex_5 => ?_)
      replace hF := lt_at hF ex_5
      refine lv_istore_n (lv' := [(0, .int x_5), (1, .int x1_4)]) hx hb dJ8_numberOfTrailingZeros_33 rfl hl (by decide) rfl (fun ls hl => ?_)
      exact w_J8_numberOfTrailingZeros_b34 hC hr hnh hin x_5 x1_4 hF H locs cells slots ls hX (lv_sub hl [0, 1] rfl)
  · replace hF := it_f hF c_2
    refine lv_iload_n hx hb dJ8_numberOfTrailingZeros_12 rfl (lv_at hl 0 rfl) ?_
    refine lv_bipush (v := 32) hx hb dJ8_numberOfTrailingZeros_13 (by decide) ?_
    refine lv_iand hx hb dJ8_numberOfTrailingZeros_15 ?_
    exact x_reti hC hX hr rfl (Option.some.inj hF) rfl dJ8_numberOfTrailingZeros_16
theorem m_J8_numberOfTrailingZeros (l : Launch) (D : XD) (b0 : Int32) (h : TH) (x : Int32) (hF : F_J8_numberOfTrailingZeros D.2.2.2 h b0 = some x) : XMt l yJ8_numberOfTrailingZeros (ws_ yJ8_numberOfTrailingZeros cJ8_numberOfTrailingZeros 2 (some .int)) 0 0 D [.int b0] h (.returned (some (.int x))) h := by
  refine x_met (by decide +kernel) ?_ ?_
  · exact Nat.le_of_ble_eq_true rfl
  intro p e s m below meth c hC hr hnh hin ls hl hX
  replace hl : lv_has ls 2 [(0, .int b0)] := by simpa [lv_args, rv_cat, cat_i, cat_l] using hl
  exact w_J8_numberOfTrailingZeros hC hr hnh hin b0 hF s.heap [] 0 0 ls hX hl
theorem iX_X9_24 {p : Program} {l : Launch} {e : Env} {R : Room} {s : State} {m : MethodId} {args : Array Value} {below : List Frame} {meth : Method} {c : Code} {H : Heap} {locs : List Loc} {cells slots nL : Nat} {Q : State → Prop} {D : XD} {h0 h : TH} {cc : ByteArray} {pc : Nat} {ls : Array Slot} {rest : List Value} (hC : XCx D cc nL RX9 h0 p R s m args meth c) (hX : XSt D s h0 h H locs cells slots) {b0 : Int32} {x : Int32} (hcF : F_J8_numberOfTrailingZeros D.2.2.2 h b0 = some x) (hl : ls.size = nL) (hW : (rest.map fun v => v.category).sum ≤ 8) (hRf : 0 + 1 ≤ R.frames) (hRl : 21 ≤ R.locals) (hdg : decode cc pc = .ok (.invokestatic 24, 3)) (kk : ∀ (H1 : Heap) (locs1 : List Loc) (cells1 slots1 : Nat), XSt D s h0 h H1 locs1 cells1 slots1 → W p l e R s m args below meth c H1 locs1 cells1 slots1 Q (F0 m (pc + 3) ls (.int x :: rest))) : W p l e R s m args below meth c H locs cells slots Q (F0 m pc ls (.int b0 :: rest)) := by
  exact X_callS hC hX (As := [.int b0]) (m_J8_numberOfTrailingZeros l D b0 h _ hcF) (va_cwS 1 hC.2.2.2.2.1 (lw_S q588 q589 q144 q590) rfl rfl rfl (by decide +kernel) ⟨Nat.le_trans (Nat.le_of_ble_eq_true rfl) hRf, Nat.le_trans (Nat.le_of_ble_eq_true rfl) hRl⟩) rfl rfl hl hW hdg kk
/-! BlindCards$Mix.nth -/
def F_X9_nth_b21 (K : Nat → Nat) (h : TH) (x2 : Int32) : Option Int32 :=
  bd (F_J8_numberOfTrailingZeros K h x2) fun r_2 =>
  some r_2
set_option maxHeartbeats 4000000 in
theorem w_X9_nth_b21 {p : Program} {l : Launch} {e : Env} {s : State} {m : MethodId} {args : Array Value} {below : List Frame} {meth : Method} {c : Code} {D : XD} {h : TH} (hC : XCx D cX9_nth 4 RX9 h p (xRm 1 21 h) s m args meth c) (hr : meth.sig.returnType = some .int) (hnh : c.exceptionTable.isEmpty = true) (hin : meth.name = "nth") {x : Int32} :
    ∀ (x2 : Int32), F_X9_nth_b21 D.2.2.2 h x2 = some x → XJ p l e (xRm 1 21 h) s m args below meth c D 4 (.returned (some (.int x))) h h 21 [(2, .int x2)] [] h := by
  have hx := hC.1
  have hb := hC.2.1
  intro x2 hF H locs cells slots ls hX hl
  rw [F_X9_nth_b21] at hF
  refine lv_iload_n hx hb dX9_nth_21 rfl (lv_at hl 0 rfl) ?_
  obtain ⟨r_2, hc_1, hF⟩ := bd_ok hF
  refine iX_X9_24 hC hX hc_1 hl.1 (Nat.le_of_ble_eq_true rfl) (Nat.le_of_ble_eq_true rfl) (Nat.le_of_ble_eq_true rfl) dX9_nth_22 (fun H locs cells slots hX => ?_)
  exact x_reti hC hX hr rfl (Option.some.inj hF) rfl dX9_nth_25
def F_X9_nth_L4 (K : Nat → Nat) (h : TH) : Nat → Int32 → Int32 → Int32 → Option Int32
  | 0, _, _, _ => none
  | fu + 1, x1, x2, x3 =>
    if x1 ≤ x3 then
      F_X9_nth_b21 K h x2
    else
      lt ((x2 &&& (x2 - (1 : Int32)))) fun x_2 =>
      lt (x3 + (1 : Int32)) fun x3_3 =>
      F_X9_nth_L4 K h fu x1 x_2 x3_3
set_option maxHeartbeats 4000000 in
theorem w_X9_nth_L4 {p : Program} {l : Launch} {e : Env} {s : State} {m : MethodId} {args : Array Value} {below : List Frame} {meth : Method} {c : Code} {D : XD} {h : TH} (hC : XCx D cX9_nth 4 RX9 h p (xRm 1 21 h) s m args meth c) (hr : meth.sig.returnType = some .int) (hnh : c.exceptionTable.isEmpty = true) (hin : meth.name = "nth") {x : Int32} :
    ∀ (fu : Nat) (x1 : Int32) (x2 : Int32) (x3 : Int32), F_X9_nth_L4 D.2.2.2 h fu x1 x2 x3 = some x → XJ p l e (xRm 1 21 h) s m args below meth c D 4 (.returned (some (.int x))) h h 4 [(1, .int x1), (2, .int x2), (3, .int x3)] [] h := by
  have hx := hC.1
  have hb := hC.2.1
  intro fu
  induction fu with
  | zero => intro x1 x2 x3 hF; exact nm_none hF
  | succ fu ih =>
    intro x1 x2 x3 hF H locs cells slots ls hX hl
    rw [F_X9_nth_L4] at hF
    refine lv_iload_n hx hb dX9_nth_4 rfl (lv_at hl 2 rfl) ?_
    refine lv_iload_n hx hb dX9_nth_5 rfl (lv_at hl 0 rfl) ?_
    refine lv_icmp_ge (tgt := 21) hx hb dX9_nth_6 (by decide) (fun c_1 => ?_) (fun c_1 => ?_)
    · replace hF := it_t hF c_1
      exact w_X9_nth_b21 hC hr hnh hin x2 hF H locs cells slots ls hX (lv_sub hl [1] rfl)
    · replace hF := it_f hF c_1
      refine lv_iload_n hx hb dX9_nth_9 rfl (lv_at hl 1 rfl) ?_
      refine lv_iload_n hx hb dX9_nth_10 rfl (lv_at hl 1 rfl) ?_
      refine lv_iconst (v := 1) hx hb dX9_nth_11 (by decide) ?_
      refine lv_isub hx hb dX9_nth_12 ?_
      refine lv_iand hx hb dX9_nth_13 ?_
      refine lv_topi (fun x_2 ex_2 => ?_)
      replace hF := lt_at hF ex_2
      refine lv_istore_n (lv' := [(2, .int x_2), (1, .int x1), (3, .int x3)]) hx hb dX9_nth_14 rfl hl (by decide) rfl (fun ls hl => ?_)
      obtain ⟨x3_3, ex3_3, hF⟩ := lt_ok hF
      refine lv_iinc (v := x3_3) (lv' := [(3, .int x3_3), (2, .int x_2), (1, .int x1)]) hx hb dX9_nth_15 hl (k := 2) rfl (by rw [ex3_3]; rfl) (by decide) rfl (fun ls hl => ?_)
      refine lv_goto (tgt := 4) hx hb dX9_nth_18 (by decide) ?_
      exact ih x1 x_2 x3_3 hF H locs cells slots ls hX (lv_sub hl [2, 1, 0] rfl)
def F_X9_nth (K : Nat → Nat) (h : TH) (b0 : Int32) (b1 : Int32) : Option Int32 :=
  F_X9_nth_L4 K h MN b1 b0 (0 : Int32)
set_option maxHeartbeats 4000000 in
theorem w_X9_nth {p : Program} {l : Launch} {e : Env} {s : State} {m : MethodId} {args : Array Value} {below : List Frame} {meth : Method} {c : Code} {D : XD} {h : TH} (hC : XCx D cX9_nth 4 RX9 h p (xRm 1 21 h) s m args meth c) (hr : meth.sig.returnType = some .int) (hnh : c.exceptionTable.isEmpty = true) (hin : meth.name = "nth") {x : Int32} :
    ∀ (b0 : Int32) (b1 : Int32), F_X9_nth D.2.2.2 h b0 b1 = some x → XJ p l e (xRm 1 21 h) s m args below meth c D 4 (.returned (some (.int x))) h h 0 [(0, .int b0), (1, .int b1)] [] h := by
  have hx := hC.1
  have hb := hC.2.1
  intro b0 b1 hF H locs cells slots ls hX hl
  rw [F_X9_nth] at hF
  refine lv_iload_n hx hb dX9_nth_0 rfl (lv_at hl 0 rfl) ?_
  refine lv_istore_n (lv' := [(2, .int b0), (0, .int b0), (1, .int b1)]) hx hb dX9_nth_1 rfl hl (by decide) rfl (fun ls hl => ?_)
  refine lv_iconst (v := 0) hx hb dX9_nth_2 (by decide) ?_
  refine lv_istore_n (lv' := [(3, .int (0 : Int32)), (2, .int b0), (0, .int b0), (1, .int b1)]) hx hb dX9_nth_3 rfl hl (by decide) rfl (fun ls hl => ?_)
  exact w_X9_nth_L4 hC hr hnh hin MN b1 b0 (0 : Int32) hF H locs cells slots ls hX (lv_sub hl [3, 1, 0] rfl)
theorem m_X9_nth (l : Launch) (D : XD) (b0 : Int32) (b1 : Int32) (h : TH) (x : Int32) (hF : F_X9_nth D.2.2.2 h b0 b1 = some x) : XMt l yX9_nth (ws_ yX9_nth cX9_nth 4 (some .int)) 1 21 D [.int b0, .int b1] h (.returned (some (.int x))) h := by
  refine x_met (by decide +kernel) ?_ ?_
  · exact Nat.le_of_ble_eq_true rfl
  intro p e s m below meth c hC hr hnh hin ls hl hX
  replace hl : lv_has ls 4 [(0, .int b0), (1, .int b1)] := by simpa [lv_args, rv_cat, cat_i, cat_l] using hl
  exact w_X9_nth hC hr hnh hin b0 b1 hF s.heap [] 0 0 ls hX hl
theorem gX_X9_17 {p : Program} {l : Launch} {e : Env} {R : Room} {s : State} {m : MethodId} {args : Array Value} {below : List Frame} {meth : Method} {c : Code} {H : Heap} {locs : List Loc} {cells slots nL : Nat} {Q : State → Prop} {D : XD} {h0 h : TH} {cc : ByteArray} {pc : Nat} {ls : Array Slot} {rest : List Value} (hC : XCx D cc nL RX9 h0 p R s m args meth c) (hX : XSt D s h0 h H locs cells slots) {a : Nat} (hf : hasF (hT h a) 98 = true) (hdg : decode cc pc = .ok (.getfield 17, 3)) (kk : W p l e R s m args below meth c H locs cells slots Q (F0 m (pc + 3) ls (.int (hI h 98 a) :: rest))) : W p l e R s m args below meth c H locs cells slots Q (F0 m pc ls (rv a :: rest)) :=
  X_geti hC hX 98 hf rfl q1333 (fun x h => u_same (hC.2.2.2.2.1 _ q1334) x h) hdg kk
theorem gX_X9_13 {p : Program} {l : Launch} {e : Env} {R : Room} {s : State} {m : MethodId} {args : Array Value} {below : List Frame} {meth : Method} {c : Code} {H : Heap} {locs : List Loc} {cells slots nL : Nat} {Q : State → Prop} {D : XD} {h0 h : TH} {cc : ByteArray} {pc : Nat} {ls : Array Slot} {rest : List Value} (hC : XCx D cc nL RX9 h0 p R s m args meth c) (hX : XSt D s h0 h H locs cells slots) {a : Nat} (hf : hasF (hT h a) 99 = true) (hdg : decode cc pc = .ok (.getfield 13, 3)) (kk : W p l e R s m args below meth c H locs cells slots Q (F0 m (pc + 3) ls (.int (hI h 99 a) :: rest))) : W p l e R s m args below meth c H locs cells slots Q (F0 m pc ls (rv a :: rest)) :=
  X_geti hC hX 99 hf rfl q1336 (fun x h => u_same (hC.2.2.2.2.1 _ q1337) x h) hdg kk
theorem sX_X9_7 {p : Program} {l : Launch} {e : Env} {R : Room} {s : State} {m : MethodId} {args : Array Value} {below : List Frame} {meth : Method} {c : Code} {H : Heap} {locs : List Loc} {cells slots nL : Nat} {Q : State → Prop} {D : XD} {h0 h : TH} {cc : ByteArray} {pc : Nat} {ls : Array Slot} {rest : List Value} (hC : XCx D cc nL RX9 h0 p R s m args meth c) (hX : XSt D s h0 h H locs cells slots) (hdg : decode cc pc = .ok (.getstatic 7, 3)) (kk : W p l e R s m args below meth c H locs cells slots Q (F0 m (pc + 3) ls (rv (D.2.2.2 34) :: rest))) : W p l e R s m args below meth c H locs cells slots Q (F0 m pc ls rest) :=
  X_gets hC hX (q := .inl 34) (List.mem_of_getElem? (i := 4) rfl) q565 hdg kk
theorem iX_X9_20 {p : Program} {l : Launch} {e : Env} {R : Room} {s : State} {m : MethodId} {args : Array Value} {below : List Frame} {meth : Method} {c : Code} {H : Heap} {locs : List Loc} {cells slots nL : Nat} {Q : State → Prop} {D : XD} {h0 h : TH} {cc : ByteArray} {pc : Nat} {ls : Array Slot} {rest : List Value} (hC : XCx D cc nL RX9 h0 p R s m args meth c) (hX : XSt D s h0 h H locs cells slots) {b0 : Int32} {b1 : Int32} {x : Int32} (hcF : F_X9_nth D.2.2.2 h b0 b1 = some x) (hl : ls.size = nL) (hW : (rest.map fun v => v.category).sum ≤ 8) (hRf : 1 + 1 ≤ R.frames) (hRl : 44 ≤ R.locals) (hdg : decode cc pc = .ok (.invokestatic 20, 3)) (kk : ∀ (H1 : Heap) (locs1 : List Loc) (cells1 slots1 : Nat), XSt D s h0 h H1 locs1 cells1 slots1 → W p l e R s m args below meth c H1 locs1 cells1 slots1 Q (F0 m (pc + 3) ls (.int x :: rest))) : W p l e R s m args below meth c H locs cells slots Q (F0 m pc ls (.int b1 :: .int b0 :: rest)) := by
  exact X_callS hC hX (As := [.int b0, .int b1]) (m_X9_nth l D b0 b1 h _ hcF) (va_cwS 2 hC.2.2.2.2.1 (lw_S q585 q586 q143 q587) rfl rfl rfl (by decide +kernel) ⟨Nat.le_trans (Nat.le_of_ble_eq_true rfl) hRf, Nat.le_trans (Nat.le_of_ble_eq_true rfl) hRl⟩) rfl rfl hl hW hdg kk
/-! BlindCards$Mix.to -/
def F_X9_to_b114 (K : Nat → Nat) (h : TH) (x0 : Nat) (x5 : Int32) : Option Int32 :=
  gd (hasF (hT h x0) 98 = true) <|
  some ((hI h 98 x0) + x5)
set_option maxHeartbeats 4000000 in
theorem w_X9_to_b114 {p : Program} {l : Launch} {e : Env} {s : State} {m : MethodId} {args : Array Value} {below : List Frame} {meth : Method} {c : Code} {D : XD} {h : TH} (hC : XCx D cX9_to 9 RX9 h p (xRm 2 44 h) s m args meth c) (hr : meth.sig.returnType = some .int) (hnh : c.exceptionTable.isEmpty = true) (hin : meth.name = "to") {x : Int32} :
    ∀ (x0 : Nat) (x5 : Int32), F_X9_to_b114 D.2.2.2 h x0 x5 = some x → XJ p l e (xRm 2 44 h) s m args below meth c D 9 (.returned (some (.int x))) h h 114 [(0, rv x0), (5, .int x5)] [] h := by
  have hx := hC.1
  have hb := hC.2.1
  intro x0 x5 hF H locs cells slots ls hX hl
  rw [F_X9_to_b114] at hF
  refine X_aload_n hx hb dX9_to_114 rfl (lv_at hl 0 rfl) ?_
  obtain ⟨h_1, hF⟩ := gd_ok hF
  refine gX_X9_17 hC hX h_1 dX9_to_115 ?_
  refine lv_iload hx hb dX9_to_118 (lv_at hl 1 rfl) ?_
  refine lv_iadd hx hb dX9_to_120 ?_
  exact x_reti hC hX hr rfl (Option.some.inj hF) rfl dX9_to_121
def F_X9_to_L40 (K : Nat → Nat) (h : TH) : Nat → Nat → Int32 → Int32 → Int32 → Int32 → Option Int32
  | 0, _, _, _, _, _ => none
  | fu + 1, x0, x1, x3, x4, x5 =>
    gd (hasF (hT h x0) 99 = true) <|
    gd (hasF (hT h x0) 98 = true) <|
    if ((hI h 99 x0) - (hI h 98 x0)) < x5 then
      some x1
    else
      lt ((K 34)) fun r_4 =>
      gd (hasF (hT h x0) 99 = true) <|
      gd (hasF (hT h x0) 98 = true) <|
      gd (hT h r_4 = 31 ∨ hT h r_4 = 43) <|
      gd (inb (((hI h 99 x0) - (hI h 98 x0)) - x5) (hN h r_4)) <|
      lt ((hA h r_4 (Int32.toNatClampNeg (((hI h 99 x0) - (hI h 98 x0)) - x5)))) fun x_9 =>
      gd (¬ x_9 = 0) <|
      lt ((x3 / x_9)) fun x_11 =>
      bd (F_X9_nth K h x4 x_11) fun r_13 =>
      gd (¬ x_9 = 0) <|
      lt ((x3 - x3 / x_9 * x_9)) fun x_15 =>
      lt ((x4 &&& (((1 : Int32) <<< (r_13 &&& 31)) ^^^ (-1 : Int32)))) fun x_16 =>
      gd (hasF (hT h x0) 98 = true) <|
      if r_13 = (x1 - (hI h 98 x0)) then
        F_X9_to_b114 K h x0 x5
      else
        lt (x5 + (1 : Int32)) fun x5_19 =>
        F_X9_to_L40 K h fu x0 x1 x_15 x_16 x5_19
set_option maxHeartbeats 4000000 in
theorem w_X9_to_L40 {p : Program} {l : Launch} {e : Env} {s : State} {m : MethodId} {args : Array Value} {below : List Frame} {meth : Method} {c : Code} {D : XD} {h : TH} (hC : XCx D cX9_to 9 RX9 h p (xRm 2 44 h) s m args meth c) (hr : meth.sig.returnType = some .int) (hnh : c.exceptionTable.isEmpty = true) (hin : meth.name = "to") {x : Int32} :
    ∀ (fu : Nat) (x0 : Nat) (x1 : Int32) (x3 : Int32) (x4 : Int32) (x5 : Int32), F_X9_to_L40 D.2.2.2 h fu x0 x1 x3 x4 x5 = some x → XJ p l e (xRm 2 44 h) s m args below meth c D 9 (.returned (some (.int x))) h h 40 [(0, rv x0), (1, .int x1), (3, .int x3), (4, .int x4), (5, .int x5)] [] h := by
  have hx := hC.1
  have hb := hC.2.1
  intro fu
  induction fu with
  | zero => intro x0 x1 x3 x4 x5 hF; exact nm_none hF
  | succ fu ih =>
    intro x0 x1 x3 x4 x5 hF H locs cells slots ls hX hl
    rw [F_X9_to_L40] at hF
    refine lv_iload hx hb dX9_to_40 (lv_at hl 4 rfl) ?_
    refine X_aload_n hx hb dX9_to_42 rfl (lv_at hl 0 rfl) ?_
    obtain ⟨h_1, hF⟩ := gd_ok hF
    refine gX_X9_13 hC hX h_1 dX9_to_43 ?_
    refine X_aload_n hx hb dX9_to_46 rfl (lv_at hl 0 rfl) ?_
    obtain ⟨h_2, hF⟩ := gd_ok hF
    refine gX_X9_17 hC hX h_2 dX9_to_47 ?_
    refine lv_isub hx hb dX9_to_50 ?_
    refine lv_icmp_gt (tgt := 128) hx hb dX9_to_51 (by decide) (fun c_3 => ?_) (fun c_3 => ?_)
    · replace hF := it_t hF c_3
      refine lv_iload_n hx hb dX9_to_128 rfl (lv_at hl 1 rfl) ?_
      exact x_reti hC hX hr rfl (Option.some.inj hF) rfl dX9_to_129
    · replace hF := it_f hF c_3
      refine sX_X9_7 hC hX dX9_to_54 ?_
      refine lv_topr (fun r_4 er_4 => ?_)
      replace hF := lt_at hF er_4
      refine X_aload_n hx hb dX9_to_57 rfl (lv_at hl 0 rfl) ?_
      obtain ⟨h_5, hF⟩ := gd_ok hF
      refine gX_X9_13 hC hX h_5 dX9_to_58 ?_
      refine X_aload_n hx hb dX9_to_61 rfl (lv_at hl 0 rfl) ?_
      obtain ⟨h_6, hF⟩ := gd_ok hF
      refine gX_X9_17 hC hX h_6 dX9_to_62 ?_
      refine lv_isub hx hb dX9_to_65 ?_
      refine lv_iload hx hb dX9_to_66 (lv_at hl 4 rfl) ?_
      refine lv_isub hx hb dX9_to_68 ?_
      obtain ⟨h_7, hF⟩ := gd_ok hF
      obtain ⟨h_8, hF⟩ := gd_ok hF
      refine X_iald hC hX h_7 h_8 dX9_to_69 ?_
      refine lv_topi (fun x_9 ex_9 => ?_)
      replace hF := lt_at hF ex_9
      refine lv_istore (lv' := [(6, .int x_9), (0, rv x0), (1, .int x1), (3, .int x3), (4, .int x4), (5, .int x5)]) hx hb dX9_to_70 hl (by decide) rfl (fun ls hl => ?_)
      refine lv_iload_n hx hb dX9_to_72 rfl (lv_at hl 3 rfl) ?_
      refine lv_iload hx hb dX9_to_73 (lv_at hl 0 rfl) ?_
      obtain ⟨h_10, hF⟩ := gd_ok hF
      refine lv_idiv hx hb dX9_to_75 h_10 ?_
      refine lv_topi (fun x_11 ex_11 => ?_)
      replace hF := lt_at hF ex_11
      refine lv_istore (lv' := [(7, .int x_11), (6, .int x_9), (0, rv x0), (1, .int x1), (3, .int x3), (4, .int x4), (5, .int x5)]) hx hb dX9_to_76 hl (by decide) rfl (fun ls hl => ?_)
      refine lv_iload hx hb dX9_to_78 (lv_at hl 5 rfl) ?_
      refine lv_iload hx hb dX9_to_80 (lv_at hl 0 rfl) ?_
      obtain ⟨r_13, hc_12, hF⟩ := bd_ok hF
      refine iX_X9_20 hC hX hc_12 hl.1 (Nat.le_of_ble_eq_true rfl) (Nat.le_of_ble_eq_true rfl) (Nat.le_of_ble_eq_true rfl) dX9_to_82 (fun H locs cells slots hX => ?_)
      refine lv_istore (lv' := [(8, .int r_13), (7, .int x_11), (6, .int x_9), (0, rv x0), (1, .int x1), (3, .int x3), (4, .int x4), (5, .int x5)]) hx hb dX9_to_85 hl (by decide) rfl (fun ls hl => ?_)
      refine lv_iload_n hx hb dX9_to_87 rfl (lv_at hl 5 rfl) ?_
      refine lv_iload hx hb dX9_to_88 (lv_at hl 2 rfl) ?_
      obtain ⟨h_14, hF⟩ := gd_ok hF
      refine lv_irem hx hb dX9_to_90 h_14 ?_
      refine lv_topi (fun x_15 ex_15 => ?_)
      replace hF := lt_at hF ex_15
      refine lv_istore_n (lv' := [(3, .int x_15), (8, .int r_13), (7, .int x_11), (6, .int x_9), (0, rv x0), (1, .int x1), (4, .int x4), (5, .int x5)]) hx hb dX9_to_91 rfl hl (by decide) rfl (fun ls hl => ?_)
      refine lv_iload hx hb dX9_to_92 (lv_at hl 6 rfl) ?_
      refine lv_iconst (v := 1) hx hb dX9_to_94 (by decide) ?_
      refine lv_iload hx hb dX9_to_95 (lv_at hl 1 rfl) ?_
      refine lv_ishl hx hb dX9_to_97 ?_
      refine lv_iconst (v := -1) hx hb dX9_to_98 (by decide) ?_
      refine lv_ixor hx hb dX9_to_99 ?_
      refine lv_iand hx hb dX9_to_100 ?_
      refine lv_topi (fun x_16 ex_16 => ?_)
      replace hF := lt_at hF ex_16
      refine lv_istore (lv' := [(4, .int x_16), (3, .int x_15), (8, .int r_13), (7, .int x_11), (6, .int x_9), (0, rv x0), (1, .int x1), (5, .int x5)]) hx hb dX9_to_101 hl (by decide) rfl (fun ls hl => ?_)
      refine lv_iload hx hb dX9_to_103 (lv_at hl 2 rfl) ?_
      refine lv_iload_n hx hb dX9_to_105 rfl (lv_at hl 6 rfl) ?_
      refine X_aload_n hx hb dX9_to_106 rfl (lv_at hl 5 rfl) ?_
      obtain ⟨h_17, hF⟩ := gd_ok hF
      refine gX_X9_17 hC hX h_17 dX9_to_107 ?_
      refine lv_isub hx hb dX9_to_110 ?_
      refine lv_icmp_ne (tgt := 122) hx hb dX9_to_111 (by decide) (fun c_18 => ?_) (fun c_18 => ?_)
      · replace hF := it_f hF c_18
        obtain ⟨x5_19, ex5_19, hF⟩ := lt_ok hF
        refine lv_iinc (v := x5_19) (lv' := [(5, .int x5_19), (4, .int x_16), (3, .int x_15), (8, .int r_13), (7, .int x_11), (6, .int x_9), (0, rv x0), (1, .int x1)]) hx hb dX9_to_122 hl (k := 7) rfl (by rw [ex5_19]; rfl) (by decide) rfl (fun ls hl => ?_)
        refine lv_goto (tgt := 40) hx hb dX9_to_125 (by decide) ?_
        exact ih x0 x1 x_15 x_16 x5_19 hF H locs cells slots ls hX (lv_sub hl [6, 7, 2, 1, 0] rfl)
      · replace hF := it_t hF c_18
        exact w_X9_to_b114 hC hr hnh hin x0 x5 hF H locs cells slots ls hX (lv_sub hl [5, 7] rfl)
def F_X9_to (K : Nat → Nat) (h : TH) (a0 : Nat) (b0 : Int32) (b1 : Int32) : Option Int32 :=
  gd (hasF (hT h a0) 98 = true) <|
  if b0 < (hI h 98 a0) then
    some b0
  else
    gd (hasF (hT h a0) 99 = true) <|
    if b0 ≤ (hI h 99 a0) then
      gd (hasF (hT h a0) 99 = true) <|
      gd (hasF (hT h a0) 98 = true) <|
      lt ((((1 : Int32) <<< ((((hI h 99 a0) - (hI h 98 a0)) + (1 : Int32)) &&& 31)) - (1 : Int32))) fun x_7 =>
      F_X9_to_L40 K h MN a0 b0 b1 x_7 (0 : Int32)
    else
      some b0
set_option maxHeartbeats 4000000 in
theorem w_X9_to {p : Program} {l : Launch} {e : Env} {s : State} {m : MethodId} {args : Array Value} {below : List Frame} {meth : Method} {c : Code} {D : XD} {h : TH} (hC : XCx D cX9_to 9 RX9 h p (xRm 2 44 h) s m args meth c) (hr : meth.sig.returnType = some .int) (hnh : c.exceptionTable.isEmpty = true) (hin : meth.name = "to") {x : Int32} :
    ∀ (a0 : Nat) (b0 : Int32) (b1 : Int32), F_X9_to D.2.2.2 h a0 b0 b1 = some x → XJ p l e (xRm 2 44 h) s m args below meth c D 9 (.returned (some (.int x))) h h 0 [(0, rv a0), (1, .int b0), (2, .int b1)] [] h := by
  have hx := hC.1
  have hb := hC.2.1
  intro a0 b0 b1 hF H locs cells slots ls hX hl
  rw [F_X9_to] at hF
  refine lv_iload_n hx hb dX9_to_0 rfl (lv_at hl 1 rfl) ?_
  refine X_aload_n hx hb dX9_to_1 rfl (lv_at hl 0 rfl) ?_
  obtain ⟨h_1, hF⟩ := gd_ok hF
  refine gX_X9_17 hC hX h_1 dX9_to_2 ?_
  refine lv_icmp_lt (tgt := 16) hx hb dX9_to_5 (by decide) (fun c_2 => ?_) (fun c_2 => ?_)
  · replace hF := it_t hF c_2
    refine lv_iload_n hx hb dX9_to_16 rfl (lv_at hl 1 rfl) ?_
    exact x_reti hC hX hr rfl (Option.some.inj hF) rfl dX9_to_17
  · replace hF := it_f hF c_2
    refine lv_iload_n hx hb dX9_to_8 rfl (lv_at hl 1 rfl) ?_
    refine X_aload_n hx hb dX9_to_9 rfl (lv_at hl 0 rfl) ?_
    obtain ⟨h_3, hF⟩ := gd_ok hF
    refine gX_X9_13 hC hX h_3 dX9_to_10 ?_
    refine lv_icmp_le (tgt := 18) hx hb dX9_to_13 (by decide) (fun c_4 => ?_) (fun c_4 => ?_)
    · replace hF := it_t hF c_4
      refine lv_iload_n hx hb dX9_to_18 rfl (lv_at hl 2 rfl) ?_
      refine lv_istore_n (lv' := [(3, .int b1), (0, rv a0), (1, .int b0), (2, .int b1)]) hx hb dX9_to_19 rfl hl (by decide) rfl (fun ls hl => ?_)
      refine lv_iconst (v := 1) hx hb dX9_to_20 (by decide) ?_
      refine X_aload_n hx hb dX9_to_21 rfl (lv_at hl 1 rfl) ?_
      obtain ⟨h_5, hF⟩ := gd_ok hF
      refine gX_X9_13 hC hX h_5 dX9_to_22 ?_
      refine X_aload_n hx hb dX9_to_25 rfl (lv_at hl 1 rfl) ?_
      obtain ⟨h_6, hF⟩ := gd_ok hF
      refine gX_X9_17 hC hX h_6 dX9_to_26 ?_
      refine lv_isub hx hb dX9_to_29 ?_
      refine lv_iconst (v := 1) hx hb dX9_to_30 (by decide) ?_
      refine lv_iadd hx hb dX9_to_31 ?_
      refine lv_ishl hx hb dX9_to_32 ?_
      refine lv_iconst (v := 1) hx hb dX9_to_33 (by decide) ?_
      refine lv_isub hx hb dX9_to_34 ?_
      refine lv_topi (fun x_7 ex_7 => ?_)
      replace hF := lt_at hF ex_7
      refine lv_istore (lv' := [(4, .int x_7), (3, .int b1), (0, rv a0), (1, .int b0), (2, .int b1)]) hx hb dX9_to_35 hl (by decide) rfl (fun ls hl => ?_)
      refine lv_iconst (v := 0) hx hb dX9_to_37 (by decide) ?_
      refine lv_istore (lv' := [(5, .int (0 : Int32)), (4, .int x_7), (3, .int b1), (0, rv a0), (1, .int b0), (2, .int b1)]) hx hb dX9_to_38 hl (by decide) rfl (fun ls hl => ?_)
      exact w_X9_to_L40 hC hr hnh hin MN a0 b0 b1 x_7 (0 : Int32) hF H locs cells slots ls hX (lv_sub hl [3, 4, 2, 1, 0] rfl)
    · replace hF := it_f hF c_4
      refine lv_iload_n hx hb dX9_to_16 rfl (lv_at hl 1 rfl) ?_
      exact x_reti hC hX hr rfl (Option.some.inj hF) rfl dX9_to_17
theorem m_X9_to (l : Launch) (D : XD) (a0 : Nat) (b0 : Int32) (b1 : Int32) (h : TH) (x : Int32) (hF : F_X9_to D.2.2.2 h a0 b0 b1 = some x) : XMt l yX9_to (ws_ yX9_to cX9_to 9 (some .int)) 2 44 D [rv a0, .int b0, .int b1] h (.returned (some (.int x))) h := by
  refine x_met (by decide +kernel) ?_ ?_
  · simp [lg_sl, rv_cat, cat_i, cat_l]
  intro p e s m below meth c hC hr hnh hin ls hl hX
  replace hl : lv_has ls 9 [(0, rv a0), (1, .int b0), (2, .int b1)] := by simpa [lv_args, rv_cat, cat_i, cat_l] using hl
  exact w_X9_to hC hr hnh hin a0 b0 b1 hF s.heap [] 0 0 ls hX hl
/-! BlindCards$Mix.ways -/
def F_X9_ways (K : Nat → Nat) (h : TH) (a0 : Nat) : Option Int32 :=
  lt ((K 34)) fun r_1 =>
  gd (hasF (hT h a0) 99 = true) <|
  gd (hasF (hT h a0) 98 = true) <|
  gd (hT h r_1 = 31 ∨ hT h r_1 = 43) <|
  gd (inb (((hI h 99 a0) - (hI h 98 a0)) + (1 : Int32)) (hN h r_1)) <|
  some (hA h r_1 (Int32.toNatClampNeg (((hI h 99 a0) - (hI h 98 a0)) + (1 : Int32))))
set_option maxHeartbeats 4000000 in
theorem w_X9_ways {p : Program} {l : Launch} {e : Env} {s : State} {m : MethodId} {args : Array Value} {below : List Frame} {meth : Method} {c : Code} {D : XD} {h : TH} (hC : XCx D cX9_ways 1 RX9 h p (xRm 0 0 h) s m args meth c) (hr : meth.sig.returnType = some .int) (hnh : c.exceptionTable.isEmpty = true) (hin : meth.name = "ways") {x : Int32} :
    ∀ (a0 : Nat), F_X9_ways D.2.2.2 h a0 = some x → XJ p l e (xRm 0 0 h) s m args below meth c D 1 (.returned (some (.int x))) h h 0 [(0, rv a0)] [] h := by
  have hx := hC.1
  have hb := hC.2.1
  intro a0 hF H locs cells slots ls hX hl
  rw [F_X9_ways] at hF
  refine sX_X9_7 hC hX dX9_ways_0 ?_
  refine lv_topr (fun r_1 er_1 => ?_)
  replace hF := lt_at hF er_1
  refine X_aload_n hx hb dX9_ways_3 rfl (lv_at hl 0 rfl) ?_
  obtain ⟨h_2, hF⟩ := gd_ok hF
  refine gX_X9_13 hC hX h_2 dX9_ways_4 ?_
  refine X_aload_n hx hb dX9_ways_7 rfl (lv_at hl 0 rfl) ?_
  obtain ⟨h_3, hF⟩ := gd_ok hF
  refine gX_X9_17 hC hX h_3 dX9_ways_8 ?_
  refine lv_isub hx hb dX9_ways_11 ?_
  refine lv_iconst (v := 1) hx hb dX9_ways_12 (by decide) ?_
  refine lv_iadd hx hb dX9_ways_13 ?_
  obtain ⟨h_4, hF⟩ := gd_ok hF
  obtain ⟨h_5, hF⟩ := gd_ok hF
  refine X_iald hC hX h_4 h_5 dX9_ways_14 ?_
  exact x_reti hC hX hr rfl (Option.some.inj hF) rfl dX9_ways_15
theorem m_X9_ways (l : Launch) (D : XD) (a0 : Nat) (h : TH) (x : Int32) (hF : F_X9_ways D.2.2.2 h a0 = some x) : XMt l yX9_ways (ws_ yX9_ways cX9_ways 1 (some .int)) 0 0 D [rv a0] h (.returned (some (.int x))) h := by
  refine x_met (by decide +kernel) ?_ ?_
  · simp [lg_sl, rv_cat, cat_i, cat_l]
  intro p e s m below meth c hC hr hnh hin ls hl hX
  replace hl : lv_has ls 1 [(0, rv a0)] := by simpa [lv_args, rv_cat, cat_i, cat_l] using hl
  exact w_X9_ways hC hr hnh hin a0 hF s.heap [] 0 0 ls hX hl
theorem gX_X18_15 {p : Program} {l : Launch} {e : Env} {R : Room} {s : State} {m : MethodId} {args : Array Value} {below : List Frame} {meth : Method} {c : Code} {H : Heap} {locs : List Loc} {cells slots nL : Nat} {Q : State → Prop} {D : XD} {h0 h : TH} {cc : ByteArray} {pc : Nat} {ls : Array Slot} {rest : List Value} (hC : XCx D cc nL RX18 h0 p R s m args meth c) (hX : XSt D s h0 h H locs cells slots) {a : Nat} (hf : hasF (hT h a) 103 = true) (hdg : decode cc pc = .ok (.getfield 15, 3)) (kk : W p l e R s m args below meth c H locs cells slots Q (F0 m (pc + 3) ls (.int (hI h 103 a) :: rest))) : W p l e R s m args below meth c H locs cells slots Q (F0 m pc ls (rv a :: rest)) :=
  X_geti hC hX 103 hf rfl q1383 (fun _ h => h) hdg kk
/-! BlindCards$Open.needs -/
def F_X18_needs (K : Nat → Nat) (h : TH) (a0 : Nat) : Option Int32 :=
  gd (hasF (hT h a0) 103 = true) <|
  some ((hI h 103 a0) + (1 : Int32))
set_option maxHeartbeats 4000000 in
theorem w_X18_needs {p : Program} {l : Launch} {e : Env} {s : State} {m : MethodId} {args : Array Value} {below : List Frame} {meth : Method} {c : Code} {D : XD} {h : TH} (hC : XCx D cX18_needs 1 RX18 h p (xRm 0 0 h) s m args meth c) (hr : meth.sig.returnType = some .int) (hnh : c.exceptionTable.isEmpty = true) (hin : meth.name = "needs") {x : Int32} :
    ∀ (a0 : Nat), F_X18_needs D.2.2.2 h a0 = some x → XJ p l e (xRm 0 0 h) s m args below meth c D 1 (.returned (some (.int x))) h h 0 [(0, rv a0)] [] h := by
  have hx := hC.1
  have hb := hC.2.1
  intro a0 hF H locs cells slots ls hX hl
  rw [F_X18_needs] at hF
  refine X_aload_n hx hb dX18_needs_0 rfl (lv_at hl 0 rfl) ?_
  obtain ⟨h_1, hF⟩ := gd_ok hF
  refine gX_X18_15 hC hX h_1 dX18_needs_1 ?_
  refine lv_iconst (v := 1) hx hb dX18_needs_4 (by decide) ?_
  refine lv_iadd hx hb dX18_needs_5 ?_
  exact x_reti hC hX hr rfl (Option.some.inj hF) rfl dX18_needs_6
theorem m_X18_needs (l : Launch) (D : XD) (a0 : Nat) (h : TH) (x : Int32) (hF : F_X18_needs D.2.2.2 h a0 = some x) : XMt l yX18_needs (ws_ yX18_needs cX18_needs 1 (some .int)) 0 0 D [rv a0] h (.returned (some (.int x))) h := by
  refine x_met (by decide +kernel) ?_ ?_
  · simp [lg_sl, rv_cat, cat_i, cat_l]
  intro p e s m below meth c hC hr hnh hin ls hl hX
  replace hl : lv_has ls 1 [(0, rv a0)] := by simpa [lv_args, rv_cat, cat_i, cat_l] using hl
  exact w_X18_needs hC hr hnh hin a0 hF s.heap [] 0 0 ls hX hl
theorem gX_X19_13 {p : Program} {l : Launch} {e : Env} {R : Room} {s : State} {m : MethodId} {args : Array Value} {below : List Frame} {meth : Method} {c : Code} {H : Heap} {locs : List Loc} {cells slots nL : Nat} {Q : State → Prop} {D : XD} {h0 h : TH} {cc : ByteArray} {pc : Nat} {ls : Array Slot} {rest : List Value} (hC : XCx D cc nL RX19 h0 p R s m args meth c) (hX : XSt D s h0 h H locs cells slots) {a : Nat} (hf : hasF (hT h a) 105 = true) (hdg : decode cc pc = .ok (.getfield 13, 3)) (kk : W p l e R s m args below meth c H locs cells slots Q (F0 m (pc + 3) ls (.int (hI h 105 a) :: rest))) : W p l e R s m args below meth c H locs cells slots Q (F0 m pc ls (rv a :: rest)) :=
  X_geti hC hX 105 hf rfl q1413 (fun _ h => h) hdg kk
/-! BlindCards$Lay.cards -/
def F_X19_cards (K : Nat → Nat) (h : TH) (a0 : Nat) (b0 : Int32) (b1 : Int32) (b2 : Int32) (b3 : Int32) : Option Int32 :=
  gd (hasF (hT h a0) 104 = true) <|
  if 0 ≤ (hI h 104 a0) then
    gd (hasF (hT h a0) 104 = true) <|
    if (hI h 104 a0) = b2 then
      if b3 = 0 then
        some (0 : Int32)
      else
        some ((3 : Int32) <<< (b0 &&& 31))
    else
      gd (hasF (hT h a0) 104 = true) <|
      if ((b1 >>> ((hI h 104 a0) &&& 31)) &&& (1 : Int32)) = (1 : Int32) then
        some ((1 : Int32) <<< (b0 &&& 31))
      else
        some ((2 : Int32) <<< (b0 &&& 31))
  else
    gd (hasF (hT h a0) 105 = true) <|
    if (hI h 105 a0) = 0 then
      some (0 : Int32)
    else
      some ((1 : Int32) <<< (b0 &&& 31))
set_option maxHeartbeats 4000000 in
theorem w_X19_cards {p : Program} {l : Launch} {e : Env} {s : State} {m : MethodId} {args : Array Value} {below : List Frame} {meth : Method} {c : Code} {D : XD} {h : TH} (hC : XCx D cX19_cards 5 RX19 h p (xRm 0 0 h) s m args meth c) (hr : meth.sig.returnType = some .int) (hnh : c.exceptionTable.isEmpty = true) (hin : meth.name = "cards") {x : Int32} :
    ∀ (a0 : Nat) (b0 : Int32) (b1 : Int32) (b2 : Int32) (b3 : Int32), F_X19_cards D.2.2.2 h a0 b0 b1 b2 b3 = some x → XJ p l e (xRm 0 0 h) s m args below meth c D 5 (.returned (some (.int x))) h h 0 [(0, rv a0), (1, .int b0), (2, .int b1), (3, .int b2), (4, .int b3)] [] h := by
  have hx := hC.1
  have hb := hC.2.1
  intro a0 b0 b1 b2 b3 hF H locs cells slots ls hX hl
  rw [F_X19_cards] at hF
  refine X_aload_n hx hb dX19_cards_0 rfl (lv_at hl 0 rfl) ?_
  obtain ⟨h_1, hF⟩ := gd_ok hF
  refine gX_X19_7 hC hX h_1 dX19_cards_1 ?_
  refine lv_if_ge (tgt := 22) hx hb dX19_cards_4 (by decide) (fun c_2 => ?_) (fun c_2 => ?_)
  · replace hF := it_t hF c_2
    refine X_aload_n hx hb dX19_cards_22 rfl (lv_at hl 0 rfl) ?_
    obtain ⟨h_3, hF⟩ := gd_ok hF
    refine gX_X19_7 hC hX h_3 dX19_cards_23 ?_
    refine lv_iload_n hx hb dX19_cards_26 rfl (lv_at hl 3 rfl) ?_
    refine lv_icmp_ne (tgt := 43) hx hb dX19_cards_27 (by decide) (fun c_4 => ?_) (fun c_4 => ?_)
    · replace hF := it_f hF c_4
      refine lv_iload_n hx hb dX19_cards_43 rfl (lv_at hl 2 rfl) ?_
      refine X_aload_n hx hb dX19_cards_44 rfl (lv_at hl 0 rfl) ?_
      obtain ⟨h_5, hF⟩ := gd_ok hF
      refine gX_X19_7 hC hX h_5 dX19_cards_45 ?_
      refine lv_ishr hx hb dX19_cards_48 ?_
      refine lv_iconst (v := 1) hx hb dX19_cards_49 (by decide) ?_
      refine lv_iand hx hb dX19_cards_50 ?_
      refine lv_iconst (v := 1) hx hb dX19_cards_51 (by decide) ?_
      refine lv_icmp_ne (tgt := 61) hx hb dX19_cards_52 (by decide) (fun c_6 => ?_) (fun c_6 => ?_)
      · replace hF := it_f hF c_6
        refine lv_iconst (v := 2) hx hb dX19_cards_61 (by decide) ?_
        refine lv_iload_n hx hb dX19_cards_62 rfl (lv_at hl 1 rfl) ?_
        refine lv_ishl hx hb dX19_cards_63 ?_
        exact x_reti hC hX hr rfl (Option.some.inj hF) rfl dX19_cards_64
      · replace hF := it_t hF c_6
        refine lv_iconst (v := 1) hx hb dX19_cards_55 (by decide) ?_
        refine lv_iload_n hx hb dX19_cards_56 rfl (lv_at hl 1 rfl) ?_
        refine lv_ishl hx hb dX19_cards_57 ?_
        refine lv_goto (tgt := 64) hx hb dX19_cards_58 (by decide) ?_
        exact x_reti hC hX hr rfl (Option.some.inj hF) rfl dX19_cards_64
    · replace hF := it_t hF c_4
      refine lv_iload hx hb dX19_cards_30 (lv_at hl 4 rfl) ?_
      refine lv_if_eq (tgt := 41) hx hb dX19_cards_32 (by decide) (fun c_7 => ?_) (fun c_7 => ?_)
      · replace hF := it_t hF c_7
        refine lv_iconst (v := 0) hx hb dX19_cards_41 (by decide) ?_
        exact x_reti hC hX hr rfl (Option.some.inj hF) rfl dX19_cards_42
      · replace hF := it_f hF c_7
        refine lv_iconst (v := 3) hx hb dX19_cards_35 (by decide) ?_
        refine lv_iload_n hx hb dX19_cards_36 rfl (lv_at hl 1 rfl) ?_
        refine lv_ishl hx hb dX19_cards_37 ?_
        refine lv_goto (tgt := 42) hx hb dX19_cards_38 (by decide) ?_
        exact x_reti hC hX hr rfl (Option.some.inj hF) rfl dX19_cards_42
  · replace hF := it_f hF c_2
    refine X_aload_n hx hb dX19_cards_7 rfl (lv_at hl 0 rfl) ?_
    obtain ⟨h_8, hF⟩ := gd_ok hF
    refine gX_X19_13 hC hX h_8 dX19_cards_8 ?_
    refine lv_if_eq (tgt := 20) hx hb dX19_cards_11 (by decide) (fun c_9 => ?_) (fun c_9 => ?_)
    · replace hF := it_t hF c_9
      refine lv_iconst (v := 0) hx hb dX19_cards_20 (by decide) ?_
      exact x_reti hC hX hr rfl (Option.some.inj hF) rfl dX19_cards_21
    · replace hF := it_f hF c_9
      refine lv_iconst (v := 1) hx hb dX19_cards_14 (by decide) ?_
      refine lv_iload_n hx hb dX19_cards_15 rfl (lv_at hl 1 rfl) ?_
      refine lv_ishl hx hb dX19_cards_16 ?_
      refine lv_goto (tgt := 21) hx hb dX19_cards_17 (by decide) ?_
      exact x_reti hC hX hr rfl (Option.some.inj hF) rfl dX19_cards_21
theorem m_X19_cards (l : Launch) (D : XD) (a0 : Nat) (b0 : Int32) (b1 : Int32) (b2 : Int32) (b3 : Int32) (h : TH) (x : Int32) (hF : F_X19_cards D.2.2.2 h a0 b0 b1 b2 b3 = some x) : XMt l yX19_cards (ws_ yX19_cards cX19_cards 5 (some .int)) 0 0 D [rv a0, .int b0, .int b1, .int b2, .int b3] h (.returned (some (.int x))) h := by
  refine x_met (by decide +kernel) ?_ ?_
  · simp [lg_sl, rv_cat, cat_i, cat_l]
  intro p e s m below meth c hC hr hnh hin ls hl hX
  replace hl : lv_has ls 5 [(0, rv a0), (1, .int b0), (2, .int b1), (3, .int b2), (4, .int b3)] := by simpa [lv_args, rv_cat, cat_i, cat_l] using hl
  exact w_X19_cards hC hr hnh hin a0 b0 b1 b2 b3 hF s.heap [] 0 0 ls hX hl
end
