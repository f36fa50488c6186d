set_option maxRecDepth 100000
noncomputable section
theorem iX_X2_50 {p : Program} {l : Launch} {e : Env} {R : Room} {s : State} {m : MethodId} {args : Array Value} {below : List Frame} {meth : Method} {c : Code} {H : Heap} {locs : List Loc} {cells slots nL : Nat} {Q : State → Prop} {D : XD} {h0 h : TH} {cc : ByteArray} {pc : Nat} {ls : Array Slot} {rest : List Value} (hC : XCx D cc nL RX2 h0 p R s m args meth c) (hX : XSt D s h0 h H locs cells slots) {a : Nat} {b0 : Int32} {b1 : Int32} {b2 : Int32} {b3 : Int64} {b4 : Int32} {x : TH} (ht : hT h a = 4 ∨ hT h a = 5 ∨ hT h a = 6) (hcF : F_X2_go D.2.2.2 a b0 b1 b2 b3 b4 h = some x) (hl : ls.size = nL) (hW : (rest.map fun v => v.category).sum ≤ 8) (hRf : 475 + 1 ≤ R.frames) (hRl : 11157 ≤ R.locals) (hdg : decode cc pc = .ok (.invokevirtual 50, 3)) (kk : ∀ (H1 : Heap) (locs1 : List Loc) (cells1 slots1 : Nat), XSt D s h0 x H1 locs1 cells1 slots1 → W p l e R s m args below meth c H1 locs1 cells1 slots1 Q (F0 m (pc + 3) ls (rest))) : W p l e R s m args below meth c H locs cells slots Q (F0 m pc ls (.int b4 :: .long b3 :: .int b2 :: .int b1 :: .int b0 :: rv a :: rest)) := by
  rcases ht with q | q | q
  · exact X_callV hC hX (by rw [q]; decide) (by rw [q]; rfl) (As := [.int b0, .int b1, .int b2, .long b3, .int b4]) (m_X2_go l D a b0 b1 b2 b3 b4 h _ hcF) ⟨callB_of 5 hC.2.2.2.2.1 (lw_meth q486) rfl rfl rfl (hC.2.2.2.2.1 _ q130) (hC.2.2.2.2.1 _ q483) (by decide +kernel) ⟨Nat.le_trans (Nat.le_of_ble_eq_true rfl) hRf, Nat.le_trans (Nat.le_of_ble_eq_true rfl) hRl⟩, hC.2.2.2.2.1 _ q485, va_Nw.use rfl (xs0 hC.2.2.2.2.2.2.1)⟩ rfl rfl hl hW hdg kk
  · exact X_callV hC hX (by rw [q]; decide) (by rw [q]; rfl) (As := [.int b0, .int b1, .int b2, .long b3, .int b4]) (m_X2_go l D a b0 b1 b2 b3 b4 h _ hcF) ⟨callB_of 5 hC.2.2.2.2.1 (lw_meth q486) rfl rfl rfl (hC.2.2.2.2.1 _ q130) (hC.2.2.2.2.1 _ q483) (by decide +kernel) ⟨Nat.le_trans (Nat.le_of_ble_eq_true rfl) hRf, Nat.le_trans (Nat.le_of_ble_eq_true rfl) hRl⟩, hC.2.2.2.2.1 _ q485, va_Nw.use rfl (xs5 hC.2.2.2.2.2.2.1)⟩ rfl rfl hl hW hdg kk
  · exact X_callV hC hX (by rw [q]; decide) (by rw [q]; rfl) (As := [.int b0, .int b1, .int b2, .long b3, .int b4]) (m_X2_go l D a b0 b1 b2 b3 b4 h _ hcF) ⟨callB_of 5 hC.2.2.2.2.1 (lw_meth q486) rfl rfl rfl (hC.2.2.2.2.1 _ q130) (hC.2.2.2.2.1 _ q483) (by decide +kernel) ⟨Nat.le_trans (Nat.le_of_ble_eq_true rfl) hRf, Nat.le_trans (Nat.le_of_ble_eq_true rfl) hRl⟩, hC.2.2.2.2.1 _ q485, va_Nw.use rfl (xs10 hC.2.2.2.2.2.2.1)⟩ rfl rfl hl hW hdg kk
/-! BlindCards$Runs.begin -/
def F_X2_begin_b96 (K : Nat → Nat) (x0 : Nat) (h : TH) : Option TH :=
  gd (hT h x0 = 4 ∨ hT h x0 = 5 ∨ hT h x0 = 6) <|
  bd (F_X2_go K x0 (0 : Int32) (0 : Int32) (0 : Int32) (1 : Int64) (-1 : Int32) h) fun h_3 =>
  some h_3
set_option maxHeartbeats 4000000 in
theorem w_X2_begin_b96 {p : Program} {l : Launch} {e : Env} {s : State} {m : MethodId} {args : Array Value} {below : List Frame} {meth : Method} {c : Code} {D : XD} {h0 : TH} (hC : XCx D cX2_begin 2 RX2 h0 p (xRm 476 11157 h0) s m args meth c) (hr : meth.sig.returnType = none) (hnh : c.exceptionTable.isEmpty = true) (hin : meth.name = "begin") {x : TH} :
    ∀ (x0 : Nat) (h : TH), F_X2_begin_b96 D.2.2.2 x0 h = some x → XJ p l e (xRm 476 11157 h0) s m args below meth c D 2 (.returned none) h0 x 96 [(0, rv x0)] [] h := by
  have hx := hC.1
  have hb := hC.2.1
  intro x0 h hF H locs cells slots ls hX hl
  rw [F_X2_begin_b96] at hF
  refine X_aload_n hx hb dX2_begin_96 rfl (lv_at hl 0 rfl) ?_
  refine lv_iconst (v := 0) hx hb dX2_begin_97 (by decide) ?_
  refine lv_iconst (v := 0) hx hb dX2_begin_98 (by decide) ?_
  refine lv_iconst (v := 0) hx hb dX2_begin_99 (by decide) ?_
  refine lv_lconst (v := 1) hx hb dX2_begin_100 (by decide) ?_
  refine lv_iconst (v := -1) hx hb dX2_begin_101 (by decide) ?_
  obtain ⟨h_1, hF⟩ := gd_ok hF
  obtain ⟨h_3, hc_2, hF⟩ := bd_ok hF
  refine iX_X2_50 hC hX h_1 hc_2 hl.1 (Nat.le_of_ble_eq_true rfl) (Nat.le_of_ble_eq_true rfl) (Nat.le_of_ble_eq_true rfl) dX2_begin_102 (fun H locs cells slots hX => ?_)
  exact x_retv hC hX hr (Option.some.inj hF) dX2_begin_105
def F_X2_begin_L72 (K : Nat → Nat) : Nat → Nat → Int32 → TH → Option TH
  | 0, _, _, _ => none
  | fu + 1, x0, x1, h =>
    if (8 : Int32) ≤ x1 then
      F_X2_begin_b96 K x0 h
    else
      gd (hasF (hT h x0) 49 = true) <|
      gd (hR h 49 x0 ≠ 0) <|
      lt (hR h 49 x0) fun r_4 =>
      gd (hasF (hT h r_4) 1 = true) <|
      lt (hR h 1 r_4) fun r_6 =>
      gd (hT h r_6 = 35 ∨ hT h r_6 = 36 ∨ hT h r_6 = 37 ∨ hT h r_6 = 48) <|
      gd (inb (0 : Int32) (hN h r_6)) <|
      lt (hY h r_6 (Int32.toNatClampNeg (0 : Int32))) fun r_9 =>
      gd (hT h r_9 = 31) <|
      gd (inb x1 (hN h r_9)) <|
      lt (uA h r_9 (Int32.toNatClampNeg x1) (-1 : Int32)) fun h_12 =>
      lt (x1 + (1 : Int32)) fun x1_13 =>
      F_X2_begin_L72 K fu x0 x1_13 h_12
set_option maxHeartbeats 4000000 in
theorem w_X2_begin_L72 {p : Program} {l : Launch} {e : Env} {s : State} {m : MethodId} {args : Array Value} {below : List Frame} {meth : Method} {c : Code} {D : XD} {h0 : TH} (hC : XCx D cX2_begin 2 RX2 h0 p (xRm 476 11157 h0) s m args meth c) (hr : meth.sig.returnType = none) (hnh : c.exceptionTable.isEmpty = true) (hin : meth.name = "begin") {x : TH} :
    ∀ (fu : Nat) (x0 : Nat) (x1 : Int32) (h : TH), F_X2_begin_L72 D.2.2.2 fu x0 x1 h = some x → XJ p l e (xRm 476 11157 h0) s m args below meth c D 2 (.returned none) h0 x 72 [(0, rv x0), (1, .int x1)] [] h := by
  have hx := hC.1
  have hb := hC.2.1
  intro fu
  induction fu with
  | zero => intro x0 x1 h hF; exact nm_none hF
  | succ fu ih =>
    intro x0 x1 h hF H locs cells slots ls hX hl
    rw [F_X2_begin_L72] at hF
    refine lv_iload_n hx hb dX2_begin_72 rfl (lv_at hl 1 rfl) ?_
    refine lv_bipush (v := 8) hx hb dX2_begin_73 (by decide) ?_
    refine lv_icmp_ge (tgt := 96) hx hb dX2_begin_75 (by decide) (fun c_1 => ?_) (fun c_1 => ?_)
    · replace hF := it_t hF c_1
      exact w_X2_begin_b96 hC hr hnh hin x0 h hF H locs cells slots ls hX (lv_sub hl [0] rfl)
    · replace hF := it_f hF c_1
      refine X_aload_n hx hb dX2_begin_78 rfl (lv_at hl 0 rfl) ?_
      obtain ⟨h_2, hF⟩ := gd_ok hF
      obtain ⟨h_3, hF⟩ := gd_ok hF
      refine gX_X2_3 hC hX h_2 h_3 dX2_begin_79 ?_
      refine lv_topr (fun r_4 er_4 => ?_)
      replace hF := lt_at hF er_4
      obtain ⟨h_5, hF⟩ := gd_ok hF
      refine gX_X2_46 hC hX h_5 dX2_begin_82 ?_
      refine lv_topr (fun r_6 er_6 => ?_)
      replace hF := lt_at hF er_6
      refine lv_iconst (v := 0) hx hb dX2_begin_85 (by decide) ?_
      obtain ⟨h_7, hF⟩ := gd_ok hF
      obtain ⟨h_8, hF⟩ := gd_ok hF
      refine X_aald hC hX h_7 h_8 dX2_begin_86 ?_
      refine lv_topr (fun r_9 er_9 => ?_)
      replace hF := lt_at hF er_9
      refine lv_iload_n hx hb dX2_begin_87 rfl (lv_at hl 1 rfl) ?_
      refine lv_iconst (v := -1) hx hb dX2_begin_88 (by decide) ?_
      obtain ⟨h_10, hF⟩ := gd_ok hF
      obtain ⟨h_11, hF⟩ := gd_ok hF
      refine X_iast hC hX h_10 h_11 dX2_begin_89 (fun H locs hX => ?_)
      obtain ⟨h_12, eh_12, hF⟩ := lt_ok hF
      rw [← eh_12] at hX
      obtain ⟨x1_13, ex1_13, hF⟩ := lt_ok hF
      refine lv_iinc (v := x1_13) hx hb dX2_begin_90 hl (k := 1) rfl (by rw [ex1_13]; rfl) (by decide) rfl (fun ls hl => ?_)
      replace hl : lv_has ls 2 [(1, .int x1_13), (0, rv x0)] := lv_subS hl (List.forall_mem_cons.mpr ⟨Or.inl rfl, (List.forall_mem_cons.mpr ⟨Or.inr ⟨List.mem_of_getElem? (i := 0) rfl, by simp [rv_cat]⟩, (fun _ h => nomatch h)⟩)⟩)
      refine lv_goto (tgt := 72) hx hb dX2_begin_93 (by decide) ?_
      exact ih x0 x1_13 h_12 hF H locs cells slots ls hX (lv_sub hl [1, 0] rfl)
def F_X2_begin_b70 (K : Nat → Nat) (x0 : Nat) (h : TH) : Option TH :=
  F_X2_begin_L72 K MN x0 (0 : Int32) h
set_option maxHeartbeats 4000000 in
theorem w_X2_begin_b70 {p : Program} {l : Launch} {e : Env} {s : State} {m : MethodId} {args : Array Value} {below : List Frame} {meth : Method} {c : Code} {D : XD} {h0 : TH} (hC : XCx D cX2_begin 2 RX2 h0 p (xRm 476 11157 h0) s m args meth c) (hr : meth.sig.returnType = none) (hnh : c.exceptionTable.isEmpty = true) (hin : meth.name = "begin") {x : TH} :
    ∀ (x0 : Nat) (h : TH), F_X2_begin_b70 D.2.2.2 x0 h = some x → XJ p l e (xRm 476 11157 h0) s m args below meth c D 2 (.returned none) h0 x 70 [(0, rv x0)] [] h := by
  have hx := hC.1
  have hb := hC.2.1
  intro x0 h hF H locs cells slots ls hX hl
  rw [F_X2_begin_b70] at hF
  refine lv_iconst (v := 0) hx hb dX2_begin_70 (by decide) ?_
  refine lv_istore_n (i := 1) hx hb dX2_begin_71 rfl hl (by decide) rfl (fun ls hl => ?_)
  replace hl : lv_has ls 2 [(1, .int (0 : Int32)), (0, rv x0)] := lv_subS hl (List.forall_mem_cons.mpr ⟨Or.inl rfl, (List.forall_mem_cons.mpr ⟨Or.inr ⟨List.mem_of_getElem? (i := 0) rfl, by simp [rv_cat]⟩, (fun _ h => nomatch h)⟩)⟩)
  exact w_X2_begin_L72 hC hr hnh hin MN x0 (0 : Int32) h hF H locs cells slots ls hX (lv_sub hl [1, 0] rfl)
def F_X2_begin_L34 (K : Nat → Nat) : Nat → Nat → Int32 → TH → Option TH
  | 0, _, _, _ => none
  | fu + 1, x0, x1, h =>
    gd (hasF (hT h x0) 49 = true) <|
    gd (hR h 49 x0 ≠ 0) <|
    lt (hR h 49 x0) fun r_3 =>
    gd (hasF (hT h r_3) 7 = true) <|
    lt (hR h 7 r_3) fun r_5 =>
    gd (hT h r_5 = 2) <|
    bd (F_X1_inputs K h r_5) fun r_8 =>
    if r_8 ≤ x1 then
      F_X2_begin_b70 K x0 h
    else
      gd (hasF (hT h x0) 49 = true) <|
      gd (hR h 49 x0 ≠ 0) <|
      lt (hR h 49 x0) fun r_12 =>
      gd (hasF (hT h r_12) 0 = true) <|
      lt (hR h 0 r_12) fun r_14 =>
      gd (hT h r_14 = 35 ∨ hT h r_14 = 36 ∨ hT h r_14 = 37 ∨ hT h r_14 = 48) <|
      gd (inb (0 : Int32) (hN h r_14)) <|
      lt (hY h r_14 (Int32.toNatClampNeg (0 : Int32))) fun r_17 =>
      gd (hT h r_17 = 34) <|
      gd (inb ((256 : Int32) * x1) (hN h r_17)) <|
      lt (uL h r_17 (Int32.toNatClampNeg ((256 : Int32) * x1)) (1 : Int64)) fun h_20 =>
      lt (x1 + (1 : Int32)) fun x1_21 =>
      F_X2_begin_L34 K fu x0 x1_21 h_20
set_option maxHeartbeats 4000000 in
theorem w_X2_begin_L34 {p : Program} {l : Launch} {e : Env} {s : State} {m : MethodId} {args : Array Value} {below : List Frame} {meth : Method} {c : Code} {D : XD} {h0 : TH} (hC : XCx D cX2_begin 2 RX2 h0 p (xRm 476 11157 h0) s m args meth c) (hr : meth.sig.returnType = none) (hnh : c.exceptionTable.isEmpty = true) (hin : meth.name = "begin") {x : TH} :
    ∀ (fu : Nat) (x0 : Nat) (x1 : Int32) (h : TH), F_X2_begin_L34 D.2.2.2 fu x0 x1 h = some x → XJ p l e (xRm 476 11157 h0) s m args below meth c D 2 (.returned none) h0 x 34 [(0, rv x0), (1, .int x1)] [] h := by
  have hx := hC.1
  have hb := hC.2.1
  intro fu
  induction fu with
  | zero => intro x0 x1 h hF; exact nm_none hF
  | succ fu ih =>
    intro x0 x1 h hF H locs cells slots ls hX hl
    rw [F_X2_begin_L34] at hF
    refine lv_iload_n hx hb dX2_begin_34 rfl (lv_at hl 1 rfl) ?_
    refine X_aload_n hx hb dX2_begin_35 rfl (lv_at hl 0 rfl) ?_
    obtain ⟨h_1, hF⟩ := gd_ok hF
    obtain ⟨h_2, hF⟩ := gd_ok hF
    refine gX_X2_3 hC hX h_1 h_2 dX2_begin_36 ?_
    refine lv_topr (fun r_3 er_3 => ?_)
    replace hF := lt_at hF er_3
    obtain ⟨h_4, hF⟩ := gd_ok hF
    refine gX_X2_36 hC hX h_4 dX2_begin_39 ?_
    refine lv_topr (fun r_5 er_5 => ?_)
    replace hF := lt_at hF er_5
    obtain ⟨h_6, hF⟩ := gd_ok hF
    obtain ⟨r_8, hc_7, hF⟩ := bd_ok hF
    refine iX_X2_40 hC hX h_6 hc_7 hl.1 (Nat.le_of_ble_eq_true rfl) (Nat.le_of_ble_eq_true rfl) (Nat.le_of_ble_eq_true rfl) dX2_begin_42 (fun H locs cells slots hX => ?_)
    refine lv_icmp_ge (tgt := 70) hx hb dX2_begin_45 (by decide) (fun c_9 => ?_) (fun c_9 => ?_)
    · replace hF := it_t hF c_9
      exact w_X2_begin_b70 hC hr hnh hin x0 h hF H locs cells slots ls hX (lv_sub hl [0] rfl)
    · replace hF := it_f hF c_9
      refine X_aload_n hx hb dX2_begin_48 rfl (lv_at hl 0 rfl) ?_
      obtain ⟨h_10, hF⟩ := gd_ok hF
      obtain ⟨h_11, hF⟩ := gd_ok hF
      refine gX_X2_3 hC hX h_10 h_11 dX2_begin_49 ?_
      refine lv_topr (fun r_12 er_12 => ?_)
      replace hF := lt_at hF er_12
      obtain ⟨h_13, hF⟩ := gd_ok hF
      refine gX_X2_32 hC hX h_13 dX2_begin_52 ?_
      refine lv_topr (fun r_14 er_14 => ?_)
      replace hF := lt_at hF er_14
      refine lv_iconst (v := 0) hx hb dX2_begin_55 (by decide) ?_
      obtain ⟨h_15, hF⟩ := gd_ok hF
      obtain ⟨h_16, hF⟩ := gd_ok hF
      refine X_aald hC hX h_15 h_16 dX2_begin_56 ?_
      refine lv_topr (fun r_17 er_17 => ?_)
      replace hF := lt_at hF er_17
      refine lv_sipush (v := 256) hx hb dX2_begin_57 (by decide) ?_
      refine lv_iload_n hx hb dX2_begin_60 rfl (lv_at hl 1 rfl) ?_
      refine lv_imul hx hb dX2_begin_61 ?_
      refine lv_lconst (v := 1) hx hb dX2_begin_62 (by decide) ?_
      obtain ⟨h_18, hF⟩ := gd_ok hF
      obtain ⟨h_19, hF⟩ := gd_ok hF
      refine X_last hC hX h_18 h_19 dX2_begin_63 (fun H locs hX => ?_)
      obtain ⟨h_20, eh_20, hF⟩ := lt_ok hF
      rw [← eh_20] at hX
      obtain ⟨x1_21, ex1_21, hF⟩ := lt_ok hF
      refine lv_iinc (v := x1_21) hx hb dX2_begin_64 hl (k := 1) rfl (by rw [ex1_21]; rfl) (by decide) rfl (fun ls hl => ?_)
      replace hl : lv_has ls 2 [(1, .int x1_21), (0, rv x0)] := lv_subS hl (List.forall_mem_cons.mpr ⟨Or.inl rfl, (List.forall_mem_cons.mpr ⟨Or.inr ⟨List.mem_of_getElem? (i := 0) rfl, by simp [rv_cat]⟩, (fun _ h => nomatch h)⟩)⟩)
      refine lv_goto (tgt := 34) hx hb dX2_begin_67 (by decide) ?_
      exact ih x0 x1_21 h_20 hF H locs cells slots ls hX (lv_sub hl [1, 0] rfl)
def F_X2_begin_b32 (K : Nat → Nat) (x0 : Nat) (h : TH) : Option TH :=
  F_X2_begin_L34 K MN x0 (0 : Int32) h
set_option maxHeartbeats 4000000 in
theorem w_X2_begin_b32 {p : Program} {l : Launch} {e : Env} {s : State} {m : MethodId} {args : Array Value} {below : List Frame} {meth : Method} {c : Code} {D : XD} {h0 : TH} (hC : XCx D cX2_begin 2 RX2 h0 p (xRm 476 11157 h0) s m args meth c) (hr : meth.sig.returnType = none) (hnh : c.exceptionTable.isEmpty = true) (hin : meth.name = "begin") {x : TH} :
    ∀ (x0 : Nat) (h : TH), F_X2_begin_b32 D.2.2.2 x0 h = some x → XJ p l e (xRm 476 11157 h0) s m args below meth c D 2 (.returned none) h0 x 32 [(0, rv x0)] [] h := by
  have hx := hC.1
  have hb := hC.2.1
  intro x0 h hF H locs cells slots ls hX hl
  rw [F_X2_begin_b32] at hF
  refine lv_iconst (v := 0) hx hb dX2_begin_32 (by decide) ?_
  refine lv_istore_n (i := 1) hx hb dX2_begin_33 rfl hl (by decide) rfl (fun ls hl => ?_)
  replace hl : lv_has ls 2 [(1, .int (0 : Int32)), (0, rv x0)] := lv_subS hl (List.forall_mem_cons.mpr ⟨Or.inl rfl, (List.forall_mem_cons.mpr ⟨Or.inr ⟨List.mem_of_getElem? (i := 0) rfl, by simp [rv_cat]⟩, (fun _ h => nomatch h)⟩)⟩)
  exact w_X2_begin_L34 hC hr hnh hin MN x0 (0 : Int32) h hF H locs cells slots ls hX (lv_sub hl [1, 0] rfl)
def F_X2_begin_L7 (K : Nat → Nat) : Nat → Nat → Int32 → TH → Option TH
  | 0, _, _, _ => none
  | fu + 1, x0, x1, h =>
    if (2048 : Int32) ≤ x1 then
      F_X2_begin_b32 K x0 h
    else
      gd (hasF (hT h x0) 49 = true) <|
      gd (hR h 49 x0 ≠ 0) <|
      lt (hR h 49 x0) fun r_4 =>
      gd (hasF (hT h r_4) 0 = true) <|
      lt (hR h 0 r_4) fun r_6 =>
      gd (hT h r_6 = 35 ∨ hT h r_6 = 36 ∨ hT h r_6 = 37 ∨ hT h r_6 = 48) <|
      gd (inb (0 : Int32) (hN h r_6)) <|
      lt (hY h r_6 (Int32.toNatClampNeg (0 : Int32))) fun r_9 =>
      gd (hT h r_9 = 34) <|
      gd (inb x1 (hN h r_9)) <|
      lt (uL h r_9 (Int32.toNatClampNeg x1) (0 : Int64)) fun h_12 =>
      lt (x1 + (1 : Int32)) fun x1_13 =>
      F_X2_begin_L7 K fu x0 x1_13 h_12
set_option maxHeartbeats 4000000 in
theorem w_X2_begin_L7 {p : Program} {l : Launch} {e : Env} {s : State} {m : MethodId} {args : Array Value} {below : List Frame} {meth : Method} {c : Code} {D : XD} {h0 : TH} (hC : XCx D cX2_begin 2 RX2 h0 p (xRm 476 11157 h0) s m args meth c) (hr : meth.sig.returnType = none) (hnh : c.exceptionTable.isEmpty = true) (hin : meth.name = "begin") {x : TH} :
    ∀ (fu : Nat) (x0 : Nat) (x1 : Int32) (h : TH), F_X2_begin_L7 D.2.2.2 fu x0 x1 h = some x → XJ p l e (xRm 476 11157 h0) s m args below meth c D 2 (.returned none) h0 x 7 [(0, rv x0), (1, .int x1)] [] h := by
  have hx := hC.1
  have hb := hC.2.1
  intro fu
  induction fu with
  | zero => intro x0 x1 h hF; exact nm_none hF
  | succ fu ih =>
    intro x0 x1 h hF H locs cells slots ls hX hl
    rw [F_X2_begin_L7] at hF
    refine lv_iload_n hx hb dX2_begin_7 rfl (lv_at hl 1 rfl) ?_
    refine lv_sipush (v := 2048) hx hb dX2_begin_8 (by decide) ?_
    refine lv_icmp_ge (tgt := 32) hx hb dX2_begin_11 (by decide) (fun c_1 => ?_) (fun c_1 => ?_)
    · replace hF := it_t hF c_1
      exact w_X2_begin_b32 hC hr hnh hin x0 h hF H locs cells slots ls hX (lv_sub hl [0] rfl)
    · replace hF := it_f hF c_1
      refine X_aload_n hx hb dX2_begin_14 rfl (lv_at hl 0 rfl) ?_
      obtain ⟨h_2, hF⟩ := gd_ok hF
      obtain ⟨h_3, hF⟩ := gd_ok hF
      refine gX_X2_3 hC hX h_2 h_3 dX2_begin_15 ?_
      refine lv_topr (fun r_4 er_4 => ?_)
      replace hF := lt_at hF er_4
      obtain ⟨h_5, hF⟩ := gd_ok hF
      refine gX_X2_32 hC hX h_5 dX2_begin_18 ?_
      refine lv_topr (fun r_6 er_6 => ?_)
      replace hF := lt_at hF er_6
      refine lv_iconst (v := 0) hx hb dX2_begin_21 (by decide) ?_
      obtain ⟨h_7, hF⟩ := gd_ok hF
      obtain ⟨h_8, hF⟩ := gd_ok hF
      refine X_aald hC hX h_7 h_8 dX2_begin_22 ?_
      refine lv_topr (fun r_9 er_9 => ?_)
      replace hF := lt_at hF er_9
      refine lv_iload_n hx hb dX2_begin_23 rfl (lv_at hl 1 rfl) ?_
      refine lv_lconst (v := 0) hx hb dX2_begin_24 (by decide) ?_
      obtain ⟨h_10, hF⟩ := gd_ok hF
      obtain ⟨h_11, hF⟩ := gd_ok hF
      refine X_last hC hX h_10 h_11 dX2_begin_25 (fun H locs hX => ?_)
      obtain ⟨h_12, eh_12, hF⟩ := lt_ok hF
      rw [← eh_12] at hX
      obtain ⟨x1_13, ex1_13, hF⟩ := lt_ok hF
      refine lv_iinc (v := x1_13) hx hb dX2_begin_26 hl (k := 1) rfl (by rw [ex1_13]; rfl) (by decide) rfl (fun ls hl => ?_)
      replace hl : lv_has ls 2 [(1, .int x1_13), (0, rv x0)] := lv_subS hl (List.forall_mem_cons.mpr ⟨Or.inl rfl, (List.forall_mem_cons.mpr ⟨Or.inr ⟨List.mem_of_getElem? (i := 0) rfl, by simp [rv_cat]⟩, (fun _ h => nomatch h)⟩)⟩)
      refine lv_goto (tgt := 7) hx hb dX2_begin_29 (by decide) ?_
      exact ih x0 x1_13 h_12 hF H locs cells slots ls hX (lv_sub hl [1, 0] rfl)
def F_X2_begin (K : Nat → Nat) (a0 : Nat) (h : TH) : Option TH :=
  gd (hasF (hT h a0) 48 = true) <|
  gd (hT h a0 ≤ 24) <|
  lt (uI h 48 a0 (0 : Int32)) fun h_3 =>
  F_X2_begin_L7 K MN a0 (0 : Int32) h_3
set_option maxHeartbeats 4000000 in
theorem w_X2_begin {p : Program} {l : Launch} {e : Env} {s : State} {m : MethodId} {args : Array Value} {below : List Frame} {meth : Method} {c : Code} {D : XD} {h0 : TH} (hC : XCx D cX2_begin 2 RX2 h0 p (xRm 476 11157 h0) s m args meth c) (hr : meth.sig.returnType = none) (hnh : c.exceptionTable.isEmpty = true) (hin : meth.name = "begin") {x : TH} :
    ∀ (a0 : Nat) (h : TH), F_X2_begin D.2.2.2 a0 h = some x → XJ p l e (xRm 476 11157 h0) s m args below meth c D 2 (.returned none) h0 x 0 [(0, rv a0)] [] h := by
  have hx := hC.1
  have hb := hC.2.1
  intro a0 h hF H locs cells slots ls hX hl
  rw [F_X2_begin] at hF
  refine X_aload_n hx hb dX2_begin_0 rfl (lv_at hl 0 rfl) ?_
  refine lv_iconst (v := 0) hx hb dX2_begin_1 (by decide) ?_
  obtain ⟨h_1, hF⟩ := gd_ok hF
  obtain ⟨h_2, hF⟩ := gd_ok hF
  refine pX_X2_29 hC hX h_1 h_2 dX2_begin_2 (fun H locs hX => ?_)
  obtain ⟨h_3, eh_3, hF⟩ := lt_ok hF
  rw [← eh_3] at hX
  refine lv_iconst (v := 0) hx hb dX2_begin_5 (by decide) ?_
  refine lv_istore_n (i := 1) hx hb dX2_begin_6 rfl hl (by decide) rfl (fun ls hl => ?_)
  replace hl : lv_has ls 2 [(1, .int (0 : Int32)), (0, rv a0)] := lv_subS hl (List.forall_mem_cons.mpr ⟨Or.inl rfl, (List.forall_mem_cons.mpr ⟨Or.inr ⟨List.mem_of_getElem? (i := 0) rfl, by simp [rv_cat]⟩, (fun _ h => nomatch h)⟩)⟩)
  exact w_X2_begin_L7 hC hr hnh hin MN a0 (0 : Int32) h_3 hF H locs cells slots ls hX (lv_sub hl [1, 0] rfl)
theorem m_X2_begin (l : Launch) (D : XD) (a0 : Nat) (h : TH) (x : TH) (hF : F_X2_begin D.2.2.2 a0 h = some x) : XMt l yX2_begin (ws_ yX2_begin cX2_begin 2 (none)) 476 11157 D [rv a0] h (.returned none) x := by
  refine x_met (by decide +kernel) ?_ ?_
  · simp [lg_sl, rv_cat, cat_i, cat_l]
  intro p e s m below meth c hC hr hnh hin ls hl hX
  replace hl : lv_has ls 2 [(0, rv a0)] := by simpa [lv_args, rv_cat, cat_i, cat_l] using hl
  exact w_X2_begin hC hr hnh hin a0 h hF s.heap [] 0 0 ls hX hl
theorem iX_X3_43 {p : Program} {l : Launch} {e : Env} {R : Room} {s : State} {m : MethodId} {args : Array Value} {below : List Frame} {meth : Method} {c : Code} {H : Heap} {locs : List Loc} {cells slots nL : Nat} {Q : State → Prop} {D : XD} {h0 h : TH} {cc : ByteArray} {pc : Nat} {ls : Array Slot} {rest : List Value} (hC : XCx D cc nL RX3 h0 p R s m args meth c) (hX : XSt D s h0 h H locs cells slots) {a : Nat} {x : TH} (ht : hT h a = 4) (hcF : F_X2_begin D.2.2.2 a h = some x) (hl : ls.size = nL) (hW : (rest.map fun v => v.category).sum ≤ 8) (hRf : 476 + 1 ≤ R.frames) (hRl : 11178 ≤ R.locals) (hdg : decode cc pc = .ok (.invokevirtual 43, 3)) (kk : ∀ (H1 : Heap) (locs1 : List Loc) (cells1 slots1 : Nat), XSt D s h0 x H1 locs1 cells1 slots1 → W p l e R s m args below meth c H1 locs1 cells1 slots1 Q (F0 m (pc + 3) ls (rest))) : W p l e R s m args below meth c H locs cells slots Q (F0 m pc ls (rv a :: rest)) := by
  have q := ht
  exact X_callU hC hX (by rw [q]; decide) (by rw [q]; rfl) (As := []) (m_X2_begin l D a h _ hcF) (va_cwU 0 hC.2.2.2.2.1 (lw_U (owner := "BlindCards$Runs") q473 q474 q476 q477 q130 q478) rfl rfl rfl rfl (by decide +kernel) ⟨Nat.le_trans (Nat.le_of_ble_eq_true rfl) hRf, Nat.le_trans (Nat.le_of_ble_eq_true rfl) hRl⟩) rfl rfl hl hW hdg kk
/-! BlindCards$Keeper.lay -/
def F_X3_lay (K : Nat → Nat) (a0 : Nat) (h : TH) : Option TH :=
  gd (hasF (hT h a0) 55 = true) <|
  gd (hT h a0 ≤ 24) <|
  lt (uI h 55 a0 (0 : Int32)) fun h_3 =>
  gd (hasF (hT h_3 a0) 56 = true) <|
  gd (hT h_3 a0 ≤ 24) <|
  lt (uI h_3 56 a0 (-1 : Int32)) fun h_6 =>
  gd (hasF (hT h_6 a0) 57 = true) <|
  gd (hT h_6 a0 ≤ 24) <|
  lt (uI h_6 57 a0 (0 : Int32)) fun h_9 =>
  gd (hT h_9 a0 = 4) <|
  bd (F_X2_begin K a0 h_9) fun h_12 =>
  some h_12
set_option maxHeartbeats 4000000 in
theorem w_X3_lay {p : Program} {l : Launch} {e : Env} {s : State} {m : MethodId} {args : Array Value} {below : List Frame} {meth : Method} {c : Code} {D : XD} {h0 : TH} (hC : XCx D cX3_lay 1 RX3 h0 p (xRm 477 11178 h0) s m args meth c) (hr : meth.sig.returnType = none) (hnh : c.exceptionTable.isEmpty = true) (hin : meth.name = "lay") {x : TH} :
    ∀ (a0 : Nat) (h : TH), F_X3_lay D.2.2.2 a0 h = some x → XJ p l e (xRm 477 11178 h0) s m args below meth c D 1 (.returned none) h0 x 0 [(0, rv a0)] [] h := by
  have hx := hC.1
  have hb := hC.2.1
  intro a0 h hF H locs cells slots ls hX hl
  rw [F_X3_lay] at hF
  refine X_aload_n hx hb dX3_lay_0 rfl (lv_at hl 0 rfl) ?_
  refine lv_iconst (v := 0) hx hb dX3_lay_1 (by decide) ?_
  obtain ⟨h_1, hF⟩ := gd_ok hF
  obtain ⟨h_2, hF⟩ := gd_ok hF
  refine pX_X3_32 hC hX h_1 h_2 dX3_lay_2 (fun H locs hX => ?_)
  obtain ⟨h_3, eh_3, hF⟩ := lt_ok hF
  rw [← eh_3] at hX
  refine X_aload_n hx hb dX3_lay_5 rfl (lv_at hl 0 rfl) ?_
  refine lv_iconst (v := -1) hx hb dX3_lay_6 (by decide) ?_
  obtain ⟨h_4, hF⟩ := gd_ok hF
  obtain ⟨h_5, hF⟩ := gd_ok hF
  refine pX_X3_36 hC hX h_4 h_5 dX3_lay_7 (fun H locs hX => ?_)
  obtain ⟨h_6, eh_6, hF⟩ := lt_ok hF
  rw [← eh_6] at hX
  refine X_aload_n hx hb dX3_lay_10 rfl (lv_at hl 0 rfl) ?_
  refine lv_iconst (v := 0) hx hb dX3_lay_11 (by decide) ?_
  obtain ⟨h_7, hF⟩ := gd_ok hF
  obtain ⟨h_8, hF⟩ := gd_ok hF
  refine pX_X3_39 hC hX h_7 h_8 (Or.inl rfl) dX3_lay_12 (fun H locs hX => ?_)
  obtain ⟨h_9, eh_9, hF⟩ := lt_ok hF
  rw [← eh_9] at hX
  refine X_aload_n hx hb dX3_lay_15 rfl (lv_at hl 0 rfl) ?_
  obtain ⟨h_10, hF⟩ := gd_ok hF
  obtain ⟨h_12, hc_11, hF⟩ := bd_ok hF
  refine iX_X3_43 hC hX h_10 hc_11 hl.1 (Nat.le_of_ble_eq_true rfl) (Nat.le_of_ble_eq_true rfl) (Nat.le_of_ble_eq_true rfl) dX3_lay_16 (fun H locs cells slots hX => ?_)
  exact x_retv hC hX hr (Option.some.inj hF) dX3_lay_19
theorem m_X3_lay (l : Launch) (D : XD) (a0 : Nat) (h : TH) (x : TH) (hF : F_X3_lay D.2.2.2 a0 h = some x) : XMt l yX3_lay (ws_ yX3_lay cX3_lay 1 (none)) 477 11178 D [rv a0] h (.returned none) x := by
  refine x_met (by decide +kernel) ?_ ?_
  · simp [lg_sl, rv_cat, cat_i, cat_l]
  intro p e s m below meth c hC hr hnh hin ls hl hX
  replace hl : lv_has ls 1 [(0, rv a0)] := by simpa [lv_args, rv_cat, cat_i, cat_l] using hl
  exact w_X3_lay hC hr hnh hin a0 h hF s.heap [] 0 0 ls hX hl
/-! java/util/Arrays.copyOf -/
def F_J5_copyOf_2 (K : Nat → Nat) (b0 : Nat) (b1 : Int32) (b2 : Nat) (h : TH) : Option (Nat × TH) :=
  lt ((K 199)) fun r_1 =>
  if b2 = r_1 then
    gd (¬ b1 < 0) <|
    gd (Int32.toNatClampNeg b1 ≤ 67108864) <|
    gd (hc h + 1 ≤ XC ∧ hs h + Int32.toNatClampNeg b1 ≤ XS) <|
    lt (hz h + 1) fun r_6 =>
    lt (nA h 37 (Int32.toNatClampNeg b1)) fun h_7 =>
    gd (2 ≤ tkd (hT h_7 b0)) <|
    bd (F_J4_min K h_7 (Int32.ofNat (hN h_7 b0)) b1) fun r_10 =>
    gd (hT h_7 b0 = 37) <|
    gd (hT h_7 r_6 = 37) <|
    gd (∀ i, i < (Int32.toNatClampNeg r_10) → hY h_7 b0 ((Int32.toNatClampNeg (0 : Int32)) + i) = 0 ∨ castB (hT h_7 (hY h_7 b0 ((Int32.toNatClampNeg (0 : Int32)) + i))) "java/lang/Object" = true) <|
    gd (¬ (0 : Int32) < 0 ∧ ¬ (0 : Int32) < 0 ∧ ¬ r_10 < 0 ∧ (Int32.toNatClampNeg (0 : Int32)) + (Int32.toNatClampNeg r_10) ≤ hN h_7 b0 ∧ (Int32.toNatClampNeg (0 : Int32)) + (Int32.toNatClampNeg r_10) ≤ hN h_7 r_6) <|
    lt (cpY h_7 b0 (Int32.toNatClampNeg (0 : Int32)) r_6 (Int32.toNatClampNeg (0 : Int32)) (Int32.toNatClampNeg r_10)) fun h_15 =>
    some (r_6, h_15)
  else
    none
set_option maxHeartbeats 4000000 in
theorem w_J5_copyOf_2 {p : Program} {l : Launch} {e : Env} {s : State} {m : MethodId} {args : Array Value} {below : List Frame} {meth : Method} {c : Code} {D : XD} {h0 : TH} (hC : XCx D cJ5_copyOf_2 4 RJ5 h0 p (xRm 1 60 h0) s m args meth c) (hr : meth.sig.returnType = some (.array (.object "java/lang/Object"))) (hnh : c.exceptionTable.isEmpty = true) (hin : meth.name = "copyOf") {x : (Nat × TH)} :
    ∀ (b0 : Nat) (b1 : Int32) (b2 : Nat) (h : TH), F_J5_copyOf_2 D.2.2.2 b0 b1 b2 h = some x → XJ p l e (xRm 1 60 h0) s m args below meth c D 4 (.returned (some (rv x.1))) h0 x.2 0 [(0, rv b0), (1, .int b1), (2, rv b2)] [] h := by
  have hx := hC.1
  have hb := hC.2.1
  intro b0 b1 b2 h hF H locs cells slots ls hX hl
  rw [F_J5_copyOf_2] at hF
  refine X_aload_n hx hb dJ5_copyOf_2_0 rfl (lv_at hl 2 rfl) ?_
  refine X_ldcM hC q460 dJ5_copyOf_2_1 ?_
  refine lv_topr (fun r_1 er_1 => ?_)
  replace hF := lt_at hF er_1
  refine X_acmp_ne (tgt := 13) hx hb dJ5_copyOf_2_3 (by decide) (fun c_2 => ?_) (fun c_2 => ?_)
  · replace hF := it_f hF c_2
    refine X_aload_n hx hb dJ5_copyOf_2_13 rfl (lv_at hl 2 rfl) ?_
    exact nm_none hF
  · replace hF := it_t hF c_2
    refine lv_iload_n hx hb dJ5_copyOf_2_6 rfl (lv_at hl 1 rfl) ?_
    obtain ⟨h_3, hF⟩ := gd_ok hF
    obtain ⟨h_4, hF⟩ := gd_ok hF
    obtain ⟨h_5, hF⟩ := gd_ok hF
    refine X_anew hC hX q461 h_3 h_4 h_5 dJ5_copyOf_2_7 (fun H cells slots hX => ?_)
    refine lv_topr (fun r_6 er_6 => ?_)
    replace hF := lt_at hF er_6
    obtain ⟨h_7, eh_7, hF⟩ := lt_ok hF
    rw [← eh_7] at hX
    refine lv_goto (tgt := 24) hx hb dJ5_copyOf_2_10 (by decide) ?_
    refine X_astore_n (i := 3) hx hb dJ5_copyOf_2_24 rfl hl (by decide) rfl (fun ls hl => ?_)
    replace hl : lv_has ls 4 [(3, rv r_6), (0, rv b0), (1, .int b1), (2, rv b2)] := lv_subS hl (List.forall_mem_cons.mpr ⟨Or.inl rfl, (List.forall_mem_cons.mpr ⟨Or.inr ⟨List.mem_of_getElem? (i := 0) rfl, rfl⟩, (List.forall_mem_cons.mpr ⟨Or.inr ⟨List.mem_of_getElem? (i := 1) rfl, rfl⟩, (List.forall_mem_cons.mpr ⟨Or.inr ⟨List.mem_of_getElem? (i := 2) rfl, by simp [rv_cat]⟩, (fun _ h => nomatch h)⟩)⟩)⟩)⟩)
    refine X_aload_n hx hb dJ5_copyOf_2_25 rfl (lv_at hl 1 rfl) ?_
    refine lv_iconst (v := 0) hx hb dJ5_copyOf_2_26 (by decide) ?_
    refine X_aload_n hx hb dJ5_copyOf_2_27 rfl (lv_at hl 0 rfl) ?_
    refine lv_iconst (v := 0) hx hb dJ5_copyOf_2_28 (by decide) ?_
    refine X_aload_n hx hb dJ5_copyOf_2_29 rfl (lv_at hl 1 rfl) ?_
    obtain ⟨h_8, hF⟩ := gd_ok hF
    refine X_alen hC hX h_8 dJ5_copyOf_2_30 ?_
    refine lv_iload_n hx hb dJ5_copyOf_2_31 rfl (lv_at hl 2 rfl) ?_
    obtain ⟨r_10, hc_9, hF⟩ := bd_ok hF
    refine iX_J5_304 hC hX hc_9 hl.1 (cat4 (Nat.le_of_ble_eq_true rfl)) (Nat.le_of_ble_eq_true rfl) (Nat.le_of_ble_eq_true rfl) dJ5_copyOf_2_32 (fun H locs cells slots hX => ?_)
    obtain ⟨h_11, hF⟩ := gd_ok hF
    obtain ⟨h_12, hF⟩ := gd_ok hF
    obtain ⟨h_13, hF⟩ := gd_ok hF
    obtain ⟨h_14, hF⟩ := gd_ok hF
    refine X_copyY hC hX h_11 h_12 h_13 h_14 q465 q467 q466 q137 hl.1 (Nat.le_of_ble_eq_true rfl) (cplo (Nat.le_of_ble_eq_true rfl) (Nat.le_of_ble_eq_true rfl)) dJ5_copyOf_2_35 (fun H locs hX => ?_)
    obtain ⟨h_15, eh_15, hF⟩ := lt_ok hF
    rw [← eh_15] at hX
    refine X_aload_n hx hb dJ5_copyOf_2_38 rfl (lv_at hl 0 rfl) ?_
    exact x_reta hC hX hr (Or.inr ⟨_, rfl⟩) (rt1 hF) (rt2 hF) dJ5_copyOf_2_39
theorem m_J5_copyOf_2 (l : Launch) (D : XD) (b0 : Nat) (b1 : Int32) (b2 : Nat) (h : TH) (x : (Nat × TH)) (hF : F_J5_copyOf_2 D.2.2.2 b0 b1 b2 h = some x) : XMt l yJ5_copyOf_2 (ws_ yJ5_copyOf_2 cJ5_copyOf_2 4 (some (.array (.object "java/lang/Object")))) 1 60 D [rv b0, .int b1, rv b2] h (.returned (some (rv x.1))) x.2 := by
  refine x_met (by decide +kernel) ?_ ?_
  · simp [lg_sl, rv_cat, cat_i, cat_l]
  intro p e s m below meth c hC hr hnh hin ls hl hX
  replace hl : lv_has ls 4 [(0, rv b0), (1, .int b1), (2, rv b2)] := by simpa [lv_args, rv_cat, cat_i, cat_l] using hl
  exact w_J5_copyOf_2 hC hr hnh hin b0 b1 b2 h hF s.heap [] 0 0 ls hX hl
theorem iX_J5_300 {p : Program} {l : Launch} {e : Env} {R : Room} {s : State} {m : MethodId} {args : Array Value} {below : List Frame} {meth : Method} {c : Code} {H : Heap} {locs : List Loc} {cells slots nL : Nat} {Q : State → Prop} {D : XD} {h0 h : TH} {cc : ByteArray} {pc : Nat} {ls : Array Slot} {rest : List Value} {h1 : TH} (hC : XCx D cc nL RJ5 h0 p R s m args meth c) (hX : XSt D s h0 h H locs cells slots) {b0 : Nat} {b1 : Int32} {b2 : Nat} {x : Nat} (hcF : F_J5_copyOf_2 D.2.2.2 b0 b1 b2 h = some (x, h1)) (hl : ls.size = nL) (hW : (rest.map fun v => v.category).sum ≤ 8) (hRf : 1 + 1 ≤ R.frames) (hRl : 83 ≤ R.locals) (hdg : decode cc pc = .ok (.invokestatic 300, 3)) (kk : ∀ (H1 : Heap) (locs1 : List Loc) (cells1 slots1 : Nat), XSt D s h0 h1 H1 locs1 cells1 slots1 → W p l e R s m args below meth c H1 locs1 cells1 slots1 Q (F0 m (pc + 3) ls (rv x :: rest))) : W p l e R s m args below meth c H locs cells slots Q (F0 m pc ls (rv b2 :: .int b1 :: rv b0 :: rest)) := by
  exact X_callS hC hX (As := [rv b0, .int b1, rv b2]) (m_J5_copyOf_2 l D b0 b1 b2 h _ hcF) (va_cwS 3 hC.2.2.2.2.1 (lw_S q457 q458 q136 q459) rfl rfl rfl (by decide +kernel) ⟨Nat.le_trans (Nat.le_of_ble_eq_true rfl) hRf, Nat.le_trans (Nat.le_of_ble_eq_true rfl) hRl⟩) rfl rfl hl hW hdg kk
/-! java/util/Arrays.copyOf -/
def F_J5_copyOf (K : Nat → Nat) (b0 : Nat) (b1 : Int32) (h : TH) : Option (Nat × TH) :=
  gd (hT h b0 = 37) <|
  lt ((K 199)) fun r_2 =>
  bd2 (F_J5_copyOf_2 K b0 b1 r_2 h) fun r_5 h_4 =>
  some (r_5, h_4)
set_option maxHeartbeats 4000000 in
theorem w_J5_copyOf {p : Program} {l : Launch} {e : Env} {s : State} {m : MethodId} {args : Array Value} {below : List Frame} {meth : Method} {c : Code} {D : XD} {h0 : TH} (hC : XCx D cJ5_copyOf 2 RJ5 h0 p (xRm 2 83 h0) s m args meth c) (hr : meth.sig.returnType = some (.array (.object "java/lang/Object"))) (hnh : c.exceptionTable.isEmpty = true) (hin : meth.name = "copyOf") {x : (Nat × TH)} :
    ∀ (b0 : Nat) (b1 : Int32) (h : TH), F_J5_copyOf D.2.2.2 b0 b1 h = some x → XJ p l e (xRm 2 83 h0) s m args below meth c D 2 (.returned (some (rv x.1))) h0 x.2 0 [(0, rv b0), (1, .int b1)] [] h := by
  have hx := hC.1
  have hb := hC.2.1
  intro b0 b1 h hF H locs cells slots ls hX hl
  rw [F_J5_copyOf] at hF
  refine X_aload_n hx hb dJ5_copyOf_0 rfl (lv_at hl 0 rfl) ?_
  refine lv_iload_n hx hb dJ5_copyOf_1 rfl (lv_at hl 1 rfl) ?_
  refine X_aload_n hx hb dJ5_copyOf_2 rfl (lv_at hl 0 rfl) ?_
  obtain ⟨h_1, hF⟩ := gd_ok hF
  refine X_getC hC hX h_1 q423 hl.1 (Nat.le_of_ble_eq_true rfl) (cplo (cat4 (Nat.le_of_ble_eq_true rfl)) (Nat.le_of_ble_eq_true rfl)) dJ5_copyOf_3 ?_
  refine lv_topr (fun r_2 er_2 => ?_)
  replace hF := lt_at hF er_2
  obtain ⟨r_5, h_4, hc_3, hF⟩ := bd2_ok hF
  refine iX_J5_300 hC hX hc_3 hl.1 (Nat.le_of_ble_eq_true rfl) (Nat.le_of_ble_eq_true rfl) (Nat.le_of_ble_eq_true rfl) dJ5_copyOf_6 (fun H locs cells slots hX => ?_)
  exact x_reta hC hX hr (Or.inr ⟨_, rfl⟩) (rt1 hF) (rt2 hF) dJ5_copyOf_9
theorem m_J5_copyOf (l : Launch) (D : XD) (b0 : Nat) (b1 : Int32) (h : TH) (x : (Nat × TH)) (hF : F_J5_copyOf D.2.2.2 b0 b1 h = some x) : XMt l yJ5_copyOf (ws_ yJ5_copyOf cJ5_copyOf 2 (some (.array (.object "java/lang/Object")))) 2 83 D [rv b0, .int b1] h (.returned (some (rv x.1))) x.2 := by
  refine x_met (by decide +kernel) ?_ ?_
  · simp [lg_sl, rv_cat, cat_i, cat_l]
  intro p e s m below meth c hC hr hnh hin ls hl hX
  replace hl : lv_has ls 2 [(0, rv b0), (1, .int b1)] := by simpa [lv_args, rv_cat, cat_i, cat_l] using hl
  exact w_J5_copyOf hC hr hnh hin b0 b1 h hF s.heap [] 0 0 ls hX hl
theorem sX_J2_39 {p : Program} {l : Launch} {e : Env} {R : Room} {s : State} {m : MethodId} {args : Array Value} {below : List Frame} {meth : Method} {c : Code} {H : Heap} {locs : List Loc} {cells slots nL : Nat} {Q : State → Prop} {D : XD} {h0 h : TH} {cc : ByteArray} {pc : Nat} {ls : Array Slot} {rest : List Value} (hC : XCx D cc nL RJ2 h0 p R s m args meth c) (hX : XSt D s h0 h H locs cells slots) (hdg : decode cc pc = .ok (.getstatic 39, 3)) (kk : W p l e R s m args below meth c H locs cells slots Q (F0 m (pc + 3) ls (rv (D.2.2.2 36) :: rest))) : W p l e R s m args below meth c H locs cells slots Q (F0 m pc ls rest) :=
  X_gets hC hX (q := .inl 36) (List.mem_of_getElem? (i := 6) rfl) q408 hdg kk
theorem iX_J2_79 {p : Program} {l : Launch} {e : Env} {R : Room} {s : State} {m : MethodId} {args : Array Value} {below : List Frame} {meth : Method} {c : Code} {H : Heap} {locs : List Loc} {cells slots nL : Nat} {Q : State → Prop} {D : XD} {h0 h : TH} {cc : ByteArray} {pc : Nat} {ls : Array Slot} {rest : List Value} (hC : XCx D cc nL RJ2 h0 p R s m args meth c) (hX : XSt D s h0 h H locs cells slots) {b0 : Int32} {b1 : Int32} {x : Int32} (hcF : F_J4_max D.2.2.2 h b0 b1 = some x) (hl : ls.size = nL) (hW : (rest.map fun v => v.category).sum ≤ 8) (hRf : 0 + 1 ≤ R.frames) (hRl : 21 ≤ R.locals) (hdg : decode cc pc = .ok (.invokestatic 79, 3)) (kk : ∀ (H1 : Heap) (locs1 : List Loc) (cells1 slots1 : Nat), XSt D s h0 h H1 locs1 cells1 slots1 → W p l e R s m args below meth c H1 locs1 cells1 slots1 Q (F0 m (pc + 3) ls (.int x :: rest))) : W p l e R s m args below meth c H locs cells slots Q (F0 m pc ls (.int b1 :: .int b0 :: rest)) := by
  exact X_callS hC hX (As := [.int b0, .int b1]) (m_J4_max l D b0 b1 h _ hcF) (va_cwS 2 hC.2.2.2.2.1 (lw_S q468 q414 q135 q415) rfl rfl rfl (by decide +kernel) ⟨Nat.le_trans (Nat.le_of_ble_eq_true rfl) hRf, Nat.le_trans (Nat.le_of_ble_eq_true rfl) hRl⟩) rfl rfl hl hW hdg kk
theorem iX_J2_73 {p : Program} {l : Launch} {e : Env} {R : Room} {s : State} {m : MethodId} {args : Array Value} {below : List Frame} {meth : Method} {c : Code} {H : Heap} {locs : List Loc} {cells slots nL : Nat} {Q : State → Prop} {D : XD} {h0 h : TH} {cc : ByteArray} {pc : Nat} {ls : Array Slot} {rest : List Value} (hC : XCx D cc nL RJ2 h0 p R s m args meth c) (hX : XSt D s h0 h H locs cells slots) {b0 : Int32} {b1 : Int32} {b2 : Int32} {x : Int32} (hcF : F_J3_newLength D.2.2.2 h b0 b1 b2 = some x) (hl : ls.size = nL) (hW : (rest.map fun v => v.category).sum ≤ 8) (hRf : 1 + 1 ≤ R.frames) (hRl : 44 ≤ R.locals) (hdg : decode cc pc = .ok (.invokestatic 73, 3)) (kk : ∀ (H1 : Heap) (locs1 : List Loc) (cells1 slots1 : Nat), XSt D s h0 h H1 locs1 cells1 slots1 → W p l e R s m args below meth c H1 locs1 cells1 slots1 Q (F0 m (pc + 3) ls (.int x :: rest))) : W p l e R s m args below meth c H locs cells slots Q (F0 m pc ls (.int b2 :: .int b1 :: .int b0 :: rest)) := by
  exact X_callS hC hX (As := [.int b0, .int b1, .int b2]) (m_J3_newLength l D b0 b1 b2 h _ hcF) (va_cwS 3 hC.2.2.2.2.1 (lw_S q410 q411 q134 q412) rfl rfl rfl (by decide +kernel) ⟨Nat.le_trans (Nat.le_of_ble_eq_true rfl) hRf, Nat.le_trans (Nat.le_of_ble_eq_true rfl) hRl⟩) rfl rfl hl hW hdg kk
theorem iX_J2_66 {p : Program} {l : Launch} {e : Env} {R : Room} {s : State} {m : MethodId} {args : Array Value} {below : List Frame} {meth : Method} {c : Code} {H : Heap} {locs : List Loc} {cells slots nL : Nat} {Q : State → Prop} {D : XD} {h0 h : TH} {cc : ByteArray} {pc : Nat} {ls : Array Slot} {rest : List Value} {h1 : TH} (hC : XCx D cc nL RJ2 h0 p R s m args meth c) (hX : XSt D s h0 h H locs cells slots) {b0 : Nat} {b1 : Int32} {x : Nat} (hcF : F_J5_copyOf D.2.2.2 b0 b1 h = some (x, h1)) (hl : ls.size = nL) (hW : (rest.map fun v => v.category).sum ≤ 8) (hRf : 2 + 1 ≤ R.frames) (hRl : 104 ≤ R.locals) (hdg : decode cc pc = .ok (.invokestatic 66, 3)) (kk : ∀ (H1 : Heap) (locs1 : List Loc) (cells1 slots1 : Nat), XSt D s h0 h1 H1 locs1 cells1 slots1 → W p l e R s m args below meth c H1 locs1 cells1 slots1 Q (F0 m (pc + 3) ls (rv x :: rest))) : W p l e R s m args below meth c H locs cells slots Q (F0 m pc ls (.int b1 :: rv b0 :: rest)) := by
  exact X_callS hC hX (As := [rv b0, .int b1]) (m_J5_copyOf l D b0 b1 h _ hcF) (va_cwS 2 hC.2.2.2.2.1 (lw_S q420 q421 q136 q422) rfl rfl rfl (by decide +kernel) ⟨Nat.le_trans (Nat.le_of_ble_eq_true rfl) hRf, Nat.le_trans (Nat.le_of_ble_eq_true rfl) hRl⟩) rfl rfl hl hW hdg kk
/-! java/util/ArrayList.grow -/
def F_J2_grow_2_b20 (K : Nat → Nat) (x0 : Nat) (x1 : Int32) (x2 : Int32) (h : TH) : Option (Nat × TH) :=
  bd (F_J3_newLength K h x2 (x1 - x2) (x2 >>> ((1 : Int32) &&& 31))) fun r_2 =>
  gd (hasF (hT h x0) 41 = true) <|
  lt (hR h 41 x0) fun r_4 =>
  bd2 (F_J5_copyOf K r_4 r_2 h) fun r_7 h_6 =>
  gd (hasF (hT h_6 x0) 41 = true) <|
  gd (hT h_6 x0 ≤ 24) <|
  lt (uR h_6 41 x0 r_7) fun h_10 =>
  some (r_7, h_10)
set_option maxHeartbeats 4000000 in
theorem w_J2_grow_2_b20 {p : Program} {l : Launch} {e : Env} {s : State} {m : MethodId} {args : Array Value} {below : List Frame} {meth : Method} {c : Code} {D : XD} {h0 : TH} (hC : XCx D cJ2_grow_2 4 RJ2 h0 p (xRm 3 104 h0) s m args meth c) (hr : meth.sig.returnType = some (.array (.object "java/lang/Object"))) (hnh : c.exceptionTable.isEmpty = true) (hin : meth.name = "grow") {x : (Nat × TH)} :
    ∀ (x0 : Nat) (x1 : Int32) (x2 : Int32) (h : TH), F_J2_grow_2_b20 D.2.2.2 x0 x1 x2 h = some x → XJ p l e (xRm 3 104 h0) s m args below meth c D 4 (.returned (some (rv x.1))) h0 x.2 20 [(0, rv x0), (1, .int x1), (2, .int x2)] [] h := by
  have hx := hC.1
  have hb := hC.2.1
  intro x0 x1 x2 h hF H locs cells slots ls hX hl
  rw [F_J2_grow_2_b20] at hF
  refine lv_iload_n hx hb dJ2_grow_2_20 rfl (lv_at hl 2 rfl) ?_
  refine lv_iload_n hx hb dJ2_grow_2_21 rfl (lv_at hl 1 rfl) ?_
  refine lv_iload_n hx hb dJ2_grow_2_22 rfl (lv_at hl 2 rfl) ?_
  refine lv_isub hx hb dJ2_grow_2_23 ?_
  refine lv_iload_n hx hb dJ2_grow_2_24 rfl (lv_at hl 2 rfl) ?_
  refine lv_iconst (v := 1) hx hb dJ2_grow_2_25 (by decide) ?_
  refine lv_ishr hx hb dJ2_grow_2_26 ?_
  obtain ⟨r_2, hc_1, hF⟩ := bd_ok hF
  refine iX_J2_73 hC hX hc_1 hl.1 (Nat.le_of_ble_eq_true rfl) (Nat.le_of_ble_eq_true rfl) (Nat.le_of_ble_eq_true rfl) dJ2_grow_2_27 (fun H locs cells slots hX => ?_)
  refine lv_istore_n (lv' := [(3, .int r_2), (0, rv x0), (1, .int x1), (2, .int x2)]) hx hb dJ2_grow_2_30 rfl hl (by decide) rfl (fun ls hl => ?_)
  refine X_aload_n hx hb dJ2_grow_2_31 rfl (lv_at hl 1 rfl) ?_
  refine X_aload_n hx hb dJ2_grow_2_32 rfl (lv_at hl 1 rfl) ?_
  obtain ⟨h_3, hF⟩ := gd_ok hF
  refine gX_J2_9 hC hX h_3 dJ2_grow_2_33 ?_
  refine lv_topr (fun r_4 er_4 => ?_)
  replace hF := lt_at hF er_4
  refine lv_iload_n hx hb dJ2_grow_2_36 rfl (lv_at hl 0 rfl) ?_
  obtain ⟨r_7, h_6, hc_5, hF⟩ := bd2_ok hF
  refine iX_J2_66 hC hX hc_5 hl.1 (cat4 (Nat.le_of_ble_eq_true rfl)) (Nat.le_of_ble_eq_true rfl) (Nat.le_of_ble_eq_true rfl) dJ2_grow_2_37 (fun H locs cells slots hX => ?_)
  refine lv_dup_x1 hx hb dJ2_grow_2_40 (rv_cat _) (rv_cat _) ?_
  obtain ⟨h_8, hF⟩ := gd_ok hF
  obtain ⟨h_9, hF⟩ := gd_ok hF
  refine pX_J2_9 hC hX h_8 h_9 dJ2_grow_2_41 (fun H locs hX => ?_)
  obtain ⟨h_10, eh_10, hF⟩ := lt_ok hF
  rw [← eh_10] at hX
  exact x_reta hC hX hr (Or.inr ⟨_, rfl⟩) (rt1 hF) (rt2 hF) dJ2_grow_2_44
def F_J2_grow_2 (K : Nat → Nat) (a0 : Nat) (b0 : Int32) (h : TH) : Option (Nat × TH) :=
  gd (hasF (hT h a0) 41 = true) <|
  lt (hR h 41 a0) fun r_2 =>
  gd (2 ≤ tkd (hT h r_2)) <|
  lt ((Int32.ofNat (hN h r_2))) fun x_4 =>
  if 0 < x_4 then
    F_J2_grow_2_b20 K a0 b0 x_4 h
  else
    gd (hasF (hT h a0) 41 = true) <|
    lt (hR h 41 a0) fun r_7 =>
    lt ((K 36)) fun r_8 =>
    if r_7 = r_8 then
      bd (F_J4_max K h (10 : Int32) b0) fun r_11 =>
      gd (¬ r_11 < 0) <|
      gd (Int32.toNatClampNeg r_11 ≤ 67108864) <|
      gd (hc h + 1 ≤ XC ∧ hs h + Int32.toNatClampNeg r_11 ≤ XS) <|
      lt (hz h + 1) fun r_15 =>
      lt (nA h 37 (Int32.toNatClampNeg r_11)) fun h_16 =>
      gd (hasF (hT h_16 a0) 41 = true) <|
      gd (hT h_16 a0 ≤ 24) <|
      lt (uR h_16 41 a0 r_15) fun h_19 =>
      some (r_15, h_19)
    else
      F_J2_grow_2_b20 K a0 b0 x_4 h
set_option maxHeartbeats 4000000 in
theorem w_J2_grow_2 {p : Program} {l : Launch} {e : Env} {s : State} {m : MethodId} {args : Array Value} {below : List Frame} {meth : Method} {c : Code} {D : XD} {h0 : TH} (hC : XCx D cJ2_grow_2 4 RJ2 h0 p (xRm 3 104 h0) s m args meth c) (hr : meth.sig.returnType = some (.array (.object "java/lang/Object"))) (hnh : c.exceptionTable.isEmpty = true) (hin : meth.name = "grow") {x : (Nat × TH)} :
    ∀ (a0 : Nat) (b0 : Int32) (h : TH), F_J2_grow_2 D.2.2.2 a0 b0 h = some x → XJ p l e (xRm 3 104 h0) s m args below meth c D 4 (.returned (some (rv x.1))) h0 x.2 0 [(0, rv a0), (1, .int b0)] [] h := by
  have hx := hC.1
  have hb := hC.2.1
  intro a0 b0 h hF H locs cells slots ls hX hl
  rw [F_J2_grow_2] at hF
  refine X_aload_n hx hb dJ2_grow_2_0 rfl (lv_at hl 0 rfl) ?_
  obtain ⟨h_1, hF⟩ := gd_ok hF
  refine gX_J2_9 hC hX h_1 dJ2_grow_2_1 ?_
  refine lv_topr (fun r_2 er_2 => ?_)
  replace hF := lt_at hF er_2
  obtain ⟨h_3, hF⟩ := gd_ok hF
  refine X_alen hC hX h_3 dJ2_grow_2_4 ?_
  refine lv_topi (fun x_4 ex_4 => ?_)
  replace hF := lt_at hF ex_4
  refine lv_istore_n (lv' := [(2, .int x_4), (0, rv a0), (1, .int b0)]) hx hb dJ2_grow_2_5 rfl hl (by decide) rfl (fun ls hl => ?_)
  refine lv_iload_n hx hb dJ2_grow_2_6 rfl (lv_at hl 0 rfl) ?_
  refine lv_if_gt (tgt := 20) hx hb dJ2_grow_2_7 (by decide) (fun c_5 => ?_) (fun c_5 => ?_)
  · replace hF := it_t hF c_5
    exact w_J2_grow_2_b20 hC hr hnh hin a0 b0 x_4 h hF H locs cells slots ls hX (lv_sub hl [1, 2, 0] rfl)
  · replace hF := it_f hF c_5
    refine X_aload_n hx hb dJ2_grow_2_10 rfl (lv_at hl 1 rfl) ?_
    obtain ⟨h_6, hF⟩ := gd_ok hF
    refine gX_J2_9 hC hX h_6 dJ2_grow_2_11 ?_
    refine lv_topr (fun r_7 er_7 => ?_)
    replace hF := lt_at hF er_7
    refine sX_J2_39 hC hX dJ2_grow_2_14 ?_
    refine lv_topr (fun r_8 er_8 => ?_)
    replace hF := lt_at hF er_8
    refine X_acmp_eq (tgt := 45) hx hb dJ2_grow_2_17 (by decide) (fun c_9 => ?_) (fun c_9 => ?_)
    · replace hF := it_t hF c_9
      refine X_aload_n hx hb dJ2_grow_2_45 rfl (lv_at hl 1 rfl) ?_
      refine lv_bipush (v := 10) hx hb dJ2_grow_2_46 (by decide) ?_
      refine lv_iload_n hx hb dJ2_grow_2_48 rfl (lv_at hl 2 rfl) ?_
      obtain ⟨r_11, hc_10, hF⟩ := bd_ok hF
      refine iX_J2_79 hC hX hc_10 hl.1 (cat4 (Nat.le_of_ble_eq_true rfl)) (Nat.le_of_ble_eq_true rfl) (Nat.le_of_ble_eq_true rfl) dJ2_grow_2_49 (fun H locs cells slots hX => ?_)
      obtain ⟨h_12, hF⟩ := gd_ok hF
      obtain ⟨h_13, hF⟩ := gd_ok hF
      obtain ⟨h_14, hF⟩ := gd_ok hF
      refine X_anew hC hX q199 h_12 h_13 h_14 dJ2_grow_2_52 (fun H cells slots hX => ?_)
      refine lv_topr (fun r_15 er_15 => ?_)
      replace hF := lt_at hF er_15
      obtain ⟨h_16, eh_16, hF⟩ := lt_ok hF
      rw [← eh_16] at hX
      refine lv_dup_x1 hx hb dJ2_grow_2_55 (rv_cat _) (rv_cat _) ?_
      obtain ⟨h_17, hF⟩ := gd_ok hF
      obtain ⟨h_18, hF⟩ := gd_ok hF
      refine pX_J2_9 hC hX h_17 h_18 dJ2_grow_2_56 (fun H locs hX => ?_)
      obtain ⟨h_19, eh_19, hF⟩ := lt_ok hF
      rw [← eh_19] at hX
      exact x_reta hC hX hr (Or.inr ⟨_, rfl⟩) (rt1 hF) (rt2 hF) dJ2_grow_2_59
    · replace hF := it_f hF c_9
      exact w_J2_grow_2_b20 hC hr hnh hin a0 b0 x_4 h hF H locs cells slots ls hX (lv_sub hl [1, 2, 0] rfl)
theorem m_J2_grow_2 (l : Launch) (D : XD) (a0 : Nat) (b0 : Int32) (h : TH) (x : (Nat × TH)) (hF : F_J2_grow_2 D.2.2.2 a0 b0 h = some x) : XMt l yJ2_grow_2 (ws_ yJ2_grow_2 cJ2_grow_2 4 (some (.array (.object "java/lang/Object")))) 3 104 D [rv a0, .int b0] h (.returned (some (rv x.1))) x.2 := by
  refine x_met (by decide +kernel) ?_ ?_
  · simp [lg_sl, rv_cat, cat_i, cat_l]
  intro p e s m below meth c hC hr hnh hin ls hl hX
  replace hl : lv_has ls 4 [(0, rv a0), (1, .int b0)] := by simpa [lv_args, rv_cat, cat_i, cat_l] using hl
  exact w_J2_grow_2 hC hr hnh hin a0 b0 h hF s.heap [] 0 0 ls hX hl
theorem iX_J2_69 {p : Program} {l : Launch} {e : Env} {R : Room} {s : State} {m : MethodId} {args : Array Value} {below : List Frame} {meth : Method} {c : Code} {H : Heap} {locs : List Loc} {cells slots nL : Nat} {Q : State → Prop} {D : XD} {h0 h : TH} {cc : ByteArray} {pc : Nat} {ls : Array Slot} {rest : List Value} {h1 : TH} (hC : XCx D cc nL RJ2 h0 p R s m args meth c) (hX : XSt D s h0 h H locs cells slots) {a : Nat} {b0 : Int32} {x : Nat} (ht : hT h a = 3) (hcF : F_J2_grow_2 D.2.2.2 a b0 h = some (x, h1)) (hl : ls.size = nL) (hW : (rest.map fun v => v.category).sum ≤ 8) (hRf : 3 + 1 ≤ R.frames) (hRl : 127 ≤ R.locals) (hdg : decode cc pc = .ok (.invokevirtual 69, 3)) (kk : ∀ (H1 : Heap) (locs1 : List Loc) (cells1 slots1 : Nat), XSt D s h0 h1 H1 locs1 cells1 slots1 → W p l e R s m args below meth c H1 locs1 cells1 slots1 Q (F0 m (pc + 3) ls (rv x :: rest))) : W p l e R s m args below meth c H locs cells slots Q (F0 m pc ls (.int b0 :: rv a :: rest)) := by
  have q := ht
  exact X_callV hC hX (by rw [q]; decide) (by rw [q]; rfl) (As := [.int b0]) (m_J2_grow_2 l D a b0 h _ hcF) (cwV 1 hC.2.2.2.2.1 (lw_V q404 q406 qs2 q129 q407) rfl rfl rfl (by decide +kernel) ⟨Nat.le_trans (Nat.le_of_ble_eq_true rfl) hRf, Nat.le_trans (Nat.le_of_ble_eq_true rfl) hRl⟩) rfl rfl hl hW hdg kk
/-! java/util/ArrayList.grow -/
def F_J2_grow (K : Nat → Nat) (a0 : Nat) (h : TH) : Option (Nat × TH) :=
  gd (hasF (hT h a0) 42 = true) <|
  gd (hT h a0 = 3) <|
  bd2 (F_J2_grow_2 K a0 ((hI h 42 a0) + (1 : Int32)) h) fun r_5 h_4 =>
  some (r_5, h_4)
set_option maxHeartbeats 4000000 in
theorem w_J2_grow {p : Program} {l : Launch} {e : Env} {s : State} {m : MethodId} {args : Array Value} {below : List Frame} {meth : Method} {c : Code} {D : XD} {h0 : TH} (hC : XCx D cJ2_grow 1 RJ2 h0 p (xRm 4 127 h0) s m args meth c) (hr : meth.sig.returnType = some (.array (.object "java/lang/Object"))) (hnh : c.exceptionTable.isEmpty = true) (hin : meth.name = "grow") {x : (Nat × TH)} :
    ∀ (a0 : Nat) (h : TH), F_J2_grow D.2.2.2 a0 h = some x → XJ p l e (xRm 4 127 h0) s m args below meth c D 1 (.returned (some (rv x.1))) h0 x.2 0 [(0, rv a0)] [] h := by
  have hx := hC.1
  have hb := hC.2.1
  intro a0 h hF H locs cells slots ls hX hl
  rw [F_J2_grow] at hF
  refine X_aload_n hx hb dJ2_grow_0 rfl (lv_at hl 0 rfl) ?_
  refine X_aload_n hx hb dJ2_grow_1 rfl (lv_at hl 0 rfl) ?_
  obtain ⟨h_1, hF⟩ := gd_ok hF
  refine gX_J2_48 hC hX h_1 dJ2_grow_2 ?_
  refine lv_iconst (v := 1) hx hb dJ2_grow_5 (by decide) ?_
  refine lv_iadd hx hb dJ2_grow_6 ?_
  obtain ⟨h_2, hF⟩ := gd_ok hF
  obtain ⟨r_5, h_4, hc_3, hF⟩ := bd2_ok hF
  refine iX_J2_69 hC hX h_2 hc_3 hl.1 (Nat.le_of_ble_eq_true rfl) (Nat.le_of_ble_eq_true rfl) (Nat.le_of_ble_eq_true rfl) dJ2_grow_7 (fun H locs cells slots hX => ?_)
  exact x_reta hC hX hr (Or.inr ⟨_, rfl⟩) (rt1 hF) (rt2 hF) dJ2_grow_10
theorem m_J2_grow (l : Launch) (D : XD) (a0 : Nat) (h : TH) (x : (Nat × TH)) (hF : F_J2_grow D.2.2.2 a0 h = some x) : XMt l yJ2_grow (ws_ yJ2_grow cJ2_grow 1 (some (.array (.object "java/lang/Object")))) 4 127 D [rv a0] h (.returned (some (rv x.1))) x.2 := by
  refine x_met (by decide +kernel) ?_ ?_
  · simp [lg_sl, rv_cat, cat_i, cat_l]
  intro p e s m below meth c hC hr hnh hin ls hl hX
  replace hl : lv_has ls 1 [(0, rv a0)] := by simpa [lv_args, rv_cat, cat_i, cat_l] using hl
  exact w_J2_grow hC hr hnh hin a0 h hF s.heap [] 0 0 ls hX hl
theorem iX_J2_129 {p : Program} {l : Launch} {e : Env} {R : Room} {s : State} {m : MethodId} {args : Array Value} {below : List Frame} {meth : Method} {c : Code} {H : Heap} {locs : List Loc} {cells slots nL : Nat} {Q : State → Prop} {D : XD} {h0 h : TH} {cc : ByteArray} {pc : Nat} {ls : Array Slot} {rest : List Value} {h1 : TH} (hC : XCx D cc nL RJ2 h0 p R s m args meth c) (hX : XSt D s h0 h H locs cells slots) {a : Nat} {x : Nat} (ht : hT h a = 3) (hcF : F_J2_grow D.2.2.2 a h = some (x, h1)) (hl : ls.size = nL) (hW : (rest.map fun v => v.category).sum ≤ 8) (hRf : 4 + 1 ≤ R.frames) (hRl : 147 ≤ R.locals) (hdg : decode cc pc = .ok (.invokevirtual 129, 3)) (kk : ∀ (H1 : Heap) (locs1 : List Loc) (cells1 slots1 : Nat), XSt D s h0 h1 H1 locs1 cells1 slots1 → W p l e R s m args below meth c H1 locs1 cells1 slots1 Q (F0 m (pc + 3) ls (rv x :: rest))) : W p l e R s m args below meth c H locs cells slots Q (F0 m pc ls (rv a :: rest)) := by
  have q := ht
  exact X_callV hC hX (by rw [q]; decide) (by rw [q]; rfl) (As := []) (m_J2_grow l D a h _ hcF) (cwV 0 hC.2.2.2.2.1 (lw_V q400 q402 qs1 q129 q403) rfl rfl rfl (by decide +kernel) ⟨Nat.le_trans (Nat.le_of_ble_eq_true rfl) hRf, Nat.le_trans (Nat.le_of_ble_eq_true rfl) hRl⟩) rfl rfl hl hW hdg kk
/-! java/util/ArrayList.add -/
def F_J2_add_2_b11 (K : Nat → Nat) (x0 : Nat) (x1 : Nat) (x2 : Nat) (x3 : Int32) (h : TH) : Option TH :=
  gd (hT h x2 = 37) <|
  gd (inb x3 (hN h x2)) <|
  gd (x1 = 0 ∨ castB (hT h x1) "java/lang/Object" = true) <|
  lt (uX h x2 (Int32.toNatClampNeg x3) x1) fun h_4 =>
  gd (hasF (hT h_4 x0) 42 = true) <|
  gd (hT h_4 x0 ≤ 24) <|
  lt (uI h_4 42 x0 (x3 + (1 : Int32))) fun h_7 =>
  some h_7
set_option maxHeartbeats 4000000 in
theorem w_J2_add_2_b11 {p : Program} {l : Launch} {e : Env} {s : State} {m : MethodId} {args : Array Value} {below : List Frame} {meth : Method} {c : Code} {D : XD} {h0 : TH} (hC : XCx D cJ2_add_2 4 RJ2 h0 p (xRm 5 147 h0) s m args meth c) (hr : meth.sig.returnType = none) (hnh : c.exceptionTable.isEmpty = true) (hin : meth.name = "add") {x : TH} :
    ∀ (x0 : Nat) (x1 : Nat) (x2 : Nat) (x3 : Int32) (h : TH), F_J2_add_2_b11 D.2.2.2 x0 x1 x2 x3 h = some x → XJ p l e (xRm 5 147 h0) s m args below meth c D 4 (.returned none) h0 x 11 [(0, rv x0), (1, rv x1), (2, rv x2), (3, .int x3)] [] h := by
  have hx := hC.1
  have hb := hC.2.1
  intro x0 x1 x2 x3 h hF H locs cells slots ls hX hl
  rw [F_J2_add_2_b11] at hF
  refine X_aload_n hx hb dJ2_add_2_11 rfl (lv_at hl 2 rfl) ?_
  refine lv_iload_n hx hb dJ2_add_2_12 rfl (lv_at hl 3 rfl) ?_
  refine X_aload_n hx hb dJ2_add_2_13 rfl (lv_at hl 1 rfl) ?_
  obtain ⟨h_1, hF⟩ := gd_ok hF
  obtain ⟨h_2, hF⟩ := gd_ok hF
  obtain ⟨h_3, hF⟩ := gd_ok hF
  refine X_aast hC hX h_1 h_2 h_3 dJ2_add_2_14 (fun H locs hX => ?_)
  obtain ⟨h_4, eh_4, hF⟩ := lt_ok hF
  rw [← eh_4] at hX
  refine X_aload_n hx hb dJ2_add_2_15 rfl (lv_at hl 0 rfl) ?_
  refine lv_iload_n hx hb dJ2_add_2_16 rfl (lv_at hl 3 rfl) ?_
  refine lv_iconst (v := 1) hx hb dJ2_add_2_17 (by decide) ?_
  refine lv_iadd hx hb dJ2_add_2_18 ?_
  obtain ⟨h_5, hF⟩ := gd_ok hF
  obtain ⟨h_6, hF⟩ := gd_ok hF
  refine pX_J2_48 hC hX h_5 h_6 dJ2_add_2_19 (fun H locs hX => ?_)
  obtain ⟨h_7, eh_7, hF⟩ := lt_ok hF
  rw [← eh_7] at hX
  exact x_retv hC hX hr (Option.some.inj hF) dJ2_add_2_22
def F_J2_add_2 (K : Nat → Nat) (a0 : Nat) (b0 : Nat) (b1 : Nat) (b2 : Int32) (h : TH) : Option TH :=
  gd (2 ≤ tkd (hT h b1)) <|
  if b2 = (Int32.ofNat (hN h b1)) then
    gd (hT h a0 = 3) <|
    bd2 (F_J2_grow K a0 h) fun r_6 h_5 =>
    F_J2_add_2_b11 K a0 b0 r_6 b2 h_5
  else
    F_J2_add_2_b11 K a0 b0 b1 b2 h
set_option maxHeartbeats 4000000 in
theorem w_J2_add_2 {p : Program} {l : Launch} {e : Env} {s : State} {m : MethodId} {args : Array Value} {below : List Frame} {meth : Method} {c : Code} {D : XD} {h0 : TH} (hC : XCx D cJ2_add_2 4 RJ2 h0 p (xRm 5 147 h0) s m args meth c) (hr : meth.sig.returnType = none) (hnh : c.exceptionTable.isEmpty = true) (hin : meth.name = "add") {x : TH} :
    ∀ (a0 : Nat) (b0 : Nat) (b1 : Nat) (b2 : Int32) (h : TH), F_J2_add_2 D.2.2.2 a0 b0 b1 b2 h = some x → XJ p l e (xRm 5 147 h0) s m args below meth c D 4 (.returned none) h0 x 0 [(0, rv a0), (1, rv b0), (2, rv b1), (3, .int b2)] [] h := by
  have hx := hC.1
  have hb := hC.2.1
  intro a0 b0 b1 b2 h hF H locs cells slots ls hX hl
  rw [F_J2_add_2] at hF
  refine lv_iload_n hx hb dJ2_add_2_0 rfl (lv_at hl 3 rfl) ?_
  refine X_aload_n hx hb dJ2_add_2_1 rfl (lv_at hl 2 rfl) ?_
  obtain ⟨h_1, hF⟩ := gd_ok hF
  refine X_alen hC hX h_1 dJ2_add_2_2 ?_
  refine lv_icmp_ne (tgt := 11) hx hb dJ2_add_2_3 (by decide) (fun c_2 => ?_) (fun c_2 => ?_)
  · replace hF := it_f hF c_2
    exact w_J2_add_2_b11 hC hr hnh hin a0 b0 b1 b2 h hF H locs cells slots ls hX (lv_sub hl [0, 1, 2, 3] rfl)
  · replace hF := it_t hF c_2
    refine X_aload_n hx hb dJ2_add_2_6 rfl (lv_at hl 0 rfl) ?_
    obtain ⟨h_3, hF⟩ := gd_ok hF
    obtain ⟨r_6, h_5, hc_4, hF⟩ := bd2_ok hF
    refine iX_J2_129 hC hX h_3 hc_4 hl.1 (Nat.le_of_ble_eq_true rfl) (Nat.le_of_ble_eq_true rfl) (Nat.le_of_ble_eq_true rfl) dJ2_add_2_7 (fun H locs cells slots hX => ?_)
    refine X_astore_n (i := 2) hx hb dJ2_add_2_10 rfl hl (by decide) rfl (fun ls hl => ?_)
    replace hl : lv_has ls 4 [(2, rv r_6), (0, rv a0), (1, rv b0), (3, .int b2)] := lv_subS hl (List.forall_mem_cons.mpr ⟨Or.inl rfl, (List.forall_mem_cons.mpr ⟨Or.inr ⟨List.mem_of_getElem? (i := 0) rfl, rfl⟩, (List.forall_mem_cons.mpr ⟨Or.inr ⟨List.mem_of_getElem? (i := 1) rfl, by simp [rv_cat]⟩, (List.forall_mem_cons.mpr ⟨Or.inr ⟨List.mem_of_getElem? (i := 3) rfl, rfl⟩, (fun _ h => nomatch h)⟩)⟩)⟩)⟩)
    exact w_J2_add_2_b11 hC hr hnh hin a0 b0 r_6 b2 h_5 hF H locs cells slots ls hX (lv_sub hl [1, 2, 0, 3] rfl)
theorem m_J2_add_2 (l : Launch) (D : XD) (a0 : Nat) (b0 : Nat) (b1 : Nat) (b2 : Int32) (h : TH) (x : TH) (hF : F_J2_add_2 D.2.2.2 a0 b0 b1 b2 h = some x) : XMt l yJ2_add_2 (ws_ yJ2_add_2 cJ2_add_2 4 (none)) 5 147 D [rv a0, rv b0, rv b1, .int b2] h (.returned none) x := by
  refine x_met (by decide +kernel) ?_ ?_
  · simp [lg_sl, rv_cat, cat_i, cat_l]
  intro p e s m below meth c hC hr hnh hin ls hl hX
  replace hl : lv_has ls 4 [(0, rv a0), (1, rv b0), (2, rv b1), (3, .int b2)] := by simpa [lv_args, rv_cat, cat_i, cat_l] using hl
  exact w_J2_add_2 hC hr hnh hin a0 b0 b1 b2 h hF s.heap [] 0 0 ls hX hl
theorem iX_J2_131 {p : Program} {l : Launch} {e : Env} {R : Room} {s : State} {m : MethodId} {args : Array Value} {below : List Frame} {meth : Method} {c : Code} {H : Heap} {locs : List Loc} {cells slots nL : Nat} {Q : State → Prop} {D : XD} {h0 h : TH} {cc : ByteArray} {pc : Nat} {ls : Array Slot} {rest : List Value} (hC : XCx D cc nL RJ2 h0 p R s m args meth c) (hX : XSt D s h0 h H locs cells slots) {a : Nat} {b0 : Nat} {b1 : Nat} {b2 : Int32} {x : TH} (ht : hT h a = 3) (hcF : F_J2_add_2 D.2.2.2 a b0 b1 b2 h = some x) (hl : ls.size = nL) (hW : (rest.map fun v => v.category).sum ≤ 8) (hRf : 5 + 1 ≤ R.frames) (hRl : 170 ≤ R.locals) (hdg : decode cc pc = .ok (.invokevirtual 131, 3)) (kk : ∀ (H1 : Heap) (locs1 : List Loc) (cells1 slots1 : Nat), XSt D s h0 x H1 locs1 cells1 slots1 → W p l e R s m args below meth c H1 locs1 cells1 slots1 Q (F0 m (pc + 3) ls (rest))) : W p l e R s m args below meth c H locs cells slots Q (F0 m pc ls (.int b2 :: rv b1 :: rv b0 :: rv a :: rest)) := by
  have q := ht
  exact X_callV hC hX (by rw [q]; decide) (by rw [q]; rfl) (As := [rv b0, rv b1, .int b2]) (m_J2_add_2 l D a b0 b1 b2 h _ hcF) (cwV 3 hC.2.2.2.2.1 (lw_V q396 q398 qs0 q129 q399) rfl rfl rfl (by decide +kernel) ⟨Nat.le_trans (Nat.le_of_ble_eq_true rfl) hRf, Nat.le_trans (Nat.le_of_ble_eq_true rfl) hRl⟩) rfl rfl hl hW hdg kk
/-! java/util/ArrayList.add -/
def F_J2_add (K : Nat → Nat) (a0 : Nat) (b0 : Nat) (h : TH) : Option (Int32 × TH) :=
  gd (hasF (hT h a0) 40 = true) <|
  gd (hasF (hT h a0) 40 = true) <|
  gd (hT h a0 ≤ 24) <|
  lt (uI h 40 a0 ((hI h 40 a0) + (1 : Int32))) fun h_4 =>
  gd (hasF (hT h_4 a0) 41 = true) <|
  lt (hR h_4 41 a0) fun r_6 =>
  gd (hasF (hT h_4 a0) 42 = true) <|
  gd (hT h_4 a0 = 3) <|
  bd (F_J2_add_2 K a0 b0 r_6 (hI h_4 42 a0) h_4) fun h_10 =>
  some ((1 : Int32), h_10)
set_option maxHeartbeats 4000000 in
theorem w_J2_add {p : Program} {l : Launch} {e : Env} {s : State} {m : MethodId} {args : Array Value} {below : List Frame} {meth : Method} {c : Code} {D : XD} {h0 : TH} (hC : XCx D cJ2_add 2 RJ2 h0 p (xRm 6 170 h0) s m args meth c) (hr : meth.sig.returnType = some .boolean) (hnh : c.exceptionTable.isEmpty = true) (hin : meth.name = "add") {x : (Int32 × TH)} :
    ∀ (a0 : Nat) (b0 : Nat) (h : TH), F_J2_add D.2.2.2 a0 b0 h = some x → XJ p l e (xRm 6 170 h0) s m args below meth c D 2 (.returned (some (.int x.1))) h0 x.2 0 [(0, rv a0), (1, rv b0)] [] h := by
  have hx := hC.1
  have hb := hC.2.1
  intro a0 b0 h hF H locs cells slots ls hX hl
  rw [F_J2_add] at hF
  refine X_aload_n hx hb dJ2_add_0 rfl (lv_at hl 0 rfl) ?_
  refine lv_dup hx hb dJ2_add_1 (rv_cat _) ?_
  obtain ⟨h_1, hF⟩ := gd_ok hF
  refine gX_J2_63 hC hX h_1 dJ2_add_2 ?_
  refine lv_iconst (v := 1) hx hb dJ2_add_5 (by decide) ?_
  refine lv_iadd hx hb dJ2_add_6 ?_
  obtain ⟨h_2, hF⟩ := gd_ok hF
  obtain ⟨h_3, hF⟩ := gd_ok hF
  refine pX_J2_63 hC hX h_2 h_3 dJ2_add_7 (fun H locs hX => ?_)
  obtain ⟨h_4, eh_4, hF⟩ := lt_ok hF
  rw [← eh_4] at hX
  refine X_aload_n hx hb dJ2_add_10 rfl (lv_at hl 0 rfl) ?_
  refine X_aload_n hx hb dJ2_add_11 rfl (lv_at hl 1 rfl) ?_
  refine X_aload_n hx hb dJ2_add_12 rfl (lv_at hl 0 rfl) ?_
  obtain ⟨h_5, hF⟩ := gd_ok hF
  refine gX_J2_9 hC hX h_5 dJ2_add_13 ?_
  refine lv_topr (fun r_6 er_6 => ?_)
  replace hF := lt_at hF er_6
  refine X_aload_n hx hb dJ2_add_16 rfl (lv_at hl 0 rfl) ?_
  obtain ⟨h_7, hF⟩ := gd_ok hF
  refine gX_J2_48 hC hX h_7 dJ2_add_17 ?_
  obtain ⟨h_8, hF⟩ := gd_ok hF
  obtain ⟨h_10, hc_9, hF⟩ := bd_ok hF
  refine iX_J2_131 hC hX h_8 hc_9 hl.1 (Nat.le_of_ble_eq_true rfl) (Nat.le_of_ble_eq_true rfl) (Nat.le_of_ble_eq_true rfl) dJ2_add_20 (fun H locs cells slots hX => ?_)
  refine lv_iconst (v := 1) hx hb dJ2_add_23 (by decide) ?_
  exact x_reti hC hX hr rfl (rt1 hF) (rt2 hF) dJ2_add_24
theorem m_J2_add (l : Launch) (D : XD) (a0 : Nat) (b0 : Nat) (h : TH) (x : (Int32 × TH)) (hF : F_J2_add D.2.2.2 a0 b0 h = some x) : XMt l yJ2_add (ws_ yJ2_add cJ2_add 2 (some .boolean)) 6 170 D [rv a0, rv b0] h (.returned (some (.int x.1))) x.2 := by
  refine x_met (by decide +kernel) ?_ ?_
  · simp [lg_sl, rv_cat, cat_i, cat_l]
  intro p e s m below meth c hC hr hnh hin ls hl hX
  replace hl : lv_has ls 2 [(0, rv a0), (1, rv b0)] := by simpa [lv_args, rv_cat, cat_i, cat_l] using hl
  exact w_J2_add hC hr hnh hin a0 b0 h hF s.heap [] 0 0 ls hX hl
/-! BlindCards.asked -/
def F_X0_asked (K : Nat → Nat) (h : TH) (a0 : Nat) (b0 : Int32) : Option Int32 :=
  gd (hT h a0 = 1) <|
  bd (F_X0_isInput K h a0 b0) fun r_3 =>
  if r_3 = 0 then
    some (-1000000 : Int32)
  else
    gd (hasF (hT h a0) 7 = true) <|
    lt (hR h 7 a0) fun r_6 =>
    gd (hT h r_6 = 2) <|
    bd (F_X1_asked K h r_6 b0) fun r_9 =>
    some r_9
set_option maxHeartbeats 4000000 in
theorem w_X0_asked {p : Program} {l : Launch} {e : Env} {s : State} {m : MethodId} {args : Array Value} {below : List Frame} {meth : Method} {c : Code} {D : XD} {h : TH} (hC : XCx D cX0_asked 2 RX0 h p (xRm 453 10414 h) s m args meth c) (hr : meth.sig.returnType = some .int) (hnh : c.exceptionTable.isEmpty = true) (hin : meth.name = "asked") {x : Int32} :
    ∀ (a0 : Nat) (b0 : Int32), F_X0_asked D.2.2.2 h a0 b0 = some x → XJ p l e (xRm 453 10414 h) s m args below meth c D 2 (.returned (some (.int x))) h h 0 [(0, rv a0), (1, .int b0)] [] h := by
  have hx := hC.1
  have hb := hC.2.1
  intro a0 b0 hF H locs cells slots ls hX hl
  rw [F_X0_asked] at hF
  refine X_aload_n hx hb dX0_asked_0 rfl (lv_at hl 0 rfl) ?_
  refine lv_iload_n hx hb dX0_asked_1 rfl (lv_at hl 1 rfl) ?_
  obtain ⟨h_1, hF⟩ := gd_ok hF
  obtain ⟨r_3, hc_2, hF⟩ := bd_ok hF
  refine iX_X0_166 hC hX h_1 hc_2 hl.1 (Nat.le_of_ble_eq_true rfl) (Nat.le_of_ble_eq_true rfl) (Nat.le_of_ble_eq_true rfl) dX0_asked_2 (fun H locs cells slots hX => ?_)
  refine lv_if_eq (tgt := 19) hx hb dX0_asked_5 (by decide) (fun c_4 => ?_) (fun c_4 => ?_)
  · replace hF := it_t hF c_4
    refine lv_ldc (v := -1000000) hx hb hC.2.2.2.1 (hC.2.2.2.2.1 _ q1599) dX0_asked_19 ?_
    exact x_reti hC hX hr rfl (Option.some.inj hF) rfl dX0_asked_21
  · replace hF := it_f hF c_4
    refine X_aload_n hx hb dX0_asked_8 rfl (lv_at hl 0 rfl) ?_
    obtain ⟨h_5, hF⟩ := gd_ok hF
    refine gX_X0_15 hC hX h_5 dX0_asked_9 ?_
    refine lv_topr (fun r_6 er_6 => ?_)
    replace hF := lt_at hF er_6
    refine lv_iload_n hx hb dX0_asked_12 rfl (lv_at hl 1 rfl) ?_
    obtain ⟨h_7, hF⟩ := gd_ok hF
    obtain ⟨r_9, hc_8, hF⟩ := bd_ok hF
    refine iX_X0_19 hC hX h_7 hc_8 hl.1 (Nat.le_of_ble_eq_true rfl) (Nat.le_of_ble_eq_true rfl) (Nat.le_of_ble_eq_true rfl) dX0_asked_13 (fun H locs cells slots hX => ?_)
    refine lv_goto (tgt := 21) hx hb dX0_asked_16 (by decide) ?_
    exact x_reti hC hX hr rfl (Option.some.inj hF) rfl dX0_asked_21
theorem m_X0_asked (l : Launch) (D : XD) (a0 : Nat) (b0 : Int32) (h : TH) (x : Int32) (hF : F_X0_asked D.2.2.2 h a0 b0 = some x) : XMt l yX0_asked (ws_ yX0_asked cX0_asked 2 (some .int)) 453 10414 D [rv a0, .int b0] h (.returned (some (.int x))) h := by
  refine x_met (by decide +kernel) ?_ ?_
  · simp [lg_sl, rv_cat, cat_i, cat_l]
  intro p e s m below meth c hC hr hnh hin ls hl hX
  replace hl : lv_has ls 2 [(0, rv a0), (1, .int b0)] := by simpa [lv_args, rv_cat, cat_i, cat_l] using hl
  exact w_X0_asked hC hr hnh hin a0 b0 hF s.heap [] 0 0 ls hX hl
theorem iX_X0_127 {p : Program} {l : Launch} {e : Env} {R : Room} {s : State} {m : MethodId} {args : Array Value} {below : List Frame} {meth : Method} {c : Code} {H : Heap} {locs : List Loc} {cells slots nL : Nat} {Q : State → Prop} {D : XD} {h0 h : TH} {cc : ByteArray} {pc : Nat} {ls : Array Slot} {rest : List Value} (hC : XCx D cc nL RX0 h0 p R s m args meth c) (hX : XSt D s h0 h H locs cells slots) {a : Nat} {x : TH} (ht : hT h a = 3) (hcF : F_J2_clear D.2.2.2 a h = some x) (hl : ls.size = nL) (hW : (rest.map fun v => v.category).sum ≤ 8) (hRf : 0 + 1 ≤ R.frames) (hRl : 23 ≤ R.locals) (hdg : decode cc pc = .ok (.invokevirtual 127, 3)) (kk : ∀ (H1 : Heap) (locs1 : List Loc) (cells1 slots1 : Nat), XSt D s h0 x H1 locs1 cells1 slots1 → W p l e R s m args below meth c H1 locs1 cells1 slots1 Q (F0 m (pc + 3) ls (rest))) : W p l e R s m args below meth c H locs cells slots Q (F0 m pc ls (rv a :: rest)) := by
  have q := ht
  exact X_callV hC hX (by rw [q]; decide) (by rw [q]; rfl) (As := []) (m_J2_clear l D a h _ hcF) (cwV 0 hC.2.2.2.2.1 (lw_V q1578 q1579 q1580 q129 q1581) rfl rfl rfl (by decide +kernel) ⟨Nat.le_trans (Nat.le_of_ble_eq_true rfl) hRf, Nat.le_trans (Nat.le_of_ble_eq_true rfl) hRl⟩) rfl rfl hl hW hdg kk
theorem iX_X0_344 {p : Program} {l : Launch} {e : Env} {R : Room} {s : State} {m : MethodId} {args : Array Value} {below : List Frame} {meth : Method} {c : Code} {H : Heap} {locs : List Loc} {cells slots nL : Nat} {Q : State → Prop} {D : XD} {h0 h : TH} {cc : ByteArray} {pc : Nat} {ls : Array Slot} {rest : List Value} {h1 : TH} (hC : XCx D cc nL RX0 h0 p R s m args meth c) (hX : XSt D s h0 h H locs cells slots) {a : Nat} {x : Nat} (ht : hT h a = 24) (hcF : F_X24_again D.2.2.2 a h = some (x, h1)) (hl : ls.size = nL) (hW : (rest.map fun v => v.category).sum ≤ 8) (hRf : 2 + 1 ≤ R.frames) (hRl : 73 ≤ R.locals) (hdg : decode cc pc = .ok (.invokevirtual 344, 3)) (kk : ∀ (H1 : Heap) (locs1 : List Loc) (cells1 slots1 : Nat), XSt D s h0 h1 H1 locs1 cells1 slots1 → W p l e R s m args below meth c H1 locs1 cells1 slots1 Q (F0 m (pc + 3) ls (rv x :: rest))) : W p l e R s m args below meth c H locs cells slots Q (F0 m pc ls (rv a :: rest)) := by
  have q := ht
  exact X_callV hC hX (by rw [q]; decide) (by rw [q]; rfl) (As := []) (m_X24_again l D a h _ hcF) (cwV 0 hC.2.2.2.2.1 (lw_V q1797 q1798 q1799 q168 q1800) rfl rfl rfl (by decide +kernel) ⟨Nat.le_trans (Nat.le_of_ble_eq_true rfl) hRf, Nat.le_trans (Nat.le_of_ble_eq_true rfl) hRl⟩) rfl rfl hl hW hdg kk
theorem iX_X0_110 {p : Program} {l : Launch} {e : Env} {R : Room} {s : State} {m : MethodId} {args : Array Value} {below : List Frame} {meth : Method} {c : Code} {H : Heap} {locs : List Loc} {cells slots nL : Nat} {Q : State → Prop} {D : XD} {h0 h : TH} {cc : ByteArray} {pc : Nat} {ls : Array Slot} {rest : List Value} {h1 : TH} (hC : XCx D cc nL RX0 h0 p R s m args meth c) (hX : XSt D s h0 h H locs cells slots) {a : Nat} {b0 : Nat} {x : Int32} (ht : hT h a = 3) (hcF : F_J2_add D.2.2.2 a b0 h = some (x, h1)) (hl : ls.size = nL) (hW : (rest.map fun v => v.category).sum ≤ 8) (hRf : 6 + 1 ≤ R.frames) (hRl : 191 ≤ R.locals) (hdg : decode cc pc = .ok (.invokevirtual 110, 3)) (kk : ∀ (H1 : Heap) (locs1 : List Loc) (cells1 slots1 : Nat), XSt D s h0 h1 H1 locs1 cells1 slots1 → W p l e R s m args below meth c H1 locs1 cells1 slots1 Q (F0 m (pc + 3) ls (.int x :: rest))) : W p l e R s m args below meth c H locs cells slots Q (F0 m pc ls (rv b0 :: rv a :: rest)) := by
  have q := ht
  exact X_callV hC hX (by rw [q]; decide) (by rw [q]; rfl) (As := [rv b0]) (m_J2_add l D a b0 h _ hcF) (cwV 1 hC.2.2.2.2.1 (lw_V q392 q393 q394 q129 q395) rfl rfl rfl (by decide +kernel) ⟨Nat.le_trans (Nat.le_of_ble_eq_true rfl) hRf, Nat.le_trans (Nat.le_of_ble_eq_true rfl) hRl⟩) rfl rfl hl hW hdg kk
/-! BlindCards.copy -/
def F_X0_copy_L6 (K : Nat → Nat) : Nat → Nat → Nat → Int32 → TH → Option TH
  | 0, _, _, _, _ => none
  | fu + 1, x0, x1, x2, h =>
    gd (hT h x0 = 3) <|
    bd (F_J2_size K h x0) fun r_3 =>
    if r_3 ≤ x2 then
      some h
    else
      gd (hT h x0 = 3) <|
      bd (F_J2_get K h x0 x2) fun r_7 =>
      gd (r_7 = 0 ∨ castB (hT h r_7) "BlindCards$Look" = true) <|
      gd (hT h r_7 = 24) <|
      bd2 (F_X24_again K r_7 h) fun r_12 h_11 =>
      gd (hT h_11 x1 = 3) <|
      bd2 (F_J2_add K x1 r_12 h_11) fun r_16 h_15 =>
      lt (x2 + (1 : Int32)) fun x2_17 =>
      F_X0_copy_L6 K fu x0 x1 x2_17 h_15
set_option maxHeartbeats 4000000 in
theorem w_X0_copy_L6 {p : Program} {l : Launch} {e : Env} {s : State} {m : MethodId} {args : Array Value} {below : List Frame} {meth : Method} {c : Code} {D : XD} {h0 : TH} (hC : XCx D cX0_copy 3 RX0 h0 p (xRm 7 191 h0) s m args meth c) (hr : meth.sig.returnType = none) (hnh : c.exceptionTable.isEmpty = true) (hin : meth.name = "copy") {x : TH} :
    ∀ (fu : Nat) (x0 : Nat) (x1 : Nat) (x2 : Int32) (h : TH), F_X0_copy_L6 D.2.2.2 fu x0 x1 x2 h = some x → XJ p l e (xRm 7 191 h0) s m args below meth c D 3 (.returned none) h0 x 6 [(0, rv x0), (1, rv x1), (2, .int x2)] [] h := by
  have hx := hC.1
  have hb := hC.2.1
  intro fu
  induction fu with
  | zero => intro x0 x1 x2 h hF; exact nm_none hF
  | succ fu ih =>
    intro x0 x1 x2 h hF H locs cells slots ls hX hl
    rw [F_X0_copy_L6] at hF
    refine lv_iload_n hx hb dX0_copy_6 rfl (lv_at hl 2 rfl) ?_
    refine X_aload_n hx hb dX0_copy_7 rfl (lv_at hl 0 rfl) ?_
    obtain ⟨h_1, hF⟩ := gd_ok hF
    obtain ⟨r_3, hc_2, hF⟩ := bd_ok hF
    refine iX_X0_148 hC hX h_1 hc_2 hl.1 (Nat.le_of_ble_eq_true rfl) (Nat.le_of_ble_eq_true rfl) (Nat.le_of_ble_eq_true rfl) dX0_copy_8 (fun H locs cells slots hX => ?_)
    refine lv_icmp_ge (tgt := 36) hx hb dX0_copy_11 (by decide) (fun c_4 => ?_) (fun c_4 => ?_)
    · replace hF := it_t hF c_4
      exact x_retv hC hX hr (Option.some.inj hF) dX0_copy_36
    · replace hF := it_f hF c_4
      refine X_aload_n hx hb dX0_copy_14 rfl (lv_at hl 1 rfl) ?_
      refine X_aload_n hx hb dX0_copy_15 rfl (lv_at hl 0 rfl) ?_
      refine lv_iload_n hx hb dX0_copy_16 rfl (lv_at hl 2 rfl) ?_
      obtain ⟨h_5, hF⟩ := gd_ok hF
      obtain ⟨r_7, hc_6, hF⟩ := bd_ok hF
      refine iX_X0_222 hC hX h_5 hc_6 hl.1 (cat4 (Nat.le_of_ble_eq_true rfl)) (Nat.le_of_ble_eq_true rfl) (Nat.le_of_ble_eq_true rfl) dX0_copy_17 (fun H locs cells slots hX => ?_)
      obtain ⟨h_8, hF⟩ := gd_ok hF
      refine X_cast hC hX h_8 q1745 dX0_copy_20 ?_
      obtain ⟨h_9, hF⟩ := gd_ok hF
      obtain ⟨r_12, h_11, hc_10, hF⟩ := bd2_ok hF
      refine iX_X0_344 hC hX h_9 hc_10 hl.1 (cat4 (Nat.le_of_ble_eq_true rfl)) (Nat.le_of_ble_eq_true rfl) (Nat.le_of_ble_eq_true rfl) dX0_copy_23 (fun H locs cells slots hX => ?_)
      obtain ⟨h_13, hF⟩ := gd_ok hF
      obtain ⟨r_16, h_15, hc_14, hF⟩ := bd2_ok hF
      refine iX_X0_110 hC hX h_13 hc_14 hl.1 (Nat.le_of_ble_eq_true rfl) (Nat.le_of_ble_eq_true rfl) (Nat.le_of_ble_eq_true rfl) dX0_copy_26 (fun H locs cells slots hX => ?_)
      refine lv_pop hx hb dX0_copy_29 rfl ?_
      obtain ⟨x2_17, ex2_17, hF⟩ := lt_ok hF
      refine lv_iinc (v := x2_17) hx hb dX0_copy_30 hl (k := 2) rfl (by rw [ex2_17]; rfl) (by decide) rfl (fun ls hl => ?_)
      replace hl : lv_has ls 3 [(2, .int x2_17), (0, rv x0), (1, rv x1)] := lv_subS hl (List.forall_mem_cons.mpr ⟨Or.inl rfl, (List.forall_mem_cons.mpr ⟨Or.inr ⟨List.mem_of_getElem? (i := 0) rfl, rfl⟩, (List.forall_mem_cons.mpr ⟨Or.inr ⟨List.mem_of_getElem? (i := 1) rfl, by simp [rv_cat]⟩, (fun _ h => nomatch h)⟩)⟩)⟩)
      refine lv_goto (tgt := 6) hx hb dX0_copy_33 (by decide) ?_
      exact ih x0 x1 x2_17 h_15 hF H locs cells slots ls hX (lv_sub hl [1, 2, 0] rfl)
def F_X0_copy (K : Nat → Nat) (b0 : Nat) (b1 : Nat) (h : TH) : Option TH :=
  gd (hT h b1 = 3) <|
  bd (F_J2_clear K b1 h) fun h_3 =>
  F_X0_copy_L6 K MN b0 b1 (0 : Int32) h_3
set_option maxHeartbeats 4000000 in
theorem w_X0_copy {p : Program} {l : Launch} {e : Env} {s : State} {m : MethodId} {args : Array Value} {below : List Frame} {meth : Method} {c : Code} {D : XD} {h0 : TH} (hC : XCx D cX0_copy 3 RX0 h0 p (xRm 7 191 h0) s m args meth c) (hr : meth.sig.returnType = none) (hnh : c.exceptionTable.isEmpty = true) (hin : meth.name = "copy") {x : TH} :
    ∀ (b0 : Nat) (b1 : Nat) (h : TH), F_X0_copy D.2.2.2 b0 b1 h = some x → XJ p l e (xRm 7 191 h0) s m args below meth c D 3 (.returned none) h0 x 0 [(0, rv b0), (1, rv b1)] [] h := by
  have hx := hC.1
  have hb := hC.2.1
  intro b0 b1 h hF H locs cells slots ls hX hl
  rw [F_X0_copy] at hF
  refine X_aload_n hx hb dX0_copy_0 rfl (lv_at hl 1 rfl) ?_
  obtain ⟨h_1, hF⟩ := gd_ok hF
  obtain ⟨h_3, hc_2, hF⟩ := bd_ok hF
  refine iX_X0_127 hC hX h_1 hc_2 hl.1 (Nat.le_of_ble_eq_true rfl) (Nat.le_of_ble_eq_true rfl) (Nat.le_of_ble_eq_true rfl) dX0_copy_1 (fun H locs cells slots hX => ?_)
  refine lv_iconst (v := 0) hx hb dX0_copy_4 (by decide) ?_
  refine lv_istore_n (i := 2) hx hb dX0_copy_5 rfl hl (by decide) rfl (fun ls hl => ?_)
  replace hl : lv_has ls 3 [(2, .int (0 : Int32)), (0, rv b0), (1, rv b1)] := lv_subS hl (List.forall_mem_cons.mpr ⟨Or.inl rfl, (List.forall_mem_cons.mpr ⟨Or.inr ⟨List.mem_of_getElem? (i := 0) rfl, rfl⟩, (List.forall_mem_cons.mpr ⟨Or.inr ⟨List.mem_of_getElem? (i := 1) rfl, by simp [rv_cat]⟩, (fun _ h => nomatch h)⟩)⟩)⟩)
  exact w_X0_copy_L6 hC hr hnh hin MN b0 b1 (0 : Int32) h_3 hF H locs cells slots ls hX (lv_sub hl [1, 2, 0] rfl)
theorem m_X0_copy (l : Launch) (D : XD) (b0 : Nat) (b1 : Nat) (h : TH) (x : TH) (hF : F_X0_copy D.2.2.2 b0 b1 h = some x) : XMt l yX0_copy (ws_ yX0_copy cX0_copy 3 (none)) 7 191 D [rv b0, rv b1] h (.returned none) x := by
  refine x_met (by decide +kernel) ?_ ?_
  · simp [lg_sl, rv_cat, cat_i, cat_l]
  intro p e s m below meth c hC hr hnh hin ls hl hX
  replace hl : lv_has ls 3 [(0, rv b0), (1, rv b1)] := by simpa [lv_args, rv_cat, cat_i, cat_l] using hl
  exact w_X0_copy hC hr hnh hin b0 b1 h hF s.heap [] 0 0 ls hX hl
theorem iX_X0_348 {p : Program} {l : Launch} {e : Env} {R : Room} {s : State} {m : MethodId} {args : Array Value} {below : List Frame} {meth : Method} {c : Code} {H : Heap} {locs : List Loc} {cells slots nL : Nat} {Q : State → Prop} {D : XD} {h0 h : TH} {cc : ByteArray} {pc : Nat} {ls : Array Slot} {rest : List Value} (hC : XCx D cc nL RX0 h0 p R s m args meth c) (hX : XSt D s h0 h H locs cells slots) {b0 : Int32} {x : Int32} (hcF : F_X0_isBox D.2.2.2 h b0 = some x) (hl : ls.size = nL) (hW : (rest.map fun v => v.category).sum ≤ 8) (hRf : 1 + 1 ≤ R.frames) (hRl : 42 ≤ R.locals) (hdg : decode cc pc = .ok (.invokestatic 348, 3)) (kk : ∀ (H1 : Heap) (locs1 : List Loc) (cells1 slots1 : Nat), XSt D s h0 h H1 locs1 cells1 slots1 → W p l e R s m args below meth c H1 locs1 cells1 slots1 Q (F0 m (pc + 3) ls (.int x :: rest))) : W p l e R s m args below meth c H locs cells slots Q (F0 m pc ls (.int b0 :: rest)) := by
  exact X_callS hC hX (As := [.int b0]) (m_X0_isBox l D b0 h _ hcF) (va_cwS 1 hC.2.2.2.2.1 (lw_S q1791 q1792 q125 q1793) rfl rfl rfl (by decide +kernel) ⟨Nat.le_trans (Nat.le_of_ble_eq_true rfl) hRf, Nat.le_trans (Nat.le_of_ble_eq_true rfl) hRl⟩) rfl rfl hl hW hdg kk
theorem gX_X0_103 {p : Program} {l : Launch} {e : Env} {R : Room} {s : State} {m : MethodId} {args : Array Value} {below : List Frame} {meth : Method} {c : Code} {H : Heap} {locs : List Loc} {cells slots nL : Nat} {Q : State → Prop} {D : XD} {h0 h : TH} {cc : ByteArray} {pc : Nat} {ls : Array Slot} {rest : List Value} (hC : XCx D cc nL RX0 h0 p R s m args meth c) (hX : XSt D s h0 h H locs cells slots) {a : Nat} (hf : hasF (hT h a) 28 = true) (hdg : decode cc pc = .ok (.getfield 103, 3)) (kk : W p l e R s m args below meth c H locs cells slots Q (F0 m (pc + 3) ls (rv (hR h 28 a) :: rest))) : W p l e R s m args below meth c H locs cells slots Q (F0 m pc ls (rv a :: rest)) :=
  X_getr hC hX 28 hf rfl (fun q => absurd q (by decide)) q778 (fun _ h => h) hdg kk
theorem gX_X0_100 {p : Program} {l : Launch} {e : Env} {R : Room} {s : State} {m : MethodId} {args : Array Value} {below : List Frame} {meth : Method} {c : Code} {H : Heap} {locs : List Loc} {cells slots nL : Nat} {Q : State → Prop} {D : XD} {h0 h : TH} {cc : ByteArray} {pc : Nat} {ls : Array Slot} {rest : List Value} (hC : XCx D cc nL RX0 h0 p R s m args meth c) (hX : XSt D s h0 h H locs cells slots) {a : Nat} (hf : hasF (hT h a) 27 = true) (hdg : decode cc pc = .ok (.getfield 100, 3)) (kk : W p l e R s m args below meth c H locs cells slots Q (F0 m (pc + 3) ls (rv (hR h 27 a) :: rest))) : W p l e R s m args below meth c H locs cells slots Q (F0 m pc ls (rv a :: rest)) :=
  X_getr hC hX 27 hf rfl (fun q => absurd q (by decide)) q777 (fun _ h => h) hdg kk
theorem iX_X0_351 {p : Program} {l : Launch} {e : Env} {R : Room} {s : State} {m : MethodId} {args : Array Value} {below : List Frame} {meth : Method} {c : Code} {H : Heap} {locs : List Loc} {cells slots nL : Nat} {Q : State → Prop} {D : XD} {h0 h : TH} {cc : ByteArray} {pc : Nat} {ls : Array Slot} {rest : List Value} (hC : XCx D cc nL RX0 h0 p R s m args meth c) (hX : XSt D s h0 h H locs cells slots) {b0 : Nat} {b1 : Nat} {x : TH} (hcF : F_X0_copy D.2.2.2 b0 b1 h = some x) (hl : ls.size = nL) (hW : (rest.map fun v => v.category).sum ≤ 8) (hRf : 7 + 1 ≤ R.frames) (hRl : 213 ≤ R.locals) (hdg : decode cc pc = .ok (.invokestatic 351, 3)) (kk : ∀ (H1 : Heap) (locs1 : List Loc) (cells1 slots1 : Nat), XSt D s h0 x H1 locs1 cells1 slots1 → W p l e R s m args below meth c H1 locs1 cells1 slots1 Q (F0 m (pc + 3) ls (rest))) : W p l e R s m args below meth c H locs cells slots Q (F0 m pc ls (rv b1 :: rv b0 :: rest)) := by
  exact X_callS hC hX (As := [rv b0, rv b1]) (m_X0_copy l D b0 b1 h _ hcF) (va_cwS 2 hC.2.2.2.2.1 (lw_S q1794 q1795 q125 q1796) rfl rfl rfl (by decide +kernel) ⟨Nat.le_trans (Nat.le_of_ble_eq_true rfl) hRf, Nat.le_trans (Nat.le_of_ble_eq_true rfl) hRl⟩) rfl rfl hl hW hdg kk
theorem gX_X0_107 {p : Program} {l : Launch} {e : Env} {R : Room} {s : State} {m : MethodId} {args : Array Value} {below : List Frame} {meth : Method} {c : Code} {H : Heap} {locs : List Loc} {cells slots nL : Nat} {Q : State → Prop} {D : XD} {h0 h : TH} {cc : ByteArray} {pc : Nat} {ls : Array Slot} {rest : List Value} (hC : XCx D cc nL RX0 h0 p R s m args meth c) (hX : XSt D s h0 h H locs cells slots) {a : Nat} (hf : hasF (hT h a) 29 = true) (hdg : decode cc pc = .ok (.getfield 107, 3)) (kk : W p l e R s m args below meth c H locs cells slots Q (F0 m (pc + 3) ls (rv (hR h 29 a) :: rest))) : W p l e R s m args below meth c H locs cells slots Q (F0 m pc ls (rv a :: rest)) :=
  X_getr hC hX 29 hf rfl (fun q => absurd q (by decide)) q779 (fun _ h => h) hdg kk
/-! BlindCards.back -/
def F_X0_back (K : Nat → Nat) (a0 : Nat) (b0 : Int32) (h : TH) : Option (Int32 × TH) :=
  bd (F_X0_isBox K h b0) fun r_2 =>
  if r_2 = 0 then
    some ((-1 : Int32), h)
  else
    gd (hasF (hT h a0) 28 = true) <|
    lt (hR h 28 a0) fun r_5 =>
    gd (hT h r_5 = 33) <|
    gd (inb b0 (hN h r_5)) <|
    if (hA h r_5 (Int32.toNatClampNeg b0)) = 0 then
      some ((-1 : Int32), h)
    else
      gd (hasF (hT h a0) 27 = true) <|
      lt (hR h 27 a0) fun r_10 =>
      gd (hT h r_10 = 3) <|
      bd (F_J2_get K h r_10 b0) fun r_13 =>
      gd (r_13 = 0 ∨ castB (hT h r_13) "java/util/ArrayList" = true) <|
      gd (hasF (hT h a0) 26 = true) <|
      lt (hR h 26 a0) fun r_16 =>
      bd (F_X0_copy K r_13 r_16 h) fun h_18 =>
      gd (hasF (hT h_18 a0) 29 = true) <|
      lt (hR h_18 29 a0) fun r_20 =>
      gd (hT h_18 r_20 = 31 ∨ hT h_18 r_20 = 43) <|
      gd (inb b0 (hN h_18 r_20)) <|
      gd (hasF (hT h_18 a0) 11 = true) <|
      gd (hT h_18 a0 ≤ 24) <|
      lt (uI h_18 11 a0 (hA h_18 r_20 (Int32.toNatClampNeg b0))) fun h_25 =>
      gd (hasF (hT h_25 a0) 26 = true) <|
      lt (hR h_25 26 a0) fun r_27 =>
      gd (hT h_25 r_27 = 3) <|
      bd (F_J2_size K h_25 r_27) fun r_30 =>
      some (r_30, h_25)
set_option maxHeartbeats 4000000 in
theorem w_X0_back {p : Program} {l : Launch} {e : Env} {s : State} {m : MethodId} {args : Array Value} {below : List Frame} {meth : Method} {c : Code} {D : XD} {h0 : TH} (hC : XCx D cX0_back 2 RX0 h0 p (xRm 8 213 h0) s m args meth c) (hr : meth.sig.returnType = some .int) (hnh : c.exceptionTable.isEmpty = true) (hin : meth.name = "back") {x : (Int32 × TH)} :
    ∀ (a0 : Nat) (b0 : Int32) (h : TH), F_X0_back D.2.2.2 a0 b0 h = some x → XJ p l e (xRm 8 213 h0) s m args below meth c D 2 (.returned (some (.int x.1))) h0 x.2 0 [(0, rv a0), (1, .int b0)] [] h := by
  have hx := hC.1
  have hb := hC.2.1
  intro a0 b0 h hF H locs cells slots ls hX hl
  rw [F_X0_back] at hF
  refine lv_iload_n hx hb dX0_back_0 rfl (lv_at hl 1 rfl) ?_
  obtain ⟨r_2, hc_1, hF⟩ := bd_ok hF
  refine iX_X0_348 hC hX hc_1 hl.1 (Nat.le_of_ble_eq_true rfl) (Nat.le_of_ble_eq_true rfl) (Nat.le_of_ble_eq_true rfl) dX0_back_1 (fun H locs cells slots hX => ?_)
  refine lv_if_eq (tgt := 16) hx hb dX0_back_4 (by decide) (fun c_3 => ?_) (fun c_3 => ?_)
  · replace hF := it_t hF c_3
    refine lv_iconst (v := -1) hx hb dX0_back_16 (by decide) ?_
    exact x_reti hC hX hr rfl (rt1 hF) (rt2 hF) dX0_back_17
  · replace hF := it_f hF c_3
    refine X_aload_n hx hb dX0_back_7 rfl (lv_at hl 0 rfl) ?_
    obtain ⟨h_4, hF⟩ := gd_ok hF
    refine gX_X0_103 hC hX h_4 dX0_back_8 ?_
    refine lv_topr (fun r_5 er_5 => ?_)
    replace hF := lt_at hF er_5
    refine lv_iload_n hx hb dX0_back_11 rfl (lv_at hl 1 rfl) ?_
    obtain ⟨h_6, hF⟩ := gd_ok hF
    obtain ⟨h_7, hF⟩ := gd_ok hF
    refine X_zald hC hX h_6 h_7 dX0_back_12 ?_
    refine lv_if_ne (tgt := 18) hx hb dX0_back_13 (by decide) (fun c_8 => ?_) (fun c_8 => ?_)
    · replace hF := it_f hF c_8
      refine X_aload_n hx hb dX0_back_18 rfl (lv_at hl 0 rfl) ?_
      obtain ⟨h_9, hF⟩ := gd_ok hF
      refine gX_X0_100 hC hX h_9 dX0_back_19 ?_
      refine lv_topr (fun r_10 er_10 => ?_)
      replace hF := lt_at hF er_10
      refine lv_iload_n hx hb dX0_back_22 rfl (lv_at hl 1 rfl) ?_
      obtain ⟨h_11, hF⟩ := gd_ok hF
      obtain ⟨r_13, hc_12, hF⟩ := bd_ok hF
      refine iX_X0_222 hC hX h_11 hc_12 hl.1 (Nat.le_of_ble_eq_true rfl) (Nat.le_of_ble_eq_true rfl) (Nat.le_of_ble_eq_true rfl) dX0_back_23 (fun H locs cells slots hX => ?_)
      obtain ⟨h_14, hF⟩ := gd_ok hF
      refine X_cast hC hX h_14 q390 dX0_back_26 ?_
      refine X_aload_n hx hb dX0_back_29 rfl (lv_at hl 0 rfl) ?_
      obtain ⟨h_15, hF⟩ := gd_ok hF
      refine gX_X0_96 hC hX h_15 dX0_back_30 ?_
      refine lv_topr (fun r_16 er_16 => ?_)
      replace hF := lt_at hF er_16
      obtain ⟨h_18, hc_17, hF⟩ := bd_ok hF
      refine iX_X0_351 hC hX hc_17 hl.1 (Nat.le_of_ble_eq_true rfl) (Nat.le_of_ble_eq_true rfl) (Nat.le_of_ble_eq_true rfl) dX0_back_33 (fun H locs cells slots hX => ?_)
      refine X_aload_n hx hb dX0_back_36 rfl (lv_at hl 0 rfl) ?_
      refine X_aload_n hx hb dX0_back_37 rfl (lv_at hl 0 rfl) ?_
      obtain ⟨h_19, hF⟩ := gd_ok hF
      refine gX_X0_107 hC hX h_19 dX0_back_38 ?_
      refine lv_topr (fun r_20 er_20 => ?_)
      replace hF := lt_at hF er_20
      refine lv_iload_n hx hb dX0_back_41 rfl (lv_at hl 1 rfl) ?_
      obtain ⟨h_21, hF⟩ := gd_ok hF
      obtain ⟨h_22, hF⟩ := gd_ok hF
      refine X_iald hC hX h_21 h_22 dX0_back_42 ?_
      obtain ⟨h_23, hF⟩ := gd_ok hF
      obtain ⟨h_24, hF⟩ := gd_ok hF
      refine pX_X0_75 hC hX h_23 h_24 dX0_back_43 (fun H locs hX => ?_)
      obtain ⟨h_25, eh_25, hF⟩ := lt_ok hF
      rw [← eh_25] at hX
      refine X_aload_n hx hb dX0_back_46 rfl (lv_at hl 0 rfl) ?_
      obtain ⟨h_26, hF⟩ := gd_ok hF
      refine gX_X0_96 hC hX h_26 dX0_back_47 ?_
      refine lv_topr (fun r_27 er_27 => ?_)
      replace hF := lt_at hF er_27
      obtain ⟨h_28, hF⟩ := gd_ok hF
      obtain ⟨r_30, hc_29, hF⟩ := bd_ok hF
      refine iX_X0_148 hC hX h_28 hc_29 hl.1 (Nat.le_of_ble_eq_true rfl) (Nat.le_of_ble_eq_true rfl) (Nat.le_of_ble_eq_true rfl) dX0_back_50 (fun H locs cells slots hX => ?_)
      exact x_reti hC hX hr rfl (rt1 hF) (rt2 hF) dX0_back_53
    · replace hF := it_t hF c_8
      refine lv_iconst (v := -1) hx hb dX0_back_16 (by decide) ?_
      exact x_reti hC hX hr rfl (rt1 hF) (rt2 hF) dX0_back_17
theorem m_X0_back (l : Launch) (D : XD) (a0 : Nat) (b0 : Int32) (h : TH) (x : (Int32 × TH)) (hF : F_X0_back D.2.2.2 a0 b0 h = some x) : XMt l yX0_back (ws_ yX0_back cX0_back 2 (some .int)) 8 213 D [rv a0, .int b0] h (.returned (some (.int x.1))) x.2 := by
  refine x_met (by decide +kernel) ?_ ?_
  · simp [lg_sl, rv_cat, cat_i, cat_l]
  intro p e s m below meth c hC hr hnh hin ls hl hX
  replace hl : lv_has ls 2 [(0, rv a0), (1, .int b0)] := by simpa [lv_args, rv_cat, cat_i, cat_l] using hl
  exact w_X0_back hC hr hnh hin a0 b0 h hF s.heap [] 0 0 ls hX hl
theorem pX_X4_15 {p : Program} {l : Launch} {e : Env} {R : Room} {s : State} {m : MethodId} {args : Array Value} {below : List Frame} {meth : Method} {c : Code} {H : Heap} {locs : List Loc} {cells slots nL : Nat} {Q : State → Prop} {D : XD} {h0 h : TH} {cc : ByteArray} {pc : Nat} {ls : Array Slot} {rest : List Value} (hC : XCx D cc nL RX4 h0 p R s m args meth c) (hX : XSt D s h0 h H locs cells slots) {a : Nat} {v : Int32} (hf : hasF (hT h a) 44 = true) (hw : hT h a ≤ 24) (hdg : decode cc pc = .ok (.putfield 15, 3)) (kk : ∀ (H1 : Heap) (locs1 : List Loc), XSt D s h0 (uI h 44 a v) H1 locs1 cells slots → W p l e R s m args below meth c H1 locs1 cells slots Q (F0 m (pc + 3) ls rest)) : W p l e R s m args below meth c H locs cells slots Q (F0 m pc ls (.int v :: rv a :: rest)) :=
  X_puti hC hX 44 hf hw rfl rfl q290 (fun x h => u_same (hC.2.2.2.2.1 _ q291) x h) ⟨rfl, rfl⟩ hdg kk
theorem pX_X4_19 {p : Program} {l : Launch} {e : Env} {R : Room} {s : State} {m : MethodId} {args : Array Value} {below : List Frame} {meth : Method} {c : Code} {H : Heap} {locs : List Loc} {cells slots nL : Nat} {Q : State → Prop} {D : XD} {h0 h : TH} {cc : ByteArray} {pc : Nat} {ls : Array Slot} {rest : List Value} (hC : XCx D cc nL RX4 h0 p R s m args meth c) (hX : XSt D s h0 h H locs cells slots) {a : Nat} {v : Int32} (hf : hasF (hT h a) 45 = true) (hw : hT h a ≤ 24) (hdg : decode cc pc = .ok (.putfield 19, 3)) (kk : ∀ (H1 : Heap) (locs1 : List Loc), XSt D s h0 (uI h 45 a v) H1 locs1 cells slots → W p l e R s m args below meth c H1 locs1 cells slots Q (F0 m (pc + 3) ls rest)) : W p l e R s m args below meth c H locs cells slots Q (F0 m pc ls (.int v :: rv a :: rest)) :=
  X_puti hC hX 45 hf hw rfl rfl q293 (fun x h => u_same (hC.2.2.2.2.1 _ q294) x h) ⟨rfl, rfl⟩ hdg kk
theorem pX_X4_22 {p : Program} {l : Launch} {e : Env} {R : Room} {s : State} {m : MethodId} {args : Array Value} {below : List Frame} {meth : Method} {c : Code} {H : Heap} {locs : List Loc} {cells slots nL : Nat} {Q : State → Prop} {D : XD} {h0 h : TH} {cc : ByteArray} {pc : Nat} {ls : Array Slot} {rest : List Value} (hC : XCx D cc nL RX4 h0 p R s m args meth c) (hX : XSt D s h0 h H locs cells slots) {a : Nat} {v : Int32} (hf : hasF (hT h a) 62 = true) (hw : hT h a ≤ 24) (hg : v = 0 ∨ v = 1) (hdg : decode cc pc = .ok (.putfield 22, 3)) (kk : ∀ (H1 : Heap) (locs1 : List Loc), XSt D s h0 (uI h 62 a v) H1 locs1 cells slots → W p l e R s m args below meth c H1 locs1 cells slots Q (F0 m (pc + 3) ls rest)) : W p l e R s m args below meth c H locs cells slots Q (F0 m pc ls (.int v :: rv a :: rest)) :=
  X_puti hC hX 62 hf hw rfl rfl q347 (fun _ h => h) (zb_nar hg) hdg kk
theorem iX_X4_35 {p : Program} {l : Launch} {e : Env} {R : Room} {s : State} {m : MethodId} {args : Array Value} {below : List Frame} {meth : Method} {c : Code} {H : Heap} {locs : List Loc} {cells slots nL : Nat} {Q : State → Prop} {D : XD} {h0 h : TH} {cc : ByteArray} {pc : Nat} {ls : Array Slot} {rest : List Value} (hC : XCx D cc nL RX4 h0 p R s m args meth c) (hX : XSt D s h0 h H locs cells slots) {a : Nat} {x : TH} (ht : hT h a = 5) (hcF : F_X2_begin D.2.2.2 a h = some x) (hl : ls.size = nL) (hW : (rest.map fun v => v.category).sum ≤ 8) (hRf : 476 + 1 ≤ R.frames) (hRl : 11178 ≤ R.locals) (hdg : decode cc pc = .ok (.invokevirtual 35, 3)) (kk : ∀ (H1 : Heap) (locs1 : List Loc) (cells1 slots1 : Nat), XSt D s h0 x H1 locs1 cells1 slots1 → W p l e R s m args below meth c H1 locs1 cells1 slots1 Q (F0 m (pc + 3) ls (rest))) : W p l e R s m args below meth c H locs cells slots Q (F0 m pc ls (rv a :: rest)) := by
  have q := ht
  exact X_callU hC hX (by rw [q]; decide) (by rw [q]; rfl) (As := []) (m_X2_begin l D a h _ hcF) (va_cwU 0 hC.2.2.2.2.1 (lw_U (owner := "BlindCards$Runs") q1645 q1646 q1647 q477 q130 q478) rfl rfl rfl rfl (by decide +kernel) ⟨Nat.le_trans (Nat.le_of_ble_eq_true rfl) hRf, Nat.le_trans (Nat.le_of_ble_eq_true rfl) hRl⟩) rfl rfl hl hW hdg kk
/-! BlindCards$Closer.ask -/
def F_X4_ask (K : Nat → Nat) (a0 : Nat) (b0 : Int32) (b1 : Int32) (b2 : Int32) (h : TH) : Option (Int32 × TH) :=
  gd (hasF (hT h a0) 44 = true) <|
  gd (hT h a0 ≤ 24) <|
  lt (uI h 44 a0 b0) fun h_3 =>
  gd (hasF (hT h_3 a0) 45 = true) <|
  gd (hT h_3 a0 ≤ 24) <|
  lt (uI h_3 45 a0 b1) fun h_6 =>
  gd (hasF (hT h_6 a0) 62 = true) <|
  gd (hT h_6 a0 ≤ 24) <|
  gd (b2 = 0 ∨ b2 = 1) <|
  lt (uI h_6 62 a0 b2) fun h_10 =>
  gd (hasF (hT h_10 a0) 59 = true) <|
  gd (hT h_10 a0 ≤ 24) <|
  lt (uI h_10 59 a0 (0 : Int32)) fun h_13 =>
  gd (hasF (hT h_13 a0) 60 = true) <|
  gd (hT h_13 a0 ≤ 24) <|
  lt (uI h_13 60 a0 (0 : Int32)) fun h_16 =>
  gd (hasF (hT h_16 a0) 61 = true) <|
  gd (hT h_16 a0 ≤ 24) <|
  lt (uI h_16 61 a0 (0 : Int32)) fun h_19 =>
  gd (hT h_19 a0 = 5) <|
  bd (F_X2_begin K a0 h_19) fun h_22 =>
  gd (hasF (hT h_22 a0) 61 = true) <|
  if (hI h_22 61 a0) = 0 then
    gd (hasF (hT h_22 a0) 60 = true) <|
    if (hI h_22 60 a0) = 0 then
      some ((1 : Int32), h_22)
    else
      some ((0 : Int32), h_22)
  else
    some ((-2 : Int32), h_22)
set_option maxHeartbeats 4000000 in
theorem w_X4_ask {p : Program} {l : Launch} {e : Env} {s : State} {m : MethodId} {args : Array Value} {below : List Frame} {meth : Method} {c : Code} {D : XD} {h0 : TH} (hC : XCx D cX4_ask 4 RX4 h0 p (xRm 477 11178 h0) s m args meth c) (hr : meth.sig.returnType = some .int) (hnh : c.exceptionTable.isEmpty = true) (hin : meth.name = "ask") {x : (Int32 × TH)} :
    ∀ (a0 : Nat) (b0 : Int32) (b1 : Int32) (b2 : Int32) (h : TH), F_X4_ask D.2.2.2 a0 b0 b1 b2 h = some x → XJ p l e (xRm 477 11178 h0) s m args below meth c D 4 (.returned (some (.int x.1))) h0 x.2 0 [(0, rv a0), (1, .int b0), (2, .int b1), (3, .int b2)] [] h := by
  have hx := hC.1
  have hb := hC.2.1
  intro a0 b0 b1 b2 h hF H locs cells slots ls hX hl
  rw [F_X4_ask] at hF
  refine X_aload_n hx hb dX4_ask_0 rfl (lv_at hl 0 rfl) ?_
  refine lv_iload_n hx hb dX4_ask_1 rfl (lv_at hl 1 rfl) ?_
  obtain ⟨h_1, hF⟩ := gd_ok hF
  obtain ⟨h_2, hF⟩ := gd_ok hF
  refine pX_X4_15 hC hX h_1 h_2 dX4_ask_2 (fun H locs hX => ?_)
  obtain ⟨h_3, eh_3, hF⟩ := lt_ok hF
  rw [← eh_3] at hX
  refine X_aload_n hx hb dX4_ask_5 rfl (lv_at hl 0 rfl) ?_
  refine lv_iload_n hx hb dX4_ask_6 rfl (lv_at hl 2 rfl) ?_
  obtain ⟨h_4, hF⟩ := gd_ok hF
  obtain ⟨h_5, hF⟩ := gd_ok hF
  refine pX_X4_19 hC hX h_4 h_5 dX4_ask_7 (fun H locs hX => ?_)
  obtain ⟨h_6, eh_6, hF⟩ := lt_ok hF
  rw [← eh_6] at hX
  refine X_aload_n hx hb dX4_ask_10 rfl (lv_at hl 0 rfl) ?_
  refine lv_iload_n hx hb dX4_ask_11 rfl (lv_at hl 3 rfl) ?_
  obtain ⟨h_7, hF⟩ := gd_ok hF
  obtain ⟨h_8, hF⟩ := gd_ok hF
  obtain ⟨h_9, hF⟩ := gd_ok hF
  refine pX_X4_22 hC hX h_7 h_8 h_9 dX4_ask_12 (fun H locs hX => ?_)
  obtain ⟨h_10, eh_10, hF⟩ := lt_ok hF
  rw [← eh_10] at hX
  refine X_aload_n hx hb dX4_ask_15 rfl (lv_at hl 0 rfl) ?_
  refine lv_iconst (v := 0) hx hb dX4_ask_16 (by decide) ?_
  obtain ⟨h_11, hF⟩ := gd_ok hF
  obtain ⟨h_12, hF⟩ := gd_ok hF
  refine pX_X4_26 hC hX h_11 h_12 dX4_ask_17 (fun H locs hX => ?_)
  obtain ⟨h_13, eh_13, hF⟩ := lt_ok hF
  rw [← eh_13] at hX
  refine X_aload_n hx hb dX4_ask_20 rfl (lv_at hl 0 rfl) ?_
  refine lv_iconst (v := 0) hx hb dX4_ask_21 (by decide) ?_
  obtain ⟨h_14, hF⟩ := gd_ok hF
  obtain ⟨h_15, hF⟩ := gd_ok hF
  refine pX_X4_29 hC hX h_14 h_15 (Or.inl rfl) dX4_ask_22 (fun H locs hX => ?_)
  obtain ⟨h_16, eh_16, hF⟩ := lt_ok hF
  rw [← eh_16] at hX
  refine X_aload_n hx hb dX4_ask_25 rfl (lv_at hl 0 rfl) ?_
  refine lv_iconst (v := 0) hx hb dX4_ask_26 (by decide) ?_
  obtain ⟨h_17, hF⟩ := gd_ok hF
  obtain ⟨h_18, hF⟩ := gd_ok hF
  refine pX_X4_32 hC hX h_17 h_18 (Or.inl rfl) dX4_ask_27 (fun H locs hX => ?_)
  obtain ⟨h_19, eh_19, hF⟩ := lt_ok hF
  rw [← eh_19] at hX
  refine X_aload_n hx hb dX4_ask_30 rfl (lv_at hl 0 rfl) ?_
  obtain ⟨h_20, hF⟩ := gd_ok hF
  obtain ⟨h_22, hc_21, hF⟩ := bd_ok hF
  refine iX_X4_35 hC hX h_20 hc_21 hl.1 (Nat.le_of_ble_eq_true rfl) (Nat.le_of_ble_eq_true rfl) (Nat.le_of_ble_eq_true rfl) dX4_ask_31 (fun H locs cells slots hX => ?_)
  refine X_aload_n hx hb dX4_ask_34 rfl (lv_at hl 0 rfl) ?_
  obtain ⟨h_23, hF⟩ := gd_ok hF
  refine gX_X4_32 hC hX h_23 dX4_ask_35 ?_
  refine lv_if_eq (tgt := 46) hx hb dX4_ask_38 (by decide) (fun c_24 => ?_) (fun c_24 => ?_)
  · replace hF := it_t hF c_24
    refine X_aload_n hx hb dX4_ask_46 rfl (lv_at hl 0 rfl) ?_
    obtain ⟨h_25, hF⟩ := gd_ok hF
    refine gX_X4_29 hC hX h_25 dX4_ask_47 ?_
    refine lv_if_eq (tgt := 57) hx hb dX4_ask_50 (by decide) (fun c_26 => ?_) (fun c_26 => ?_)
    · replace hF := it_t hF c_26
      refine lv_iconst (v := 1) hx hb dX4_ask_57 (by decide) ?_
      exact x_reti hC hX hr rfl (rt1 hF) (rt2 hF) dX4_ask_58
    · replace hF := it_f hF c_26
      refine lv_iconst (v := 0) hx hb dX4_ask_53 (by decide) ?_
      refine lv_goto (tgt := 58) hx hb dX4_ask_54 (by decide) ?_
      exact x_reti hC hX hr rfl (rt1 hF) (rt2 hF) dX4_ask_58
  · replace hF := it_f hF c_24
    refine lv_bipush (v := -2) hx hb dX4_ask_41 (by decide) ?_
    refine lv_goto (tgt := 58) hx hb dX4_ask_43 (by decide) ?_
    exact x_reti hC hX hr rfl (rt1 hF) (rt2 hF) dX4_ask_58
theorem m_X4_ask (l : Launch) (D : XD) (a0 : Nat) (b0 : Int32) (b1 : Int32) (b2 : Int32) (h : TH) (x : (Int32 × TH)) (hF : F_X4_ask D.2.2.2 a0 b0 b1 b2 h = some x) : XMt l yX4_ask (ws_ yX4_ask cX4_ask 4 (some .int)) 477 11178 D [rv a0, .int b0, .int b1, .int b2] h (.returned (some (.int x.1))) x.2 := by
  refine x_met (by decide +kernel) ?_ ?_
  · simp [lg_sl, rv_cat, cat_i, cat_l]
  intro p e s m below meth c hC hr hnh hin ls hl hX
  replace hl : lv_has ls 4 [(0, rv a0), (1, .int b0), (2, .int b1), (3, .int b2)] := by simpa [lv_args, rv_cat, cat_i, cat_l] using hl
  exact w_X4_ask hC hr hnh hin a0 b0 b1 b2 h hF s.heap [] 0 0 ls hX hl
theorem gX_X0_64 {p : Program} {l : Launch} {e : Env} {R : Room} {s : State} {m : MethodId} {args : Array Value} {below : List Frame} {meth : Method} {c : Code} {H : Heap} {locs : List Loc} {cells slots nL : Nat} {Q : State → Prop} {D : XD} {h0 h : TH} {cc : ByteArray} {pc : Nat} {ls : Array Slot} {rest : List Value} (hC : XCx D cc nL RX0 h0 p R s m args meth c) (hX : XSt D s h0 h H locs cells slots) {a : Nat} (hf : hasF (hT h a) 9 = true) (hdg : decode cc pc = .ok (.getfield 64, 3)) (kk : W p l e R s m args below meth c H locs cells slots Q (F0 m (pc + 3) ls (rv (hR h 9 a) :: rest))) : W p l e R s m args below meth c H locs cells slots Q (F0 m pc ls (rv a :: rest)) :=
  X_getr hC hX 9 hf rfl (fun q => absurd q (by decide)) q759 (fun _ h => h) hdg kk
theorem iX_X0_206 {p : Program} {l : Launch} {e : Env} {R : Room} {s : State} {m : MethodId} {args : Array Value} {below : List Frame} {meth : Method} {c : Code} {H : Heap} {locs : List Loc} {cells slots nL : Nat} {Q : State → Prop} {D : XD} {h0 h : TH} {cc : ByteArray} {pc : Nat} {ls : Array Slot} {rest : List Value} {h1 : TH} (hC : XCx D cc nL RX0 h0 p R s m args meth c) (hX : XSt D s h0 h H locs cells slots) {a : Nat} {b0 : Int32} {b1 : Int32} {b2 : Int32} {x : Int32} (ht : hT h a = 5) (hcF : F_X4_ask D.2.2.2 a b0 b1 b2 h = some (x, h1)) (hl : ls.size = nL) (hW : (rest.map fun v => v.category).sum ≤ 8) (hRf : 477 + 1 ≤ R.frames) (hRl : 11201 ≤ R.locals) (hdg : decode cc pc = .ok (.invokevirtual 206, 3)) (kk : ∀ (H1 : Heap) (locs1 : List Loc) (cells1 slots1 : Nat), XSt D s h0 h1 H1 locs1 cells1 slots1 → W p l e R s m args below meth c H1 locs1 cells1 slots1 Q (F0 m (pc + 3) ls (.int x :: rest))) : W p l e R s m args below meth c H locs cells slots Q (F0 m pc ls (.int b2 :: .int b1 :: .int b0 :: rv a :: rest)) := by
  have q := ht
  exact X_callV hC hX (by rw [q]; decide) (by rw [q]; rfl) (As := [.int b0, .int b1, .int b2]) (m_X4_ask l D a b0 b1 b2 h _ hcF) (cwV 3 hC.2.2.2.2.1 (lw_V q1641 q1642 q1643 q132 q1644) rfl rfl rfl (by decide +kernel) ⟨Nat.le_trans (Nat.le_of_ble_eq_true rfl) hRf, Nat.le_trans (Nat.le_of_ble_eq_true rfl) hRl⟩) rfl rfl hl hW hdg kk
/-! BlindCards.bent -/
def F_X0_bent (K : Nat → Nat) (a0 : Nat) (b0 : Int32) (b1 : Int32) (h : TH) : Option (Int32 × TH) :=
  bd (F_X0_isIn K h b0 (0 : Int32) (7 : Int32)) fun r_2 =>
  if r_2 = 0 then
    some ((-1 : Int32), h)
  else
    gd (hasF (hT h a0) 9 = true) <|
    lt (hR h 9 a0) fun r_5 =>
    gd (hT h r_5 = 5) <|
    bd2 (F_X4_ask K r_5 b0 (-1 : Int32) b1 h) fun r_9 h_8 =>
    some (r_9, h_8)
set_option maxHeartbeats 4000000 in
theorem w_X0_bent {p : Program} {l : Launch} {e : Env} {s : State} {m : MethodId} {args : Array Value} {below : List Frame} {meth : Method} {c : Code} {D : XD} {h0 : TH} (hC : XCx D cX0_bent 3 RX0 h0 p (xRm 478 11201 h0) s m args meth c) (hr : meth.sig.returnType = some .int) (hnh : c.exceptionTable.isEmpty = true) (hin : meth.name = "bent") {x : (Int32 × TH)} :
    ∀ (a0 : Nat) (b0 : Int32) (b1 : Int32) (h : TH), F_X0_bent D.2.2.2 a0 b0 b1 h = some x → XJ p l e (xRm 478 11201 h0) s m args below meth c D 3 (.returned (some (.int x.1))) h0 x.2 0 [(0, rv a0), (1, .int b0), (2, .int b1)] [] h := by
  have hx := hC.1
  have hb := hC.2.1
  intro a0 b0 b1 h hF H locs cells slots ls hX hl
  rw [F_X0_bent] at hF
  refine lv_iload_n hx hb dX0_bent_0 rfl (lv_at hl 1 rfl) ?_
  refine lv_iconst (v := 0) hx hb dX0_bent_1 (by decide) ?_
  refine lv_bipush (v := 7) hx hb dX0_bent_2 (by decide) ?_
  obtain ⟨r_2, hc_1, hF⟩ := bd_ok hF
  refine iX_X0_155 hC hX hc_1 hl.1 (Nat.le_of_ble_eq_true rfl) (Nat.le_of_ble_eq_true rfl) (Nat.le_of_ble_eq_true rfl) dX0_bent_4 (fun H locs cells slots hX => ?_)
  refine lv_if_eq (tgt := 23) hx hb dX0_bent_7 (by decide) (fun c_3 => ?_) (fun c_3 => ?_)
  · replace hF := it_t hF c_3
    refine lv_iconst (v := -1) hx hb dX0_bent_23 (by decide) ?_
    exact x_reti hC hX hr rfl (rt1 hF) (rt2 hF) dX0_bent_24
  · replace hF := it_f hF c_3
    refine X_aload_n hx hb dX0_bent_10 rfl (lv_at hl 0 rfl) ?_
    obtain ⟨h_4, hF⟩ := gd_ok hF
    refine gX_X0_64 hC hX h_4 dX0_bent_11 ?_
    refine lv_topr (fun r_5 er_5 => ?_)
    replace hF := lt_at hF er_5
    refine lv_iload_n hx hb dX0_bent_14 rfl (lv_at hl 1 rfl) ?_
    refine lv_iconst (v := -1) hx hb dX0_bent_15 (by decide) ?_
    refine lv_iload_n hx hb dX0_bent_16 rfl (lv_at hl 2 rfl) ?_
    obtain ⟨h_6, hF⟩ := gd_ok hF
    obtain ⟨r_9, h_8, hc_7, hF⟩ := bd2_ok hF
    refine iX_X0_206 hC hX h_6 hc_7 hl.1 (Nat.le_of_ble_eq_true rfl) (Nat.le_of_ble_eq_true rfl) (Nat.le_of_ble_eq_true rfl) dX0_bent_17 (fun H locs cells slots hX => ?_)
    refine lv_goto (tgt := 24) hx hb dX0_bent_20 (by decide) ?_
    exact x_reti hC hX hr rfl (rt1 hF) (rt2 hF) dX0_bent_24
theorem m_X0_bent (l : Launch) (D : XD) (a0 : Nat) (b0 : Int32) (b1 : Int32) (h : TH) (x : (Int32 × TH)) (hF : F_X0_bent D.2.2.2 a0 b0 b1 h = some x) : XMt l yX0_bent (ws_ yX0_bent cX0_bent 3 (some .int)) 478 11201 D [rv a0, .int b0, .int b1] h (.returned (some (.int x.1))) x.2 := by
  refine x_met (by decide +kernel) ?_ ?_
  · simp [lg_sl, rv_cat, cat_i, cat_l]
  intro p e s m below meth c hC hr hnh hin ls hl hX
  replace hl : lv_has ls 3 [(0, rv a0), (1, .int b0), (2, .int b1)] := by simpa [lv_args, rv_cat, cat_i, cat_l] using hl
  exact w_X0_bent hC hr hnh hin a0 b0 b1 h hF s.heap [] 0 0 ls hX hl
theorem pX_X5_15 {p : Program} {l : Launch} {e : Env} {R : Room} {s : State} {m : MethodId} {args : Array Value} {below : List Frame} {meth : Method} {c : Code} {H : Heap} {locs : List Loc} {cells slots nL : Nat} {Q : State → Prop} {D : XD} {h0 h : TH} {cc : ByteArray} {pc : Nat} {ls : Array Slot} {rest : List Value} (hC : XCx D cc nL RX5 h0 p R s m args meth c) (hX : XSt D s h0 h H locs cells slots) {a : Nat} {v : Int32} (hf : hasF (hT h a) 43 = true) (hw : hT h a ≤ 24) (hdg : decode cc pc = .ok (.putfield 15, 3)) (kk : ∀ (H1 : Heap) (locs1 : List Loc), XSt D s h0 (uI h 43 a v) H1 locs1 cells slots → W p l e R s m args below meth c H1 locs1 cells slots Q (F0 m (pc + 3) ls rest)) : W p l e R s m args below meth c H locs cells slots Q (F0 m pc ls (.int v :: rv a :: rest)) :=
  X_puti hC hX 43 hf hw rfl rfl q287 (fun x h => u_same (hC.2.2.2.2.1 _ q288) x h) ⟨rfl, rfl⟩ hdg kk
theorem pX_X5_19 {p : Program} {l : Launch} {e : Env} {R : Room} {s : State} {m : MethodId} {args : Array Value} {below : List Frame} {meth : Method} {c : Code} {H : Heap} {locs : List Loc} {cells slots nL : Nat} {Q : State → Prop} {D : XD} {h0 h : TH} {cc : ByteArray} {pc : Nat} {ls : Array Slot} {rest : List Value} (hC : XCx D cc nL RX5 h0 p R s m args meth c) (hX : XSt D s h0 h H locs cells slots) {a : Nat} {v : Int32} (hf : hasF (hT h a) 46 = true) (hw : hT h a ≤ 24) (hg : v = 0 ∨ v = 1) (hdg : decode cc pc = .ok (.putfield 19, 3)) (kk : ∀ (H1 : Heap) (locs1 : List Loc), XSt D s h0 (uI h 46 a v) H1 locs1 cells slots → W p l e R s m args below meth c H1 locs1 cells slots Q (F0 m (pc + 3) ls rest)) : W p l e R s m args below meth c H locs cells slots Q (F0 m pc ls (.int v :: rv a :: rest)) :=
  X_puti hC hX 46 hf hw rfl rfl q295 (fun x h => u_same (hC.2.2.2.2.1 _ q296) x h) (zb_nar hg) hdg kk
theorem iX_X5_29 {p : Program} {l : Launch} {e : Env} {R : Room} {s : State} {m : MethodId} {args : Array Value} {below : List Frame} {meth : Method} {c : Code} {H : Heap} {locs : List Loc} {cells slots nL : Nat} {Q : State → Prop} {D : XD} {h0 h : TH} {cc : ByteArray} {pc : Nat} {ls : Array Slot} {rest : List Value} (hC : XCx D cc nL RX5 h0 p R s m args meth c) (hX : XSt D s h0 h H locs cells slots) {a : Nat} {x : TH} (ht : hT h a = 6) (hcF : F_X2_begin D.2.2.2 a h = some x) (hl : ls.size = nL) (hW : (rest.map fun v => v.category).sum ≤ 8) (hRf : 476 + 1 ≤ R.frames) (hRl : 11178 ≤ R.locals) (hdg : decode cc pc = .ok (.invokevirtual 29, 3)) (kk : ∀ (H1 : Heap) (locs1 : List Loc) (cells1 slots1 : Nat), XSt D s h0 x H1 locs1 cells1 slots1 → W p l e R s m args below meth c H1 locs1 cells1 slots1 Q (F0 m (pc + 3) ls (rest))) : W p l e R s m args below meth c H locs cells slots Q (F0 m pc ls (rv a :: rest)) := by
  have q := ht
  exact X_callU hC hX (by rw [q]; decide) (by rw [q]; rfl) (As := []) (m_X2_begin l D a h _ hcF) (va_cwU 0 hC.2.2.2.2.1 (lw_U (owner := "BlindCards$Runs") q1665 q1666 q1667 q477 q130 q478) rfl rfl rfl rfl (by decide +kernel) ⟨Nat.le_trans (Nat.le_of_ble_eq_true rfl) hRf, Nat.le_trans (Nat.le_of_ble_eq_true rfl) hRl⟩) rfl rfl hl hW hdg kk
/-! BlindCards$Cheater.ask -/
def F_X5_ask (K : Nat → Nat) (a0 : Nat) (b0 : Int32) (b1 : Int32) (h : TH) : Option (Int32 × TH) :=
  gd (hasF (hT h a0) 43 = true) <|
  gd (hT h a0 ≤ 24) <|
  lt (uI h 43 a0 b0) fun h_3 =>
  gd (hasF (hT h_3 a0) 46 = true) <|
  gd (hT h_3 a0 ≤ 24) <|
  gd (b1 = 0 ∨ b1 = 1) <|
  lt (uI h_3 46 a0 b1) fun h_7 =>
  gd (hasF (hT h_7 a0) 64 = true) <|
  gd (hT h_7 a0 ≤ 24) <|
  lt (uI h_7 64 a0 (0 : Int32)) fun h_10 =>
  gd (hasF (hT h_10 a0) 65 = true) <|
  gd (hT h_10 a0 ≤ 24) <|
  lt (uI h_10 65 a0 (0 : Int32)) fun h_13 =>
  gd (hT h_13 a0 = 6) <|
  bd (F_X2_begin K a0 h_13) fun h_16 =>
  gd (hasF (hT h_16 a0) 64 = true) <|
  if (hI h_16 64 a0) ≤ (5000 : Int32) then
    gd (hasF (hT h_16 a0) 65 = true) <|
    some ((hI h_16 65 a0), h_16)
  else
    some ((-2 : Int32), h_16)
set_option maxHeartbeats 4000000 in
theorem w_X5_ask {p : Program} {l : Launch} {e : Env} {s : State} {m : MethodId} {args : Array Value} {below : List Frame} {meth : Method} {c : Code} {D : XD} {h0 : TH} (hC : XCx D cX5_ask 3 RX5 h0 p (xRm 477 11178 h0) s m args meth c) (hr : meth.sig.returnType = some .int) (hnh : c.exceptionTable.isEmpty = true) (hin : meth.name = "ask") {x : (Int32 × TH)} :
    ∀ (a0 : Nat) (b0 : Int32) (b1 : Int32) (h : TH), F_X5_ask D.2.2.2 a0 b0 b1 h = some x → XJ p l e (xRm 477 11178 h0) s m args below meth c D 3 (.returned (some (.int x.1))) h0 x.2 0 [(0, rv a0), (1, .int b0), (2, .int b1)] [] h := by
  have hx := hC.1
  have hb := hC.2.1
  intro a0 b0 b1 h hF H locs cells slots ls hX hl
  rw [F_X5_ask] at hF
  refine X_aload_n hx hb dX5_ask_0 rfl (lv_at hl 0 rfl) ?_
  refine lv_iload_n hx hb dX5_ask_1 rfl (lv_at hl 1 rfl) ?_
  obtain ⟨h_1, hF⟩ := gd_ok hF
  obtain ⟨h_2, hF⟩ := gd_ok hF
  refine pX_X5_15 hC hX h_1 h_2 dX5_ask_2 (fun H locs hX => ?_)
  obtain ⟨h_3, eh_3, hF⟩ := lt_ok hF
  rw [← eh_3] at hX
  refine X_aload_n hx hb dX5_ask_5 rfl (lv_at hl 0 rfl) ?_
  refine lv_iload_n hx hb dX5_ask_6 rfl (lv_at hl 2 rfl) ?_
  obtain ⟨h_4, hF⟩ := gd_ok hF
  obtain ⟨h_5, hF⟩ := gd_ok hF
  obtain ⟨h_6, hF⟩ := gd_ok hF
  refine pX_X5_19 hC hX h_4 h_5 h_6 dX5_ask_7 (fun H locs hX => ?_)
  obtain ⟨h_7, eh_7, hF⟩ := lt_ok hF
  rw [← eh_7] at hX
  refine X_aload_n hx hb dX5_ask_10 rfl (lv_at hl 0 rfl) ?_
  refine lv_iconst (v := 0) hx hb dX5_ask_11 (by decide) ?_
  obtain ⟨h_8, hF⟩ := gd_ok hF
  obtain ⟨h_9, hF⟩ := gd_ok hF
  refine pX_X5_23 hC hX h_8 h_9 dX5_ask_12 (fun H locs hX => ?_)
  obtain ⟨h_10, eh_10, hF⟩ := lt_ok hF
  rw [← eh_10] at hX
  refine X_aload_n hx hb dX5_ask_15 rfl (lv_at hl 0 rfl) ?_
  refine lv_iconst (v := 0) hx hb dX5_ask_16 (by decide) ?_
  obtain ⟨h_11, hF⟩ := gd_ok hF
  obtain ⟨h_12, hF⟩ := gd_ok hF
  refine pX_X5_26 hC hX h_11 h_12 dX5_ask_17 (fun H locs hX => ?_)
  obtain ⟨h_13, eh_13, hF⟩ := lt_ok hF
  rw [← eh_13] at hX
  refine X_aload_n hx hb dX5_ask_20 rfl (lv_at hl 0 rfl) ?_
  obtain ⟨h_14, hF⟩ := gd_ok hF
  obtain ⟨h_16, hc_15, hF⟩ := bd_ok hF
  refine iX_X5_29 hC hX h_14 hc_15 hl.1 (Nat.le_of_ble_eq_true rfl) (Nat.le_of_ble_eq_true rfl) (Nat.le_of_ble_eq_true rfl) dX5_ask_21 (fun H locs cells slots hX => ?_)
  refine X_aload_n hx hb dX5_ask_24 rfl (lv_at hl 0 rfl) ?_
  obtain ⟨h_17, hF⟩ := gd_ok hF
  refine gX_X5_23 hC hX h_17 dX5_ask_25 ?_
  refine lv_sipush (v := 5000) hx hb dX5_ask_28 (by decide) ?_
  refine lv_icmp_le (tgt := 39) hx hb dX5_ask_31 (by decide) (fun c_18 => ?_) (fun c_18 => ?_)
  · replace hF := it_t hF c_18
    refine X_aload_n hx hb dX5_ask_39 rfl (lv_at hl 0 rfl) ?_
    obtain ⟨h_19, hF⟩ := gd_ok hF
    refine gX_X5_26 hC hX h_19 dX5_ask_40 ?_
    exact x_reti hC hX hr rfl (rt1 hF) (rt2 hF) dX5_ask_43
  · replace hF := it_f hF c_18
    refine lv_bipush (v := -2) hx hb dX5_ask_34 (by decide) ?_
    refine lv_goto (tgt := 43) hx hb dX5_ask_36 (by decide) ?_
    exact x_reti hC hX hr rfl (rt1 hF) (rt2 hF) dX5_ask_43
theorem m_X5_ask (l : Launch) (D : XD) (a0 : Nat) (b0 : Int32) (b1 : Int32) (h : TH) (x : (Int32 × TH)) (hF : F_X5_ask D.2.2.2 a0 b0 b1 h = some x) : XMt l yX5_ask (ws_ yX5_ask cX5_ask 3 (some .int)) 477 11178 D [rv a0, .int b0, .int b1] h (.returned (some (.int x.1))) x.2 := by
  refine x_met (by decide +kernel) ?_ ?_
  · simp [lg_sl, rv_cat, cat_i, cat_l]
  intro p e s m below meth c hC hr hnh hin ls hl hX
  replace hl : lv_has ls 3 [(0, rv a0), (1, .int b0), (2, .int b1)] := by simpa [lv_args, rv_cat, cat_i, cat_l] using hl
  exact w_X5_ask hC hr hnh hin a0 b0 b1 h hF s.heap [] 0 0 ls hX hl
theorem gX_X0_71 {p : Program} {l : Launch} {e : Env} {R : Room} {s : State} {m : MethodId} {args : Array Value} {below : List Frame} {meth : Method} {c : Code} {H : Heap} {locs : List Loc} {cells slots nL : Nat} {Q : State → Prop} {D : XD} {h0 h : TH} {cc : ByteArray} {pc : Nat} {ls : Array Slot} {rest : List Value} (hC : XCx D cc nL RX0 h0 p R s m args meth c) (hX : XSt D s h0 h H locs cells slots) {a : Nat} (hf : hasF (hT h a) 10 = true) (hdg : decode cc pc = .ok (.getfield 71, 3)) (kk : W p l e R s m args below meth c H locs cells slots Q (F0 m (pc + 3) ls (rv (hR h 10 a) :: rest))) : W p l e R s m args below meth c H locs cells slots Q (F0 m pc ls (rv a :: rest)) :=
  X_getr hC hX 10 hf rfl (fun q => absurd q (by decide)) q760 (fun _ h => h) hdg kk
theorem iX_X0_216 {p : Program} {l : Launch} {e : Env} {R : Room} {s : State} {m : MethodId} {args : Array Value} {below : List Frame} {meth : Method} {c : Code} {H : Heap} {locs : List Loc} {cells slots nL : Nat} {Q : State → Prop} {D : XD} {h0 h : TH} {cc : ByteArray} {pc : Nat} {ls : Array Slot} {rest : List Value} {h1 : TH} (hC : XCx D cc nL RX0 h0 p R s m args meth c) (hX : XSt D s h0 h H locs cells slots) {a : Nat} {b0 : Int32} {b1 : Int32} {x : Int32} (ht : hT h a = 6) (hcF : F_X5_ask D.2.2.2 a b0 b1 h = some (x, h1)) (hl : ls.size = nL) (hW : (rest.map fun v => v.category).sum ≤ 8) (hRf : 477 + 1 ≤ R.frames) (hRl : 11200 ≤ R.locals) (hdg : decode cc pc = .ok (.invokevirtual 216, 3)) (kk : ∀ (H1 : Heap) (locs1 : List Loc) (cells1 slots1 : Nat), XSt D s h0 h1 H1 locs1 cells1 slots1 → W p l e R s m args below meth c H1 locs1 cells1 slots1 Q (F0 m (pc + 3) ls (.int x :: rest))) : W p l e R s m args below meth c H locs cells slots Q (F0 m pc ls (.int b1 :: .int b0 :: rv a :: rest)) := by
  have q := ht
  exact X_callV hC hX (by rw [q]; decide) (by rw [q]; rfl) (As := [.int b0, .int b1]) (m_X5_ask l D a b0 b1 h _ hcF) (cwV 2 hC.2.2.2.2.1 (lw_V q1661 q1662 q1663 q133 q1664) rfl rfl rfl (by decide +kernel) ⟨Nat.le_trans (Nat.le_of_ble_eq_true rfl) hRf, Nat.le_trans (Nat.le_of_ble_eq_true rfl) hRl⟩) rfl rfl hl hW hdg kk
/-! BlindCards.cheat -/
def F_X0_cheat (K : Nat → Nat) (a0 : Nat) (b0 : Int32) (b1 : Int32) (h : TH) : Option (Int32 × TH) :=
  gd (hasF (hT h a0) 7 = true) <|
  lt (hR h 7 a0) fun r_2 =>
  gd (hasF (hT h r_2) 33 = true) <|
  bd (F_X0_isIn K h b0 (0 : Int32) ((hI h 33 r_2) - (1 : Int32))) fun r_5 =>
  if r_5 = 0 then
    some ((-1 : Int32), h)
  else
    gd (hasF (hT h a0) 10 = true) <|
    lt (hR h 10 a0) fun r_8 =>
    gd (hT h r_8 = 6) <|
    bd2 (F_X5_ask K r_8 b0 b1 h) fun r_12 h_11 =>
    some (r_12, h_11)
set_option maxHeartbeats 4000000 in
theorem w_X0_cheat {p : Program} {l : Launch} {e : Env} {s : State} {m : MethodId} {args : Array Value} {below : List Frame} {meth : Method} {c : Code} {D : XD} {h0 : TH} (hC : XCx D cX0_cheat 3 RX0 h0 p (xRm 478 11200 h0) s m args meth c) (hr : meth.sig.returnType = some .int) (hnh : c.exceptionTable.isEmpty = true) (hin : meth.name = "cheat") {x : (Int32 × TH)} :
    ∀ (a0 : Nat) (b0 : Int32) (b1 : Int32) (h : TH), F_X0_cheat D.2.2.2 a0 b0 b1 h = some x → XJ p l e (xRm 478 11200 h0) s m args below meth c D 3 (.returned (some (.int x.1))) h0 x.2 0 [(0, rv a0), (1, .int b0), (2, .int b1)] [] h := by
  have hx := hC.1
  have hb := hC.2.1
  intro a0 b0 b1 h hF H locs cells slots ls hX hl
  rw [F_X0_cheat] at hF
  refine lv_iload_n hx hb dX0_cheat_0 rfl (lv_at hl 1 rfl) ?_
  refine lv_iconst (v := 0) hx hb dX0_cheat_1 (by decide) ?_
  refine X_aload_n hx hb dX0_cheat_2 rfl (lv_at hl 0 rfl) ?_
  obtain ⟨h_1, hF⟩ := gd_ok hF
  refine gX_X0_15 hC hX h_1 dX0_cheat_3 ?_
  refine lv_topr (fun r_2 er_2 => ?_)
  replace hF := lt_at hF er_2
  obtain ⟨h_3, hF⟩ := gd_ok hF
  refine gX_X0_213 hC hX h_3 dX0_cheat_6 ?_
  refine lv_iconst (v := 1) hx hb dX0_cheat_9 (by decide) ?_
  refine lv_isub hx hb dX0_cheat_10 ?_
  obtain ⟨r_5, hc_4, hF⟩ := bd_ok hF
  refine iX_X0_155 hC hX hc_4 hl.1 (Nat.le_of_ble_eq_true rfl) (Nat.le_of_ble_eq_true rfl) (Nat.le_of_ble_eq_true rfl) dX0_cheat_11 (fun H locs cells slots hX => ?_)
  refine lv_if_eq (tgt := 29) hx hb dX0_cheat_14 (by decide) (fun c_6 => ?_) (fun c_6 => ?_)
  · replace hF := it_t hF c_6
    refine lv_iconst (v := -1) hx hb dX0_cheat_29 (by decide) ?_
    exact x_reti hC hX hr rfl (rt1 hF) (rt2 hF) dX0_cheat_30
  · replace hF := it_f hF c_6
    refine X_aload_n hx hb dX0_cheat_17 rfl (lv_at hl 0 rfl) ?_
    obtain ⟨h_7, hF⟩ := gd_ok hF
    refine gX_X0_71 hC hX h_7 dX0_cheat_18 ?_
    refine lv_topr (fun r_8 er_8 => ?_)
    replace hF := lt_at hF er_8
    refine lv_iload_n hx hb dX0_cheat_21 rfl (lv_at hl 1 rfl) ?_
    refine lv_iload_n hx hb dX0_cheat_22 rfl (lv_at hl 2 rfl) ?_
    obtain ⟨h_9, hF⟩ := gd_ok hF
    obtain ⟨r_12, h_11, hc_10, hF⟩ := bd2_ok hF
    refine iX_X0_216 hC hX h_9 hc_10 hl.1 (Nat.le_of_ble_eq_true rfl) (Nat.le_of_ble_eq_true rfl) (Nat.le_of_ble_eq_true rfl) dX0_cheat_23 (fun H locs cells slots hX => ?_)
    refine lv_goto (tgt := 30) hx hb dX0_cheat_26 (by decide) ?_
    exact x_reti hC hX hr rfl (rt1 hF) (rt2 hF) dX0_cheat_30
theorem m_X0_cheat (l : Launch) (D : XD) (a0 : Nat) (b0 : Int32) (b1 : Int32) (h : TH) (x : (Int32 × TH)) (hF : F_X0_cheat D.2.2.2 a0 b0 b1 h = some x) : XMt l yX0_cheat (ws_ yX0_cheat cX0_cheat 3 (some .int)) 478 11200 D [rv a0, .int b0, .int b1] h (.returned (some (.int x.1))) x.2 := by
  refine x_met (by decide +kernel) ?_ ?_
  · simp [lg_sl, rv_cat, cat_i, cat_l]
  intro p e s m below meth c hC hr hnh hin ls hl hX
  replace hl : lv_has ls 3 [(0, rv a0), (1, .int b0), (2, .int b1)] := by simpa [lv_args, rv_cat, cat_i, cat_l] using hl
  exact w_X0_cheat hC hr hnh hin a0 b0 b1 h hF s.heap [] 0 0 ls hX hl
theorem iXo_X0_162 {p : Program} {l : Launch} {e : Env} {R : Room} {s : State} {m : MethodId} {args : Array Value} {below : List Frame} {meth : Method} {c : Code} {H : Heap} {locs : List Loc} {cells slots nL : Nat} {Q : State → Prop} {D : XD} {h0 h : TH} {cc : ByteArray} {pc : Nat} {ls : Array Slot} {rest : List Value} (hC : XCx D cc nL RX0 h0 p R s m args meth c) (hX : XSt D s h0 h H locs cells slots) {b0 : Int64} {b1 : Int64} {x : Int64} {fr lo : Nat} (hcF : XMt l yX0_common (ws_ yX0_common cX0_common 4 (some .long)) fr lo D [.long b0, .long b1] h (.returned (some (.long x))) h) (hl : ls.size = nL) (hW : (rest.map fun v => v.category).sum ≤ 8) (hRf : fr + 1 ≤ R.frames) (hRl : 8 + (4 + 11) + lo ≤ R.locals) (hdg : decode cc pc = .ok (.invokestatic 162, 3)) (kk : ∀ (H1 : Heap) (locs1 : List Loc) (cells1 slots1 : Nat), XSt D s h0 h H1 locs1 cells1 slots1 → W p l e R s m args below meth c H1 locs1 cells1 slots1 Q (F0 m (pc + 3) ls (.long x :: rest))) : W p l e R s m args below meth c H locs cells slots Q (F0 m pc ls (.long b1 :: .long b0 :: rest)) := by
  exact X_callS hC hX (As := [.long b0, .long b1]) hcF (va_cwS 2 hC.2.2.2.2.1 (lw_S q1620 q1621 q125 q1622) rfl rfl rfl (by decide +kernel) ⟨hRf, hRl⟩) rfl rfl hl hW hdg kk
/-! BlindCards.common -/
def B_X0_common (K : Nat → Nat) (o_X0_common : TH → Int64 → Int64 → Option Int64) (h : TH) (b0 : Int64) (b1 : Int64) : Option Int64 :=
  if (lg_cmp b1 (0 : Int64)) = 0 then
    some b0
  else
    gd (¬ b1 = 0) <|
    bd (o_X0_common h b1 (b0 - b0 / b1 * b1)) fun r_4 =>
    some r_4
set_option maxHeartbeats 4000000 in
theorem w_X0_common_g {p : Program} {l : Launch} {e : Env} {s : State} {m : MethodId} {args : Array Value} {below : List Frame} {meth : Method} {c : Code} {D : XD} {h : TH} {fr lo : Nat} (hC : XCx D cX0_common 4 RX0 h p (xRm (fr + 1) (lo + 23) h) s m args meth c) (hr : meth.sig.returnType = some .long) (hnh : c.exceptionTable.isEmpty = true) (hin : meth.name = "common") (hfr : 0 ≤ fr) (hlo : 0 ≤ lo) (o_X0_common : TH → Int64 → Int64 → Option Int64) (ho_X0_common : ∀ (b0 : Int64) (b1 : Int64) (h : TH) (x : Int64), o_X0_common h b0 b1 = some x → XMt l yX0_common (ws_ yX0_common cX0_common 4 (some .long)) fr lo D [.long b0, .long b1] h (.returned (some (.long x))) h) {x : Int64} :
    ∀ (b0 : Int64) (b1 : Int64), B_X0_common D.2.2.2 o_X0_common h b0 b1 = some x → XJ p l e (xRm (fr + 1) (lo + 23) h) s m args below meth c D 4 (.returned (some (.long x))) h h 0 [(0, .long b0), (2, .long b1)] [] h := by
  have hx := hC.1
  have hb := hC.2.1
  intro b0 b1 hF H locs cells slots ls hX hl
  rw [B_X0_common] at hF
  refine lv_lload_n hx hb dX0_common_0 rfl (lv_at hl 1 rfl) ?_
  refine lv_lconst (v := 0) hx hb dX0_common_1 (by decide) ?_
  refine W.lcmp hx hb dX0_common_2 ?_
  refine lv_if_ne (tgt := 10) hx hb dX0_common_3 (by decide) (fun c_1 => ?_) (fun c_1 => ?_)
  · replace hF := it_f hF c_1
    refine lv_lload_n hx hb dX0_common_10 rfl (lv_at hl 1 rfl) ?_
    refine lv_lload_n hx hb dX0_common_11 rfl (lv_at hl 0 rfl) ?_
    refine lv_lload_n hx hb dX0_common_12 rfl (lv_at hl 1 rfl) ?_
    obtain ⟨h_2, hF⟩ := gd_ok hF
    refine lv_lrem hx hb dX0_common_13 h_2 ?_
    obtain ⟨r_4, hc_3, hF⟩ := bd_ok hF
    refine iXo_X0_162 hC hX (ho_X0_common b1 (b0 - b0 / b1 * b1) h _ hc_3) hl.1 (Nat.le_of_ble_eq_true rfl) (by show _ ≤ fr + 1; omega) (by show _ ≤ lo + 23; omega) dX0_common_14 (fun H locs cells slots hX => ?_)
    exact x_retl hC hX hr (Option.some.inj hF) rfl dX0_common_17
  · replace hF := it_t hF c_1
    refine lv_lload_n hx hb dX0_common_6 rfl (lv_at hl 0 rfl) ?_
    refine lv_goto (tgt := 17) hx hb dX0_common_7 (by decide) ?_
    exact x_retl hC hX hr (Option.some.inj hF) rfl dX0_common_17
theorem mb_X0_common (l : Launch) (D : XD) {fr lo : Nat} (hfr : 0 ≤ fr) (hlo : 0 ≤ lo) (o_X0_common : TH → Int64 → Int64 → Option Int64) (ho_X0_common : ∀ (b0 : Int64) (b1 : Int64) (h : TH) (x : Int64), o_X0_common h b0 b1 = some x → XMt l yX0_common (ws_ yX0_common cX0_common 4 (some .long)) fr lo D [.long b0, .long b1] h (.returned (some (.long x))) h) (b0 : Int64) (b1 : Int64) (h : TH) (x : Int64) (hF : B_X0_common D.2.2.2 o_X0_common h b0 b1 = some x) : XMt l yX0_common (ws_ yX0_common cX0_common 4 (some .long)) (fr + 1) (lo + 23) D [.long b0, .long b1] h (.returned (some (.long x))) h := by
  refine x_met (by decide +kernel) ?_ ?_
  · exact Nat.le_of_ble_eq_true rfl
  intro p e s m below meth c hC hr hnh hin ls hl hX
  replace hl : lv_has ls 4 [(0, .long b0), (2, .long b1)] := by simpa [lv_args, rv_cat, cat_i, cat_l] using hl
  exact w_X0_common_g hC hr hnh hin hfr hlo o_X0_common ho_X0_common b0 b1 hF s.heap [] 0 0 ls hX hl
def G_X0_common (K : Nat → Nat) : Nat → (TH → Int64 → Int64 → Option Int64)
  | 0 => fun _ _ _ => none
  | d + 1 => B_X0_common K (G_X0_common K d)
theorem pG_X0_common (l : Launch) (D : XD) : ∀ d : Nat, (∀ (b0 : Int64) (b1 : Int64) (h : TH) (x : Int64), (G_X0_common D.2.2.2 d) h b0 b1 = some x → XMt l yX0_common (ws_ yX0_common cX0_common 4 (some .long)) (0 + d) (0 + 23 * d) D [.long b0, .long b1] h (.returned (some (.long x))) h) := by
  intro d
  induction d with
  | zero => exact fun _ _ _ _ h => nm_none h
  | succ d ih =>
    have e : 0 + 23 * (d + 1) = 0 + 23 * d + 23 := by omega
    rw [e]
    exact mb_X0_common l D (Nat.le_add_right _ _) (Nat.le_add_right _ _) _ ih
def F_X0_common (K : Nat → Nat) (h : TH) (b0 : Int64) (b1 : Int64) : Option Int64 := (G_X0_common K 100) h b0 b1
theorem m_X0_common (l : Launch) (D : XD) (b0 : Int64) (b1 : Int64) (h : TH) (x : Int64) (hF : F_X0_common D.2.2.2 h b0 b1 = some x) : XMt l yX0_common (ws_ yX0_common cX0_common 4 (some .long)) 100 2300 D [.long b0, .long b1] h (.returned (some (.long x))) h := (pG_X0_common l D 100) b0 b1 h x hF
theorem iX_X0_210 {p : Program} {l : Launch} {e : Env} {R : Room} {s : State} {m : MethodId} {args : Array Value} {below : List Frame} {meth : Method} {c : Code} {H : Heap} {locs : List Loc} {cells slots nL : Nat} {Q : State → Prop} {D : XD} {h0 h : TH} {cc : ByteArray} {pc : Nat} {ls : Array Slot} {rest : List Value} (hC : XCx D cc nL RX0 h0 p R s m args meth c) (hX : XSt D s h0 h H locs cells slots) {a : Nat} {b0 : Int32} {x : Int32} (ht : hT h a = 2) (hcF : F_X1_shuffle D.2.2.2 h a b0 = some x) (hl : ls.size = nL) (hW : (rest.map fun v => v.category).sum ≤ 8) (hRf : 3 + 1 ≤ R.frames) (hRl : 87 ≤ R.locals) (hdg : decode cc pc = .ok (.invokevirtual 210, 3)) (kk : ∀ (H1 : Heap) (locs1 : List Loc) (cells1 slots1 : Nat), XSt D s h0 h H1 locs1 cells1 slots1 → W p l e R s m args below meth c H1 locs1 cells1 slots1 Q (F0 m (pc + 3) ls (.int x :: rest))) : W p l e R s m args below meth c H locs cells slots Q (F0 m pc ls (.int b0 :: rv a :: rest)) := by
  have q := ht
  exact X_callV hC hX (by rw [q]; decide) (by rw [q]; rfl) (As := [.int b0]) (m_X1_shuffle l D a b0 h _ hcF) (cwV 1 hC.2.2.2.2.1 (lw_V q1652 q1653 q1654 q126 q1655) rfl rfl rfl (by decide +kernel) ⟨Nat.le_trans (Nat.le_of_ble_eq_true rfl) hRf, Nat.le_trans (Nat.le_of_ble_eq_true rfl) hRl⟩) rfl rfl hl hW hdg kk
/-! BlindCards.counted -/
def F_X0_counted_b16 (K : Nat → Nat) (x0 : Nat) (x2 : Int32) (y0 : Int32) (h : TH) : Option (Int32 × TH) :=
  if 0 ≤ y0 then
    gd (hasF (hT h x0) 9 = true) <|
    lt (hR h 9 x0) fun r_3 =>
    gd (hT h r_3 = 5) <|
    bd2 (F_X4_ask K r_3 (-1 : Int32) y0 x2 h) fun r_7 h_6 =>
    some (r_7, h_6)
  else
    some ((-1 : Int32), h)
set_option maxHeartbeats 4000000 in
theorem w_X0_counted_b16 {p : Program} {l : Launch} {e : Env} {s : State} {m : MethodId} {args : Array Value} {below : List Frame} {meth : Method} {c : Code} {D : XD} {h0 : TH} (hC : XCx D cX0_counted 4 RX0 h0 p (xRm 478 11201 h0) s m args meth c) (hr : meth.sig.returnType = some .int) (hnh : c.exceptionTable.isEmpty = true) (hin : meth.name = "counted") {x : (Int32 × TH)} :
    ∀ (x0 : Nat) (x2 : Int32) (y0 : Int32) (h : TH), F_X0_counted_b16 D.2.2.2 x0 x2 y0 h = some x → XJ p l e (xRm 478 11201 h0) s m args below meth c D 4 (.returned (some (.int x.1))) h0 x.2 16 [(0, rv x0), (2, .int x2)] [.int y0] h := by
  have hx := hC.1
  have hb := hC.2.1
  intro x0 x2 y0 h hF H locs cells slots ls hX hl
  rw [F_X0_counted_b16] at hF
  refine lv_istore_n (lv' := [(3, .int y0), (0, rv x0), (2, .int x2)]) hx hb dX0_counted_16 rfl hl (by decide) rfl (fun ls hl => ?_)
  refine lv_iload_n hx hb dX0_counted_17 rfl (lv_at hl 0 rfl) ?_
  refine lv_if_ge (tgt := 25) hx hb dX0_counted_18 (by decide) (fun c_1 => ?_) (fun c_1 => ?_)
  · replace hF := it_t hF c_1
    refine X_aload_n hx hb dX0_counted_25 rfl (lv_at hl 1 rfl) ?_
    obtain ⟨h_2, hF⟩ := gd_ok hF
    refine gX_X0_64 hC hX h_2 dX0_counted_26 ?_
    refine lv_topr (fun r_3 er_3 => ?_)
    replace hF := lt_at hF er_3
    refine lv_iconst (v := -1) hx hb dX0_counted_29 (by decide) ?_
    refine lv_iload_n hx hb dX0_counted_30 rfl (lv_at hl 0 rfl) ?_
    refine lv_iload_n hx hb dX0_counted_31 rfl (lv_at hl 2 rfl) ?_
    obtain ⟨h_4, hF⟩ := gd_ok hF
    obtain ⟨r_7, h_6, hc_5, hF⟩ := bd2_ok hF
    refine iX_X0_206 hC hX h_4 hc_5 hl.1 (Nat.le_of_ble_eq_true rfl) (Nat.le_of_ble_eq_true rfl) (Nat.le_of_ble_eq_true rfl) dX0_counted_32 (fun H locs cells slots hX => ?_)
    exact x_reti hC hX hr rfl (rt1 hF) (rt2 hF) dX0_counted_35
  · replace hF := it_f hF c_1
    refine lv_iconst (v := -1) hx hb dX0_counted_21 (by decide) ?_
    refine lv_goto (tgt := 35) hx hb dX0_counted_22 (by decide) ?_
    exact x_reti hC hX hr rfl (rt1 hF) (rt2 hF) dX0_counted_35
def F_X0_counted (K : Nat → Nat) (a0 : Nat) (b0 : Int32) (b1 : Int32) (h : TH) : Option (Int32 × TH) :=
  if 0 ≤ b0 then
    gd (hasF (hT h a0) 7 = true) <|
    lt (hR h 7 a0) fun r_3 =>
    gd (hT h r_3 = 2) <|
    bd (F_X1_shuffle K h r_3 b0) fun r_6 =>
    F_X0_counted_b16 K a0 b1 r_6 h
  else
    F_X0_counted_b16 K a0 b1 (-1 : Int32) h
set_option maxHeartbeats 4000000 in
theorem w_X0_counted {p : Program} {l : Launch} {e : Env} {s : State} {m : MethodId} {args : Array Value} {below : List Frame} {meth : Method} {c : Code} {D : XD} {h0 : TH} (hC : XCx D cX0_counted 4 RX0 h0 p (xRm 478 11201 h0) s m args meth c) (hr : meth.sig.returnType = some .int) (hnh : c.exceptionTable.isEmpty = true) (hin : meth.name = "counted") {x : (Int32 × TH)} :
    ∀ (a0 : Nat) (b0 : Int32) (b1 : Int32) (h : TH), F_X0_counted D.2.2.2 a0 b0 b1 h = some x → XJ p l e (xRm 478 11201 h0) s m args below meth c D 4 (.returned (some (.int x.1))) h0 x.2 0 [(0, rv a0), (1, .int b0), (2, .int b1)] [] h := by
  have hx := hC.1
  have hb := hC.2.1
  intro a0 b0 b1 h hF H locs cells slots ls hX hl
  rw [F_X0_counted] at hF
  refine lv_iload_n hx hb dX0_counted_0 rfl (lv_at hl 1 rfl) ?_
  refine lv_if_ge (tgt := 8) hx hb dX0_counted_1 (by decide) (fun c_1 => ?_) (fun c_1 => ?_)
  · replace hF := it_t hF c_1
    refine X_aload_n hx hb dX0_counted_8 rfl (lv_at hl 0 rfl) ?_
    obtain ⟨h_2, hF⟩ := gd_ok hF
    refine gX_X0_15 hC hX h_2 dX0_counted_9 ?_
    refine lv_topr (fun r_3 er_3 => ?_)
    replace hF := lt_at hF er_3
    refine lv_iload_n hx hb dX0_counted_12 rfl (lv_at hl 1 rfl) ?_
    obtain ⟨h_4, hF⟩ := gd_ok hF
    obtain ⟨r_6, hc_5, hF⟩ := bd_ok hF
    refine iX_X0_210 hC hX h_4 hc_5 hl.1 (Nat.le_of_ble_eq_true rfl) (Nat.le_of_ble_eq_true rfl) (Nat.le_of_ble_eq_true rfl) dX0_counted_13 (fun H locs cells slots hX => ?_)
    exact w_X0_counted_b16 hC hr hnh hin a0 b1 r_6 h hF H locs cells slots ls hX (lv_sub hl [0, 2] rfl)
  · replace hF := it_f hF c_1
    refine lv_iconst (v := -1) hx hb dX0_counted_4 (by decide) ?_
    refine lv_goto (tgt := 16) hx hb dX0_counted_5 (by decide) ?_
    exact w_X0_counted_b16 hC hr hnh hin a0 b1 (-1 : Int32) h hF H locs cells slots ls hX (lv_sub hl [0, 2] rfl)
theorem m_X0_counted (l : Launch) (D : XD) (a0 : Nat) (b0 : Int32) (b1 : Int32) (h : TH) (x : (Int32 × TH)) (hF : F_X0_counted D.2.2.2 a0 b0 b1 h = some x) : XMt l yX0_counted (ws_ yX0_counted cX0_counted 4 (some .int)) 478 11201 D [rv a0, .int b0, .int b1] h (.returned (some (.int x.1))) x.2 := by
  refine x_met (by decide +kernel) ?_ ?_
  · simp [lg_sl, rv_cat, cat_i, cat_l]
  intro p e s m below meth c hC hr hnh hin ls hl hX
  replace hl : lv_has ls 4 [(0, rv a0), (1, .int b0), (2, .int b1)] := by simpa [lv_args, rv_cat, cat_i, cat_l] using hl
  exact w_X0_counted hC hr hnh hin a0 b0 b1 h hF s.heap [] 0 0 ls hX hl
theorem iX_X0_162 {p : Program} {l : Launch} {e : Env} {R : Room} {s : State} {m : MethodId} {args : Array Value} {below : List Frame} {meth : Method} {c : Code} {H : Heap} {locs : List Loc} {cells slots nL : Nat} {Q : State → Prop} {D : XD} {h0 h : TH} {cc : ByteArray} {pc : Nat} {ls : Array Slot} {rest : List Value} (hC : XCx D cc nL RX0 h0 p R s m args meth c) (hX : XSt D s h0 h H locs cells slots) {b0 : Int64} {b1 : Int64} {x : Int64} (hcF : F_X0_common D.2.2.2 h b0 b1 = some x) (hl : ls.size = nL) (hW : (rest.map fun v => v.category).sum ≤ 8) (hRf : 100 + 1 ≤ R.frames) (hRl : 2323 ≤ R.locals) (hdg : decode cc pc = .ok (.invokestatic 162, 3)) (kk : ∀ (H1 : Heap) (locs1 : List Loc) (cells1 slots1 : Nat), XSt D s h0 h H1 locs1 cells1 slots1 → W p l e R s m args below meth c H1 locs1 cells1 slots1 Q (F0 m (pc + 3) ls (.long x :: rest))) : W p l e R s m args below meth c H locs cells slots Q (F0 m pc ls (.long b1 :: .long b0 :: rest)) := by
  exact X_callS hC hX (As := [.long b0, .long b1]) (m_X0_common l D b0 b1 h _ hcF) (va_cwS 2 hC.2.2.2.2.1 (lw_S q1620 q1621 q125 q1622) rfl rfl rfl (by decide +kernel) ⟨Nat.le_trans (Nat.le_of_ble_eq_true rfl) hRf, Nat.le_trans (Nat.le_of_ble_eq_true rfl) hRl⟩) rfl rfl hl hW hdg kk
/-! BlindCards.partOf -/
def F_X0_partOf (K : Nat → Nat) (h : TH) (b0 : Int64) (b1 : Int64) (b2 : Int32) : Option Int64 :=
  bd (F_X0_common K h b1 b0) fun r_2 =>
  if b2 = 0 then
    gd (¬ r_2 = 0) <|
    some (b0 / r_2)
  else
    gd (¬ r_2 = 0) <|
    some (b1 / r_2)
set_option maxHeartbeats 4000000 in
theorem w_X0_partOf {p : Program} {l : Launch} {e : Env} {s : State} {m : MethodId} {args : Array Value} {below : List Frame} {meth : Method} {c : Code} {D : XD} {h : TH} (hC : XCx D cX0_partOf 7 RX0 h p (xRm 101 2323 h) s m args meth c) (hr : meth.sig.returnType = some .long) (hnh : c.exceptionTable.isEmpty = true) (hin : meth.name = "partOf") {x : Int64} :
    ∀ (b0 : Int64) (b1 : Int64) (b2 : Int32), F_X0_partOf D.2.2.2 h b0 b1 b2 = some x → XJ p l e (xRm 101 2323 h) s m args below meth c D 7 (.returned (some (.long x))) h h 0 [(0, .long b0), (2, .long b1), (4, .int b2)] [] h := by
  have hx := hC.1
  have hb := hC.2.1
  intro b0 b1 b2 hF H locs cells slots ls hX hl
  rw [F_X0_partOf] at hF
  refine lv_lload_n hx hb dX0_partOf_0 rfl (lv_at hl 1 rfl) ?_
  refine lv_lload_n hx hb dX0_partOf_1 rfl (lv_at hl 0 rfl) ?_
  obtain ⟨r_2, hc_1, hF⟩ := bd_ok hF
  refine iX_X0_162 hC hX hc_1 hl.1 (Nat.le_of_ble_eq_true rfl) (Nat.le_of_ble_eq_true rfl) (Nat.le_of_ble_eq_true rfl) dX0_partOf_2 (fun H locs cells slots hX => ?_)
  refine lv_lstore (lv' := [(5, .long r_2), (0, .long b0), (2, .long b1), (4, .int b2)]) hx hb dX0_partOf_5 hl (by decide) rfl (fun ls hl => ?_)
  refine lv_iload hx hb dX0_partOf_7 (lv_at hl 3 rfl) ?_
  refine lv_if_ne (tgt := 19) hx hb dX0_partOf_9 (by decide) (fun c_3 => ?_) (fun c_3 => ?_)
  · replace hF := it_f hF c_3
    refine lv_lload_n hx hb dX0_partOf_19 rfl (lv_at hl 2 rfl) ?_
    refine lv_lload hx hb dX0_partOf_20 (lv_at hl 0 rfl) ?_
    obtain ⟨h_4, hF⟩ := gd_ok hF
    refine lv_ldiv hx hb dX0_partOf_22 h_4 ?_
    exact x_retl hC hX hr (Option.some.inj hF) rfl dX0_partOf_23
  · replace hF := it_t hF c_3
    refine lv_lload_n hx hb dX0_partOf_12 rfl (lv_at hl 1 rfl) ?_
    refine lv_lload hx hb dX0_partOf_13 (lv_at hl 0 rfl) ?_
    obtain ⟨h_5, hF⟩ := gd_ok hF
    refine lv_ldiv hx hb dX0_partOf_15 h_5 ?_
    refine lv_goto (tgt := 23) hx hb dX0_partOf_16 (by decide) ?_
    exact x_retl hC hX hr (Option.some.inj hF) rfl dX0_partOf_23
theorem m_X0_partOf (l : Launch) (D : XD) (b0 : Int64) (b1 : Int64) (b2 : Int32) (h : TH) (x : Int64) (hF : F_X0_partOf D.2.2.2 h b0 b1 b2 = some x) : XMt l yX0_partOf (ws_ yX0_partOf cX0_partOf 7 (some .long)) 101 2323 D [.long b0, .long b1, .int b2] h (.returned (some (.long x))) h := by
  refine x_met (by decide +kernel) ?_ ?_
  · exact Nat.le_of_ble_eq_true rfl
  intro p e s m below meth c hC hr hnh hin ls hl hX
  replace hl : lv_has ls 7 [(0, .long b0), (2, .long b1), (4, .int b2)] := by simpa [lv_args, rv_cat, cat_i, cat_l] using hl
  exact w_X0_partOf hC hr hnh hin b0 b1 b2 hF s.heap [] 0 0 ls hX hl
theorem iX_X0_190 {p : Program} {l : Launch} {e : Env} {R : Room} {s : State} {m : MethodId} {args : Array Value} {below : List Frame} {meth : Method} {c : Code} {H : Heap} {locs : List Loc} {cells slots nL : Nat} {Q : State → Prop} {D : XD} {h0 h : TH} {cc : ByteArray} {pc : Nat} {ls : Array Slot} {rest : List Value} (hC : XCx D cc nL RX0 h0 p R s m args meth c) (hX : XSt D s h0 h H locs cells slots) {b0 : Int64} {b1 : Int64} {b2 : Int32} {x : Int64} (hcF : F_X0_partOf D.2.2.2 h b0 b1 b2 = some x) (hl : ls.size = nL) (hW : (rest.map fun v => v.category).sum ≤ 8) (hRf : 101 + 1 ≤ R.frames) (hRl : 2349 ≤ R.locals) (hdg : decode cc pc = .ok (.invokestatic 190, 3)) (kk : ∀ (H1 : Heap) (locs1 : List Loc) (cells1 slots1 : Nat), XSt D s h0 h H1 locs1 cells1 slots1 → W p l e R s m args below meth c H1 locs1 cells1 slots1 Q (F0 m (pc + 3) ls (.long x :: rest))) : W p l e R s m args below meth c H locs cells slots Q (F0 m pc ls (.int b2 :: .long b1 :: .long b0 :: rest)) := by
  exact X_callS hC hX (As := [.long b0, .long b1, .int b2]) (m_X0_partOf l D b0 b1 b2 h _ hcF) (va_cwS 3 hC.2.2.2.2.1 (lw_S q1617 q1618 q125 q1619) rfl rfl rfl (by decide +kernel) ⟨Nat.le_trans (Nat.le_of_ble_eq_true rfl) hRf, Nat.le_trans (Nat.le_of_ble_eq_true rfl) hRl⟩) rfl rfl hl hW hdg kk
/-! BlindCards.guess -/
def F_X0_guess_b87 (K : Nat → Nat) (h : TH) (x0 : Nat) (x1 : Int32) (x2 : Int32) (x3 : Int32) (x4 : Int64) : Option Int64 :=
  gd (hasF (hT h x0) 8 = true) <|
  lt (hR h 8 x0) fun r_2 =>
  gd (hasF (hT h r_2) 53 = true) <|
  lt (hR h 53 r_2) fun r_4 =>
  gd (hT h r_4 = 34) <|
  gd (inb (((8 : Int32) * x1) + x2) (hN h r_4)) <|
  bd (F_X0_partOf K h (hL h r_4 (Int32.toNatClampNeg (((8 : Int32) * x1) + x2))) x4 x3) fun r_8 =>
  some r_8
set_option maxHeartbeats 4000000 in
theorem w_X0_guess_b87 {p : Program} {l : Launch} {e : Env} {s : State} {m : MethodId} {args : Array Value} {below : List Frame} {meth : Method} {c : Code} {D : XD} {h : TH} (hC : XCx D cX0_guess 7 RX0 h p (xRm 102 2349 h) s m args meth c) (hr : meth.sig.returnType = some .long) (hnh : c.exceptionTable.isEmpty = true) (hin : meth.name = "guess") {x : Int64} :
    ∀ (x0 : Nat) (x1 : Int32) (x2 : Int32) (x3 : Int32) (x4 : Int64), F_X0_guess_b87 D.2.2.2 h x0 x1 x2 x3 x4 = some x → XJ p l e (xRm 102 2349 h) s m args below meth c D 7 (.returned (some (.long x))) h h 87 [(0, rv x0), (1, .int x1), (2, .int x2), (3, .int x3), (4, .long x4)] [] h := by
  have hx := hC.1
  have hb := hC.2.1
  intro x0 x1 x2 x3 x4 hF H locs cells slots ls hX hl
  rw [F_X0_guess_b87] at hF
  refine X_aload_n hx hb dX0_guess_87 rfl (lv_at hl 0 rfl) ?_
  obtain ⟨h_1, hF⟩ := gd_ok hF
  refine gX_X0_57 hC hX h_1 dX0_guess_88 ?_
  refine lv_topr (fun r_2 er_2 => ?_)
  replace hF := lt_at hF er_2
  obtain ⟨h_3, hF⟩ := gd_ok hF
  refine gX_X0_184 hC hX h_3 dX0_guess_91 ?_
  refine lv_topr (fun r_4 er_4 => ?_)
  replace hF := lt_at hF er_4
  refine lv_bipush (v := 8) hx hb dX0_guess_94 (by decide) ?_
  refine lv_iload_n hx hb dX0_guess_96 rfl (lv_at hl 1 rfl) ?_
  refine lv_imul hx hb dX0_guess_97 ?_
  refine lv_iload_n hx hb dX0_guess_98 rfl (lv_at hl 2 rfl) ?_
  refine lv_iadd hx hb dX0_guess_99 ?_
  obtain ⟨h_5, hF⟩ := gd_ok hF
  obtain ⟨h_6, hF⟩ := gd_ok hF
  refine X_lald hC hX h_5 h_6 dX0_guess_100 ?_
  refine lv_lload hx hb dX0_guess_101 (lv_at hl 4 rfl) ?_
  refine lv_iload_n hx hb dX0_guess_103 rfl (lv_at hl 3 rfl) ?_
  obtain ⟨r_8, hc_7, hF⟩ := bd_ok hF
  refine iX_X0_190 hC hX hc_7 hl.1 (Nat.le_of_ble_eq_true rfl) (Nat.le_of_ble_eq_true rfl) (Nat.le_of_ble_eq_true rfl) dX0_guess_104 (fun H locs cells slots hX => ?_)
  exact x_retl hC hX hr (Option.some.inj hF) rfl dX0_guess_107
def F_X0_guess_L49 (K : Nat → Nat) (h : TH) : Nat → Nat → Int32 → Int32 → Int32 → Int64 → Int32 → Option Int64
  | 0, _, _, _, _, _, _ => none
  | fu + 1, x0, x1, x2, x3, x4, x6 =>
    gd (hasF (hT h x0) 7 = true) <|
    lt (hR h 7 x0) fun r_2 =>
    gd (hT h r_2 = 2) <|
    bd (F_X1_inputs K h r_2) fun r_5 =>
    if r_5 ≤ x6 then
      F_X0_guess_b87 K h x0 x1 x2 x3 x4
    else
      gd (hasF (hT h x0) 8 = true) <|
      lt (hR h 8 x0) fun r_8 =>
      gd (hasF (hT h r_8) 53 = true) <|
      lt (hR h 53 r_8) fun r_10 =>
      gd (hT h r_10 = 34) <|
      gd (inb (((8 : Int32) * x1) + x6) (hN h r_10)) <|
      lt ((x4 + (hL h r_10 (Int32.toNatClampNeg (((8 : Int32) * x1) + x6))))) fun x_13 =>
      lt (x6 + (1 : Int32)) fun x6_14 =>
      F_X0_guess_L49 K h fu x0 x1 x2 x3 x_13 x6_14
set_option maxHeartbeats 4000000 in
theorem w_X0_guess_L49 {p : Program} {l : Launch} {e : Env} {s : State} {m : MethodId} {args : Array Value} {below : List Frame} {meth : Method} {c : Code} {D : XD} {h : TH} (hC : XCx D cX0_guess 7 RX0 h p (xRm 102 2349 h) s m args meth c) (hr : meth.sig.returnType = some .long) (hnh : c.exceptionTable.isEmpty = true) (hin : meth.name = "guess") {x : Int64} :
    ∀ (fu : Nat) (x0 : Nat) (x1 : Int32) (x2 : Int32) (x3 : Int32) (x4 : Int64) (x6 : Int32), F_X0_guess_L49 D.2.2.2 h fu x0 x1 x2 x3 x4 x6 = some x → XJ p l e (xRm 102 2349 h) s m args below meth c D 7 (.returned (some (.long x))) h h 49 [(0, rv x0), (1, .int x1), (2, .int x2), (3, .int x3), (4, .long x4), (6, .int x6)] [] h := by
  have hx := hC.1
  have hb := hC.2.1
  intro fu
  induction fu with
  | zero => intro x0 x1 x2 x3 x4 x6 hF; exact nm_none hF
  | succ fu ih =>
    intro x0 x1 x2 x3 x4 x6 hF H locs cells slots ls hX hl
    rw [F_X0_guess_L49] at hF
    refine lv_iload hx hb dX0_guess_49 (lv_at hl 5 rfl) ?_
    refine X_aload_n hx hb dX0_guess_51 rfl (lv_at hl 0 rfl) ?_
    obtain ⟨h_1, hF⟩ := gd_ok hF
    refine gX_X0_15 hC hX h_1 dX0_guess_52 ?_
    refine lv_topr (fun r_2 er_2 => ?_)
    replace hF := lt_at hF er_2
    obtain ⟨h_3, hF⟩ := gd_ok hF
    obtain ⟨r_5, hc_4, hF⟩ := bd_ok hF
    refine iX_X0_152 hC hX h_3 hc_4 hl.1 (Nat.le_of_ble_eq_true rfl) (Nat.le_of_ble_eq_true rfl) (Nat.le_of_ble_eq_true rfl) dX0_guess_55 (fun H locs cells slots hX => ?_)
    refine lv_icmp_ge (tgt := 87) hx hb dX0_guess_58 (by decide) (fun c_6 => ?_) (fun c_6 => ?_)
    · replace hF := it_t hF c_6
      exact w_X0_guess_b87 hC hr hnh hin x0 x1 x2 x3 x4 hF H locs cells slots ls hX (lv_sub hl [0, 1, 2, 3, 4] rfl)
    · replace hF := it_f hF c_6
      refine lv_lload hx hb dX0_guess_61 (lv_at hl 4 rfl) ?_
      refine X_aload_n hx hb dX0_guess_63 rfl (lv_at hl 0 rfl) ?_
      obtain ⟨h_7, hF⟩ := gd_ok hF
      refine gX_X0_57 hC hX h_7 dX0_guess_64 ?_
      refine lv_topr (fun r_8 er_8 => ?_)
      replace hF := lt_at hF er_8
      obtain ⟨h_9, hF⟩ := gd_ok hF
      refine gX_X0_184 hC hX h_9 dX0_guess_67 ?_
      refine lv_topr (fun r_10 er_10 => ?_)
      replace hF := lt_at hF er_10
      refine lv_bipush (v := 8) hx hb dX0_guess_70 (by decide) ?_
      refine lv_iload_n hx hb dX0_guess_72 rfl (lv_at hl 1 rfl) ?_
      refine lv_imul hx hb dX0_guess_73 ?_
      refine lv_iload hx hb dX0_guess_74 (lv_at hl 5 rfl) ?_
      refine lv_iadd hx hb dX0_guess_76 ?_
      obtain ⟨h_11, hF⟩ := gd_ok hF
      obtain ⟨h_12, hF⟩ := gd_ok hF
      refine X_lald hC hX h_11 h_12 dX0_guess_77 ?_
      refine lv_ladd hx hb dX0_guess_78 ?_
      refine lv_topl (fun x_13 ex_13 => ?_)
      replace hF := lt_at hF ex_13
      refine lv_lstore (lv' := [(4, .long x_13), (0, rv x0), (1, .int x1), (2, .int x2), (3, .int x3), (6, .int x6)]) hx hb dX0_guess_79 hl (by decide) rfl (fun ls hl => ?_)
      obtain ⟨x6_14, ex6_14, hF⟩ := lt_ok hF
      refine lv_iinc (v := x6_14) (lv' := [(6, .int x6_14), (4, .long x_13), (0, rv x0), (1, .int x1), (2, .int x2), (3, .int x3)]) hx hb dX0_guess_81 hl (k := 5) rfl (by rw [ex6_14]; rfl) (by decide) rfl (fun ls hl => ?_)
      refine lv_goto (tgt := 49) hx hb dX0_guess_84 (by decide) ?_
      exact ih x0 x1 x2 x3 x_13 x6_14 hF H locs cells slots ls hX (lv_sub hl [2, 3, 4, 5, 1, 0] rfl)
def F_X0_guess (K : Nat → Nat) (h : TH) (a0 : Nat) (b0 : Int32) (b1 : Int32) (b2 : Int32) : Option Int64 :=
  gd (hasF (hT h a0) 8 = true) <|
  lt (hR h 8 a0) fun r_2 =>
  gd (hasF (hT h r_2) 57 = true) <|
  if (hI h 57 r_2) = 0 then
    gd (hT h a0 = 1) <|
    bd (F_X0_isPath K h a0 b0) fun r_7 =>
    if r_7 = 0 then
      some (-1 : Int64)
    else
      gd (hT h a0 = 1) <|
      bd (F_X0_isInput K h a0 b1) fun r_11 =>
      if r_11 = 0 then
        some (-1 : Int64)
      else
        bd (F_X0_isIn K h b2 (0 : Int32) (1 : Int32)) fun r_14 =>
        if r_14 = 0 then
          some (-1 : Int64)
        else
          F_X0_guess_L49 K h MN a0 b0 b1 b2 (0 : Int64) (0 : Int32)
  else
    some (-2 : Int64)
set_option maxHeartbeats 4000000 in
theorem w_X0_guess {p : Program} {l : Launch} {e : Env} {s : State} {m : MethodId} {args : Array Value} {below : List Frame} {meth : Method} {c : Code} {D : XD} {h : TH} (hC : XCx D cX0_guess 7 RX0 h p (xRm 102 2349 h) s m args meth c) (hr : meth.sig.returnType = some .long) (hnh : c.exceptionTable.isEmpty = true) (hin : meth.name = "guess") {x : Int64} :
    ∀ (a0 : Nat) (b0 : Int32) (b1 : Int32) (b2 : Int32), F_X0_guess D.2.2.2 h a0 b0 b1 b2 = some x → XJ p l e (xRm 102 2349 h) s m args below meth c D 7 (.returned (some (.long x))) h h 0 [(0, rv a0), (1, .int b0), (2, .int b1), (3, .int b2)] [] h := by
  have hx := hC.1
  have hb := hC.2.1
  intro a0 b0 b1 b2 hF H locs cells slots ls hX hl
  rw [F_X0_guess] at hF
  refine X_aload_n hx hb dX0_guess_0 rfl (lv_at hl 0 rfl) ?_
  obtain ⟨h_1, hF⟩ := gd_ok hF
  refine gX_X0_57 hC hX h_1 dX0_guess_1 ?_
  refine lv_topr (fun r_2 er_2 => ?_)
  replace hF := lt_at hF er_2
  obtain ⟨h_3, hF⟩ := gd_ok hF
  refine gX_X0_171 hC hX h_3 dX0_guess_4 ?_
  refine lv_if_eq (tgt := 14) hx hb dX0_guess_7 (by decide) (fun c_4 => ?_) (fun c_4 => ?_)
  · replace hF := it_t hF c_4
    refine X_aload_n hx hb dX0_guess_14 rfl (lv_at hl 0 rfl) ?_
    refine lv_iload_n hx hb dX0_guess_15 rfl (lv_at hl 1 rfl) ?_
    obtain ⟨h_5, hF⟩ := gd_ok hF
    obtain ⟨r_7, hc_6, hF⟩ := bd_ok hF
    refine iX_X0_174 hC hX h_5 hc_6 hl.1 (Nat.le_of_ble_eq_true rfl) (Nat.le_of_ble_eq_true rfl) (Nat.le_of_ble_eq_true rfl) dX0_guess_16 (fun H locs cells slots hX => ?_)
    refine lv_if_eq (tgt := 39) hx hb dX0_guess_19 (by decide) (fun c_8 => ?_) (fun c_8 => ?_)
    · replace hF := it_t hF c_8
      refine lv_ldc2 (v := -1) hx hb hC.2.2.2.1 (hC.2.2.2.2.1 _ q1623) dX0_guess_39 ?_
      exact x_retl hC hX hr (Option.some.inj hF) rfl dX0_guess_42
    · replace hF := it_f hF c_8
      refine X_aload_n hx hb dX0_guess_22 rfl (lv_at hl 0 rfl) ?_
      refine lv_iload_n hx hb dX0_guess_23 rfl (lv_at hl 2 rfl) ?_
      obtain ⟨h_9, hF⟩ := gd_ok hF
      obtain ⟨r_11, hc_10, hF⟩ := bd_ok hF
      refine iX_X0_166 hC hX h_9 hc_10 hl.1 (Nat.le_of_ble_eq_true rfl) (Nat.le_of_ble_eq_true rfl) (Nat.le_of_ble_eq_true rfl) dX0_guess_24 (fun H locs cells slots hX => ?_)
      refine lv_if_eq (tgt := 39) hx hb dX0_guess_27 (by decide) (fun c_12 => ?_) (fun c_12 => ?_)
      · replace hF := it_t hF c_12
        refine lv_ldc2 (v := -1) hx hb hC.2.2.2.1 (hC.2.2.2.2.1 _ q1623) dX0_guess_39 ?_
        exact x_retl hC hX hr (Option.some.inj hF) rfl dX0_guess_42
      · replace hF := it_f hF c_12
        refine lv_iload_n hx hb dX0_guess_30 rfl (lv_at hl 3 rfl) ?_
        refine lv_iconst (v := 0) hx hb dX0_guess_31 (by decide) ?_
        refine lv_iconst (v := 1) hx hb dX0_guess_32 (by decide) ?_
        obtain ⟨r_14, hc_13, hF⟩ := bd_ok hF
        refine iX_X0_155 hC hX hc_13 hl.1 (Nat.le_of_ble_eq_true rfl) (Nat.le_of_ble_eq_true rfl) (Nat.le_of_ble_eq_true rfl) dX0_guess_33 (fun H locs cells slots hX => ?_)
        refine lv_if_ne (tgt := 43) hx hb dX0_guess_36 (by decide) (fun c_15 => ?_) (fun c_15 => ?_)
        · replace hF := it_f hF c_15
          refine lv_lconst (v := 0) hx hb dX0_guess_43 (by decide) ?_
          refine lv_lstore (lv' := [(4, .long (0 : Int64)), (0, rv a0), (1, .int b0), (2, .int b1), (3, .int b2)]) hx hb dX0_guess_44 hl (by decide) rfl (fun ls hl => ?_)
          refine lv_iconst (v := 0) hx hb dX0_guess_46 (by decide) ?_
          refine lv_istore (lv' := [(6, .int (0 : Int32)), (4, .long (0 : Int64)), (0, rv a0), (1, .int b0), (2, .int b1), (3, .int b2)]) hx hb dX0_guess_47 hl (by decide) rfl (fun ls hl => ?_)
          exact w_X0_guess_L49 hC hr hnh hin MN a0 b0 b1 b2 (0 : Int64) (0 : Int32) hF H locs cells slots ls hX (lv_sub hl [2, 3, 4, 5, 1, 0] rfl)
        · replace hF := it_t hF c_15
          refine lv_ldc2 (v := -1) hx hb hC.2.2.2.1 (hC.2.2.2.2.1 _ q1623) dX0_guess_39 ?_
          exact x_retl hC hX hr (Option.some.inj hF) rfl dX0_guess_42
  · replace hF := it_f hF c_4
    refine lv_ldc2 (v := -2) hx hb hC.2.2.2.1 (hC.2.2.2.2.1 _ q1616) dX0_guess_10 ?_
    exact x_retl hC hX hr (Option.some.inj hF) rfl dX0_guess_13
theorem m_X0_guess (l : Launch) (D : XD) (a0 : Nat) (b0 : Int32) (b1 : Int32) (b2 : Int32) (h : TH) (x : Int64) (hF : F_X0_guess D.2.2.2 h a0 b0 b1 b2 = some x) : XMt l yX0_guess (ws_ yX0_guess cX0_guess 7 (some .long)) 102 2349 D [rv a0, .int b0, .int b1, .int b2] h (.returned (some (.long x))) h := by
  refine x_met (by decide +kernel) ?_ ?_
  · simp [lg_sl, rv_cat, cat_i, cat_l]
  intro p e s m below meth c hC hr hnh hin ls hl hX
  replace hl : lv_has ls 7 [(0, rv a0), (1, .int b0), (2, .int b1), (3, .int b2)] := by simpa [lv_args, rv_cat, cat_i, cat_l] using hl
  exact w_X0_guess hC hr hnh hin a0 b0 b1 b2 hF s.heap [] 0 0 ls hX hl
/-! BlindCards.image -/
def F_X0_image (K : Nat → Nat) (a0 : Nat) (b0 : Int32) (h : TH) : Option (Int32 × TH) :=
  bd (F_X0_isBox K h b0) fun r_2 =>
  if r_2 = 0 then
    some ((-1 : Int32), h)
  else
    gd (hasF (hT h a0) 26 = true) <|
    lt (hR h 26 a0) fun r_5 =>
    gd (hasF (hT h a0) 27 = true) <|
    lt (hR h 27 a0) fun r_7 =>
    gd (hT h r_7 = 3) <|
    bd (F_J2_get K h r_7 b0) fun r_10 =>
    gd (r_10 = 0 ∨ castB (hT h r_10) "java/util/ArrayList" = true) <|
    bd (F_X0_copy K r_5 r_10 h) fun h_13 =>
    gd (hasF (hT h_13 a0) 29 = true) <|
    lt (hR h_13 29 a0) fun r_15 =>
    gd (hasF (hT h_13 a0) 11 = true) <|
    gd (hT h_13 r_15 = 31) <|
    gd (inb b0 (hN h_13 r_15)) <|
    lt (uA h_13 r_15 (Int32.toNatClampNeg b0) (hI h_13 11 a0)) fun h_19 =>
    gd (hasF (hT h_19 a0) 28 = true) <|
    lt (hR h_19 28 a0) fun r_21 =>
    gd (hT h_19 r_21 = 33) <|
    gd (inb b0 (hN h_19 r_21)) <|
    lt (uA h_19 r_21 (Int32.toNatClampNeg b0) (1 : Int32)) fun h_24 =>
    gd (hasF (hT h_24 a0) 26 = true) <|
    lt (hR h_24 26 a0) fun r_26 =>
    gd (hT h_24 r_26 = 3) <|
    bd (F_J2_size K h_24 r_26) fun r_29 =>
    some (r_29, h_24)
set_option maxHeartbeats 4000000 in
theorem w_X0_image {p : Program} {l : Launch} {e : Env} {s : State} {m : MethodId} {args : Array Value} {below : List Frame} {meth : Method} {c : Code} {D : XD} {h0 : TH} (hC : XCx D cX0_image 2 RX0 h0 p (xRm 8 213 h0) s m args meth c) (hr : meth.sig.returnType = some .int) (hnh : c.exceptionTable.isEmpty = true) (hin : meth.name = "image") {x : (Int32 × TH)} :
    ∀ (a0 : Nat) (b0 : Int32) (h : TH), F_X0_image D.2.2.2 a0 b0 h = some x → XJ p l e (xRm 8 213 h0) s m args below meth c D 2 (.returned (some (.int x.1))) h0 x.2 0 [(0, rv a0), (1, .int b0)] [] h := by
  have hx := hC.1
  have hb := hC.2.1
  intro a0 b0 h hF H locs cells slots ls hX hl
  rw [F_X0_image] at hF
  refine lv_iload_n hx hb dX0_image_0 rfl (lv_at hl 1 rfl) ?_
  obtain ⟨r_2, hc_1, hF⟩ := bd_ok hF
  refine iX_X0_348 hC hX hc_1 hl.1 (Nat.le_of_ble_eq_true rfl) (Nat.le_of_ble_eq_true rfl) (Nat.le_of_ble_eq_true rfl) dX0_image_1 (fun H locs cells slots hX => ?_)
  refine lv_if_ne (tgt := 9) hx hb dX0_image_4 (by decide) (fun c_3 => ?_) (fun c_3 => ?_)
  · replace hF := it_f hF c_3
    refine X_aload_n hx hb dX0_image_9 rfl (lv_at hl 0 rfl) ?_
    obtain ⟨h_4, hF⟩ := gd_ok hF
    refine gX_X0_96 hC hX h_4 dX0_image_10 ?_
    refine lv_topr (fun r_5 er_5 => ?_)
    replace hF := lt_at hF er_5
    refine X_aload_n hx hb dX0_image_13 rfl (lv_at hl 0 rfl) ?_
    obtain ⟨h_6, hF⟩ := gd_ok hF
    refine gX_X0_100 hC hX h_6 dX0_image_14 ?_
    refine lv_topr (fun r_7 er_7 => ?_)
    replace hF := lt_at hF er_7
    refine lv_iload_n hx hb dX0_image_17 rfl (lv_at hl 1 rfl) ?_
    obtain ⟨h_8, hF⟩ := gd_ok hF
    obtain ⟨r_10, hc_9, hF⟩ := bd_ok hF
    refine iX_X0_222 hC hX h_8 hc_9 hl.1 (cat4 (Nat.le_of_ble_eq_true rfl)) (Nat.le_of_ble_eq_true rfl) (Nat.le_of_ble_eq_true rfl) dX0_image_18 (fun H locs cells slots hX => ?_)
    obtain ⟨h_11, hF⟩ := gd_ok hF
    refine X_cast hC hX h_11 q390 dX0_image_21 ?_
    obtain ⟨h_13, hc_12, hF⟩ := bd_ok hF
    refine iX_X0_351 hC hX hc_12 hl.1 (Nat.le_of_ble_eq_true rfl) (Nat.le_of_ble_eq_true rfl) (Nat.le_of_ble_eq_true rfl) dX0_image_24 (fun H locs cells slots hX => ?_)
    refine X_aload_n hx hb dX0_image_27 rfl (lv_at hl 0 rfl) ?_
    obtain ⟨h_14, hF⟩ := gd_ok hF
    refine gX_X0_107 hC hX h_14 dX0_image_28 ?_
    refine lv_topr (fun r_15 er_15 => ?_)
    replace hF := lt_at hF er_15
    refine lv_iload_n hx hb dX0_image_31 rfl (lv_at hl 1 rfl) ?_
    refine X_aload_n hx hb dX0_image_32 rfl (lv_at hl 0 rfl) ?_
    obtain ⟨h_16, hF⟩ := gd_ok hF
    refine gX_X0_75 hC hX h_16 dX0_image_33 ?_
    obtain ⟨h_17, hF⟩ := gd_ok hF
    obtain ⟨h_18, hF⟩ := gd_ok hF
    refine X_iast hC hX h_17 h_18 dX0_image_36 (fun H locs hX => ?_)
    obtain ⟨h_19, eh_19, hF⟩ := lt_ok hF
    rw [← eh_19] at hX
    refine X_aload_n hx hb dX0_image_37 rfl (lv_at hl 0 rfl) ?_
    obtain ⟨h_20, hF⟩ := gd_ok hF
    refine gX_X0_103 hC hX h_20 dX0_image_38 ?_
    refine lv_topr (fun r_21 er_21 => ?_)
    replace hF := lt_at hF er_21
    refine lv_iload_n hx hb dX0_image_41 rfl (lv_at hl 1 rfl) ?_
    refine lv_iconst (v := 1) hx hb dX0_image_42 (by decide) ?_
    obtain ⟨h_22, hF⟩ := gd_ok hF
    obtain ⟨h_23, hF⟩ := gd_ok hF
    refine X_zast hC hX (Or.inr rfl) h_22 h_23 dX0_image_43 (fun H locs hX => ?_)
    obtain ⟨h_24, eh_24, hF⟩ := lt_ok hF
    rw [← eh_24] at hX
    refine X_aload_n hx hb dX0_image_44 rfl (lv_at hl 0 rfl) ?_
    obtain ⟨h_25, hF⟩ := gd_ok hF
    refine gX_X0_96 hC hX h_25 dX0_image_45 ?_
    refine lv_topr (fun r_26 er_26 => ?_)
    replace hF := lt_at hF er_26
    obtain ⟨h_27, hF⟩ := gd_ok hF
    obtain ⟨r_29, hc_28, hF⟩ := bd_ok hF
    refine iX_X0_148 hC hX h_27 hc_28 hl.1 (Nat.le_of_ble_eq_true rfl) (Nat.le_of_ble_eq_true rfl) (Nat.le_of_ble_eq_true rfl) dX0_image_48 (fun H locs cells slots hX => ?_)
    exact x_reti hC hX hr rfl (rt1 hF) (rt2 hF) dX0_image_51
  · replace hF := it_t hF c_3
    refine lv_iconst (v := -1) hx hb dX0_image_7 (by decide) ?_
    exact x_reti hC hX hr rfl (rt1 hF) (rt2 hF) dX0_image_8
theorem m_X0_image (l : Launch) (D : XD) (a0 : Nat) (b0 : Int32) (h : TH) (x : (Int32 × TH)) (hF : F_X0_image D.2.2.2 a0 b0 h = some x) : XMt l yX0_image (ws_ yX0_image cX0_image 2 (some .int)) 8 213 D [rv a0, .int b0] h (.returned (some (.int x.1))) x.2 := by
  refine x_met (by decide +kernel) ?_ ?_
  · simp [lg_sl, rv_cat, cat_i, cat_l]
  intro p e s m below meth c hC hr hnh hin ls hl hX
  replace hl : lv_has ls 2 [(0, rv a0), (1, .int b0)] := by simpa [lv_args, rv_cat, cat_i, cat_l] using hl
  exact w_X0_image hC hr hnh hin a0 b0 h hF s.heap [] 0 0 ls hX hl
theorem iX_X0_241 {p : Program} {l : Launch} {e : Env} {R : Room} {s : State} {m : MethodId} {args : Array Value} {below : List Frame} {meth : Method} {c : Code} {H : Heap} {locs : List Loc} {cells slots nL : Nat} {Q : State → Prop} {D : XD} {h0 h : TH} {cc : ByteArray} {pc : Nat} {ls : Array Slot} {rest : List Value} (hC : XCx D cc nL RX0 h0 p R s m args meth c) (hX : XSt D s h0 h H locs cells slots) {a : Nat} {x : Int32} (ht : hT h a = 18) (hcF : F_X18_needs D.2.2.2 h a = some x) (hl : ls.size = nL) (hW : (rest.map fun v => v.category).sum ≤ 8) (hRf : 0 + 1 ≤ R.frames) (hRl : 20 ≤ R.locals) (hdg : decode cc pc = .ok (.invokevirtual 241, 3)) (kk : ∀ (H1 : Heap) (locs1 : List Loc) (cells1 slots1 : Nat), XSt D s h0 h H1 locs1 cells1 slots1 → W p l e R s m args below meth c H1 locs1 cells1 slots1 Q (F0 m (pc + 3) ls (.int x :: rest))) : W p l e R s m args below meth c H locs cells slots Q (F0 m pc ls (rv a :: rest)) := by
  have q := ht
  exact X_callV hC hX (by rw [q]; decide) (by rw [q]; rfl) (As := []) (m_X18_needs l D a h _ hcF) (cwV 0 hC.2.2.2.2.1 (lw_V q1692 q534 q2562 q162 q535) rfl rfl rfl (by decide +kernel) ⟨Nat.le_trans (Nat.le_of_ble_eq_true rfl) hRf, Nat.le_trans (Nat.le_of_ble_eq_true rfl) hRl⟩) rfl rfl hl hW hdg kk
theorem gX_X0_81 {p : Program} {l : Launch} {e : Env} {R : Room} {s : State} {m : MethodId} {args : Array Value} {below : List Frame} {meth : Method} {c : Code} {H : Heap} {locs : List Loc} {cells slots nL : Nat} {Q : State → Prop} {D : XD} {h0 h : TH} {cc : ByteArray} {pc : Nat} {ls : Array Slot} {rest : List Value} (hC : XCx D cc nL RX0 h0 p R s m args meth c) (hX : XSt D s h0 h H locs cells slots) {a : Nat} (hf : hasF (hT h a) 14 = true) (hdg : decode cc pc = .ok (.getfield 81, 3)) (kk : W p l e R s m args below meth c H locs cells slots Q (F0 m (pc + 3) ls (rv (hR h 14 a) :: rest))) : W p l e R s m args below meth c H locs cells slots Q (F0 m pc ls (rv a :: rest)) :=
  X_getr hC hX 14 hf rfl (fun q => absurd q (by decide)) q764 (fun _ h => h) hdg kk
theorem iX_X0_202 {p : Program} {l : Launch} {e : Env} {R : Room} {s : State} {m : MethodId} {args : Array Value} {below : List Frame} {meth : Method} {c : Code} {H : Heap} {locs : List Loc} {cells slots nL : Nat} {Q : State → Prop} {D : XD} {h0 h : TH} {cc : ByteArray} {pc : Nat} {ls : Array Slot} {rest : List Value} (hC : XCx D cc nL RX0 h0 p R s m args meth c) (hX : XSt D s h0 h H locs cells slots) {a : Nat} {b0 : Int32} {b1 : Int32} {b2 : Int32} {x : Int32} (ht : hT h a = 1) (hcF : F_X0_areLike D.2.2.2 h a b0 b1 b2 = some x) (hl : ls.size = nL) (hW : (rest.map fun v => v.category).sum ≤ 8) (hRf : 453 + 1 ≤ R.frames) (hRl : 10437 ≤ R.locals) (hdg : decode cc pc = .ok (.invokevirtual 202, 3)) (kk : ∀ (H1 : Heap) (locs1 : List Loc) (cells1 slots1 : Nat), XSt D s h0 h H1 locs1 cells1 slots1 → W p l e R s m args below meth c H1 locs1 cells1 slots1 Q (F0 m (pc + 3) ls (.int x :: rest))) : W p l e R s m args below meth c H locs cells slots Q (F0 m pc ls (.int b2 :: .int b1 :: .int b0 :: rv a :: rest)) := by
  have q := ht
  exact X_callV hC hX (by rw [q]; decide) (by rw [q]; rfl) (As := [.int b0, .int b1, .int b2]) (m_X0_areLike l D a b0 b1 b2 h _ hcF) (cwV 3 hC.2.2.2.2.1 (lw_V q1636 q652 qs3 q125 q653) rfl rfl rfl (by decide +kernel) ⟨Nat.le_trans (Nat.le_of_ble_eq_true rfl) hRf, Nat.le_trans (Nat.le_of_ble_eq_true rfl) hRl⟩) rfl rfl hl hW hdg kk
/-! BlindCards.isGood -/
def F_X0_isGood_b207 (K : Nat → Nat) (k15 : Nat → Int32 → Nat → Int32 → TH → Option (Int32 × TH)) (x0 : Nat) (x1 : Int32) (x2 : Nat) (x3 : Int32) (h : TH) : Option (Int32 × TH) :=
  lt (x3 + (1 : Int32)) fun x3_1 =>
  k15 x0 x1 x2 x3_1 h
set_option maxHeartbeats 4000000 in
theorem w_X0_isGood_b207 {p : Program} {l : Launch} {e : Env} {s : State} {m : MethodId} {args : Array Value} {below : List Frame} {meth : Method} {c : Code} {D : XD} {h0 : TH} (hC : XCx D cX0_isGood 6 RX0 h0 p (xRm 454 10437 h0) s m args meth c) (hr : meth.sig.returnType = some .boolean) (hnh : c.exceptionTable.isEmpty = true) (hin : meth.name = "isGood") {x : (Int32 × TH)} (k15 : Nat → Int32 → Nat → Int32 → TH → Option (Int32 × TH)) (hk15 : ∀ (x0 : Nat) (x1 : Int32) (x2 : Nat) (x3 : Int32) (h : TH), k15 x0 x1 x2 x3 h = some x → XJ p l e (xRm 454 10437 h0) s m args below meth c D 6 (.returned (some (.int x.1))) h0 x.2 15 [(0, rv x0), (1, .int x1), (2, rv x2), (3, .int x3)] [] h) :
    ∀ (x0 : Nat) (x1 : Int32) (x2 : Nat) (x3 : Int32) (h : TH), F_X0_isGood_b207 D.2.2.2 k15 x0 x1 x2 x3 h = some x → XJ p l e (xRm 454 10437 h0) s m args below meth c D 6 (.returned (some (.int x.1))) h0 x.2 207 [(0, rv x0), (1, .int x1), (2, rv x2), (3, .int x3)] [] h := by
  have hx := hC.1
  have hb := hC.2.1
  intro x0 x1 x2 x3 h hF H locs cells slots ls hX hl
  rw [F_X0_isGood_b207] at hF
  obtain ⟨x3_1, ex3_1, hF⟩ := lt_ok hF
  refine lv_iinc (v := x3_1) hx hb dX0_isGood_207 hl (k := 3) rfl (by rw [ex3_1]; rfl) (by decide) rfl (fun ls hl => ?_)
  replace hl : lv_has ls 6 [(3, .int x3_1), (0, rv x0), (1, .int x1), (2, rv x2)] := lv_subS hl (List.forall_mem_cons.mpr ⟨Or.inl rfl, (List.forall_mem_cons.mpr ⟨Or.inr ⟨List.mem_of_getElem? (i := 0) rfl, rfl⟩, (List.forall_mem_cons.mpr ⟨Or.inr ⟨List.mem_of_getElem? (i := 1) rfl, rfl⟩, (List.forall_mem_cons.mpr ⟨Or.inr ⟨List.mem_of_getElem? (i := 2) rfl, by simp [rv_cat]⟩, (fun _ h => nomatch h)⟩)⟩)⟩)⟩)
  refine lv_goto (tgt := 15) hx hb dX0_isGood_210 (by decide) ?_
  exact hk15 x0 x1 x2 x3_1 h hF H locs cells slots ls hX (lv_sub hl [1, 2, 3, 0] rfl)
def F_X0_isGood_b201 (K : Nat → Nat) (k114 : Nat → Int32 → Nat → Int32 → Int32 → TH → Option (Int32 × TH)) (x0 : Nat) (x1 : Int32) (x2 : Nat) (x3 : Int32) (x4 : Int32) (h : TH) : Option (Int32 × TH) :=
  lt (x4 + (1 : Int32)) fun x4_1 =>
  k114 x0 x1 x2 x3 x4_1 h
set_option maxHeartbeats 4000000 in
theorem w_X0_isGood_b201 {p : Program} {l : Launch} {e : Env} {s : State} {m : MethodId} {args : Array Value} {below : List Frame} {meth : Method} {c : Code} {D : XD} {h0 : TH} (hC : XCx D cX0_isGood 6 RX0 h0 p (xRm 454 10437 h0) s m args meth c) (hr : meth.sig.returnType = some .boolean) (hnh : c.exceptionTable.isEmpty = true) (hin : meth.name = "isGood") {x : (Int32 × TH)} (k114 : Nat → Int32 → Nat → Int32 → Int32 → TH → Option (Int32 × TH)) (hk114 : ∀ (x0 : Nat) (x1 : Int32) (x2 : Nat) (x3 : Int32) (x4 : Int32) (h : TH), k114 x0 x1 x2 x3 x4 h = some x → XJ p l e (xRm 454 10437 h0) s m args below meth c D 6 (.returned (some (.int x.1))) h0 x.2 114 [(0, rv x0), (1, .int x1), (2, rv x2), (3, .int x3), (4, .int x4)] [] h) :
    ∀ (x0 : Nat) (x1 : Int32) (x2 : Nat) (x3 : Int32) (x4 : Int32) (h : TH), F_X0_isGood_b201 D.2.2.2 k114 x0 x1 x2 x3 x4 h = some x → XJ p l e (xRm 454 10437 h0) s m args below meth c D 6 (.returned (some (.int x.1))) h0 x.2 201 [(0, rv x0), (1, .int x1), (2, rv x2), (3, .int x3), (4, .int x4)] [] h := by
  have hx := hC.1
  have hb := hC.2.1
  intro x0 x1 x2 x3 x4 h hF H locs cells slots ls hX hl
  rw [F_X0_isGood_b201] at hF
  obtain ⟨x4_1, ex4_1, hF⟩ := lt_ok hF
  refine lv_iinc (v := x4_1) (lv' := [(4, .int x4_1), (0, rv x0), (1, .int x1), (2, rv x2), (3, .int x3)]) hx hb dX0_isGood_201 hl (k := 4) rfl (by rw [ex4_1]; rfl) (by decide) rfl (fun ls hl => ?_)
  refine lv_goto (tgt := 114) hx hb dX0_isGood_204 (by decide) ?_
  exact hk114 x0 x1 x2 x3 x4_1 h hF H locs cells slots ls hX (lv_sub hl [1, 2, 3, 4, 0] rfl)
def F_X0_isGood_b195 (K : Nat → Nat) (k129 : Nat → Int32 → Nat → Int32 → Int32 → Int32 → TH → Option (Int32 × TH)) (x0 : Nat) (x1 : Int32) (x2 : Nat) (x3 : Int32) (x4 : Int32) (x5 : Int32) (h : TH) : Option (Int32 × TH) :=
  lt (x5 + (1 : Int32)) fun x5_1 =>
  k129 x0 x1 x2 x3 x4 x5_1 h
set_option maxHeartbeats 4000000 in
theorem w_X0_isGood_b195 {p : Program} {l : Launch} {e : Env} {s : State} {m : MethodId} {args : Array Value} {below : List Frame} {meth : Method} {c : Code} {D : XD} {h0 : TH} (hC : XCx D cX0_isGood 6 RX0 h0 p (xRm 454 10437 h0) s m args meth c) (hr : meth.sig.returnType = some .boolean) (hnh : c.exceptionTable.isEmpty = true) (hin : meth.name = "isGood") {x : (Int32 × TH)} (k129 : Nat → Int32 → Nat → Int32 → Int32 → Int32 → TH → Option (Int32 × TH)) (hk129 : ∀ (x0 : Nat) (x1 : Int32) (x2 : Nat) (x3 : Int32) (x4 : Int32) (x5 : Int32) (h : TH), k129 x0 x1 x2 x3 x4 x5 h = some x → XJ p l e (xRm 454 10437 h0) s m args below meth c D 6 (.returned (some (.int x.1))) h0 x.2 129 [(0, rv x0), (1, .int x1), (2, rv x2), (3, .int x3), (4, .int x4), (5, .int x5)] [] h) :
    ∀ (x0 : Nat) (x1 : Int32) (x2 : Nat) (x3 : Int32) (x4 : Int32) (x5 : Int32) (h : TH), F_X0_isGood_b195 D.2.2.2 k129 x0 x1 x2 x3 x4 x5 h = some x → XJ p l e (xRm 454 10437 h0) s m args below meth c D 6 (.returned (some (.int x.1))) h0 x.2 195 [(0, rv x0), (1, .int x1), (2, rv x2), (3, .int x3), (4, .int x4), (5, .int x5)] [] h := by
  have hx := hC.1
  have hb := hC.2.1
  intro x0 x1 x2 x3 x4 x5 h hF H locs cells slots ls hX hl
  rw [F_X0_isGood_b195] at hF
  obtain ⟨x5_1, ex5_1, hF⟩ := lt_ok hF
  refine lv_iinc (v := x5_1) (lv' := [(5, .int x5_1), (0, rv x0), (1, .int x1), (2, rv x2), (3, .int x3), (4, .int x4)]) hx hb dX0_isGood_195 hl (k := 5) rfl (by rw [ex5_1]; rfl) (by decide) rfl (fun ls hl => ?_)
  refine lv_goto (tgt := 129) hx hb dX0_isGood_198 (by decide) ?_
  exact hk129 x0 x1 x2 x3 x4 x5_1 h hF H locs cells slots ls hX (lv_sub hl [1, 2, 3, 4, 5, 0] rfl)
def F_X0_isGood_L129 (K : Nat → Nat) (k114 : Nat → Int32 → Nat → Int32 → Int32 → TH → Option (Int32 × TH)) : Nat → Nat → Int32 → Nat → Int32 → Int32 → Int32 → TH → Option (Int32 × TH)
  | 0, _, _, _, _, _, _, _ => none
  | fu + 1, x0, x1, x2, x3, x4, x5, h =>
    if x4 ≤ x5 then
      F_X0_isGood_b201 K k114 x0 x1 x2 x3 x4 h
    else
      gd (hT h x0 = 1) <|
      bd (F_X0_areLike K h x0 x4 x5 (0 : Int32)) fun r_4 =>
      if r_4 = 0 then
        gd (hasF (hT h x0) 14 = true) <|
        lt (hR h 14 x0) fun r_7 =>
        gd (hT h r_7 = 34) <|
        gd (inb x4 (hN h r_7)) <|
        if (lg_cmp (hL h r_7 (Int32.toNatClampNeg x4)) (0 : Int64)) ≤ 0 then
          F_X0_isGood_b195 K (F_X0_isGood_L129 K k114 fu) x0 x1 x2 x3 x4 x5 h
        else
          gd (hasF (hT h x0) 14 = true) <|
          lt (hR h 14 x0) fun r_12 =>
          gd (hT h r_12 = 34) <|
          gd (inb x5 (hN h r_12)) <|
          if (lg_cmp (hL h r_12 (Int32.toNatClampNeg x5)) (0 : Int64)) ≤ 0 then
            F_X0_isGood_b195 K (F_X0_isGood_L129 K k114 fu) x0 x1 x2 x3 x4 x5 h
          else
            some ((0 : Int32), h)
      else
        gd (hasF (hT h x0) 14 = true) <|
        lt (hR h 14 x0) fun r_17 =>
        gd (hT h r_17 = 34) <|
        gd (inb x4 (hN h r_17)) <|
        gd (hasF (hT h x0) 14 = true) <|
        lt (hR h 14 x0) fun r_21 =>
        gd (hT h r_21 = 34) <|
        gd (inb x5 (hN h r_21)) <|
        if (lg_cmp (hL h r_17 (Int32.toNatClampNeg x4)) (hL h r_21 (Int32.toNatClampNeg x5))) = 0 then
          F_X0_isGood_b195 K (F_X0_isGood_L129 K k114 fu) x0 x1 x2 x3 x4 x5 h
        else
          some ((0 : Int32), h)
set_option maxHeartbeats 4000000 in
theorem w_X0_isGood_L129 {p : Program} {l : Launch} {e : Env} {s : State} {m : MethodId} {args : Array Value} {below : List Frame} {meth : Method} {c : Code} {D : XD} {h0 : TH} (hC : XCx D cX0_isGood 6 RX0 h0 p (xRm 454 10437 h0) s m args meth c) (hr : meth.sig.returnType = some .boolean) (hnh : c.exceptionTable.isEmpty = true) (hin : meth.name = "isGood") {x : (Int32 × TH)} (k114 : Nat → Int32 → Nat → Int32 → Int32 → TH → Option (Int32 × TH)) (hk114 : ∀ (x0 : Nat) (x1 : Int32) (x2 : Nat) (x3 : Int32) (x4 : Int32) (h : TH), k114 x0 x1 x2 x3 x4 h = some x → XJ p l e (xRm 454 10437 h0) s m args below meth c D 6 (.returned (some (.int x.1))) h0 x.2 114 [(0, rv x0), (1, .int x1), (2, rv x2), (3, .int x3), (4, .int x4)] [] h) :
    ∀ (fu : Nat) (x0 : Nat) (x1 : Int32) (x2 : Nat) (x3 : Int32) (x4 : Int32) (x5 : Int32) (h : TH), F_X0_isGood_L129 D.2.2.2 k114 fu x0 x1 x2 x3 x4 x5 h = some x → XJ p l e (xRm 454 10437 h0) s m args below meth c D 6 (.returned (some (.int x.1))) h0 x.2 129 [(0, rv x0), (1, .int x1), (2, rv x2), (3, .int x3), (4, .int x4), (5, .int x5)] [] h := by
  have hx := hC.1
  have hb := hC.2.1
  intro fu
  induction fu with
  | zero => intro x0 x1 x2 x3 x4 x5 h hF; exact nm_none hF
  | succ fu ih =>
    intro x0 x1 x2 x3 x4 x5 h hF H locs cells slots ls hX hl
    rw [F_X0_isGood_L129] at hF
    refine lv_iload hx hb dX0_isGood_129 (lv_at hl 5 rfl) ?_
    refine lv_iload hx hb dX0_isGood_131 (lv_at hl 4 rfl) ?_
    refine lv_icmp_ge (tgt := 201) hx hb dX0_isGood_133 (by decide) (fun c_1 => ?_) (fun c_1 => ?_)
    · replace hF := it_t hF c_1
      exact w_X0_isGood_b201 hC hr hnh hin k114 hk114 x0 x1 x2 x3 x4 h hF H locs cells slots ls hX (lv_sub hl [0, 1, 2, 3, 4] rfl)
    · replace hF := it_f hF c_1
      refine X_aload_n hx hb dX0_isGood_136 rfl (lv_at hl 0 rfl) ?_
      refine lv_iload hx hb dX0_isGood_137 (lv_at hl 4 rfl) ?_
      refine lv_iload hx hb dX0_isGood_139 (lv_at hl 5 rfl) ?_
      refine lv_iconst (v := 0) hx hb dX0_isGood_141 (by decide) ?_
      obtain ⟨h_2, hF⟩ := gd_ok hF
      obtain ⟨r_4, hc_3, hF⟩ := bd_ok hF
      refine iX_X0_202 hC hX h_2 hc_3 hl.1 (Nat.le_of_ble_eq_true rfl) (Nat.le_of_ble_eq_true rfl) (Nat.le_of_ble_eq_true rfl) dX0_isGood_142 (fun H locs cells slots hX => ?_)
      refine lv_if_eq (tgt := 169) hx hb dX0_isGood_145 (by decide) (fun c_5 => ?_) (fun c_5 => ?_)
      · replace hF := it_t hF c_5
        refine X_aload_n hx hb dX0_isGood_169 rfl (lv_at hl 0 rfl) ?_
        obtain ⟨h_6, hF⟩ := gd_ok hF
        refine gX_X0_81 hC hX h_6 dX0_isGood_170 ?_
        refine lv_topr (fun r_7 er_7 => ?_)
        replace hF := lt_at hF er_7
        refine lv_iload hx hb dX0_isGood_173 (lv_at hl 4 rfl) ?_
        obtain ⟨h_8, hF⟩ := gd_ok hF
        obtain ⟨h_9, hF⟩ := gd_ok hF
        refine X_lald hC hX h_8 h_9 dX0_isGood_175 ?_
        refine lv_lconst (v := 0) hx hb dX0_isGood_176 (by decide) ?_
        refine W.lcmp hx hb dX0_isGood_177 ?_
        refine lv_if_le (tgt := 195) hx hb dX0_isGood_178 (by decide) (fun c_10 => ?_) (fun c_10 => ?_)
        · replace hF := it_t hF c_10
          exact w_X0_isGood_b195 hC hr hnh hin (F_X0_isGood_L129 D.2.2.2 k114 fu) ih x0 x1 x2 x3 x4 x5 h hF H locs cells slots ls hX (lv_sub hl [0, 1, 2, 3, 4, 5] rfl)
        · replace hF := it_f hF c_10
          refine X_aload_n hx hb dX0_isGood_181 rfl (lv_at hl 0 rfl) ?_
          obtain ⟨h_11, hF⟩ := gd_ok hF
          refine gX_X0_81 hC hX h_11 dX0_isGood_182 ?_
          refine lv_topr (fun r_12 er_12 => ?_)
          replace hF := lt_at hF er_12
          refine lv_iload hx hb dX0_isGood_185 (lv_at hl 5 rfl) ?_
          obtain ⟨h_13, hF⟩ := gd_ok hF
          obtain ⟨h_14, hF⟩ := gd_ok hF
          refine X_lald hC hX h_13 h_14 dX0_isGood_187 ?_
          refine lv_lconst (v := 0) hx hb dX0_isGood_188 (by decide) ?_
          refine W.lcmp hx hb dX0_isGood_189 ?_
          refine lv_if_le (tgt := 195) hx hb dX0_isGood_190 (by decide) (fun c_15 => ?_) (fun c_15 => ?_)
          · replace hF := it_t hF c_15
            exact w_X0_isGood_b195 hC hr hnh hin (F_X0_isGood_L129 D.2.2.2 k114 fu) ih x0 x1 x2 x3 x4 x5 h hF H locs cells slots ls hX (lv_sub hl [0, 1, 2, 3, 4, 5] rfl)
          · replace hF := it_f hF c_15
            refine lv_iconst (v := 0) hx hb dX0_isGood_193 (by decide) ?_
            exact x_reti hC hX hr rfl (rt1 hF) (rt2 hF) dX0_isGood_194
      · replace hF := it_f hF c_5
        refine X_aload_n hx hb dX0_isGood_148 rfl (lv_at hl 0 rfl) ?_
        obtain ⟨h_16, hF⟩ := gd_ok hF
        refine gX_X0_81 hC hX h_16 dX0_isGood_149 ?_
        refine lv_topr (fun r_17 er_17 => ?_)
        replace hF := lt_at hF er_17
        refine lv_iload hx hb dX0_isGood_152 (lv_at hl 4 rfl) ?_
        obtain ⟨h_18, hF⟩ := gd_ok hF
        obtain ⟨h_19, hF⟩ := gd_ok hF
        refine X_lald hC hX h_18 h_19 dX0_isGood_154 ?_
        refine X_aload_n hx hb dX0_isGood_155 rfl (lv_at hl 0 rfl) ?_
        obtain ⟨h_20, hF⟩ := gd_ok hF
        refine gX_X0_81 hC hX h_20 dX0_isGood_156 ?_
        refine lv_topr (fun r_21 er_21 => ?_)
        replace hF := lt_at hF er_21
        refine lv_iload hx hb dX0_isGood_159 (lv_at hl 5 rfl) ?_
        obtain ⟨h_22, hF⟩ := gd_ok hF
        obtain ⟨h_23, hF⟩ := gd_ok hF
        refine X_lald hC hX h_22 h_23 dX0_isGood_161 ?_
        refine W.lcmp hx hb dX0_isGood_162 ?_
        refine lv_if_eq (tgt := 195) hx hb dX0_isGood_163 (by decide) (fun c_24 => ?_) (fun c_24 => ?_)
        · replace hF := it_t hF c_24
          exact w_X0_isGood_b195 hC hr hnh hin (F_X0_isGood_L129 D.2.2.2 k114 fu) ih x0 x1 x2 x3 x4 x5 h hF H locs cells slots ls hX (lv_sub hl [0, 1, 2, 3, 4, 5] rfl)
        · replace hF := it_f hF c_24
          refine lv_goto (tgt := 193) hx hb dX0_isGood_166 (by decide) ?_
          refine lv_iconst (v := 0) hx hb dX0_isGood_193 (by decide) ?_
          exact x_reti hC hX hr rfl (rt1 hF) (rt2 hF) dX0_isGood_194
def F_X0_isGood_L114 (K : Nat → Nat) (k15 : Nat → Int32 → Nat → Int32 → TH → Option (Int32 × TH)) : Nat → Nat → Int32 → Nat → Int32 → Int32 → TH → Option (Int32 × TH)
  | 0, _, _, _, _, _, _ => none
  | fu + 1, x0, x1, x2, x3, x4, h =>
    gd (hasF (hT h x0) 7 = true) <|
    lt (hR h 7 x0) fun r_2 =>
    gd (hT h r_2 = 2) <|
    bd (F_X1_inputs K h r_2) fun r_5 =>
    if r_5 ≤ x4 then
      F_X0_isGood_b207 K k15 x0 x1 x2 x3 h
    else
      F_X0_isGood_L129 K (F_X0_isGood_L114 K k15 fu) MN x0 x1 x2 x3 x4 (0 : Int32) h
set_option maxHeartbeats 4000000 in
theorem w_X0_isGood_L114 {p : Program} {l : Launch} {e : Env} {s : State} {m : MethodId} {args : Array Value} {below : List Frame} {meth : Method} {c : Code} {D : XD} {h0 : TH} (hC : XCx D cX0_isGood 6 RX0 h0 p (xRm 454 10437 h0) s m args meth c) (hr : meth.sig.returnType = some .boolean) (hnh : c.exceptionTable.isEmpty = true) (hin : meth.name = "isGood") {x : (Int32 × TH)} (k15 : Nat → Int32 → Nat → Int32 → TH → Option (Int32 × TH)) (hk15 : ∀ (x0 : Nat) (x1 : Int32) (x2 : Nat) (x3 : Int32) (h : TH), k15 x0 x1 x2 x3 h = some x → XJ p l e (xRm 454 10437 h0) s m args below meth c D 6 (.returned (some (.int x.1))) h0 x.2 15 [(0, rv x0), (1, .int x1), (2, rv x2), (3, .int x3)] [] h) :
    ∀ (fu : Nat) (x0 : Nat) (x1 : Int32) (x2 : Nat) (x3 : Int32) (x4 : Int32) (h : TH), F_X0_isGood_L114 D.2.2.2 k15 fu x0 x1 x2 x3 x4 h = some x → XJ p l e (xRm 454 10437 h0) s m args below meth c D 6 (.returned (some (.int x.1))) h0 x.2 114 [(0, rv x0), (1, .int x1), (2, rv x2), (3, .int x3), (4, .int x4)] [] h := by
  have hx := hC.1
  have hb := hC.2.1
  intro fu
  induction fu with
  | zero => intro x0 x1 x2 x3 x4 h hF; exact nm_none hF
  | succ fu ih =>
    intro x0 x1 x2 x3 x4 h hF H locs cells slots ls hX hl
    rw [F_X0_isGood_L114] at hF
    refine lv_iload hx hb dX0_isGood_114 (lv_at hl 4 rfl) ?_
    refine X_aload_n hx hb dX0_isGood_116 rfl (lv_at hl 0 rfl) ?_
    obtain ⟨h_1, hF⟩ := gd_ok hF
    refine gX_X0_15 hC hX h_1 dX0_isGood_117 ?_
    refine lv_topr (fun r_2 er_2 => ?_)
    replace hF := lt_at hF er_2
    obtain ⟨h_3, hF⟩ := gd_ok hF
    obtain ⟨r_5, hc_4, hF⟩ := bd_ok hF
    refine iX_X0_152 hC hX h_3 hc_4 hl.1 (Nat.le_of_ble_eq_true rfl) (Nat.le_of_ble_eq_true rfl) (Nat.le_of_ble_eq_true rfl) dX0_isGood_120 (fun H locs cells slots hX => ?_)
    refine lv_icmp_ge (tgt := 207) hx hb dX0_isGood_123 (by decide) (fun c_6 => ?_) (fun c_6 => ?_)
    · replace hF := it_t hF c_6
      exact w_X0_isGood_b207 hC hr hnh hin k15 hk15 x0 x1 x2 x3 h hF H locs cells slots ls hX (lv_sub hl [0, 1, 2, 3] rfl)
    · replace hF := it_f hF c_6
      refine lv_iconst (v := 0) hx hb dX0_isGood_126 (by decide) ?_
      refine lv_istore (lv' := [(5, .int (0 : Int32)), (0, rv x0), (1, .int x1), (2, rv x2), (3, .int x3), (4, .int x4)]) hx hb dX0_isGood_127 hl (by decide) rfl (fun ls hl => ?_)
      exact w_X0_isGood_L129 hC hr hnh hin (F_X0_isGood_L114 D.2.2.2 k15 fu) ih MN x0 x1 x2 x3 x4 (0 : Int32) h hF H locs cells slots ls hX (lv_sub hl [1, 2, 3, 4, 5, 0] rfl)
def F_X0_isGood_b111 (K : Nat → Nat) (k15 : Nat → Int32 → Nat → Int32 → TH → Option (Int32 × TH)) (x0 : Nat) (x1 : Int32) (x2 : Nat) (x3 : Int32) (h : TH) : Option (Int32 × TH) :=
  F_X0_isGood_L114 K k15 MN x0 x1 x2 x3 (0 : Int32) h
set_option maxHeartbeats 4000000 in
theorem w_X0_isGood_b111 {p : Program} {l : Launch} {e : Env} {s : State} {m : MethodId} {args : Array Value} {below : List Frame} {meth : Method} {c : Code} {D : XD} {h0 : TH} (hC : XCx D cX0_isGood 6 RX0 h0 p (xRm 454 10437 h0) s m args meth c) (hr : meth.sig.returnType = some .boolean) (hnh : c.exceptionTable.isEmpty = true) (hin : meth.name = "isGood") {x : (Int32 × TH)} (k15 : Nat → Int32 → Nat → Int32 → TH → Option (Int32 × TH)) (hk15 : ∀ (x0 : Nat) (x1 : Int32) (x2 : Nat) (x3 : Int32) (h : TH), k15 x0 x1 x2 x3 h = some x → XJ p l e (xRm 454 10437 h0) s m args below meth c D 6 (.returned (some (.int x.1))) h0 x.2 15 [(0, rv x0), (1, .int x1), (2, rv x2), (3, .int x3)] [] h) :
    ∀ (x0 : Nat) (x1 : Int32) (x2 : Nat) (x3 : Int32) (h : TH), F_X0_isGood_b111 D.2.2.2 k15 x0 x1 x2 x3 h = some x → XJ p l e (xRm 454 10437 h0) s m args below meth c D 6 (.returned (some (.int x.1))) h0 x.2 111 [(0, rv x0), (1, .int x1), (2, rv x2), (3, .int x3)] [] h := by
  have hx := hC.1
  have hb := hC.2.1
  intro x0 x1 x2 x3 h hF H locs cells slots ls hX hl
  rw [F_X0_isGood_b111] at hF
  refine lv_iconst (v := 0) hx hb dX0_isGood_111 (by decide) ?_
  refine lv_istore (lv' := [(4, .int (0 : Int32)), (0, rv x0), (1, .int x1), (2, rv x2), (3, .int x3)]) hx hb dX0_isGood_112 hl (by decide) rfl (fun ls hl => ?_)
  exact w_X0_isGood_L114 hC hr hnh hin k15 hk15 MN x0 x1 x2 x3 (0 : Int32) h hF H locs cells slots ls hX (lv_sub hl [1, 2, 3, 4, 0] rfl)
def F_X0_isGood_b105 (K : Nat → Nat) (k28 : Nat → Int32 → Nat → Int32 → Int32 → TH → Option (Int32 × TH)) (x0 : Nat) (x1 : Int32) (x2 : Nat) (x3 : Int32) (x4 : Int32) (h : TH) : Option (Int32 × TH) :=
  lt (x4 + (1 : Int32)) fun x4_1 =>
  k28 x0 x1 x2 x3 x4_1 h
set_option maxHeartbeats 4000000 in
theorem w_X0_isGood_b105 {p : Program} {l : Launch} {e : Env} {s : State} {m : MethodId} {args : Array Value} {below : List Frame} {meth : Method} {c : Code} {D : XD} {h0 : TH} (hC : XCx D cX0_isGood 6 RX0 h0 p (xRm 454 10437 h0) s m args meth c) (hr : meth.sig.returnType = some .boolean) (hnh : c.exceptionTable.isEmpty = true) (hin : meth.name = "isGood") {x : (Int32 × TH)} (k28 : Nat → Int32 → Nat → Int32 → Int32 → TH → Option (Int32 × TH)) (hk28 : ∀ (x0 : Nat) (x1 : Int32) (x2 : Nat) (x3 : Int32) (x4 : Int32) (h : TH), k28 x0 x1 x2 x3 x4 h = some x → XJ p l e (xRm 454 10437 h0) s m args below meth c D 6 (.returned (some (.int x.1))) h0 x.2 28 [(0, rv x0), (1, .int x1), (2, rv x2), (3, .int x3), (4, .int x4)] [] h) :
    ∀ (x0 : Nat) (x1 : Int32) (x2 : Nat) (x3 : Int32) (x4 : Int32) (h : TH), F_X0_isGood_b105 D.2.2.2 k28 x0 x1 x2 x3 x4 h = some x → XJ p l e (xRm 454 10437 h0) s m args below meth c D 6 (.returned (some (.int x.1))) h0 x.2 105 [(0, rv x0), (1, .int x1), (2, rv x2), (3, .int x3), (4, .int x4)] [] h := by
  have hx := hC.1
  have hb := hC.2.1
  intro x0 x1 x2 x3 x4 h hF H locs cells slots ls hX hl
  rw [F_X0_isGood_b105] at hF
  obtain ⟨x4_1, ex4_1, hF⟩ := lt_ok hF
  refine lv_iinc (v := x4_1) (lv' := [(4, .int x4_1), (0, rv x0), (1, .int x1), (2, rv x2), (3, .int x3)]) hx hb dX0_isGood_105 hl (k := 4) rfl (by rw [ex4_1]; rfl) (by decide) rfl (fun ls hl => ?_)
  refine lv_goto (tgt := 28) hx hb dX0_isGood_108 (by decide) ?_
  exact hk28 x0 x1 x2 x3 x4_1 h hF H locs cells slots ls hX (lv_sub hl [1, 2, 3, 4, 0] rfl)
def F_X0_isGood_b97 (K : Nat → Nat) (k51 : Nat → Int32 → Nat → Int32 → Int32 → Int32 → TH → Option (Int32 × TH)) (x0 : Nat) (x1 : Int32) (x2 : Nat) (x3 : Int32) (x4 : Int32) (x5 : Int32) (y0 : Int64) (y1 : Int64) (y2 : Int32) (y3 : Nat) (h : TH) : Option (Int32 × TH) :=
  gd (hT h y3 = 34) <|
  gd (inb y2 (hN h y3)) <|
  lt (uL h y3 (Int32.toNatClampNeg y2) (y1 + y0)) fun h_3 =>
  lt (x5 + (1 : Int32)) fun x5_4 =>
  k51 x0 x1 x2 x3 x4 x5_4 h_3
set_option maxHeartbeats 4000000 in
theorem w_X0_isGood_b97 {p : Program} {l : Launch} {e : Env} {s : State} {m : MethodId} {args : Array Value} {below : List Frame} {meth : Method} {c : Code} {D : XD} {h0 : TH} (hC : XCx D cX0_isGood 6 RX0 h0 p (xRm 454 10437 h0) s m args meth c) (hr : meth.sig.returnType = some .boolean) (hnh : c.exceptionTable.isEmpty = true) (hin : meth.name = "isGood") {x : (Int32 × TH)} (k51 : Nat → Int32 → Nat → Int32 → Int32 → Int32 → TH → Option (Int32 × TH)) (hk51 : ∀ (x0 : Nat) (x1 : Int32) (x2 : Nat) (x3 : Int32) (x4 : Int32) (x5 : Int32) (h : TH), k51 x0 x1 x2 x3 x4 x5 h = some x → XJ p l e (xRm 454 10437 h0) s m args below meth c D 6 (.returned (some (.int x.1))) h0 x.2 51 [(0, rv x0), (1, .int x1), (2, rv x2), (3, .int x3), (4, .int x4), (5, .int x5)] [] h) :
    ∀ (x0 : Nat) (x1 : Int32) (x2 : Nat) (x3 : Int32) (x4 : Int32) (x5 : Int32) (y0 : Int64) (y1 : Int64) (y2 : Int32) (y3 : Nat) (h : TH), F_X0_isGood_b97 D.2.2.2 k51 x0 x1 x2 x3 x4 x5 y0 y1 y2 y3 h = some x → XJ p l e (xRm 454 10437 h0) s m args below meth c D 6 (.returned (some (.int x.1))) h0 x.2 97 [(0, rv x0), (1, .int x1), (2, rv x2), (3, .int x3), (4, .int x4), (5, .int x5)] [.long y0, .long y1, .int y2, rv y3] h := by
  have hx := hC.1
  have hb := hC.2.1
  intro x0 x1 x2 x3 x4 x5 y0 y1 y2 y3 h hF H locs cells slots ls hX hl
  rw [F_X0_isGood_b97] at hF
  refine lv_ladd hx hb dX0_isGood_97 ?_
  obtain ⟨h_1, hF⟩ := gd_ok hF
  obtain ⟨h_2, hF⟩ := gd_ok hF
  refine X_last hC hX h_1 h_2 dX0_isGood_98 (fun H locs hX => ?_)
  obtain ⟨h_3, eh_3, hF⟩ := lt_ok hF
  rw [← eh_3] at hX
  obtain ⟨x5_4, ex5_4, hF⟩ := lt_ok hF
  refine lv_iinc (v := x5_4) (lv' := [(5, .int x5_4), (0, rv x0), (1, .int x1), (2, rv x2), (3, .int x3), (4, .int x4)]) hx hb dX0_isGood_99 hl (k := 5) rfl (by rw [ex5_4]; rfl) (by decide) rfl (fun ls hl => ?_)
  refine lv_goto (tgt := 51) hx hb dX0_isGood_102 (by decide) ?_
  exact hk51 x0 x1 x2 x3 x4 x5_4 h_3 hF H locs cells slots ls hX (lv_sub hl [1, 2, 3, 4, 5, 0] rfl)
def F_X0_isGood_L51 (K : Nat → Nat) (k28 : Nat → Int32 → Nat → Int32 → Int32 → TH → Option (Int32 × TH)) : Nat → Nat → Int32 → Nat → Int32 → Int32 → Int32 → TH → Option (Int32 × TH)
  | 0, _, _, _, _, _, _, _ => none
  | fu + 1, x0, x1, x2, x3, x4, x5, h =>
    if (256 : Int32) ≤ x5 then
      F_X0_isGood_b105 K k28 x0 x1 x2 x3 x4 h
    else
      gd (hasF (hT h x0) 14 = true) <|
      lt (hR h 14 x0) fun r_3 =>
      gd (hT h r_3 = 34) <|
      gd (inb x4 (hN h r_3)) <|
      gd (hT h x2 = 18) <|
      bd (F_X18_seen K h x2 x5) fun r_8 =>
      if r_8 = x3 then
        gd (hasF (hT h x0) 13 = true) <|
        lt (hR h 13 x0) fun r_11 =>
        gd (hT h r_11 = 35 ∨ hT h r_11 = 36 ∨ hT h r_11 = 37 ∨ hT h r_11 = 48) <|
        gd (inb x1 (hN h r_11)) <|
        lt (hY h r_11 (Int32.toNatClampNeg x1)) fun r_14 =>
        gd (hT h r_14 = 34) <|
        gd (inb (((256 : Int32) * x4) + x5) (hN h r_14)) <|
        F_X0_isGood_b97 K (F_X0_isGood_L51 K k28 fu) x0 x1 x2 x3 x4 x5 (hL h r_14 (Int32.toNatClampNeg (((256 : Int32) * x4) + x5))) (hL h r_3 (Int32.toNatClampNeg x4)) x4 r_3 h
      else
        F_X0_isGood_b97 K (F_X0_isGood_L51 K k28 fu) x0 x1 x2 x3 x4 x5 (0 : Int64) (hL h r_3 (Int32.toNatClampNeg x4)) x4 r_3 h
set_option maxHeartbeats 4000000 in
theorem w_X0_isGood_L51 {p : Program} {l : Launch} {e : Env} {s : State} {m : MethodId} {args : Array Value} {below : List Frame} {meth : Method} {c : Code} {D : XD} {h0 : TH} (hC : XCx D cX0_isGood 6 RX0 h0 p (xRm 454 10437 h0) s m args meth c) (hr : meth.sig.returnType = some .boolean) (hnh : c.exceptionTable.isEmpty = true) (hin : meth.name = "isGood") {x : (Int32 × TH)} (k28 : Nat → Int32 → Nat → Int32 → Int32 → TH → Option (Int32 × TH)) (hk28 : ∀ (x0 : Nat) (x1 : Int32) (x2 : Nat) (x3 : Int32) (x4 : Int32) (h : TH), k28 x0 x1 x2 x3 x4 h = some x → XJ p l e (xRm 454 10437 h0) s m args below meth c D 6 (.returned (some (.int x.1))) h0 x.2 28 [(0, rv x0), (1, .int x1), (2, rv x2), (3, .int x3), (4, .int x4)] [] h) :
    ∀ (fu : Nat) (x0 : Nat) (x1 : Int32) (x2 : Nat) (x3 : Int32) (x4 : Int32) (x5 : Int32) (h : TH), F_X0_isGood_L51 D.2.2.2 k28 fu x0 x1 x2 x3 x4 x5 h = some x → XJ p l e (xRm 454 10437 h0) s m args below meth c D 6 (.returned (some (.int x.1))) h0 x.2 51 [(0, rv x0), (1, .int x1), (2, rv x2), (3, .int x3), (4, .int x4), (5, .int x5)] [] h := by
  have hx := hC.1
  have hb := hC.2.1
  intro fu
  induction fu with
  | zero => intro x0 x1 x2 x3 x4 x5 h hF; exact nm_none hF
  | succ fu ih =>
    intro x0 x1 x2 x3 x4 x5 h hF H locs cells slots ls hX hl
    rw [F_X0_isGood_L51] at hF
    refine lv_iload hx hb dX0_isGood_51 (lv_at hl 5 rfl) ?_
    refine lv_sipush (v := 256) hx hb dX0_isGood_53 (by decide) ?_
    refine lv_icmp_ge (tgt := 105) hx hb dX0_isGood_56 (by decide) (fun c_1 => ?_) (fun c_1 => ?_)
    · replace hF := it_t hF c_1
      exact w_X0_isGood_b105 hC hr hnh hin k28 hk28 x0 x1 x2 x3 x4 h hF H locs cells slots ls hX (lv_sub hl [0, 1, 2, 3, 4] rfl)
    · replace hF := it_f hF c_1
      refine X_aload_n hx hb dX0_isGood_59 rfl (lv_at hl 0 rfl) ?_
      obtain ⟨h_2, hF⟩ := gd_ok hF
      refine gX_X0_81 hC hX h_2 dX0_isGood_60 ?_
      refine lv_topr (fun r_3 er_3 => ?_)
      replace hF := lt_at hF er_3
      refine lv_iload hx hb dX0_isGood_63 (lv_at hl 4 rfl) ?_
      refine lv_dup2_11 hx hb dX0_isGood_65 rfl (rv_cat _) ?_
      obtain ⟨h_4, hF⟩ := gd_ok hF
      obtain ⟨h_5, hF⟩ := gd_ok hF
      refine X_lald hC hX h_4 h_5 dX0_isGood_66 ?_
      refine X_aload_n hx hb dX0_isGood_67 rfl (lv_at hl 2 rfl) ?_
      refine lv_iload hx hb dX0_isGood_68 (lv_at hl 5 rfl) ?_
      obtain ⟨h_6, hF⟩ := gd_ok hF
      obtain ⟨r_8, hc_7, hF⟩ := bd_ok hF
      refine iX_X0_247 hC hX h_6 hc_7 hl.1 (cat4 (Nat.le_of_ble_eq_true rfl)) (Nat.le_of_ble_eq_true rfl) (Nat.le_of_ble_eq_true rfl) dX0_isGood_70 (fun H locs cells slots hX => ?_)
      refine lv_iload_n hx hb dX0_isGood_73 rfl (lv_at hl 3 rfl) ?_
      refine lv_icmp_ne (tgt := 96) hx hb dX0_isGood_74 (by decide) (fun c_9 => ?_) (fun c_9 => ?_)
      · replace hF := it_f hF c_9
        refine lv_lconst (v := 0) hx hb dX0_isGood_96 (by decide) ?_
        exact w_X0_isGood_b97 hC hr hnh hin (F_X0_isGood_L51 D.2.2.2 k28 fu) ih x0 x1 x2 x3 x4 x5 (0 : Int64) (hL h r_3 (Int32.toNatClampNeg x4)) x4 r_3 h hF H locs cells slots ls hX (lv_sub hl [0, 1, 2, 3, 4, 5] rfl)
      · replace hF := it_t hF c_9
        refine X_aload_n hx hb dX0_isGood_77 rfl (lv_at hl 0 rfl) ?_
        obtain ⟨h_10, hF⟩ := gd_ok hF
        refine gX_X0_78 hC hX h_10 dX0_isGood_78 ?_
        refine lv_topr (fun r_11 er_11 => ?_)
        replace hF := lt_at hF er_11
        refine lv_iload_n hx hb dX0_isGood_81 rfl (lv_at hl 1 rfl) ?_
        obtain ⟨h_12, hF⟩ := gd_ok hF
        obtain ⟨h_13, hF⟩ := gd_ok hF
        refine X_aald hC hX h_12 h_13 dX0_isGood_82 ?_
        refine lv_topr (fun r_14 er_14 => ?_)
        replace hF := lt_at hF er_14
        refine lv_sipush (v := 256) hx hb dX0_isGood_83 (by decide) ?_
        refine lv_iload hx hb dX0_isGood_86 (lv_at hl 4 rfl) ?_
        refine lv_imul hx hb dX0_isGood_88 ?_
        refine lv_iload hx hb dX0_isGood_89 (lv_at hl 5 rfl) ?_
        refine lv_iadd hx hb dX0_isGood_91 ?_
        obtain ⟨h_15, hF⟩ := gd_ok hF
        obtain ⟨h_16, hF⟩ := gd_ok hF
        refine X_lald hC hX h_15 h_16 dX0_isGood_92 ?_
        refine lv_goto (tgt := 97) hx hb dX0_isGood_93 (by decide) ?_
        exact w_X0_isGood_b97 hC hr hnh hin (F_X0_isGood_L51 D.2.2.2 k28 fu) ih x0 x1 x2 x3 x4 x5 (hL h r_14 (Int32.toNatClampNeg (((256 : Int32) * x4) + x5))) (hL h r_3 (Int32.toNatClampNeg x4)) x4 r_3 h hF H locs cells slots ls hX (lv_sub hl [0, 1, 2, 3, 4, 5] rfl)
def F_X0_isGood_L28 (K : Nat → Nat) (k15 : Nat → Int32 → Nat → Int32 → TH → Option (Int32 × TH)) : Nat → Nat → Int32 → Nat → Int32 → Int32 → TH → Option (Int32 × TH)
  | 0, _, _, _, _, _, _ => none
  | fu + 1, x0, x1, x2, x3, x4, h =>
    gd (hasF (hT h x0) 7 = true) <|
    lt (hR h 7 x0) fun r_2 =>
    gd (hT h r_2 = 2) <|
    bd (F_X1_inputs K h r_2) fun r_5 =>
    if r_5 ≤ x4 then
      F_X0_isGood_b111 K k15 x0 x1 x2 x3 h
    else
      gd (hasF (hT h x0) 14 = true) <|
      lt (hR h 14 x0) fun r_8 =>
      gd (hT h r_8 = 34) <|
      gd (inb x4 (hN h r_8)) <|
      lt (uL h r_8 (Int32.toNatClampNeg x4) (0 : Int64)) fun h_11 =>
      F_X0_isGood_L51 K (F_X0_isGood_L28 K k15 fu) MN x0 x1 x2 x3 x4 (0 : Int32) h_11
set_option maxHeartbeats 4000000 in
theorem w_X0_isGood_L28 {p : Program} {l : Launch} {e : Env} {s : State} {m : MethodId} {args : Array Value} {below : List Frame} {meth : Method} {c : Code} {D : XD} {h0 : TH} (hC : XCx D cX0_isGood 6 RX0 h0 p (xRm 454 10437 h0) s m args meth c) (hr : meth.sig.returnType = some .boolean) (hnh : c.exceptionTable.isEmpty = true) (hin : meth.name = "isGood") {x : (Int32 × TH)} (k15 : Nat → Int32 → Nat → Int32 → TH → Option (Int32 × TH)) (hk15 : ∀ (x0 : Nat) (x1 : Int32) (x2 : Nat) (x3 : Int32) (h : TH), k15 x0 x1 x2 x3 h = some x → XJ p l e (xRm 454 10437 h0) s m args below meth c D 6 (.returned (some (.int x.1))) h0 x.2 15 [(0, rv x0), (1, .int x1), (2, rv x2), (3, .int x3)] [] h) :
    ∀ (fu : Nat) (x0 : Nat) (x1 : Int32) (x2 : Nat) (x3 : Int32) (x4 : Int32) (h : TH), F_X0_isGood_L28 D.2.2.2 k15 fu x0 x1 x2 x3 x4 h = some x → XJ p l e (xRm 454 10437 h0) s m args below meth c D 6 (.returned (some (.int x.1))) h0 x.2 28 [(0, rv x0), (1, .int x1), (2, rv x2), (3, .int x3), (4, .int x4)] [] h := by
  have hx := hC.1
  have hb := hC.2.1
  intro fu
  induction fu with
  | zero => intro x0 x1 x2 x3 x4 h hF; exact nm_none hF
  | succ fu ih =>
    intro x0 x1 x2 x3 x4 h hF H locs cells slots ls hX hl
    rw [F_X0_isGood_L28] at hF
    refine lv_iload hx hb dX0_isGood_28 (lv_at hl 4 rfl) ?_
    refine X_aload_n hx hb dX0_isGood_30 rfl (lv_at hl 0 rfl) ?_
    obtain ⟨h_1, hF⟩ := gd_ok hF
    refine gX_X0_15 hC hX h_1 dX0_isGood_31 ?_
    refine lv_topr (fun r_2 er_2 => ?_)
    replace hF := lt_at hF er_2
    obtain ⟨h_3, hF⟩ := gd_ok hF
    obtain ⟨r_5, hc_4, hF⟩ := bd_ok hF
    refine iX_X0_152 hC hX h_3 hc_4 hl.1 (Nat.le_of_ble_eq_true rfl) (Nat.le_of_ble_eq_true rfl) (Nat.le_of_ble_eq_true rfl) dX0_isGood_34 (fun H locs cells slots hX => ?_)
    refine lv_icmp_ge (tgt := 111) hx hb dX0_isGood_37 (by decide) (fun c_6 => ?_) (fun c_6 => ?_)
    · replace hF := it_t hF c_6
      exact w_X0_isGood_b111 hC hr hnh hin k15 hk15 x0 x1 x2 x3 h hF H locs cells slots ls hX (lv_sub hl [0, 1, 2, 3] rfl)
    · replace hF := it_f hF c_6
      refine X_aload_n hx hb dX0_isGood_40 rfl (lv_at hl 0 rfl) ?_
      obtain ⟨h_7, hF⟩ := gd_ok hF
      refine gX_X0_81 hC hX h_7 dX0_isGood_41 ?_
      refine lv_topr (fun r_8 er_8 => ?_)
      replace hF := lt_at hF er_8
      refine lv_iload hx hb dX0_isGood_44 (lv_at hl 4 rfl) ?_
      refine lv_lconst (v := 0) hx hb dX0_isGood_46 (by decide) ?_
      obtain ⟨h_9, hF⟩ := gd_ok hF
      obtain ⟨h_10, hF⟩ := gd_ok hF
      refine X_last hC hX h_9 h_10 dX0_isGood_47 (fun H locs hX => ?_)
      obtain ⟨h_11, eh_11, hF⟩ := lt_ok hF
      rw [← eh_11] at hX
      refine lv_iconst (v := 0) hx hb dX0_isGood_48 (by decide) ?_
      refine lv_istore (lv' := [(5, .int (0 : Int32)), (0, rv x0), (1, .int x1), (2, rv x2), (3, .int x3), (4, .int x4)]) hx hb dX0_isGood_49 hl (by decide) rfl (fun ls hl => ?_)
      exact w_X0_isGood_L51 hC hr hnh hin (F_X0_isGood_L28 D.2.2.2 k15 fu) ih MN x0 x1 x2 x3 x4 (0 : Int32) h_11 hF H locs cells slots ls hX (lv_sub hl [1, 2, 3, 4, 5, 0] rfl)
def F_X0_isGood_L15 (K : Nat → Nat) : Nat → Nat → Int32 → Nat → Int32 → TH → Option (Int32 × TH)
  | 0, _, _, _, _, _ => none
  | fu + 1, x0, x1, x2, x3, h =>
    gd (hasF (hT h x2) 102 = true) <|
    if ((1 : Int32) <<< ((hI h 102 x2) &&& 31)) ≤ x3 then
      some ((1 : Int32), h)
    else
      F_X0_isGood_L28 K (F_X0_isGood_L15 K fu) MN x0 x1 x2 x3 (0 : Int32) h
set_option maxHeartbeats 4000000 in
theorem w_X0_isGood_L15 {p : Program} {l : Launch} {e : Env} {s : State} {m : MethodId} {args : Array Value} {below : List Frame} {meth : Method} {c : Code} {D : XD} {h0 : TH} (hC : XCx D cX0_isGood 6 RX0 h0 p (xRm 454 10437 h0) s m args meth c) (hr : meth.sig.returnType = some .boolean) (hnh : c.exceptionTable.isEmpty = true) (hin : meth.name = "isGood") {x : (Int32 × TH)} :
    ∀ (fu : Nat) (x0 : Nat) (x1 : Int32) (x2 : Nat) (x3 : Int32) (h : TH), F_X0_isGood_L15 D.2.2.2 fu x0 x1 x2 x3 h = some x → XJ p l e (xRm 454 10437 h0) s m args below meth c D 6 (.returned (some (.int x.1))) h0 x.2 15 [(0, rv x0), (1, .int x1), (2, rv x2), (3, .int x3)] [] h := by
  have hx := hC.1
  have hb := hC.2.1
  intro fu
  induction fu with
  | zero => intro x0 x1 x2 x3 h hF; exact nm_none hF
  | succ fu ih =>
    intro x0 x1 x2 x3 h hF H locs cells slots ls hX hl
    rw [F_X0_isGood_L15] at hF
    refine lv_iload_n hx hb dX0_isGood_15 rfl (lv_at hl 3 rfl) ?_
    refine lv_iconst (v := 1) hx hb dX0_isGood_16 (by decide) ?_
    refine X_aload_n hx hb dX0_isGood_17 rfl (lv_at hl 2 rfl) ?_
    obtain ⟨h_1, hF⟩ := gd_ok hF
    refine gX_X0_246 hC hX h_1 dX0_isGood_18 ?_
    refine lv_ishl hx hb dX0_isGood_21 ?_
    refine lv_icmp_ge (tgt := 213) hx hb dX0_isGood_22 (by decide) (fun c_2 => ?_) (fun c_2 => ?_)
    · replace hF := it_t hF c_2
      refine lv_iconst (v := 1) hx hb dX0_isGood_213 (by decide) ?_
      exact x_reti hC hX hr rfl (rt1 hF) (rt2 hF) dX0_isGood_214
    · replace hF := it_f hF c_2
      refine lv_iconst (v := 0) hx hb dX0_isGood_25 (by decide) ?_
      refine lv_istore (lv' := [(4, .int (0 : Int32)), (0, rv x0), (1, .int x1), (2, rv x2), (3, .int x3)]) hx hb dX0_isGood_26 hl (by decide) rfl (fun ls hl => ?_)
      exact w_X0_isGood_L28 hC hr hnh hin (F_X0_isGood_L15 D.2.2.2 fu) ih MN x0 x1 x2 x3 (0 : Int32) h hF H locs cells slots ls hX (lv_sub hl [1, 2, 3, 4, 0] rfl)
def F_X0_isGood (K : Nat → Nat) (a0 : Nat) (b0 : Int32) (b1 : Nat) (h : TH) : Option (Int32 × TH) :=
  gd (hT h b1 = 18) <|
  bd (F_X18_needs K h b1) fun r_3 =>
  gd (hasF (hT h a0) 15 = true) <|
  if r_3 ≤ (hI h 15 a0) then
    F_X0_isGood_L15 K MN a0 b0 b1 (0 : Int32) h
  else
    some ((0 : Int32), h)
set_option maxHeartbeats 4000000 in
theorem w_X0_isGood {p : Program} {l : Launch} {e : Env} {s : State} {m : MethodId} {args : Array Value} {below : List Frame} {meth : Method} {c : Code} {D : XD} {h0 : TH} (hC : XCx D cX0_isGood 6 RX0 h0 p (xRm 454 10437 h0) s m args meth c) (hr : meth.sig.returnType = some .boolean) (hnh : c.exceptionTable.isEmpty = true) (hin : meth.name = "isGood") {x : (Int32 × TH)} :
    ∀ (a0 : Nat) (b0 : Int32) (b1 : Nat) (h : TH), F_X0_isGood D.2.2.2 a0 b0 b1 h = some x → XJ p l e (xRm 454 10437 h0) s m args below meth c D 6 (.returned (some (.int x.1))) h0 x.2 0 [(0, rv a0), (1, .int b0), (2, rv b1)] [] h := by
  have hx := hC.1
  have hb := hC.2.1
  intro a0 b0 b1 h hF H locs cells slots ls hX hl
  rw [F_X0_isGood] at hF
  refine X_aload_n hx hb dX0_isGood_0 rfl (lv_at hl 2 rfl) ?_
  obtain ⟨h_1, hF⟩ := gd_ok hF
  obtain ⟨r_3, hc_2, hF⟩ := bd_ok hF
  refine iX_X0_241 hC hX h_1 hc_2 hl.1 (Nat.le_of_ble_eq_true rfl) (Nat.le_of_ble_eq_true rfl) (Nat.le_of_ble_eq_true rfl) dX0_isGood_1 (fun H locs cells slots hX => ?_)
  refine X_aload_n hx hb dX0_isGood_4 rfl (lv_at hl 0 rfl) ?_
  obtain ⟨h_4, hF⟩ := gd_ok hF
  refine gX_X0_219 hC hX h_4 dX0_isGood_5 ?_
  refine lv_icmp_le (tgt := 13) hx hb dX0_isGood_8 (by decide) (fun c_5 => ?_) (fun c_5 => ?_)
  · replace hF := it_t hF c_5
    refine lv_iconst (v := 0) hx hb dX0_isGood_13 (by decide) ?_
    refine lv_istore_n (i := 3) hx hb dX0_isGood_14 rfl hl (by decide) rfl (fun ls hl => ?_)
    replace hl : lv_has ls 6 [(3, .int (0 : Int32)), (0, rv a0), (1, .int b0), (2, rv b1)] := lv_subS hl (List.forall_mem_cons.mpr ⟨Or.inl rfl, (List.forall_mem_cons.mpr ⟨Or.inr ⟨List.mem_of_getElem? (i := 0) rfl, rfl⟩, (List.forall_mem_cons.mpr ⟨Or.inr ⟨List.mem_of_getElem? (i := 1) rfl, rfl⟩, (List.forall_mem_cons.mpr ⟨Or.inr ⟨List.mem_of_getElem? (i := 2) rfl, by simp [rv_cat]⟩, (fun _ h => nomatch h)⟩)⟩)⟩)⟩)
    exact w_X0_isGood_L15 hC hr hnh hin MN a0 b0 b1 (0 : Int32) h hF H locs cells slots ls hX (lv_sub hl [1, 2, 3, 0] rfl)
  · replace hF := it_f hF c_5
    refine lv_iconst (v := 0) hx hb dX0_isGood_11 (by decide) ?_
    exact x_reti hC hX hr rfl (rt1 hF) (rt2 hF) dX0_isGood_12
theorem m_X0_isGood (l : Launch) (D : XD) (a0 : Nat) (b0 : Int32) (b1 : Nat) (h : TH) (x : (Int32 × TH)) (hF : F_X0_isGood D.2.2.2 a0 b0 b1 h = some x) : XMt l yX0_isGood (ws_ yX0_isGood cX0_isGood 6 (some .boolean)) 454 10437 D [rv a0, .int b0, rv b1] h (.returned (some (.int x.1))) x.2 := by
  refine x_met (by decide +kernel) ?_ ?_
  · simp [lg_sl, rv_cat, cat_i, cat_l]
  intro p e s m below meth c hC hr hnh hin ls hl hX
  replace hl : lv_has ls 6 [(0, rv a0), (1, .int b0), (2, rv b1)] := by simpa [lv_args, rv_cat, cat_i, cat_l] using hl
  exact w_X0_isGood hC hr hnh hin a0 b0 b1 h hF s.heap [] 0 0 ls hX hl
end
