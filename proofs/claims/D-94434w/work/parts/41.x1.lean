set_option maxRecDepth 100000
noncomputable section
theorem gX_X2_36 {p : Program} {l : Launch} {e : Env} {R : Room} {s : State} {m : MethodId} {args : Array Value} {below : List Frame} {meth : Method} {c : Code} {H : Heap} {locs : List Loc} {cells slots nL : Nat} {Q : State → Prop} {D : XD} {h0 h : TH} {cc : ByteArray} {pc : Nat} {ls : Array Slot} {rest : List Value} (hC : XCx D cc nL RX2 h0 p R s m args meth c) (hX : XSt D s h0 h H locs cells slots) {a : Nat} (hf : hasF (hT h a) 7 = true) (hdg : decode cc pc = .ok (.getfield 36, 3)) (kk : W p l e R s m args below meth c H locs cells slots Q (F0 m (pc + 3) ls (rv (hR h 7 a) :: rest))) : W p l e R s m args below meth c H locs cells slots Q (F0 m pc ls (rv a :: rest)) :=
  X_getrN hC hX 7 hf rfl (fun q => absurd q (by decide)) (List.mem_of_getElem? (i := 8) rfl) hdg kk
theorem iX_X2_40 {p : Program} {l : Launch} {e : Env} {R : Room} {s : State} {m : MethodId} {args : Array Value} {below : List Frame} {meth : Method} {c : Code} {H : Heap} {locs : List Loc} {cells slots nL : Nat} {Q : State → Prop} {D : XD} {h0 h : TH} {cc : ByteArray} {pc : Nat} {ls : Array Slot} {rest : List Value} (hC : XCx D cc nL RX2 h0 p R s m args meth c) (hX : XSt D s h0 h H locs cells slots) {a : Nat} {x : Int32} (ht : hT h a = 2) (hcF : F_X1_inputs D.2.2.2 h a = some x) (hl : ls.size = nL) (hW : (rest.map fun v => v.category).sum ≤ 8) (hRf : 0 + 1 ≤ R.frames) (hRl : 20 ≤ R.locals) (hdg : decode cc pc = .ok (.invokevirtual 40, 3)) (kk : ∀ (H1 : Heap) (locs1 : List Loc) (cells1 slots1 : Nat), XSt D s h0 h H1 locs1 cells1 slots1 → W p l e R s m args below meth c H1 locs1 cells1 slots1 Q (F0 m (pc + 3) ls (.int x :: rest))) : W p l e R s m args below meth c H locs cells slots Q (F0 m pc ls (rv a :: rest)) := by
  have q := ht
  exact X_callV hC hX (by rw [q]; decide) (by rw [q]; rfl) (As := []) (m_X1_inputs l D a h _ hcF) (cwV 0 hC.2.2.2.2.1 (lw_V q479 q480 q481 q126 q482) rfl rfl rfl (by decide +kernel) ⟨Nat.le_trans (Nat.le_of_ble_eq_true rfl) hRf, Nat.le_trans (Nat.le_of_ble_eq_true rfl) hRl⟩) rfl rfl hl hW hdg kk
theorem gX_X2_15 {p : Program} {l : Launch} {e : Env} {R : Room} {s : State} {m : MethodId} {args : Array Value} {below : List Frame} {meth : Method} {c : Code} {H : Heap} {locs : List Loc} {cells slots nL : Nat} {Q : State → Prop} {D : XD} {h0 h : TH} {cc : ByteArray} {pc : Nat} {ls : Array Slot} {rest : List Value} (hC : XCx D cc nL RX2 h0 p R s m args meth c) (hX : XSt D s h0 h H locs cells slots) {a : Nat} (hf : hasF (hT h a) 43 = true) (hdg : decode cc pc = .ok (.getfield 15, 3)) (kk : W p l e R s m args below meth c H locs cells slots Q (F0 m (pc + 3) ls (.int (hI h 43 a) :: rest))) : W p l e R s m args below meth c H locs cells slots Q (F0 m pc ls (rv a :: rest)) :=
  X_geti hC hX 43 hf rfl q286 (fun _ h => h) hdg kk
theorem gX_X2_128 {p : Program} {l : Launch} {e : Env} {R : Room} {s : State} {m : MethodId} {args : Array Value} {below : List Frame} {meth : Method} {c : Code} {H : Heap} {locs : List Loc} {cells slots nL : Nat} {Q : State → Prop} {D : XD} {h0 h : TH} {cc : ByteArray} {pc : Nat} {ls : Array Slot} {rest : List Value} (hC : XCx D cc nL RX2 h0 p R s m args meth c) (hX : XSt D s h0 h H locs cells slots) {a : Nat} (hf : hasF (hT h a) 46 = true) (hdg : decode cc pc = .ok (.getfield 128, 3)) (kk : W p l e R s m args below meth c H locs cells slots Q (F0 m (pc + 3) ls (.int (hI h 46 a) :: rest))) : W p l e R s m args below meth c H locs cells slots Q (F0 m pc ls (rv a :: rest)) :=
  X_geti hC hX 46 hf rfl q297 (fun _ h => h) hdg kk
theorem iX_X2_131 {p : Program} {l : Launch} {e : Env} {R : Room} {s : State} {m : MethodId} {args : Array Value} {below : List Frame} {meth : Method} {c : Code} {H : Heap} {locs : List Loc} {cells slots nL : Nat} {Q : State → Prop} {D : XD} {h0 h : TH} {cc : ByteArray} {pc : Nat} {ls : Array Slot} {rest : List Value} (hC : XCx D cc nL RX2 h0 p R s m args meth c) (hX : XSt D s h0 h H locs cells slots) {a : Nat} {b0 : Int32} {b1 : Int32} {b2 : Int32} {b3 : Int32} {x : Int32} (ht : hT h a = 19) (hcF : F_X19_cards D.2.2.2 h a b0 b1 b2 b3 = some x) (hl : ls.size = nL) (hW : (rest.map fun v => v.category).sum ≤ 8) (hRf : 0 + 1 ≤ R.frames) (hRl : 24 ≤ R.locals) (hdg : decode cc pc = .ok (.invokevirtual 131, 3)) (kk : ∀ (H1 : Heap) (locs1 : List Loc) (cells1 slots1 : Nat), XSt D s h0 h H1 locs1 cells1 slots1 → W p l e R s m args below meth c H1 locs1 cells1 slots1 Q (F0 m (pc + 3) ls (.int x :: rest))) : W p l e R s m args below meth c H locs cells slots Q (F0 m pc ls (.int b3 :: .int b2 :: .int b1 :: .int b0 :: rv a :: rest)) := by
  have q := ht
  exact X_callV hC hX (by rw [q]; decide) (by rw [q]; rfl) (As := [.int b0, .int b1, .int b2, .int b3]) (m_X19_cards l D a b0 b1 b2 b3 h _ hcF) (cwV 4 hC.2.2.2.2.1 (lw_V q550 q551 q552 q163 q553) rfl rfl rfl (by decide +kernel) ⟨Nat.le_trans (Nat.le_of_ble_eq_true rfl) hRf, Nat.le_trans (Nat.le_of_ble_eq_true rfl) hRl⟩) rfl rfl hl hW hdg kk
/-! BlindCards$Runs.lay -/
def F_X2_lay_b122 (K : Nat → Nat) (k3 : Nat → Int32 → Nat → Int32 → Int32 → TH → Option TH) (x0 : Nat) (x1 : Int32) (x2 : Nat) (x3 : Int32) (x4 : Int32) (h : TH) : Option TH :=
  lt (x4 + (1 : Int32)) fun x4_1 =>
  k3 x0 x1 x2 x3 x4_1 h
set_option maxHeartbeats 4000000 in
theorem w_X2_lay_b122 {p : Program} {l : Launch} {e : Env} {s : State} {m : MethodId} {args : Array Value} {below : List Frame} {meth : Method} {c : Code} {D : XD} {h0 : TH} (hC : XCx D cX2_lay 7 RX2 h0 p (xRm 1 24 h0) s m args meth c) (hr : meth.sig.returnType = none) (hnh : c.exceptionTable.isEmpty = true) (hin : meth.name = "lay") {x : TH} (k3 : Nat → Int32 → Nat → Int32 → Int32 → TH → Option TH) (hk3 : ∀ (x0 : Nat) (x1 : Int32) (x2 : Nat) (x3 : Int32) (x4 : Int32) (h : TH), k3 x0 x1 x2 x3 x4 h = some x → XJ p l e (xRm 1 24 h0) s m args below meth c D 7 (.returned none) h0 x 3 [(0, rv x0), (1, .int x1), (2, rv x2), (3, .int x3), (4, .int x4)] [] h) :
    ∀ (x0 : Nat) (x1 : Int32) (x2 : Nat) (x3 : Int32) (x4 : Int32) (h : TH), F_X2_lay_b122 D.2.2.2 k3 x0 x1 x2 x3 x4 h = some x → XJ p l e (xRm 1 24 h0) s m args below meth c D 7 (.returned none) h0 x 122 [(0, rv x0), (1, .int x1), (2, rv x2), (3, .int x3), (4, .int x4)] [] h := by
  have hx := hC.1
  have hb := hC.2.1
  intro x0 x1 x2 x3 x4 h hF H locs cells slots ls hX hl
  rw [F_X2_lay_b122] at hF
  obtain ⟨x4_1, ex4_1, hF⟩ := lt_ok hF
  refine lv_iinc (v := x4_1) (lv' := [(4, .int x4_1), (0, rv x0), (1, .int x1), (2, rv x2), (3, .int x3)]) hx hb dX2_lay_122 hl (k := 4) rfl (by rw [ex4_1]; rfl) (by decide) rfl (fun ls hl => ?_)
  refine lv_goto (tgt := 3) hx hb dX2_lay_125 (by decide) ?_
  exact hk3 x0 x1 x2 x3 x4_1 h hF H locs cells slots ls hX (lv_sub hl [1, 2, 3, 4, 0] rfl)
def F_X2_lay_L50 (K : Nat → Nat) (k122 : Nat → Int32 → Nat → Int32 → Int32 → TH → Option TH) : Nat → Nat → Int32 → Nat → Int32 → Int32 → Int32 → Int32 → TH → Option TH
  | 0, _, _, _, _, _, _, _, _ => none
  | fu + 1, x0, x1, x2, x3, x4, x5, x6, h =>
    if x6 < 0 then
      k122 x0 x1 x2 x3 x4 h
    else
      gd (hasF (hT h x0) 49 = true) <|
      gd (hR h 49 x0 ≠ 0) <|
      lt (hR h 49 x0) fun r_4 =>
      gd (hasF (hT h r_4) 0 = true) <|
      lt (hR h 0 r_4) fun r_6 =>
      gd (hT h r_6 = 35 ∨ hT h r_6 = 36 ∨ hT h r_6 = 37 ∨ hT h r_6 = 48) <|
      gd (inb x1 (hN h r_6)) <|
      lt (hY h r_6 (Int32.toNatClampNeg x1)) fun r_9 =>
      gd (hasF (hT h x0) 49 = true) <|
      gd (hR h 49 x0 ≠ 0) <|
      lt (hR h 49 x0) fun r_12 =>
      gd (hasF (hT h r_12) 0 = true) <|
      lt (hR h 0 r_12) fun r_14 =>
      gd (hT h r_14 = 35 ∨ hT h r_14 = 36 ∨ hT h r_14 = 37 ∨ hT h r_14 = 48) <|
      gd (inb x1 (hN h r_14)) <|
      lt (hY h r_14 (Int32.toNatClampNeg x1)) fun r_17 =>
      gd (hT h r_17 = 34) <|
      gd (inb (((256 : Int32) * x4) + x6) (hN h r_17)) <|
      gd (hT h r_9 = 34) <|
      gd (inb (((256 : Int32) * x4) + (x6 ||| x5)) (hN h r_9)) <|
      lt (uL h r_9 (Int32.toNatClampNeg (((256 : Int32) * x4) + (x6 ||| x5))) (hL h r_17 (Int32.toNatClampNeg (((256 : Int32) * x4) + x6)))) fun h_22 =>
      gd (hasF (hT h_22 x0) 49 = true) <|
      gd (hR h_22 49 x0 ≠ 0) <|
      lt (hR h_22 49 x0) fun r_25 =>
      gd (hasF (hT h_22 r_25) 0 = true) <|
      lt (hR h_22 0 r_25) fun r_27 =>
      gd (hT h_22 r_27 = 35 ∨ hT h_22 r_27 = 36 ∨ hT h_22 r_27 = 37 ∨ hT h_22 r_27 = 48) <|
      gd (inb x1 (hN h_22 r_27)) <|
      lt (hY h_22 r_27 (Int32.toNatClampNeg x1)) fun r_30 =>
      gd (hT h_22 r_30 = 34) <|
      gd (inb (((256 : Int32) * x4) + x6) (hN h_22 r_30)) <|
      lt (uL h_22 r_30 (Int32.toNatClampNeg (((256 : Int32) * x4) + x6)) (0 : Int64)) fun h_33 =>
      lt (x6 + (-1 : Int32)) fun x6_34 =>
      F_X2_lay_L50 K k122 fu x0 x1 x2 x3 x4 x5 x6_34 h_33
set_option maxHeartbeats 4000000 in
theorem w_X2_lay_L50 {p : Program} {l : Launch} {e : Env} {s : State} {m : MethodId} {args : Array Value} {below : List Frame} {meth : Method} {c : Code} {D : XD} {h0 : TH} (hC : XCx D cX2_lay 7 RX2 h0 p (xRm 1 24 h0) s m args meth c) (hr : meth.sig.returnType = none) (hnh : c.exceptionTable.isEmpty = true) (hin : meth.name = "lay") {x : TH} (k122 : Nat → Int32 → Nat → Int32 → Int32 → TH → Option TH) (hk122 : ∀ (x0 : Nat) (x1 : Int32) (x2 : Nat) (x3 : Int32) (x4 : Int32) (h : TH), k122 x0 x1 x2 x3 x4 h = some x → XJ p l e (xRm 1 24 h0) s m args below meth c D 7 (.returned none) h0 x 122 [(0, rv x0), (1, .int x1), (2, rv x2), (3, .int x3), (4, .int x4)] [] h) :
    ∀ (fu : Nat) (x0 : Nat) (x1 : Int32) (x2 : Nat) (x3 : Int32) (x4 : Int32) (x5 : Int32) (x6 : Int32) (h : TH), F_X2_lay_L50 D.2.2.2 k122 fu x0 x1 x2 x3 x4 x5 x6 h = some x → XJ p l e (xRm 1 24 h0) s m args below meth c D 7 (.returned none) h0 x 50 [(0, rv x0), (1, .int x1), (2, rv x2), (3, .int x3), (4, .int x4), (5, .int x5), (6, .int x6)] [] h := by
  have hx := hC.1
  have hb := hC.2.1
  intro fu
  induction fu with
  | zero => intro x0 x1 x2 x3 x4 x5 x6 h hF; exact nm_none hF
  | succ fu ih =>
    intro x0 x1 x2 x3 x4 x5 x6 h hF H locs cells slots ls hX hl
    rw [F_X2_lay_L50] at hF
    refine lv_iload hx hb dX2_lay_50 (lv_at hl 6 rfl) ?_
    refine lv_if_lt (tgt := 122) hx hb dX2_lay_52 (by decide) (fun c_1 => ?_) (fun c_1 => ?_)
    · replace hF := it_t hF c_1
      exact hk122 x0 x1 x2 x3 x4 h hF H locs cells slots ls hX (lv_sub hl [0, 1, 2, 3, 4] rfl)
    · replace hF := it_f hF c_1
      refine X_aload_n hx hb dX2_lay_55 rfl (lv_at hl 0 rfl) ?_
      obtain ⟨h_2, hF⟩ := gd_ok hF
      obtain ⟨h_3, hF⟩ := gd_ok hF
      refine gX_X2_3 hC hX h_2 h_3 dX2_lay_56 ?_
      refine lv_topr (fun r_4 er_4 => ?_)
      replace hF := lt_at hF er_4
      obtain ⟨h_5, hF⟩ := gd_ok hF
      refine gX_X2_32 hC hX h_5 dX2_lay_59 ?_
      refine lv_topr (fun r_6 er_6 => ?_)
      replace hF := lt_at hF er_6
      refine lv_iload_n hx hb dX2_lay_62 rfl (lv_at hl 1 rfl) ?_
      obtain ⟨h_7, hF⟩ := gd_ok hF
      obtain ⟨h_8, hF⟩ := gd_ok hF
      refine X_aald hC hX h_7 h_8 dX2_lay_63 ?_
      refine lv_topr (fun r_9 er_9 => ?_)
      replace hF := lt_at hF er_9
      refine lv_sipush (v := 256) hx hb dX2_lay_64 (by decide) ?_
      refine lv_iload hx hb dX2_lay_67 (lv_at hl 4 rfl) ?_
      refine lv_imul hx hb dX2_lay_69 ?_
      refine lv_iload hx hb dX2_lay_70 (lv_at hl 6 rfl) ?_
      refine lv_iload hx hb dX2_lay_72 (lv_at hl 5 rfl) ?_
      refine lv_ior hx hb dX2_lay_74 ?_
      refine lv_iadd hx hb dX2_lay_75 ?_
      refine X_aload_n hx hb dX2_lay_76 rfl (lv_at hl 0 rfl) ?_
      obtain ⟨h_10, hF⟩ := gd_ok hF
      obtain ⟨h_11, hF⟩ := gd_ok hF
      refine gX_X2_3 hC hX h_10 h_11 dX2_lay_77 ?_
      refine lv_topr (fun r_12 er_12 => ?_)
      replace hF := lt_at hF er_12
      obtain ⟨h_13, hF⟩ := gd_ok hF
      refine gX_X2_32 hC hX h_13 dX2_lay_80 ?_
      refine lv_topr (fun r_14 er_14 => ?_)
      replace hF := lt_at hF er_14
      refine lv_iload_n hx hb dX2_lay_83 rfl (lv_at hl 1 rfl) ?_
      obtain ⟨h_15, hF⟩ := gd_ok hF
      obtain ⟨h_16, hF⟩ := gd_ok hF
      refine X_aald hC hX h_15 h_16 dX2_lay_84 ?_
      refine lv_topr (fun r_17 er_17 => ?_)
      replace hF := lt_at hF er_17
      refine lv_sipush (v := 256) hx hb dX2_lay_85 (by decide) ?_
      refine lv_iload hx hb dX2_lay_88 (lv_at hl 4 rfl) ?_
      refine lv_imul hx hb dX2_lay_90 ?_
      refine lv_iload hx hb dX2_lay_91 (lv_at hl 6 rfl) ?_
      refine lv_iadd hx hb dX2_lay_93 ?_
      obtain ⟨h_18, hF⟩ := gd_ok hF
      obtain ⟨h_19, hF⟩ := gd_ok hF
      refine X_lald hC hX h_18 h_19 dX2_lay_94 ?_
      obtain ⟨h_20, hF⟩ := gd_ok hF
      obtain ⟨h_21, hF⟩ := gd_ok hF
      refine X_last hC hX h_20 h_21 dX2_lay_95 (fun H locs hX => ?_)
      obtain ⟨h_22, eh_22, hF⟩ := lt_ok hF
      rw [← eh_22] at hX
      refine X_aload_n hx hb dX2_lay_96 rfl (lv_at hl 0 rfl) ?_
      obtain ⟨h_23, hF⟩ := gd_ok hF
      obtain ⟨h_24, hF⟩ := gd_ok hF
      refine gX_X2_3 hC hX h_23 h_24 dX2_lay_97 ?_
      refine lv_topr (fun r_25 er_25 => ?_)
      replace hF := lt_at hF er_25
      obtain ⟨h_26, hF⟩ := gd_ok hF
      refine gX_X2_32 hC hX h_26 dX2_lay_100 ?_
      refine lv_topr (fun r_27 er_27 => ?_)
      replace hF := lt_at hF er_27
      refine lv_iload_n hx hb dX2_lay_103 rfl (lv_at hl 1 rfl) ?_
      obtain ⟨h_28, hF⟩ := gd_ok hF
      obtain ⟨h_29, hF⟩ := gd_ok hF
      refine X_aald hC hX h_28 h_29 dX2_lay_104 ?_
      refine lv_topr (fun r_30 er_30 => ?_)
      replace hF := lt_at hF er_30
      refine lv_sipush (v := 256) hx hb dX2_lay_105 (by decide) ?_
      refine lv_iload hx hb dX2_lay_108 (lv_at hl 4 rfl) ?_
      refine lv_imul hx hb dX2_lay_110 ?_
      refine lv_iload hx hb dX2_lay_111 (lv_at hl 6 rfl) ?_
      refine lv_iadd hx hb dX2_lay_113 ?_
      refine lv_lconst (v := 0) hx hb dX2_lay_114 (by decide) ?_
      obtain ⟨h_31, hF⟩ := gd_ok hF
      obtain ⟨h_32, hF⟩ := gd_ok hF
      refine X_last hC hX h_31 h_32 dX2_lay_115 (fun H locs hX => ?_)
      obtain ⟨h_33, eh_33, hF⟩ := lt_ok hF
      rw [← eh_33] at hX
      obtain ⟨x6_34, ex6_34, hF⟩ := lt_ok hF
      refine lv_iinc (v := x6_34) (lv' := [(6, .int x6_34), (0, rv x0), (1, .int x1), (2, rv x2), (3, .int x3), (4, .int x4), (5, .int x5)]) hx hb dX2_lay_116 hl (k := 6) rfl (by rw [ex6_34]; rfl) (by decide) rfl (fun ls hl => ?_)
      refine lv_goto (tgt := 50) hx hb dX2_lay_119 (by decide) ?_
      exact ih x0 x1 x2 x3 x4 x5 x6_34 h_33 hF H locs cells slots ls hX (lv_sub hl [1, 2, 3, 4, 5, 6, 0] rfl)
def F_X2_lay_L3 (K : Nat → Nat) : Nat → Nat → Int32 → Nat → Int32 → Int32 → TH → Option TH
  | 0, _, _, _, _, _, _ => none
  | fu + 1, x0, x1, x2, x3, x4, h =>
    gd (hasF (hT h x0) 49 = true) <|
    gd (hR h 49 x0 ≠ 0) <|
    lt (hR h 49 x0) fun r_3 =>
    gd (hasF (hT h r_3) 7 = true) <|
    lt (hR h 7 r_3) fun r_5 =>
    gd (hT h r_5 = 2) <|
    bd (F_X1_inputs K h r_5) fun r_8 =>
    if r_8 ≤ x4 then
      some h
    else
      gd (hasF (hT h x0) 43 = true) <|
      gd (hasF (hT h x0) 46 = true) <|
      gd (hT h x2 = 19) <|
      bd (F_X19_cards K h x2 x3 x4 (hI h 43 x0) (hI h 46 x0)) fun r_14 =>
      if r_14 = 0 then
        F_X2_lay_b122 K (F_X2_lay_L3 K fu) x0 x1 x2 x3 x4 h
      else
        lt ((((1 : Int32) <<< (x3 &&& 31)) - (1 : Int32))) fun x_16 =>
        F_X2_lay_L50 K (F_X2_lay_b122 K (F_X2_lay_L3 K fu)) MN x0 x1 x2 x3 x4 r_14 x_16 h
set_option maxHeartbeats 4000000 in
theorem w_X2_lay_L3 {p : Program} {l : Launch} {e : Env} {s : State} {m : MethodId} {args : Array Value} {below : List Frame} {meth : Method} {c : Code} {D : XD} {h0 : TH} (hC : XCx D cX2_lay 7 RX2 h0 p (xRm 1 24 h0) s m args meth c) (hr : meth.sig.returnType = none) (hnh : c.exceptionTable.isEmpty = true) (hin : meth.name = "lay") {x : TH} :
    ∀ (fu : Nat) (x0 : Nat) (x1 : Int32) (x2 : Nat) (x3 : Int32) (x4 : Int32) (h : TH), F_X2_lay_L3 D.2.2.2 fu x0 x1 x2 x3 x4 h = some x → XJ p l e (xRm 1 24 h0) s m args below meth c D 7 (.returned none) h0 x 3 [(0, rv x0), (1, .int x1), (2, rv x2), (3, .int x3), (4, .int x4)] [] h := by
  have hx := hC.1
  have hb := hC.2.1
  intro fu
  induction fu with
  | zero => intro x0 x1 x2 x3 x4 h hF; exact nm_none hF
  | succ fu ih =>
    intro x0 x1 x2 x3 x4 h hF H locs cells slots ls hX hl
    rw [F_X2_lay_L3] at hF
    refine lv_iload hx hb dX2_lay_3 (lv_at hl 4 rfl) ?_
    refine X_aload_n hx hb dX2_lay_5 rfl (lv_at hl 0 rfl) ?_
    obtain ⟨h_1, hF⟩ := gd_ok hF
    obtain ⟨h_2, hF⟩ := gd_ok hF
    refine gX_X2_3 hC hX h_1 h_2 dX2_lay_6 ?_
    refine lv_topr (fun r_3 er_3 => ?_)
    replace hF := lt_at hF er_3
    obtain ⟨h_4, hF⟩ := gd_ok hF
    refine gX_X2_36 hC hX h_4 dX2_lay_9 ?_
    refine lv_topr (fun r_5 er_5 => ?_)
    replace hF := lt_at hF er_5
    obtain ⟨h_6, hF⟩ := gd_ok hF
    obtain ⟨r_8, hc_7, hF⟩ := bd_ok hF
    refine iX_X2_40 hC hX h_6 hc_7 hl.1 (Nat.le_of_ble_eq_true rfl) (Nat.le_of_ble_eq_true rfl) (Nat.le_of_ble_eq_true rfl) dX2_lay_12 (fun H locs cells slots hX => ?_)
    refine lv_icmp_ge (tgt := 128) hx hb dX2_lay_15 (by decide) (fun c_9 => ?_) (fun c_9 => ?_)
    · replace hF := it_t hF c_9
      exact x_retv hC hX hr (Option.some.inj hF) dX2_lay_128
    · replace hF := it_f hF c_9
      refine X_aload_n hx hb dX2_lay_18 rfl (lv_at hl 2 rfl) ?_
      refine lv_iload_n hx hb dX2_lay_19 rfl (lv_at hl 3 rfl) ?_
      refine lv_iload hx hb dX2_lay_20 (lv_at hl 4 rfl) ?_
      refine X_aload_n hx hb dX2_lay_22 rfl (lv_at hl 0 rfl) ?_
      obtain ⟨h_10, hF⟩ := gd_ok hF
      refine gX_X2_15 hC hX h_10 dX2_lay_23 ?_
      refine X_aload_n hx hb dX2_lay_26 rfl (lv_at hl 0 rfl) ?_
      obtain ⟨h_11, hF⟩ := gd_ok hF
      refine gX_X2_128 hC hX h_11 dX2_lay_27 ?_
      obtain ⟨h_12, hF⟩ := gd_ok hF
      obtain ⟨r_14, hc_13, hF⟩ := bd_ok hF
      refine iX_X2_131 hC hX h_12 hc_13 hl.1 (Nat.le_of_ble_eq_true rfl) (Nat.le_of_ble_eq_true rfl) (Nat.le_of_ble_eq_true rfl) dX2_lay_30 (fun H locs cells slots hX => ?_)
      refine lv_istore (lv' := [(5, .int r_14), (0, rv x0), (1, .int x1), (2, rv x2), (3, .int x3), (4, .int x4)]) hx hb dX2_lay_33 hl (by decide) rfl (fun ls hl => ?_)
      refine lv_iload hx hb dX2_lay_35 (lv_at hl 0 rfl) ?_
      refine lv_if_ne (tgt := 43) hx hb dX2_lay_37 (by decide) (fun c_15 => ?_) (fun c_15 => ?_)
      · replace hF := it_f hF c_15
        refine lv_iconst (v := 1) hx hb dX2_lay_43 (by decide) ?_
        refine lv_iload_n hx hb dX2_lay_44 rfl (lv_at hl 4 rfl) ?_
        refine lv_ishl hx hb dX2_lay_45 ?_
        refine lv_iconst (v := 1) hx hb dX2_lay_46 (by decide) ?_
        refine lv_isub hx hb dX2_lay_47 ?_
        refine lv_topi (fun x_16 ex_16 => ?_)
        replace hF := lt_at hF ex_16
        refine lv_istore (lv' := [(6, .int x_16), (5, .int r_14), (0, rv x0), (1, .int x1), (2, rv x2), (3, .int x3), (4, .int x4)]) hx hb dX2_lay_48 hl (by decide) rfl (fun ls hl => ?_)
        exact w_X2_lay_L50 hC hr hnh hin (F_X2_lay_b122 D.2.2.2 (F_X2_lay_L3 D.2.2.2 fu)) (w_X2_lay_b122 hC hr hnh hin (F_X2_lay_L3 D.2.2.2 fu) ih) MN x0 x1 x2 x3 x4 r_14 x_16 h hF H locs cells slots ls hX (lv_sub hl [2, 3, 4, 5, 6, 1, 0] rfl)
      · replace hF := it_t hF c_15
        refine lv_goto (tgt := 122) hx hb dX2_lay_40 (by decide) ?_
        exact w_X2_lay_b122 hC hr hnh hin (F_X2_lay_L3 D.2.2.2 fu) ih x0 x1 x2 x3 x4 h hF H locs cells slots ls hX (lv_sub hl [1, 2, 3, 4, 5] rfl)
def F_X2_lay (K : Nat → Nat) (a0 : Nat) (b0 : Int32) (b1 : Nat) (b2 : Int32) (h : TH) : Option TH :=
  F_X2_lay_L3 K MN a0 b0 b1 b2 (0 : Int32) h
set_option maxHeartbeats 4000000 in
theorem w_X2_lay {p : Program} {l : Launch} {e : Env} {s : State} {m : MethodId} {args : Array Value} {below : List Frame} {meth : Method} {c : Code} {D : XD} {h0 : TH} (hC : XCx D cX2_lay 7 RX2 h0 p (xRm 1 24 h0) s m args meth c) (hr : meth.sig.returnType = none) (hnh : c.exceptionTable.isEmpty = true) (hin : meth.name = "lay") {x : TH} :
    ∀ (a0 : Nat) (b0 : Int32) (b1 : Nat) (b2 : Int32) (h : TH), F_X2_lay D.2.2.2 a0 b0 b1 b2 h = some x → XJ p l e (xRm 1 24 h0) s m args below meth c D 7 (.returned none) h0 x 0 [(0, rv a0), (1, .int b0), (2, rv b1), (3, .int b2)] [] h := by
  have hx := hC.1
  have hb := hC.2.1
  intro a0 b0 b1 b2 h hF H locs cells slots ls hX hl
  rw [F_X2_lay] at hF
  refine lv_iconst (v := 0) hx hb dX2_lay_0 (by decide) ?_
  refine lv_istore (lv' := [(4, .int (0 : Int32)), (0, rv a0), (1, .int b0), (2, rv b1), (3, .int b2)]) hx hb dX2_lay_1 hl (by decide) rfl (fun ls hl => ?_)
  exact w_X2_lay_L3 hC hr hnh hin MN a0 b0 b1 b2 (0 : Int32) h hF H locs cells slots ls hX (lv_sub hl [1, 2, 3, 4, 0] rfl)
theorem m_X2_lay (l : Launch) (D : XD) (a0 : Nat) (b0 : Int32) (b1 : Nat) (b2 : Int32) (h : TH) (x : TH) (hF : F_X2_lay D.2.2.2 a0 b0 b1 b2 h = some x) : XMt l yX2_lay (ws_ yX2_lay cX2_lay 7 (none)) 1 24 D [rv a0, .int b0, rv b1, .int b2] h (.returned none) x := by
  refine x_met (by decide +kernel) ?_ ?_
  · simp [lg_sl, rv_cat, cat_i, cat_l]
  intro p e s m below meth c hC hr hnh hin ls hl hX
  replace hl : lv_has ls 7 [(0, rv a0), (1, .int b0), (2, rv b1), (3, .int b2)] := by simpa [lv_args, rv_cat, cat_i, cat_l] using hl
  exact w_X2_lay hC hr hnh hin a0 b0 b1 b2 h hF s.heap [] 0 0 ls hX hl
theorem gX_X16_9 {p : Program} {l : Launch} {e : Env} {R : Room} {s : State} {m : MethodId} {args : Array Value} {below : List Frame} {meth : Method} {c : Code} {H : Heap} {locs : List Loc} {cells slots nL : Nat} {Q : State → Prop} {D : XD} {h0 h : TH} {cc : ByteArray} {pc : Nat} {ls : Array Slot} {rest : List Value} (hC : XCx D cc nL RX16 h0 p R s m args meth c) (hX : XSt D s h0 h H locs cells slots) {a : Nat} (hf : hasF (hT h a) 96 = true) (hdg : decode cc pc = .ok (.getfield 9, 3)) (kk : W p l e R s m args below meth c H locs cells slots Q (F0 m (pc + 3) ls (rv (hR h 96 a) :: rest))) : W p l e R s m args below meth c H locs cells slots Q (F0 m pc ls (rv a :: rest)) :=
  X_getr hC hX 96 hf rfl (fun q => absurd q (by decide)) q1305 (fun _ h => h) hdg kk
/-! BlindCards$Told.to -/
def F_X16_to (K : Nat → Nat) (h : TH) (a0 : Nat) (b0 : Int32) (b1 : Int32) : Option Int32 :=
  gd (hasF (hT h a0) 96 = true) <|
  lt (hR h 96 a0) fun r_2 =>
  gd (hT h r_2 = 31 ∨ hT h r_2 = 43) <|
  gd (inb b0 (hN h r_2)) <|
  some (hA h r_2 (Int32.toNatClampNeg b0))
set_option maxHeartbeats 4000000 in
theorem w_X16_to {p : Program} {l : Launch} {e : Env} {s : State} {m : MethodId} {args : Array Value} {below : List Frame} {meth : Method} {c : Code} {D : XD} {h : TH} (hC : XCx D cX16_to 3 RX16 h p (xRm 0 0 h) s m args meth c) (hr : meth.sig.returnType = some .int) (hnh : c.exceptionTable.isEmpty = true) (hin : meth.name = "to") {x : Int32} :
    ∀ (a0 : Nat) (b0 : Int32) (b1 : Int32), F_X16_to D.2.2.2 h a0 b0 b1 = some x → XJ p l e (xRm 0 0 h) s m args below meth c D 3 (.returned (some (.int x))) h h 0 [(0, rv a0), (1, .int b0), (2, .int b1)] [] h := by
  have hx := hC.1
  have hb := hC.2.1
  intro a0 b0 b1 hF H locs cells slots ls hX hl
  rw [F_X16_to] at hF
  refine X_aload_n hx hb dX16_to_0 rfl (lv_at hl 0 rfl) ?_
  obtain ⟨h_1, hF⟩ := gd_ok hF
  refine gX_X16_9 hC hX h_1 dX16_to_1 ?_
  refine lv_topr (fun r_2 er_2 => ?_)
  replace hF := lt_at hF er_2
  refine lv_iload_n hx hb dX16_to_4 rfl (lv_at hl 1 rfl) ?_
  obtain ⟨h_3, hF⟩ := gd_ok hF
  obtain ⟨h_4, hF⟩ := gd_ok hF
  refine X_iald hC hX h_3 h_4 dX16_to_5 ?_
  exact x_reti hC hX hr rfl (Option.some.inj hF) rfl dX16_to_6
theorem m_X16_to (l : Launch) (D : XD) (a0 : Nat) (b0 : Int32) (b1 : Int32) (h : TH) (x : Int32) (hF : F_X16_to D.2.2.2 h a0 b0 b1 = some x) : XMt l yX16_to (ws_ yX16_to cX16_to 3 (some .int)) 0 0 D [rv a0, .int b0, .int b1] h (.returned (some (.int x))) h := by
  refine x_met (by decide +kernel) ?_ ?_
  · simp [lg_sl, rv_cat, cat_i, cat_l]
  intro p e s m below meth c hC hr hnh hin ls hl hX
  replace hl : lv_has ls 3 [(0, rv a0), (1, .int b0), (2, .int b1)] := by simpa [lv_args, rv_cat, cat_i, cat_l] using hl
  exact w_X16_to hC hr hnh hin a0 b0 b1 hF s.heap [] 0 0 ls hX hl
def V_X7_to (K : Nat → Nat) (h : TH) (a : Nat) (b0 : Int32) (b1 : Int32) : Option Int32 :=
  if hT h a = 14 then F_X16_to K h a b0 b1 else
  if hT h a = 15 ∨ hT h a = 16 then F_X8_to K h a b0 b1 else
  if hT h a = 17 then F_X9_to K h a b0 b1 else
  none
theorem iX_X7_9 {p : Program} {l : Launch} {e : Env} {R : Room} {s : State} {m : MethodId} {args : Array Value} {below : List Frame} {meth : Method} {c : Code} {H : Heap} {locs : List Loc} {cells slots nL : Nat} {Q : State → Prop} {D : XD} {h0 h : TH} {cc : ByteArray} {pc : Nat} {ls : Array Slot} {rest : List Value} (hC : XCx D cc nL RX7 h0 p R s m args meth c) (hX : XSt D s h0 h H locs cells slots) {a : Nat} {b0 : Int32} {b1 : Int32} {x : Int32} (hcF : V_X7_to D.2.2.2 h a b0 b1 = some x) (hl : ls.size = nL) (hW : (rest.map fun v => v.category).sum ≤ 8) (hRf : 2 + 1 ≤ R.frames) (hRl : 72 ≤ R.locals) (hdg : decode cc pc = .ok (.invokevirtual 9, 3)) (kk : ∀ (H1 : Heap) (locs1 : List Loc) (cells1 slots1 : Nat), XSt D s h0 h H1 locs1 cells1 slots1 → W p l e R s m args below meth c H1 locs1 cells1 slots1 Q (F0 m (pc + 3) ls (.int x :: rest))) : W p l e R s m args below meth c H locs cells slots Q (F0 m pc ls (.int b1 :: .int b0 :: rv a :: rest)) := by
  unfold V_X7_to at hcF
  by_cases q : hT h a = 14
  · replace hcF := it_t hcF q
    exact X_callU hC hX (by rw [q]; decide) (by rw [q]; rfl) (As := [.int b0, .int b1]) (m_X16_to l D a b0 b1 h _ hcF) (va_cwA 2 hC.2.2.2.2.1 (lw_U q603 q577 q592 q593 q160 q594) rfl rfl rfl (xd3 hC.2.2.2.2.2.2.1) (by decide +kernel) ⟨Nat.le_trans (Nat.le_of_ble_eq_true rfl) hRf, Nat.le_trans (Nat.le_of_ble_eq_true rfl) hRl⟩) rfl rfl hl hW hdg kk
  replace hcF := it_f hcF q
  by_cases q : hT h a = 15 ∨ hT h a = 16
  · replace hcF := it_t hcF q
    rcases q with q | q
    · exact X_callU hC hX (by rw [q]; decide) (by rw [q]; rfl) (As := [.int b0, .int b1]) (m_X8_to l D a b0 b1 h _ hcF) (va_cwA 2 hC.2.2.2.2.1 (lw_U q603 q577 q581 q579 q142 q580) rfl rfl rfl (xd3 hC.2.2.2.2.2.2.1) (by decide +kernel) ⟨Nat.le_trans (Nat.le_of_ble_eq_true rfl) hRf, Nat.le_trans (Nat.le_of_ble_eq_true rfl) hRl⟩) rfl rfl hl hW hdg kk
    · exact X_callU hC hX (by rw [q]; decide) (by rw [q]; rfl) (As := [.int b0, .int b1]) (m_X8_to l D a b0 b1 h _ hcF) (va_cwA 2 hC.2.2.2.2.1 (lw_U q603 q577 q578 q579 q142 q580) rfl rfl rfl (xd3 hC.2.2.2.2.2.2.1) (by decide +kernel) ⟨Nat.le_trans (Nat.le_of_ble_eq_true rfl) hRf, Nat.le_trans (Nat.le_of_ble_eq_true rfl) hRl⟩) rfl rfl hl hW hdg kk
  replace hcF := it_f hcF q
  by_cases q : hT h a = 17
  · replace hcF := it_t hcF q
    exact X_callU hC hX (by rw [q]; decide) (by rw [q]; rfl) (As := [.int b0, .int b1]) (m_X9_to l D a b0 b1 h _ hcF) (va_cwA 2 hC.2.2.2.2.1 (lw_U q603 q577 q582 q583 q143 q584) rfl rfl rfl (xd3 hC.2.2.2.2.2.2.1) (by decide +kernel) ⟨Nat.le_trans (Nat.le_of_ble_eq_true rfl) hRf, Nat.le_trans (Nat.le_of_ble_eq_true rfl) hRl⟩) rfl rfl hl hW hdg kk
  replace hcF := it_f hcF q
  exact nm_none hcF
/-! BlindCards$Move.row -/
def F_X7_row_L5 (K : Nat → Nat) (h : TH) : Nat → Nat → Int32 → Int32 → Int32 → Int32 → Option Int32
  | 0, _, _, _, _, _ => none
  | fu + 1, x0, x1, x2, x3, x4 =>
    if (8 : Int32) ≤ x4 then
      some x3
    else
      bd (V_X7_to K h x0 x4 x2) fun r_3 =>
      lt ((x3 ||| (((x1 >>> (x4 &&& 31)) &&& (1 : Int32)) <<< (r_3 &&& 31)))) fun x_4 =>
      lt (x4 + (1 : Int32)) fun x4_5 =>
      F_X7_row_L5 K h fu x0 x1 x2 x_4 x4_5
set_option maxHeartbeats 4000000 in
theorem w_X7_row_L5 {p : Program} {l : Launch} {e : Env} {s : State} {m : MethodId} {args : Array Value} {below : List Frame} {meth : Method} {c : Code} {D : XD} {h : TH} (hC : XCx D cX7_row 5 RX7 h p (xRm 3 72 h) s m args meth c) (hr : meth.sig.returnType = some .int) (hnh : c.exceptionTable.isEmpty = true) (hin : meth.name = "row") {x : Int32} :
    ∀ (fu : Nat) (x0 : Nat) (x1 : Int32) (x2 : Int32) (x3 : Int32) (x4 : Int32), F_X7_row_L5 D.2.2.2 h fu x0 x1 x2 x3 x4 = some x → XJ p l e (xRm 3 72 h) s m args below meth c D 5 (.returned (some (.int x))) h h 5 [(0, rv x0), (1, .int x1), (2, .int x2), (3, .int x3), (4, .int x4)] [] h := by
  have hx := hC.1
  have hb := hC.2.1
  intro fu
  induction fu with
  | zero => intro x0 x1 x2 x3 x4 hF; exact nm_none hF
  | succ fu ih =>
    intro x0 x1 x2 x3 x4 hF H locs cells slots ls hX hl
    rw [F_X7_row_L5] at hF
    refine lv_iload hx hb dX7_row_5 (lv_at hl 4 rfl) ?_
    refine lv_bipush (v := 8) hx hb dX7_row_7 (by decide) ?_
    refine lv_icmp_ge (tgt := 35) hx hb dX7_row_9 (by decide) (fun c_1 => ?_) (fun c_1 => ?_)
    · replace hF := it_t hF c_1
      refine lv_iload_n hx hb dX7_row_35 rfl (lv_at hl 3 rfl) ?_
      exact x_reti hC hX hr rfl (Option.some.inj hF) rfl dX7_row_36
    · replace hF := it_f hF c_1
      refine lv_iload_n hx hb dX7_row_12 rfl (lv_at hl 3 rfl) ?_
      refine lv_iload_n hx hb dX7_row_13 rfl (lv_at hl 1 rfl) ?_
      refine lv_iload hx hb dX7_row_14 (lv_at hl 4 rfl) ?_
      refine lv_ishr hx hb dX7_row_16 ?_
      refine lv_iconst (v := 1) hx hb dX7_row_17 (by decide) ?_
      refine lv_iand hx hb dX7_row_18 ?_
      refine X_aload_n hx hb dX7_row_19 rfl (lv_at hl 0 rfl) ?_
      refine lv_iload hx hb dX7_row_20 (lv_at hl 4 rfl) ?_
      refine lv_iload_n hx hb dX7_row_22 rfl (lv_at hl 2 rfl) ?_
      obtain ⟨r_3, hc_2, hF⟩ := bd_ok hF
      refine iX_X7_9 hC hX hc_2 hl.1 (Nat.le_of_ble_eq_true rfl) (Nat.le_of_ble_eq_true rfl) (Nat.le_of_ble_eq_true rfl) dX7_row_23 (fun H locs cells slots hX => ?_)
      refine lv_ishl hx hb dX7_row_26 ?_
      refine lv_ior hx hb dX7_row_27 ?_
      refine lv_topi (fun x_4 ex_4 => ?_)
      replace hF := lt_at hF ex_4
      refine lv_istore_n (lv' := [(3, .int x_4), (0, rv x0), (1, .int x1), (2, .int x2), (4, .int x4)]) hx hb dX7_row_28 rfl hl (by decide) rfl (fun ls hl => ?_)
      obtain ⟨x4_5, ex4_5, hF⟩ := lt_ok hF
      refine lv_iinc (v := x4_5) (lv' := [(4, .int x4_5), (3, .int x_4), (0, rv x0), (1, .int x1), (2, .int x2)]) hx hb dX7_row_29 hl (k := 4) rfl (by rw [ex4_5]; rfl) (by decide) rfl (fun ls hl => ?_)
      refine lv_goto (tgt := 5) hx hb dX7_row_32 (by decide) ?_
      exact ih x0 x1 x2 x_4 x4_5 hF H locs cells slots ls hX (lv_sub hl [2, 3, 4, 1, 0] rfl)
def F_X7_row (K : Nat → Nat) (h : TH) (a0 : Nat) (b0 : Int32) (b1 : Int32) : Option Int32 :=
  F_X7_row_L5 K h MN a0 b0 b1 (0 : Int32) (0 : Int32)
set_option maxHeartbeats 4000000 in
theorem w_X7_row {p : Program} {l : Launch} {e : Env} {s : State} {m : MethodId} {args : Array Value} {below : List Frame} {meth : Method} {c : Code} {D : XD} {h : TH} (hC : XCx D cX7_row 5 RX7 h p (xRm 3 72 h) s m args meth c) (hr : meth.sig.returnType = some .int) (hnh : c.exceptionTable.isEmpty = true) (hin : meth.name = "row") {x : Int32} :
    ∀ (a0 : Nat) (b0 : Int32) (b1 : Int32), F_X7_row D.2.2.2 h a0 b0 b1 = some x → XJ p l e (xRm 3 72 h) s m args below meth c D 5 (.returned (some (.int x))) h h 0 [(0, rv a0), (1, .int b0), (2, .int b1)] [] h := by
  have hx := hC.1
  have hb := hC.2.1
  intro a0 b0 b1 hF H locs cells slots ls hX hl
  rw [F_X7_row] at hF
  refine lv_iconst (v := 0) hx hb dX7_row_0 (by decide) ?_
  refine lv_istore_n (lv' := [(3, .int (0 : Int32)), (0, rv a0), (1, .int b0), (2, .int b1)]) hx hb dX7_row_1 rfl hl (by decide) rfl (fun ls hl => ?_)
  refine lv_iconst (v := 0) hx hb dX7_row_2 (by decide) ?_
  refine lv_istore (lv' := [(4, .int (0 : Int32)), (3, .int (0 : Int32)), (0, rv a0), (1, .int b0), (2, .int b1)]) hx hb dX7_row_3 hl (by decide) rfl (fun ls hl => ?_)
  exact w_X7_row_L5 hC hr hnh hin MN a0 b0 b1 (0 : Int32) (0 : Int32) hF H locs cells slots ls hX (lv_sub hl [2, 3, 4, 1, 0] rfl)
theorem m_X7_row (l : Launch) (D : XD) (a0 : Nat) (b0 : Int32) (b1 : Int32) (h : TH) (x : Int32) (hF : F_X7_row D.2.2.2 h a0 b0 b1 = some x) : XMt l yX7_row (ws_ yX7_row cX7_row 5 (some .int)) 3 72 D [rv a0, .int b0, .int b1] h (.returned (some (.int x))) h := by
  refine x_met (by decide +kernel) ?_ ?_
  · simp [lg_sl, rv_cat, cat_i, cat_l]
  intro p e s m below meth c hC hr hnh hin ls hl hX
  replace hl : lv_has ls 5 [(0, rv a0), (1, .int b0), (2, .int b1)] := by simpa [lv_args, rv_cat, cat_i, cat_l] using hl
  exact w_X7_row hC hr hnh hin a0 b0 b1 hF s.heap [] 0 0 ls hX hl
/-! BlindCards$Told.ways -/
def F_X16_ways (K : Nat → Nat) (h : TH) (a0 : Nat) : Option Int32 :=
  some (1 : Int32)
set_option maxHeartbeats 4000000 in
theorem w_X16_ways {p : Program} {l : Launch} {e : Env} {s : State} {m : MethodId} {args : Array Value} {below : List Frame} {meth : Method} {c : Code} {D : XD} {h : TH} (hC : XCx D cX16_ways 1 RX16 h p (xRm 0 0 h) s m args meth c) (hr : meth.sig.returnType = some .int) (hnh : c.exceptionTable.isEmpty = true) (hin : meth.name = "ways") {x : Int32} :
    ∀ (a0 : Nat), F_X16_ways D.2.2.2 h a0 = some x → XJ p l e (xRm 0 0 h) s m args below meth c D 1 (.returned (some (.int x))) h h 0 [(0, rv a0)] [] h := by
  have hx := hC.1
  have hb := hC.2.1
  intro a0 hF H locs cells slots ls hX hl
  rw [F_X16_ways] at hF
  refine lv_iconst (v := 1) hx hb dX16_ways_0 (by decide) ?_
  exact x_reti hC hX hr rfl (Option.some.inj hF) rfl dX16_ways_1
theorem m_X16_ways (l : Launch) (D : XD) (a0 : Nat) (h : TH) (x : Int32) (hF : F_X16_ways D.2.2.2 h a0 = some x) : XMt l yX16_ways (ws_ yX16_ways cX16_ways 1 (some .int)) 0 0 D [rv a0] h (.returned (some (.int x))) h := by
  refine x_met (by decide +kernel) ?_ ?_
  · simp [lg_sl, rv_cat, cat_i, cat_l]
  intro p e s m below meth c hC hr hnh hin ls hl hX
  replace hl : lv_has ls 1 [(0, rv a0)] := by simpa [lv_args, rv_cat, cat_i, cat_l] using hl
  exact w_X16_ways hC hr hnh hin a0 hF s.heap [] 0 0 ls hX hl
theorem gX_X2_135 {p : Program} {l : Launch} {e : Env} {R : Room} {s : State} {m : MethodId} {args : Array Value} {below : List Frame} {meth : Method} {c : Code} {H : Heap} {locs : List Loc} {cells slots nL : Nat} {Q : State → Prop} {D : XD} {h0 h : TH} {cc : ByteArray} {pc : Nat} {ls : Array Slot} {rest : List Value} (hC : XCx D cc nL RX2 h0 p R s m args meth c) (hX : XSt D s h0 h H locs cells slots) {a : Nat} (hf : hasF (hT h a) 2 = true) (hdg : decode cc pc = .ok (.getfield 135, 3)) (kk : W p l e R s m args below meth c H locs cells slots Q (F0 m (pc + 3) ls (rv (hR h 2 a) :: rest))) : W p l e R s m args below meth c H locs cells slots Q (F0 m pc ls (rv a :: rest)) :=
  X_getrN hC hX 2 hf rfl (fun q => absurd q (by decide)) (List.mem_of_getElem? (i := 3) rfl) hdg kk
def V_X7_ways (K : Nat → Nat) (h : TH) (a : Nat) : Option Int32 :=
  if hT h a = 14 then F_X16_ways K h a else
  if hT h a = 15 ∨ hT h a = 16 then F_X8_ways K h a else
  if hT h a = 17 then F_X9_ways K h a else
  none
theorem iX_X2_87 {p : Program} {l : Launch} {e : Env} {R : Room} {s : State} {m : MethodId} {args : Array Value} {below : List Frame} {meth : Method} {c : Code} {H : Heap} {locs : List Loc} {cells slots nL : Nat} {Q : State → Prop} {D : XD} {h0 h : TH} {cc : ByteArray} {pc : Nat} {ls : Array Slot} {rest : List Value} (hC : XCx D cc nL RX2 h0 p R s m args meth c) (hX : XSt D s h0 h H locs cells slots) {a : Nat} {x : Int32} (hcF : V_X7_ways D.2.2.2 h a = some x) (hl : ls.size = nL) (hW : (rest.map fun v => v.category).sum ≤ 8) (hRf : 0 + 1 ≤ R.frames) (hRl : 20 ≤ R.locals) (hdg : decode cc pc = .ok (.invokevirtual 87, 3)) (kk : ∀ (H1 : Heap) (locs1 : List Loc) (cells1 slots1 : Nat), XSt D s h0 h H1 locs1 cells1 slots1 → W p l e R s m args below meth c H1 locs1 cells1 slots1 Q (F0 m (pc + 3) ls (.int x :: rest))) : W p l e R s m args below meth c H locs cells slots Q (F0 m pc ls (rv a :: rest)) := by
  unfold V_X7_ways at hcF
  by_cases q : hT h a = 14
  · replace hcF := it_t hcF q
    exact X_callU hC hX (by rw [q]; decide) (by rw [q]; rfl) (As := []) (m_X16_ways l D a h _ hcF) (va_cwA 0 hC.2.2.2.2.1 (lw_U q555 q557 q567 q568 q160 q569) rfl rfl rfl (xd2 hC.2.2.2.2.2.2.1) (by decide +kernel) ⟨Nat.le_trans (Nat.le_of_ble_eq_true rfl) hRf, Nat.le_trans (Nat.le_of_ble_eq_true rfl) hRl⟩) rfl rfl hl hW hdg kk
  replace hcF := it_f hcF q
  by_cases q : hT h a = 15 ∨ hT h a = 16
  · replace hcF := it_t hcF q
    rcases q with q | q
    · exact X_callU hC hX (by rw [q]; decide) (by rw [q]; rfl) (As := []) (m_X8_ways l D a h _ hcF) (va_cwA 0 hC.2.2.2.2.1 (lw_U q555 q557 q561 q559 q142 q560) rfl rfl rfl (xd2 hC.2.2.2.2.2.2.1) (by decide +kernel) ⟨Nat.le_trans (Nat.le_of_ble_eq_true rfl) hRf, Nat.le_trans (Nat.le_of_ble_eq_true rfl) hRl⟩) rfl rfl hl hW hdg kk
    · exact X_callU hC hX (by rw [q]; decide) (by rw [q]; rfl) (As := []) (m_X8_ways l D a h _ hcF) (va_cwA 0 hC.2.2.2.2.1 (lw_U q555 q557 q558 q559 q142 q560) rfl rfl rfl (xd2 hC.2.2.2.2.2.2.1) (by decide +kernel) ⟨Nat.le_trans (Nat.le_of_ble_eq_true rfl) hRf, Nat.le_trans (Nat.le_of_ble_eq_true rfl) hRl⟩) rfl rfl hl hW hdg kk
  replace hcF := it_f hcF q
  by_cases q : hT h a = 17
  · replace hcF := it_t hcF q
    exact X_callU hC hX (by rw [q]; decide) (by rw [q]; rfl) (As := []) (m_X9_ways l D a h _ hcF) (va_cwA 0 hC.2.2.2.2.1 (lw_U q555 q557 q562 q563 q143 q564) rfl rfl rfl (xd2 hC.2.2.2.2.2.2.1) (by decide +kernel) ⟨Nat.le_trans (Nat.le_of_ble_eq_true rfl) hRf, Nat.le_trans (Nat.le_of_ble_eq_true rfl) hRl⟩) rfl rfl hl hW hdg kk
  replace hcF := it_f hcF q
  exact nm_none hcF
theorem iX_X2_139 {p : Program} {l : Launch} {e : Env} {R : Room} {s : State} {m : MethodId} {args : Array Value} {below : List Frame} {meth : Method} {c : Code} {H : Heap} {locs : List Loc} {cells slots nL : Nat} {Q : State → Prop} {D : XD} {h0 h : TH} {cc : ByteArray} {pc : Nat} {ls : Array Slot} {rest : List Value} (hC : XCx D cc nL RX2 h0 p R s m args meth c) (hX : XSt D s h0 h H locs cells slots) {a : Nat} {b0 : Int32} {b1 : Int32} {x : Int32} (ht : hT h a = 14 ∨ hT h a = 15 ∨ hT h a = 16 ∨ hT h a = 17) (hcF : F_X7_row D.2.2.2 h a b0 b1 = some x) (hl : ls.size = nL) (hW : (rest.map fun v => v.category).sum ≤ 8) (hRf : 3 + 1 ≤ R.frames) (hRl : 96 ≤ R.locals) (hdg : decode cc pc = .ok (.invokevirtual 139, 3)) (kk : ∀ (H1 : Heap) (locs1 : List Loc) (cells1 slots1 : Nat), XSt D s h0 h H1 locs1 cells1 slots1 → W p l e R s m args below meth c H1 locs1 cells1 slots1 Q (F0 m (pc + 3) ls (.int x :: rest))) : W p l e R s m args below meth c H locs cells slots Q (F0 m pc ls (.int b1 :: .int b0 :: rv a :: rest)) := by
  rcases ht with q | q | q | q
  · exact X_callU hC hX (by rw [q]; decide) (by rw [q]; rfl) (As := [.int b0, .int b1]) (m_X7_row l D a b0 b1 h _ hcF) (va_cwU 2 hC.2.2.2.2.1 (lw_U (owner := "BlindCards$Move") q595 q597 q601 q596 q141 q602) rfl rfl rfl rfl (by decide +kernel) ⟨Nat.le_trans (Nat.le_of_ble_eq_true rfl) hRf, Nat.le_trans (Nat.le_of_ble_eq_true rfl) hRl⟩) rfl rfl hl hW hdg kk
  · exact X_callU hC hX (by rw [q]; decide) (by rw [q]; rfl) (As := [.int b0, .int b1]) (m_X7_row l D a b0 b1 h _ hcF) (va_cwU 2 hC.2.2.2.2.1 (lw_U (owner := "BlindCards$Move") q595 q597 q599 q596 q141 q602) rfl rfl rfl rfl (by decide +kernel) ⟨Nat.le_trans (Nat.le_of_ble_eq_true rfl) hRf, Nat.le_trans (Nat.le_of_ble_eq_true rfl) hRl⟩) rfl rfl hl hW hdg kk
  · exact X_callU hC hX (by rw [q]; decide) (by rw [q]; rfl) (As := [.int b0, .int b1]) (m_X7_row l D a b0 b1 h _ hcF) (va_cwU 2 hC.2.2.2.2.1 (lw_U (owner := "BlindCards$Move") q595 q597 q598 q596 q141 q602) rfl rfl rfl rfl (by decide +kernel) ⟨Nat.le_trans (Nat.le_of_ble_eq_true rfl) hRf, Nat.le_trans (Nat.le_of_ble_eq_true rfl) hRl⟩) rfl rfl hl hW hdg kk
  · exact X_callU hC hX (by rw [q]; decide) (by rw [q]; rfl) (As := [.int b0, .int b1]) (m_X7_row l D a b0 b1 h _ hcF) (va_cwU 2 hC.2.2.2.2.1 (lw_U (owner := "BlindCards$Move") q595 q597 q600 q596 q141 q602) rfl rfl rfl rfl (by decide +kernel) ⟨Nat.le_trans (Nat.le_of_ble_eq_true rfl) hRf, Nat.le_trans (Nat.le_of_ble_eq_true rfl) hRl⟩) rfl rfl hl hW hdg kk
/-! BlindCards$Runs.move -/
def F_X2_move_b151 (K : Nat → Nat) (x0 : Nat) (x1 : Int32) (h : TH) : Option TH :=
  gd (hasF (hT h x0) 49 = true) <|
  gd (hR h 49 x0 ≠ 0) <|
  lt (hR h 49 x0) fun r_3 =>
  gd (hasF (hT h r_3) 2 = true) <|
  lt (hR h 2 r_3) fun r_5 =>
  gd (hasF (hT h x0) 49 = true) <|
  gd (hR h 49 x0 ≠ 0) <|
  lt (hR h 49 x0) fun r_8 =>
  gd (hasF (hT h r_8) 0 = true) <|
  lt (hR h 0 r_8) fun r_10 =>
  gd (hT h r_10 = 35 ∨ hT h r_10 = 36 ∨ hT h r_10 = 37 ∨ hT h r_10 = 48) <|
  gd (inb x1 (hN h r_10)) <|
  lt (hY h r_10 (Int32.toNatClampNeg x1)) fun r_13 =>
  gd (hT h r_5 = 34) <|
  gd (hT h r_13 = 34) <|
  gd (¬ (0 : Int32) < 0 ∧ ¬ (0 : Int32) < 0 ∧ ¬ (2048 : Int32) < 0 ∧ (Int32.toNatClampNeg (0 : Int32)) + (Int32.toNatClampNeg (2048 : Int32)) ≤ hN h r_5 ∧ (Int32.toNatClampNeg (0 : Int32)) + (Int32.toNatClampNeg (2048 : Int32)) ≤ hN h r_13) <|
  lt (cpL h r_5 (Int32.toNatClampNeg (0 : Int32)) r_13 (Int32.toNatClampNeg (0 : Int32)) (Int32.toNatClampNeg (2048 : Int32))) fun h_17 =>
  some h_17
set_option maxHeartbeats 4000000 in
theorem w_X2_move_b151 {p : Program} {l : Launch} {e : Env} {s : State} {m : MethodId} {args : Array Value} {below : List Frame} {meth : Method} {c : Code} {D : XD} {h0 : TH} (hC : XCx D cX2_move 6 RX2 h0 p (xRm 4 96 h0) s m args meth c) (hr : meth.sig.returnType = none) (hnh : c.exceptionTable.isEmpty = true) (hin : meth.name = "move") {x : TH} :
    ∀ (x0 : Nat) (x1 : Int32) (h : TH), F_X2_move_b151 D.2.2.2 x0 x1 h = some x → XJ p l e (xRm 4 96 h0) s m args below meth c D 6 (.returned none) h0 x 151 [(0, rv x0), (1, .int x1)] [] h := by
  have hx := hC.1
  have hb := hC.2.1
  intro x0 x1 h hF H locs cells slots ls hX hl
  rw [F_X2_move_b151] at hF
  refine X_aload_n hx hb dX2_move_151 rfl (lv_at hl 0 rfl) ?_
  obtain ⟨h_1, hF⟩ := gd_ok hF
  obtain ⟨h_2, hF⟩ := gd_ok hF
  refine gX_X2_3 hC hX h_1 h_2 dX2_move_152 ?_
  refine lv_topr (fun r_3 er_3 => ?_)
  replace hF := lt_at hF er_3
  obtain ⟨h_4, hF⟩ := gd_ok hF
  refine gX_X2_135 hC hX h_4 dX2_move_155 ?_
  refine lv_topr (fun r_5 er_5 => ?_)
  replace hF := lt_at hF er_5
  refine lv_iconst (v := 0) hx hb dX2_move_158 (by decide) ?_
  refine X_aload_n hx hb dX2_move_159 rfl (lv_at hl 0 rfl) ?_
  obtain ⟨h_6, hF⟩ := gd_ok hF
  obtain ⟨h_7, hF⟩ := gd_ok hF
  refine gX_X2_3 hC hX h_6 h_7 dX2_move_160 ?_
  refine lv_topr (fun r_8 er_8 => ?_)
  replace hF := lt_at hF er_8
  obtain ⟨h_9, hF⟩ := gd_ok hF
  refine gX_X2_32 hC hX h_9 dX2_move_163 ?_
  refine lv_topr (fun r_10 er_10 => ?_)
  replace hF := lt_at hF er_10
  refine lv_iload_n hx hb dX2_move_166 rfl (lv_at hl 1 rfl) ?_
  obtain ⟨h_11, hF⟩ := gd_ok hF
  obtain ⟨h_12, hF⟩ := gd_ok hF
  refine X_aald hC hX h_11 h_12 dX2_move_167 ?_
  refine lv_topr (fun r_13 er_13 => ?_)
  replace hF := lt_at hF er_13
  refine lv_iconst (v := 0) hx hb dX2_move_168 (by decide) ?_
  refine lv_sipush (v := 2048) hx hb dX2_move_169 (by decide) ?_
  obtain ⟨h_14, hF⟩ := gd_ok hF
  obtain ⟨h_15, hF⟩ := gd_ok hF
  obtain ⟨h_16, hF⟩ := gd_ok hF
  refine X_copyL hC hX h_14 h_15 h_16 q604 q467 q466 q137 hl.1 (Nat.le_of_ble_eq_true rfl) (cplo (Nat.le_of_ble_eq_true rfl) (Nat.le_of_ble_eq_true rfl)) dX2_move_172 (fun H locs hX => ?_)
  obtain ⟨h_17, eh_17, hF⟩ := lt_ok hF
  rw [← eh_17] at hX
  exact x_retv hC hX hr (Option.some.inj hF) dX2_move_175
def F_X2_move_b145 (K : Nat → Nat) (k27 : Nat → Int32 → Nat → Int32 → TH → Option TH) (x0 : Nat) (x1 : Int32) (x2 : Nat) (x3 : Int32) (h : TH) : Option TH :=
  lt (x3 + (1 : Int32)) fun x3_1 =>
  k27 x0 x1 x2 x3_1 h
set_option maxHeartbeats 4000000 in
theorem w_X2_move_b145 {p : Program} {l : Launch} {e : Env} {s : State} {m : MethodId} {args : Array Value} {below : List Frame} {meth : Method} {c : Code} {D : XD} {h0 : TH} (hC : XCx D cX2_move 6 RX2 h0 p (xRm 4 96 h0) s m args meth c) (hr : meth.sig.returnType = none) (hnh : c.exceptionTable.isEmpty = true) (hin : meth.name = "move") {x : TH} (k27 : Nat → Int32 → Nat → Int32 → TH → Option TH) (hk27 : ∀ (x0 : Nat) (x1 : Int32) (x2 : Nat) (x3 : Int32) (h : TH), k27 x0 x1 x2 x3 h = some x → XJ p l e (xRm 4 96 h0) s m args below meth c D 6 (.returned none) h0 x 27 [(0, rv x0), (1, .int x1), (2, rv x2), (3, .int x3)] [] h) :
    ∀ (x0 : Nat) (x1 : Int32) (x2 : Nat) (x3 : Int32) (h : TH), F_X2_move_b145 D.2.2.2 k27 x0 x1 x2 x3 h = some x → XJ p l e (xRm 4 96 h0) s m args below meth c D 6 (.returned none) h0 x 145 [(0, rv x0), (1, .int x1), (2, rv x2), (3, .int x3)] [] h := by
  have hx := hC.1
  have hb := hC.2.1
  intro x0 x1 x2 x3 h hF H locs cells slots ls hX hl
  rw [F_X2_move_b145] at hF
  obtain ⟨x3_1, ex3_1, hF⟩ := lt_ok hF
  refine lv_iinc (v := x3_1) hx hb dX2_move_145 hl (k := 3) rfl (by rw [ex3_1]; rfl) (by decide) rfl (fun ls hl => ?_)
  replace hl : lv_has ls 6 [(3, .int x3_1), (0, rv x0), (1, .int x1), (2, rv x2)] := lv_subS hl (List.forall_mem_cons.mpr ⟨Or.inl rfl, (List.forall_mem_cons.mpr ⟨Or.inr ⟨List.mem_of_getElem? (i := 0) rfl, rfl⟩, (List.forall_mem_cons.mpr ⟨Or.inr ⟨List.mem_of_getElem? (i := 1) rfl, rfl⟩, (List.forall_mem_cons.mpr ⟨Or.inr ⟨List.mem_of_getElem? (i := 2) rfl, by simp [rv_cat]⟩, (fun _ h => nomatch h)⟩)⟩)⟩)⟩)
  refine lv_goto (tgt := 27) hx hb dX2_move_148 (by decide) ?_
  exact hk27 x0 x1 x2 x3_1 h hF H locs cells slots ls hX (lv_sub hl [1, 2, 3, 0] rfl)
def F_X2_move_b139 (K : Nat → Nat) (k44 : Nat → Int32 → Nat → Int32 → Int32 → TH → Option TH) (x0 : Nat) (x1 : Int32) (x2 : Nat) (x3 : Int32) (x4 : Int32) (h : TH) : Option TH :=
  lt (x4 + (1 : Int32)) fun x4_1 =>
  k44 x0 x1 x2 x3 x4_1 h
set_option maxHeartbeats 4000000 in
theorem w_X2_move_b139 {p : Program} {l : Launch} {e : Env} {s : State} {m : MethodId} {args : Array Value} {below : List Frame} {meth : Method} {c : Code} {D : XD} {h0 : TH} (hC : XCx D cX2_move 6 RX2 h0 p (xRm 4 96 h0) s m args meth c) (hr : meth.sig.returnType = none) (hnh : c.exceptionTable.isEmpty = true) (hin : meth.name = "move") {x : TH} (k44 : Nat → Int32 → Nat → Int32 → Int32 → TH → Option TH) (hk44 : ∀ (x0 : Nat) (x1 : Int32) (x2 : Nat) (x3 : Int32) (x4 : Int32) (h : TH), k44 x0 x1 x2 x3 x4 h = some x → XJ p l e (xRm 4 96 h0) s m args below meth c D 6 (.returned none) h0 x 44 [(0, rv x0), (1, .int x1), (2, rv x2), (3, .int x3), (4, .int x4)] [] h) :
    ∀ (x0 : Nat) (x1 : Int32) (x2 : Nat) (x3 : Int32) (x4 : Int32) (h : TH), F_X2_move_b139 D.2.2.2 k44 x0 x1 x2 x3 x4 h = some x → XJ p l e (xRm 4 96 h0) s m args below meth c D 6 (.returned none) h0 x 139 [(0, rv x0), (1, .int x1), (2, rv x2), (3, .int x3), (4, .int x4)] [] h := by
  have hx := hC.1
  have hb := hC.2.1
  intro x0 x1 x2 x3 x4 h hF H locs cells slots ls hX hl
  rw [F_X2_move_b139] at hF
  obtain ⟨x4_1, ex4_1, hF⟩ := lt_ok hF
  refine lv_iinc (v := x4_1) (lv' := [(4, .int x4_1), (0, rv x0), (1, .int x1), (2, rv x2), (3, .int x3)]) hx hb dX2_move_139 hl (k := 4) rfl (by rw [ex4_1]; rfl) (by decide) rfl (fun ls hl => ?_)
  refine lv_goto (tgt := 44) hx hb dX2_move_142 (by decide) ?_
  exact hk44 x0 x1 x2 x3 x4_1 h hF H locs cells slots ls hX (lv_sub hl [1, 2, 3, 4, 0] rfl)
def F_X2_move_L81 (K : Nat → Nat) (k139 : Nat → Int32 → Nat → Int32 → Int32 → TH → Option TH) : Nat → Nat → Int32 → Nat → Int32 → Int32 → Int32 → TH → Option TH
  | 0, _, _, _, _, _, _, _ => none
  | fu + 1, x0, x1, x2, x3, x4, x5, h =>
    bd (V_X7_ways K h x2) fun r_2 =>
    if r_2 ≤ x5 then
      k139 x0 x1 x2 x3 x4 h
    else
      gd (hasF (hT h x0) 49 = true) <|
      gd (hR h 49 x0 ≠ 0) <|
      lt (hR h 49 x0) fun r_6 =>
      gd (hasF (hT h r_6) 2 = true) <|
      lt (hR h 2 r_6) fun r_8 =>
      gd (hT h x2 = 14 ∨ hT h x2 = 15 ∨ hT h x2 = 16 ∨ hT h x2 = 17) <|
      bd (F_X7_row K h x2 x4 x5) fun r_11 =>
      gd (hT h r_8 = 34) <|
      gd (inb (((256 : Int32) * x3) + r_11) (hN h r_8)) <|
      gd (hasF (hT h x0) 49 = true) <|
      gd (hR h 49 x0 ≠ 0) <|
      lt (hR h 49 x0) fun r_16 =>
      gd (hasF (hT h r_16) 0 = true) <|
      lt (hR h 0 r_16) fun r_18 =>
      gd (hT h r_18 = 35 ∨ hT h r_18 = 36 ∨ hT h r_18 = 37 ∨ hT h r_18 = 48) <|
      gd (inb x1 (hN h r_18)) <|
      lt (hY h r_18 (Int32.toNatClampNeg x1)) fun r_21 =>
      gd (hT h r_21 = 34) <|
      gd (inb (((256 : Int32) * x3) + x4) (hN h r_21)) <|
      gd (hT h r_8 = 34) <|
      gd (inb (((256 : Int32) * x3) + r_11) (hN h r_8)) <|
      lt (uL h r_8 (Int32.toNatClampNeg (((256 : Int32) * x3) + r_11)) ((hL h r_8 (Int32.toNatClampNeg (((256 : Int32) * x3) + r_11))) + (hL h r_21 (Int32.toNatClampNeg (((256 : Int32) * x3) + x4))))) fun h_26 =>
      lt (x5 + (1 : Int32)) fun x5_27 =>
      F_X2_move_L81 K k139 fu x0 x1 x2 x3 x4 x5_27 h_26
set_option maxHeartbeats 4000000 in
theorem w_X2_move_L81 {p : Program} {l : Launch} {e : Env} {s : State} {m : MethodId} {args : Array Value} {below : List Frame} {meth : Method} {c : Code} {D : XD} {h0 : TH} (hC : XCx D cX2_move 6 RX2 h0 p (xRm 4 96 h0) s m args meth c) (hr : meth.sig.returnType = none) (hnh : c.exceptionTable.isEmpty = true) (hin : meth.name = "move") {x : TH} (k139 : Nat → Int32 → Nat → Int32 → Int32 → TH → Option TH) (hk139 : ∀ (x0 : Nat) (x1 : Int32) (x2 : Nat) (x3 : Int32) (x4 : Int32) (h : TH), k139 x0 x1 x2 x3 x4 h = some x → XJ p l e (xRm 4 96 h0) s m args below meth c D 6 (.returned none) h0 x 139 [(0, rv x0), (1, .int x1), (2, rv x2), (3, .int x3), (4, .int x4)] [] h) :
    ∀ (fu : Nat) (x0 : Nat) (x1 : Int32) (x2 : Nat) (x3 : Int32) (x4 : Int32) (x5 : Int32) (h : TH), F_X2_move_L81 D.2.2.2 k139 fu x0 x1 x2 x3 x4 x5 h = some x → XJ p l e (xRm 4 96 h0) s m args below meth c D 6 (.returned none) h0 x 81 [(0, rv x0), (1, .int x1), (2, rv x2), (3, .int x3), (4, .int x4), (5, .int x5)] [] h := by
  have hx := hC.1
  have hb := hC.2.1
  intro fu
  induction fu with
  | zero => intro x0 x1 x2 x3 x4 x5 h hF; exact nm_none hF
  | succ fu ih =>
    intro x0 x1 x2 x3 x4 x5 h hF H locs cells slots ls hX hl
    rw [F_X2_move_L81] at hF
    refine lv_iload hx hb dX2_move_81 (lv_at hl 5 rfl) ?_
    refine X_aload_n hx hb dX2_move_83 rfl (lv_at hl 2 rfl) ?_
    obtain ⟨r_2, hc_1, hF⟩ := bd_ok hF
    refine iX_X2_87 hC hX hc_1 hl.1 (Nat.le_of_ble_eq_true rfl) (Nat.le_of_ble_eq_true rfl) (Nat.le_of_ble_eq_true rfl) dX2_move_84 (fun H locs cells slots hX => ?_)
    refine lv_icmp_ge (tgt := 139) hx hb dX2_move_87 (by decide) (fun c_3 => ?_) (fun c_3 => ?_)
    · replace hF := it_t hF c_3
      exact hk139 x0 x1 x2 x3 x4 h hF H locs cells slots ls hX (lv_sub hl [0, 1, 2, 3, 4] rfl)
    · replace hF := it_f hF c_3
      refine X_aload_n hx hb dX2_move_90 rfl (lv_at hl 0 rfl) ?_
      obtain ⟨h_4, hF⟩ := gd_ok hF
      obtain ⟨h_5, hF⟩ := gd_ok hF
      refine gX_X2_3 hC hX h_4 h_5 dX2_move_91 ?_
      refine lv_topr (fun r_6 er_6 => ?_)
      replace hF := lt_at hF er_6
      obtain ⟨h_7, hF⟩ := gd_ok hF
      refine gX_X2_135 hC hX h_7 dX2_move_94 ?_
      refine lv_topr (fun r_8 er_8 => ?_)
      replace hF := lt_at hF er_8
      refine lv_sipush (v := 256) hx hb dX2_move_97 (by decide) ?_
      refine lv_iload_n hx hb dX2_move_100 rfl (lv_at hl 3 rfl) ?_
      refine lv_imul hx hb dX2_move_101 ?_
      refine X_aload_n hx hb dX2_move_102 rfl (lv_at hl 2 rfl) ?_
      refine lv_iload hx hb dX2_move_103 (lv_at hl 4 rfl) ?_
      refine lv_iload hx hb dX2_move_105 (lv_at hl 5 rfl) ?_
      obtain ⟨h_9, hF⟩ := gd_ok hF
      obtain ⟨r_11, hc_10, hF⟩ := bd_ok hF
      refine iX_X2_139 hC hX h_9 hc_10 hl.1 (cat4 (Nat.le_of_ble_eq_true rfl)) (Nat.le_of_ble_eq_true rfl) (Nat.le_of_ble_eq_true rfl) dX2_move_107 (fun H locs cells slots hX => ?_)
      refine lv_iadd hx hb dX2_move_110 ?_
      refine lv_dup2_11 hx hb dX2_move_111 rfl (rv_cat _) ?_
      obtain ⟨h_12, hF⟩ := gd_ok hF
      obtain ⟨h_13, hF⟩ := gd_ok hF
      refine X_lald hC hX h_12 h_13 dX2_move_112 ?_
      refine X_aload_n hx hb dX2_move_113 rfl (lv_at hl 0 rfl) ?_
      obtain ⟨h_14, hF⟩ := gd_ok hF
      obtain ⟨h_15, hF⟩ := gd_ok hF
      refine gX_X2_3 hC hX h_14 h_15 dX2_move_114 ?_
      refine lv_topr (fun r_16 er_16 => ?_)
      replace hF := lt_at hF er_16
      obtain ⟨h_17, hF⟩ := gd_ok hF
      refine gX_X2_32 hC hX h_17 dX2_move_117 ?_
      refine lv_topr (fun r_18 er_18 => ?_)
      replace hF := lt_at hF er_18
      refine lv_iload_n hx hb dX2_move_120 rfl (lv_at hl 1 rfl) ?_
      obtain ⟨h_19, hF⟩ := gd_ok hF
      obtain ⟨h_20, hF⟩ := gd_ok hF
      refine X_aald hC hX h_19 h_20 dX2_move_121 ?_
      refine lv_topr (fun r_21 er_21 => ?_)
      replace hF := lt_at hF er_21
      refine lv_sipush (v := 256) hx hb dX2_move_122 (by decide) ?_
      refine lv_iload_n hx hb dX2_move_125 rfl (lv_at hl 3 rfl) ?_
      refine lv_imul hx hb dX2_move_126 ?_
      refine lv_iload hx hb dX2_move_127 (lv_at hl 4 rfl) ?_
      refine lv_iadd hx hb dX2_move_129 ?_
      obtain ⟨h_22, hF⟩ := gd_ok hF
      obtain ⟨h_23, hF⟩ := gd_ok hF
      refine X_lald hC hX h_22 h_23 dX2_move_130 ?_
      refine lv_ladd hx hb dX2_move_131 ?_
      obtain ⟨h_24, hF⟩ := gd_ok hF
      obtain ⟨h_25, hF⟩ := gd_ok hF
      refine X_last hC hX h_24 h_25 dX2_move_132 (fun H locs hX => ?_)
      obtain ⟨h_26, eh_26, hF⟩ := lt_ok hF
      rw [← eh_26] at hX
      obtain ⟨x5_27, ex5_27, hF⟩ := lt_ok hF
      refine lv_iinc (v := x5_27) (lv' := [(5, .int x5_27), (0, rv x0), (1, .int x1), (2, rv x2), (3, .int x3), (4, .int x4)]) hx hb dX2_move_133 hl (k := 5) rfl (by rw [ex5_27]; rfl) (by decide) rfl (fun ls hl => ?_)
      refine lv_goto (tgt := 81) hx hb dX2_move_136 (by decide) ?_
      exact ih x0 x1 x2 x3 x4 x5_27 h_26 hF H locs cells slots ls hX (lv_sub hl [1, 2, 3, 4, 5, 0] rfl)
def F_X2_move_L44 (K : Nat → Nat) (k27 : Nat → Int32 → Nat → Int32 → TH → Option TH) : Nat → Nat → Int32 → Nat → Int32 → Int32 → TH → Option TH
  | 0, _, _, _, _, _, _ => none
  | fu + 1, x0, x1, x2, x3, x4, h =>
    if (256 : Int32) ≤ x4 then
      F_X2_move_b145 K k27 x0 x1 x2 x3 h
    else
      gd (hasF (hT h x0) 49 = true) <|
      gd (hR h 49 x0 ≠ 0) <|
      lt (hR h 49 x0) fun r_4 =>
      gd (hasF (hT h r_4) 0 = true) <|
      lt (hR h 0 r_4) fun r_6 =>
      gd (hT h r_6 = 35 ∨ hT h r_6 = 36 ∨ hT h r_6 = 37 ∨ hT h r_6 = 48) <|
      gd (inb x1 (hN h r_6)) <|
      lt (hY h r_6 (Int32.toNatClampNeg x1)) fun r_9 =>
      gd (hT h r_9 = 34) <|
      gd (inb (((256 : Int32) * x3) + x4) (hN h r_9)) <|
      if (lg_cmp (hL h r_9 (Int32.toNatClampNeg (((256 : Int32) * x3) + x4))) (0 : Int64)) = 0 then
        F_X2_move_b139 K (F_X2_move_L44 K k27 fu) x0 x1 x2 x3 x4 h
      else
        F_X2_move_L81 K (F_X2_move_b139 K (F_X2_move_L44 K k27 fu)) MN x0 x1 x2 x3 x4 (0 : Int32) h
set_option maxHeartbeats 4000000 in
theorem w_X2_move_L44 {p : Program} {l : Launch} {e : Env} {s : State} {m : MethodId} {args : Array Value} {below : List Frame} {meth : Method} {c : Code} {D : XD} {h0 : TH} (hC : XCx D cX2_move 6 RX2 h0 p (xRm 4 96 h0) s m args meth c) (hr : meth.sig.returnType = none) (hnh : c.exceptionTable.isEmpty = true) (hin : meth.name = "move") {x : TH} (k27 : Nat → Int32 → Nat → Int32 → TH → Option TH) (hk27 : ∀ (x0 : Nat) (x1 : Int32) (x2 : Nat) (x3 : Int32) (h : TH), k27 x0 x1 x2 x3 h = some x → XJ p l e (xRm 4 96 h0) s m args below meth c D 6 (.returned none) h0 x 27 [(0, rv x0), (1, .int x1), (2, rv x2), (3, .int x3)] [] h) :
    ∀ (fu : Nat) (x0 : Nat) (x1 : Int32) (x2 : Nat) (x3 : Int32) (x4 : Int32) (h : TH), F_X2_move_L44 D.2.2.2 k27 fu x0 x1 x2 x3 x4 h = some x → XJ p l e (xRm 4 96 h0) s m args below meth c D 6 (.returned none) h0 x 44 [(0, rv x0), (1, .int x1), (2, rv x2), (3, .int x3), (4, .int x4)] [] h := by
  have hx := hC.1
  have hb := hC.2.1
  intro fu
  induction fu with
  | zero => intro x0 x1 x2 x3 x4 h hF; exact nm_none hF
  | succ fu ih =>
    intro x0 x1 x2 x3 x4 h hF H locs cells slots ls hX hl
    rw [F_X2_move_L44] at hF
    refine lv_iload hx hb dX2_move_44 (lv_at hl 4 rfl) ?_
    refine lv_sipush (v := 256) hx hb dX2_move_46 (by decide) ?_
    refine lv_icmp_ge (tgt := 145) hx hb dX2_move_49 (by decide) (fun c_1 => ?_) (fun c_1 => ?_)
    · replace hF := it_t hF c_1
      exact w_X2_move_b145 hC hr hnh hin k27 hk27 x0 x1 x2 x3 h hF H locs cells slots ls hX (lv_sub hl [0, 1, 2, 3] rfl)
    · replace hF := it_f hF c_1
      refine X_aload_n hx hb dX2_move_52 rfl (lv_at hl 0 rfl) ?_
      obtain ⟨h_2, hF⟩ := gd_ok hF
      obtain ⟨h_3, hF⟩ := gd_ok hF
      refine gX_X2_3 hC hX h_2 h_3 dX2_move_53 ?_
      refine lv_topr (fun r_4 er_4 => ?_)
      replace hF := lt_at hF er_4
      obtain ⟨h_5, hF⟩ := gd_ok hF
      refine gX_X2_32 hC hX h_5 dX2_move_56 ?_
      refine lv_topr (fun r_6 er_6 => ?_)
      replace hF := lt_at hF er_6
      refine lv_iload_n hx hb dX2_move_59 rfl (lv_at hl 1 rfl) ?_
      obtain ⟨h_7, hF⟩ := gd_ok hF
      obtain ⟨h_8, hF⟩ := gd_ok hF
      refine X_aald hC hX h_7 h_8 dX2_move_60 ?_
      refine lv_topr (fun r_9 er_9 => ?_)
      replace hF := lt_at hF er_9
      refine lv_sipush (v := 256) hx hb dX2_move_61 (by decide) ?_
      refine lv_iload_n hx hb dX2_move_64 rfl (lv_at hl 3 rfl) ?_
      refine lv_imul hx hb dX2_move_65 ?_
      refine lv_iload hx hb dX2_move_66 (lv_at hl 4 rfl) ?_
      refine lv_iadd hx hb dX2_move_68 ?_
      obtain ⟨h_10, hF⟩ := gd_ok hF
      obtain ⟨h_11, hF⟩ := gd_ok hF
      refine X_lald hC hX h_10 h_11 dX2_move_69 ?_
      refine lv_lconst (v := 0) hx hb dX2_move_70 (by decide) ?_
      refine W.lcmp hx hb dX2_move_71 ?_
      refine lv_if_ne (tgt := 78) hx hb dX2_move_72 (by decide) (fun c_12 => ?_) (fun c_12 => ?_)
      · replace hF := it_f hF c_12
        refine lv_iconst (v := 0) hx hb dX2_move_78 (by decide) ?_
        refine lv_istore (lv' := [(5, .int (0 : Int32)), (0, rv x0), (1, .int x1), (2, rv x2), (3, .int x3), (4, .int x4)]) hx hb dX2_move_79 hl (by decide) rfl (fun ls hl => ?_)
        exact w_X2_move_L81 hC hr hnh hin (F_X2_move_b139 D.2.2.2 (F_X2_move_L44 D.2.2.2 k27 fu)) (w_X2_move_b139 hC hr hnh hin (F_X2_move_L44 D.2.2.2 k27 fu) ih) MN x0 x1 x2 x3 x4 (0 : Int32) h hF H locs cells slots ls hX (lv_sub hl [1, 2, 3, 4, 5, 0] rfl)
      · replace hF := it_t hF c_12
        refine lv_goto (tgt := 139) hx hb dX2_move_75 (by decide) ?_
        exact w_X2_move_b139 hC hr hnh hin (F_X2_move_L44 D.2.2.2 k27 fu) ih x0 x1 x2 x3 x4 h hF H locs cells slots ls hX (lv_sub hl [0, 1, 2, 3, 4] rfl)
def F_X2_move_L27 (K : Nat → Nat) : Nat → Nat → Int32 → Nat → Int32 → TH → Option TH
  | 0, _, _, _, _, _ => none
  | fu + 1, x0, x1, x2, x3, h =>
    gd (hasF (hT h x0) 49 = true) <|
    gd (hR h 49 x0 ≠ 0) <|
    lt (hR h 49 x0) fun r_3 =>
    gd (hasF (hT h r_3) 7 = true) <|
    lt (hR h 7 r_3) fun r_5 =>
    gd (hT h r_5 = 2) <|
    bd (F_X1_inputs K h r_5) fun r_8 =>
    if r_8 ≤ x3 then
      F_X2_move_b151 K x0 x1 h
    else
      F_X2_move_L44 K (F_X2_move_L27 K fu) MN x0 x1 x2 x3 (0 : Int32) h
set_option maxHeartbeats 4000000 in
theorem w_X2_move_L27 {p : Program} {l : Launch} {e : Env} {s : State} {m : MethodId} {args : Array Value} {below : List Frame} {meth : Method} {c : Code} {D : XD} {h0 : TH} (hC : XCx D cX2_move 6 RX2 h0 p (xRm 4 96 h0) s m args meth c) (hr : meth.sig.returnType = none) (hnh : c.exceptionTable.isEmpty = true) (hin : meth.name = "move") {x : TH} :
    ∀ (fu : Nat) (x0 : Nat) (x1 : Int32) (x2 : Nat) (x3 : Int32) (h : TH), F_X2_move_L27 D.2.2.2 fu x0 x1 x2 x3 h = some x → XJ p l e (xRm 4 96 h0) s m args below meth c D 6 (.returned none) h0 x 27 [(0, rv x0), (1, .int x1), (2, rv x2), (3, .int x3)] [] h := by
  have hx := hC.1
  have hb := hC.2.1
  intro fu
  induction fu with
  | zero => intro x0 x1 x2 x3 h hF; exact nm_none hF
  | succ fu ih =>
    intro x0 x1 x2 x3 h hF H locs cells slots ls hX hl
    rw [F_X2_move_L27] at hF
    refine lv_iload_n hx hb dX2_move_27 rfl (lv_at hl 3 rfl) ?_
    refine X_aload_n hx hb dX2_move_28 rfl (lv_at hl 0 rfl) ?_
    obtain ⟨h_1, hF⟩ := gd_ok hF
    obtain ⟨h_2, hF⟩ := gd_ok hF
    refine gX_X2_3 hC hX h_1 h_2 dX2_move_29 ?_
    refine lv_topr (fun r_3 er_3 => ?_)
    replace hF := lt_at hF er_3
    obtain ⟨h_4, hF⟩ := gd_ok hF
    refine gX_X2_36 hC hX h_4 dX2_move_32 ?_
    refine lv_topr (fun r_5 er_5 => ?_)
    replace hF := lt_at hF er_5
    obtain ⟨h_6, hF⟩ := gd_ok hF
    obtain ⟨r_8, hc_7, hF⟩ := bd_ok hF
    refine iX_X2_40 hC hX h_6 hc_7 hl.1 (Nat.le_of_ble_eq_true rfl) (Nat.le_of_ble_eq_true rfl) (Nat.le_of_ble_eq_true rfl) dX2_move_35 (fun H locs cells slots hX => ?_)
    refine lv_icmp_ge (tgt := 151) hx hb dX2_move_38 (by decide) (fun c_9 => ?_) (fun c_9 => ?_)
    · replace hF := it_t hF c_9
      exact w_X2_move_b151 hC hr hnh hin x0 x1 h hF H locs cells slots ls hX (lv_sub hl [0, 1] rfl)
    · replace hF := it_f hF c_9
      refine lv_iconst (v := 0) hx hb dX2_move_41 (by decide) ?_
      refine lv_istore (lv' := [(4, .int (0 : Int32)), (0, rv x0), (1, .int x1), (2, rv x2), (3, .int x3)]) hx hb dX2_move_42 hl (by decide) rfl (fun ls hl => ?_)
      exact w_X2_move_L44 hC hr hnh hin (F_X2_move_L27 D.2.2.2 fu) ih MN x0 x1 x2 x3 (0 : Int32) h hF H locs cells slots ls hX (lv_sub hl [1, 2, 3, 4, 0] rfl)
def F_X2_move_b25 (K : Nat → Nat) (x0 : Nat) (x1 : Int32) (x2 : Nat) (h : TH) : Option TH :=
  F_X2_move_L27 K MN x0 x1 x2 (0 : Int32) h
set_option maxHeartbeats 4000000 in
theorem w_X2_move_b25 {p : Program} {l : Launch} {e : Env} {s : State} {m : MethodId} {args : Array Value} {below : List Frame} {meth : Method} {c : Code} {D : XD} {h0 : TH} (hC : XCx D cX2_move 6 RX2 h0 p (xRm 4 96 h0) s m args meth c) (hr : meth.sig.returnType = none) (hnh : c.exceptionTable.isEmpty = true) (hin : meth.name = "move") {x : TH} :
    ∀ (x0 : Nat) (x1 : Int32) (x2 : Nat) (h : TH), F_X2_move_b25 D.2.2.2 x0 x1 x2 h = some x → XJ p l e (xRm 4 96 h0) s m args below meth c D 6 (.returned none) h0 x 25 [(0, rv x0), (1, .int x1), (2, rv x2)] [] h := by
  have hx := hC.1
  have hb := hC.2.1
  intro x0 x1 x2 h hF H locs cells slots ls hX hl
  rw [F_X2_move_b25] at hF
  refine lv_iconst (v := 0) hx hb dX2_move_25 (by decide) ?_
  refine lv_istore_n (i := 3) hx hb dX2_move_26 rfl hl (by decide) rfl (fun ls hl => ?_)
  replace hl : lv_has ls 6 [(3, .int (0 : Int32)), (0, rv x0), (1, .int x1), (2, rv x2)] := lv_subS hl (List.forall_mem_cons.mpr ⟨Or.inl rfl, (List.forall_mem_cons.mpr ⟨Or.inr ⟨List.mem_of_getElem? (i := 0) rfl, rfl⟩, (List.forall_mem_cons.mpr ⟨Or.inr ⟨List.mem_of_getElem? (i := 1) rfl, rfl⟩, (List.forall_mem_cons.mpr ⟨Or.inr ⟨List.mem_of_getElem? (i := 2) rfl, by simp [rv_cat]⟩, (fun _ h => nomatch h)⟩)⟩)⟩)⟩)
  exact w_X2_move_L27 hC hr hnh hin MN x0 x1 x2 (0 : Int32) h hF H locs cells slots ls hX (lv_sub hl [1, 2, 3, 0] rfl)
def F_X2_move_L2 (K : Nat → Nat) : Nat → Nat → Int32 → Nat → Int32 → TH → Option TH
  | 0, _, _, _, _, _ => none
  | fu + 1, x0, x1, x2, x3, h =>
    if (2048 : Int32) ≤ x3 then
      F_X2_move_b25 K x0 x1 x2 h
    else
      gd (hasF (hT h x0) 49 = true) <|
      gd (hR h 49 x0 ≠ 0) <|
      lt (hR h 49 x0) fun r_4 =>
      gd (hasF (hT h r_4) 2 = true) <|
      lt (hR h 2 r_4) fun r_6 =>
      gd (hT h r_6 = 34) <|
      gd (inb x3 (hN h r_6)) <|
      lt (uL h r_6 (Int32.toNatClampNeg x3) (0 : Int64)) fun h_9 =>
      lt (x3 + (1 : Int32)) fun x3_10 =>
      F_X2_move_L2 K fu x0 x1 x2 x3_10 h_9
set_option maxHeartbeats 4000000 in
theorem w_X2_move_L2 {p : Program} {l : Launch} {e : Env} {s : State} {m : MethodId} {args : Array Value} {below : List Frame} {meth : Method} {c : Code} {D : XD} {h0 : TH} (hC : XCx D cX2_move 6 RX2 h0 p (xRm 4 96 h0) s m args meth c) (hr : meth.sig.returnType = none) (hnh : c.exceptionTable.isEmpty = true) (hin : meth.name = "move") {x : TH} :
    ∀ (fu : Nat) (x0 : Nat) (x1 : Int32) (x2 : Nat) (x3 : Int32) (h : TH), F_X2_move_L2 D.2.2.2 fu x0 x1 x2 x3 h = some x → XJ p l e (xRm 4 96 h0) s m args below meth c D 6 (.returned none) h0 x 2 [(0, rv x0), (1, .int x1), (2, rv x2), (3, .int x3)] [] h := by
  have hx := hC.1
  have hb := hC.2.1
  intro fu
  induction fu with
  | zero => intro x0 x1 x2 x3 h hF; exact nm_none hF
  | succ fu ih =>
    intro x0 x1 x2 x3 h hF H locs cells slots ls hX hl
    rw [F_X2_move_L2] at hF
    refine lv_iload_n hx hb dX2_move_2 rfl (lv_at hl 3 rfl) ?_
    refine lv_sipush (v := 2048) hx hb dX2_move_3 (by decide) ?_
    refine lv_icmp_ge (tgt := 25) hx hb dX2_move_6 (by decide) (fun c_1 => ?_) (fun c_1 => ?_)
    · replace hF := it_t hF c_1
      exact w_X2_move_b25 hC hr hnh hin x0 x1 x2 h hF H locs cells slots ls hX (lv_sub hl [0, 1, 2] rfl)
    · replace hF := it_f hF c_1
      refine X_aload_n hx hb dX2_move_9 rfl (lv_at hl 0 rfl) ?_
      obtain ⟨h_2, hF⟩ := gd_ok hF
      obtain ⟨h_3, hF⟩ := gd_ok hF
      refine gX_X2_3 hC hX h_2 h_3 dX2_move_10 ?_
      refine lv_topr (fun r_4 er_4 => ?_)
      replace hF := lt_at hF er_4
      obtain ⟨h_5, hF⟩ := gd_ok hF
      refine gX_X2_135 hC hX h_5 dX2_move_13 ?_
      refine lv_topr (fun r_6 er_6 => ?_)
      replace hF := lt_at hF er_6
      refine lv_iload_n hx hb dX2_move_16 rfl (lv_at hl 3 rfl) ?_
      refine lv_lconst (v := 0) hx hb dX2_move_17 (by decide) ?_
      obtain ⟨h_7, hF⟩ := gd_ok hF
      obtain ⟨h_8, hF⟩ := gd_ok hF
      refine X_last hC hX h_7 h_8 dX2_move_18 (fun H locs hX => ?_)
      obtain ⟨h_9, eh_9, hF⟩ := lt_ok hF
      rw [← eh_9] at hX
      obtain ⟨x3_10, ex3_10, hF⟩ := lt_ok hF
      refine lv_iinc (v := x3_10) hx hb dX2_move_19 hl (k := 3) rfl (by rw [ex3_10]; rfl) (by decide) rfl (fun ls hl => ?_)
      replace hl : lv_has ls 6 [(3, .int x3_10), (0, rv x0), (1, .int x1), (2, rv x2)] := lv_subS hl (List.forall_mem_cons.mpr ⟨Or.inl rfl, (List.forall_mem_cons.mpr ⟨Or.inr ⟨List.mem_of_getElem? (i := 0) rfl, rfl⟩, (List.forall_mem_cons.mpr ⟨Or.inr ⟨List.mem_of_getElem? (i := 1) rfl, rfl⟩, (List.forall_mem_cons.mpr ⟨Or.inr ⟨List.mem_of_getElem? (i := 2) rfl, by simp [rv_cat]⟩, (fun _ h => nomatch h)⟩)⟩)⟩)⟩)
      refine lv_goto (tgt := 2) hx hb dX2_move_22 (by decide) ?_
      exact ih x0 x1 x2 x3_10 h_9 hF H locs cells slots ls hX (lv_sub hl [1, 2, 3, 0] rfl)
def F_X2_move (K : Nat → Nat) (a0 : Nat) (b0 : Int32) (b1 : Nat) (h : TH) : Option TH :=
  F_X2_move_L2 K MN a0 b0 b1 (0 : Int32) h
set_option maxHeartbeats 4000000 in
theorem w_X2_move {p : Program} {l : Launch} {e : Env} {s : State} {m : MethodId} {args : Array Value} {below : List Frame} {meth : Method} {c : Code} {D : XD} {h0 : TH} (hC : XCx D cX2_move 6 RX2 h0 p (xRm 4 96 h0) s m args meth c) (hr : meth.sig.returnType = none) (hnh : c.exceptionTable.isEmpty = true) (hin : meth.name = "move") {x : TH} :
    ∀ (a0 : Nat) (b0 : Int32) (b1 : Nat) (h : TH), F_X2_move D.2.2.2 a0 b0 b1 h = some x → XJ p l e (xRm 4 96 h0) s m args below meth c D 6 (.returned none) h0 x 0 [(0, rv a0), (1, .int b0), (2, rv b1)] [] h := by
  have hx := hC.1
  have hb := hC.2.1
  intro a0 b0 b1 h hF H locs cells slots ls hX hl
  rw [F_X2_move] at hF
  refine lv_iconst (v := 0) hx hb dX2_move_0 (by decide) ?_
  refine lv_istore_n (i := 3) hx hb dX2_move_1 rfl hl (by decide) rfl (fun ls hl => ?_)
  replace hl : lv_has ls 6 [(3, .int (0 : Int32)), (0, rv a0), (1, .int b0), (2, rv b1)] := lv_subS hl (List.forall_mem_cons.mpr ⟨Or.inl rfl, (List.forall_mem_cons.mpr ⟨Or.inr ⟨List.mem_of_getElem? (i := 0) rfl, rfl⟩, (List.forall_mem_cons.mpr ⟨Or.inr ⟨List.mem_of_getElem? (i := 1) rfl, rfl⟩, (List.forall_mem_cons.mpr ⟨Or.inr ⟨List.mem_of_getElem? (i := 2) rfl, by simp [rv_cat]⟩, (fun _ h => nomatch h)⟩)⟩)⟩)⟩)
  exact w_X2_move_L2 hC hr hnh hin MN a0 b0 b1 (0 : Int32) h hF H locs cells slots ls hX (lv_sub hl [1, 2, 3, 0] rfl)
theorem m_X2_move (l : Launch) (D : XD) (a0 : Nat) (b0 : Int32) (b1 : Nat) (h : TH) (x : TH) (hF : F_X2_move D.2.2.2 a0 b0 b1 h = some x) : XMt l yX2_move (ws_ yX2_move cX2_move 6 (none)) 4 96 D [rv a0, .int b0, rv b1] h (.returned none) x := by
  refine x_met (by decide +kernel) ?_ ?_
  · simp [lg_sl, rv_cat, cat_i, cat_l]
  intro p e s m below meth c hC hr hnh hin ls hl hX
  replace hl : lv_has ls 6 [(0, rv a0), (1, .int b0), (2, rv b1)] := by simpa [lv_args, rv_cat, cat_i, cat_l] using hl
  exact w_X2_move hC hr hnh hin a0 b0 b1 h hF s.heap [] 0 0 ls hX hl
theorem gX_X18_19 {p : Program} {l : Launch} {e : Env} {R : Room} {s : State} {m : MethodId} {args : Array Value} {below : List Frame} {meth : Method} {c : Code} {H : Heap} {locs : List Loc} {cells slots nL : Nat} {Q : State → Prop} {D : XD} {h0 h : TH} {cc : ByteArray} {pc : Nat} {ls : Array Slot} {rest : List Value} (hC : XCx D cc nL RX18 h0 p R s m args meth c) (hX : XSt D s h0 h H locs cells slots) {a : Nat} (hf : hasF (hT h a) 102 = true) (hdg : decode cc pc = .ok (.getfield 19, 3)) (kk : W p l e R s m args below meth c H locs cells slots Q (F0 m (pc + 3) ls (.int (hI h 102 a) :: rest))) : W p l e R s m args below meth c H locs cells slots Q (F0 m pc ls (rv a :: rest)) :=
  X_geti hC hX 102 hf rfl q1379 (fun _ h => h) hdg kk
theorem gX_X18_9 {p : Program} {l : Launch} {e : Env} {R : Room} {s : State} {m : MethodId} {args : Array Value} {below : List Frame} {meth : Method} {c : Code} {H : Heap} {locs : List Loc} {cells slots nL : Nat} {Q : State → Prop} {D : XD} {h0 h : TH} {cc : ByteArray} {pc : Nat} {ls : Array Slot} {rest : List Value} (hC : XCx D cc nL RX18 h0 p R s m args meth c) (hX : XSt D s h0 h H locs cells slots) {a : Nat} (hf : hasF (hT h a) 101 = true) (hdg : decode cc pc = .ok (.getfield 9, 3)) (kk : W p l e R s m args below meth c H locs cells slots Q (F0 m (pc + 3) ls (rv (hR h 101 a) :: rest))) : W p l e R s m args below meth c H locs cells slots Q (F0 m pc ls (rv a :: rest)) :=
  X_getr hC hX 101 hf rfl (fun q => absurd q (by decide)) q1375 (fun _ h => h) hdg kk
/-! BlindCards$Open.seen -/
def F_X18_seen_L4 (K : Nat → Nat) (h : TH) : Nat → Nat → Int32 → Int32 → Int32 → Option Int32
  | 0, _, _, _, _ => none
  | fu + 1, x0, x1, x2, x3 =>
    gd (hasF (hT h x0) 102 = true) <|
    if (hI h 102 x0) ≤ x3 then
      some x2
    else
      gd (hasF (hT h x0) 101 = true) <|
      lt (hR h 101 x0) fun r_4 =>
      gd (hT h r_4 = 31 ∨ hT h r_4 = 43) <|
      gd (inb x3 (hN h r_4)) <|
      lt ((x2 ||| (((x1 >>> ((hA h r_4 (Int32.toNatClampNeg x3)) &&& 31)) &&& (1 : Int32)) <<< (x3 &&& 31)))) fun x_7 =>
      lt (x3 + (1 : Int32)) fun x3_8 =>
      F_X18_seen_L4 K h fu x0 x1 x_7 x3_8
set_option maxHeartbeats 4000000 in
theorem w_X18_seen_L4 {p : Program} {l : Launch} {e : Env} {s : State} {m : MethodId} {args : Array Value} {below : List Frame} {meth : Method} {c : Code} {D : XD} {h : TH} (hC : XCx D cX18_seen 4 RX18 h p (xRm 0 0 h) s m args meth c) (hr : meth.sig.returnType = some .int) (hnh : c.exceptionTable.isEmpty = true) (hin : meth.name = "seen") {x : Int32} :
    ∀ (fu : Nat) (x0 : Nat) (x1 : Int32) (x2 : Int32) (x3 : Int32), F_X18_seen_L4 D.2.2.2 h fu x0 x1 x2 x3 = some x → XJ p l e (xRm 0 0 h) s m args below meth c D 4 (.returned (some (.int x))) h h 4 [(0, rv x0), (1, .int x1), (2, .int x2), (3, .int x3)] [] h := by
  have hx := hC.1
  have hb := hC.2.1
  intro fu
  induction fu with
  | zero => intro x0 x1 x2 x3 hF; exact nm_none hF
  | succ fu ih =>
    intro x0 x1 x2 x3 hF H locs cells slots ls hX hl
    rw [F_X18_seen_L4] at hF
    refine lv_iload_n hx hb dX18_seen_4 rfl (lv_at hl 3 rfl) ?_
    refine X_aload_n hx hb dX18_seen_5 rfl (lv_at hl 0 rfl) ?_
    obtain ⟨h_1, hF⟩ := gd_ok hF
    refine gX_X18_19 hC hX h_1 dX18_seen_6 ?_
    refine lv_icmp_ge (tgt := 33) hx hb dX18_seen_9 (by decide) (fun c_2 => ?_) (fun c_2 => ?_)
    · replace hF := it_t hF c_2
      refine lv_iload_n hx hb dX18_seen_33 rfl (lv_at hl 2 rfl) ?_
      exact x_reti hC hX hr rfl (Option.some.inj hF) rfl dX18_seen_34
    · replace hF := it_f hF c_2
      refine lv_iload_n hx hb dX18_seen_12 rfl (lv_at hl 2 rfl) ?_
      refine lv_iload_n hx hb dX18_seen_13 rfl (lv_at hl 1 rfl) ?_
      refine X_aload_n hx hb dX18_seen_14 rfl (lv_at hl 0 rfl) ?_
      obtain ⟨h_3, hF⟩ := gd_ok hF
      refine gX_X18_9 hC hX h_3 dX18_seen_15 ?_
      refine lv_topr (fun r_4 er_4 => ?_)
      replace hF := lt_at hF er_4
      refine lv_iload_n hx hb dX18_seen_18 rfl (lv_at hl 3 rfl) ?_
      obtain ⟨h_5, hF⟩ := gd_ok hF
      obtain ⟨h_6, hF⟩ := gd_ok hF
      refine X_iald hC hX h_5 h_6 dX18_seen_19 ?_
      refine lv_ishr hx hb dX18_seen_20 ?_
      refine lv_iconst (v := 1) hx hb dX18_seen_21 (by decide) ?_
      refine lv_iand hx hb dX18_seen_22 ?_
      refine lv_iload_n hx hb dX18_seen_23 rfl (lv_at hl 3 rfl) ?_
      refine lv_ishl hx hb dX18_seen_24 ?_
      refine lv_ior hx hb dX18_seen_25 ?_
      refine lv_topi (fun x_7 ex_7 => ?_)
      replace hF := lt_at hF ex_7
      refine lv_istore_n (lv' := [(2, .int x_7), (0, rv x0), (1, .int x1), (3, .int x3)]) hx hb dX18_seen_26 rfl hl (by decide) rfl (fun ls hl => ?_)
      obtain ⟨x3_8, ex3_8, hF⟩ := lt_ok hF
      refine lv_iinc (v := x3_8) (lv' := [(3, .int x3_8), (2, .int x_7), (0, rv x0), (1, .int x1)]) hx hb dX18_seen_27 hl (k := 3) rfl (by rw [ex3_8]; rfl) (by decide) rfl (fun ls hl => ?_)
      refine lv_goto (tgt := 4) hx hb dX18_seen_30 (by decide) ?_
      exact ih x0 x1 x_7 x3_8 hF H locs cells slots ls hX (lv_sub hl [2, 3, 1, 0] rfl)
def F_X18_seen (K : Nat → Nat) (h : TH) (a0 : Nat) (b0 : Int32) : Option Int32 :=
  F_X18_seen_L4 K h MN a0 b0 (0 : Int32) (0 : Int32)
set_option maxHeartbeats 4000000 in
theorem w_X18_seen {p : Program} {l : Launch} {e : Env} {s : State} {m : MethodId} {args : Array Value} {below : List Frame} {meth : Method} {c : Code} {D : XD} {h : TH} (hC : XCx D cX18_seen 4 RX18 h p (xRm 0 0 h) s m args meth c) (hr : meth.sig.returnType = some .int) (hnh : c.exceptionTable.isEmpty = true) (hin : meth.name = "seen") {x : Int32} :
    ∀ (a0 : Nat) (b0 : Int32), F_X18_seen D.2.2.2 h a0 b0 = some x → XJ p l e (xRm 0 0 h) s m args below meth c D 4 (.returned (some (.int x))) h h 0 [(0, rv a0), (1, .int b0)] [] h := by
  have hx := hC.1
  have hb := hC.2.1
  intro a0 b0 hF H locs cells slots ls hX hl
  rw [F_X18_seen] at hF
  refine lv_iconst (v := 0) hx hb dX18_seen_0 (by decide) ?_
  refine lv_istore_n (lv' := [(2, .int (0 : Int32)), (0, rv a0), (1, .int b0)]) hx hb dX18_seen_1 rfl hl (by decide) rfl (fun ls hl => ?_)
  refine lv_iconst (v := 0) hx hb dX18_seen_2 (by decide) ?_
  refine lv_istore_n (lv' := [(3, .int (0 : Int32)), (2, .int (0 : Int32)), (0, rv a0), (1, .int b0)]) hx hb dX18_seen_3 rfl hl (by decide) rfl (fun ls hl => ?_)
  exact w_X18_seen_L4 hC hr hnh hin MN a0 b0 (0 : Int32) (0 : Int32) hF H locs cells slots ls hX (lv_sub hl [2, 3, 1, 0] rfl)
theorem m_X18_seen (l : Launch) (D : XD) (a0 : Nat) (b0 : Int32) (h : TH) (x : Int32) (hF : F_X18_seen D.2.2.2 h a0 b0 = some x) : XMt l yX18_seen (ws_ yX18_seen cX18_seen 4 (some .int)) 0 0 D [rv a0, .int b0] h (.returned (some (.int x))) h := by
  refine x_met (by decide +kernel) ?_ ?_
  · simp [lg_sl, rv_cat, cat_i, cat_l]
  intro p e s m below meth c hC hr hnh hin ls hl hX
  replace hl : lv_has ls 4 [(0, rv a0), (1, .int b0)] := by simpa [lv_args, rv_cat, cat_i, cat_l] using hl
  exact w_X18_seen hC hr hnh hin a0 b0 hF s.heap [] 0 0 ls hX hl
/-! BlindCards$Step.needs -/
def F_X6_needs (K : Nat → Nat) (h : TH) (a0 : Nat) : Option Int32 :=
  some (0 : Int32)
set_option maxHeartbeats 4000000 in
theorem w_X6_needs {p : Program} {l : Launch} {e : Env} {s : State} {m : MethodId} {args : Array Value} {below : List Frame} {meth : Method} {c : Code} {D : XD} {h : TH} (hC : XCx D cX6_needs 1 RX6 h p (xRm 0 0 h) s m args meth c) (hr : meth.sig.returnType = some .int) (hnh : c.exceptionTable.isEmpty = true) (hin : meth.name = "needs") {x : Int32} :
    ∀ (a0 : Nat), F_X6_needs D.2.2.2 h a0 = some x → XJ p l e (xRm 0 0 h) s m args below meth c D 1 (.returned (some (.int x))) h h 0 [(0, rv a0)] [] h := by
  have hx := hC.1
  have hb := hC.2.1
  intro a0 hF H locs cells slots ls hX hl
  rw [F_X6_needs] at hF
  refine lv_iconst (v := 0) hx hb dX6_needs_0 (by decide) ?_
  exact x_reti hC hX hr rfl (Option.some.inj hF) rfl dX6_needs_1
theorem m_X6_needs (l : Launch) (D : XD) (a0 : Nat) (h : TH) (x : Int32) (hF : F_X6_needs D.2.2.2 h a0 = some x) : XMt l yX6_needs (ws_ yX6_needs cX6_needs 1 (some .int)) 0 0 D [rv a0] h (.returned (some (.int x))) h := by
  refine x_met (by decide +kernel) ?_ ?_
  · simp [lg_sl, rv_cat, cat_i, cat_l]
  intro p e s m below meth c hC hr hnh hin ls hl hX
  replace hl : lv_has ls 1 [(0, rv a0)] := by simpa [lv_args, rv_cat, cat_i, cat_l] using hl
  exact w_X6_needs hC hr hnh hin a0 hF s.heap [] 0 0 ls hX hl
theorem gX_X16_15 {p : Program} {l : Launch} {e : Env} {R : Room} {s : State} {m : MethodId} {args : Array Value} {below : List Frame} {meth : Method} {c : Code} {H : Heap} {locs : List Loc} {cells slots nL : Nat} {Q : State → Prop} {D : XD} {h0 h : TH} {cc : ByteArray} {pc : Nat} {ls : Array Slot} {rest : List Value} (hC : XCx D cc nL RX16 h0 p R s m args meth c) (hX : XSt D s h0 h H locs cells slots) {a : Nat} (hf : hasF (hT h a) 97 = true) (hdg : decode cc pc = .ok (.getfield 15, 3)) (kk : W p l e R s m args below meth c H locs cells slots Q (F0 m (pc + 3) ls (.int (hI h 97 a) :: rest))) : W p l e R s m args below meth c H locs cells slots Q (F0 m pc ls (rv a :: rest)) :=
  X_geti hC hX 97 hf rfl q1307 (fun _ h => h) hdg kk
/-! BlindCards$Told.needs -/
def F_X16_needs (K : Nat → Nat) (h : TH) (a0 : Nat) : Option Int32 :=
  gd (hasF (hT h a0) 97 = true) <|
  some (hI h 97 a0)
set_option maxHeartbeats 4000000 in
theorem w_X16_needs {p : Program} {l : Launch} {e : Env} {s : State} {m : MethodId} {args : Array Value} {below : List Frame} {meth : Method} {c : Code} {D : XD} {h : TH} (hC : XCx D cX16_needs 1 RX16 h p (xRm 0 0 h) s m args meth c) (hr : meth.sig.returnType = some .int) (hnh : c.exceptionTable.isEmpty = true) (hin : meth.name = "needs") {x : Int32} :
    ∀ (a0 : Nat), F_X16_needs D.2.2.2 h a0 = some x → XJ p l e (xRm 0 0 h) s m args below meth c D 1 (.returned (some (.int x))) h h 0 [(0, rv a0)] [] h := by
  have hx := hC.1
  have hb := hC.2.1
  intro a0 hF H locs cells slots ls hX hl
  rw [F_X16_needs] at hF
  refine X_aload_n hx hb dX16_needs_0 rfl (lv_at hl 0 rfl) ?_
  obtain ⟨h_1, hF⟩ := gd_ok hF
  refine gX_X16_15 hC hX h_1 dX16_needs_1 ?_
  exact x_reti hC hX hr rfl (Option.some.inj hF) rfl dX16_needs_4
theorem m_X16_needs (l : Launch) (D : XD) (a0 : Nat) (h : TH) (x : Int32) (hF : F_X16_needs D.2.2.2 h a0 = some x) : XMt l yX16_needs (ws_ yX16_needs cX16_needs 1 (some .int)) 0 0 D [rv a0] h (.returned (some (.int x))) h := by
  refine x_met (by decide +kernel) ?_ ?_
  · simp [lg_sl, rv_cat, cat_i, cat_l]
  intro p e s m below meth c hC hr hnh hin ls hl hX
  replace hl : lv_has ls 1 [(0, rv a0)] := by simpa [lv_args, rv_cat, cat_i, cat_l] using hl
  exact w_X16_needs hC hr hnh hin a0 hF s.heap [] 0 0 ls hX hl
theorem gX_J2_9 {p : Program} {l : Launch} {e : Env} {R : Room} {s : State} {m : MethodId} {args : Array Value} {below : List Frame} {meth : Method} {c : Code} {H : Heap} {locs : List Loc} {cells slots nL : Nat} {Q : State → Prop} {D : XD} {h0 h : TH} {cc : ByteArray} {pc : Nat} {ls : Array Slot} {rest : List Value} (hC : XCx D cc nL RJ2 h0 p R s m args meth c) (hX : XSt D s h0 h H locs cells slots) {a : Nat} (hf : hasF (hT h a) 41 = true) (hdg : decode cc pc = .ok (.getfield 9, 3)) (kk : W p l e R s m args below meth c H locs cells slots Q (F0 m (pc + 3) ls (rv (hR h 41 a) :: rest))) : W p l e R s m args below meth c H locs cells slots Q (F0 m pc ls (rv a :: rest)) :=
  X_getr hC hX 41 hf rfl (fun q => absurd q (by decide)) q203 (fun _ h => h) hdg kk
/-! java/util/ArrayList.elementData -/
def F_J2_elementData (K : Nat → Nat) (h : TH) (a0 : Nat) (b0 : Int32) : Option Nat :=
  gd (hasF (hT h a0) 41 = true) <|
  lt (hR h 41 a0) fun r_2 =>
  gd (hT h r_2 = 35 ∨ hT h r_2 = 36 ∨ hT h r_2 = 37 ∨ hT h r_2 = 48) <|
  gd (inb b0 (hN h r_2)) <|
  lt (hY h r_2 (Int32.toNatClampNeg b0)) fun r_5 =>
  some r_5
set_option maxHeartbeats 4000000 in
theorem w_J2_elementData {p : Program} {l : Launch} {e : Env} {s : State} {m : MethodId} {args : Array Value} {below : List Frame} {meth : Method} {c : Code} {D : XD} {h : TH} (hC : XCx D cJ2_elementData 2 RJ2 h p (xRm 0 0 h) s m args meth c) (hr : meth.sig.returnType = some (.object "java/lang/Object")) (hnh : c.exceptionTable.isEmpty = true) (hin : meth.name = "elementData") {x : Nat} :
    ∀ (a0 : Nat) (b0 : Int32), F_J2_elementData D.2.2.2 h a0 b0 = some x → XJ p l e (xRm 0 0 h) s m args below meth c D 2 (.returned (some (rv x))) h h 0 [(0, rv a0), (1, .int b0)] [] h := by
  have hx := hC.1
  have hb := hC.2.1
  intro a0 b0 hF H locs cells slots ls hX hl
  rw [F_J2_elementData] at hF
  refine X_aload_n hx hb dJ2_elementData_0 rfl (lv_at hl 0 rfl) ?_
  obtain ⟨h_1, hF⟩ := gd_ok hF
  refine gX_J2_9 hC hX h_1 dJ2_elementData_1 ?_
  refine lv_topr (fun r_2 er_2 => ?_)
  replace hF := lt_at hF er_2
  refine lv_iload_n hx hb dJ2_elementData_4 rfl (lv_at hl 1 rfl) ?_
  obtain ⟨h_3, hF⟩ := gd_ok hF
  obtain ⟨h_4, hF⟩ := gd_ok hF
  refine X_aald hC hX h_3 h_4 dJ2_elementData_5 ?_
  refine lv_topr (fun r_5 er_5 => ?_)
  replace hF := lt_at hF er_5
  exact x_reta hC hX hr (Or.inl ⟨_, rfl⟩) (Option.some.inj hF) rfl dJ2_elementData_6
theorem m_J2_elementData (l : Launch) (D : XD) (a0 : Nat) (b0 : Int32) (h : TH) (x : Nat) (hF : F_J2_elementData D.2.2.2 h a0 b0 = some x) : XMt l yJ2_elementData (ws_ yJ2_elementData cJ2_elementData 2 (some (.object "java/lang/Object"))) 0 0 D [rv a0, .int b0] h (.returned (some (rv x))) h := by
  refine x_met (by decide +kernel) ?_ ?_
  · simp [lg_sl, rv_cat, cat_i, cat_l]
  intro p e s m below meth c hC hr hnh hin ls hl hX
  replace hl : lv_has ls 2 [(0, rv a0), (1, .int b0)] := by simpa [lv_args, rv_cat, cat_i, cat_l] using hl
  exact w_J2_elementData hC hr hnh hin a0 b0 hF s.heap [] 0 0 ls hX hl
/-! jdk/internal/util/Preconditions.checkIndex -/
def F_J7_checkIndex (K : Nat → Nat) (h : TH) (b0 : Int32) (b1 : Int32) (b2 : Nat) : Option Int32 :=
  if b0 < 0 then
    none
  else
    if b0 < b1 then
      some b0
    else
      none
set_option maxHeartbeats 4000000 in
theorem w_J7_checkIndex {p : Program} {l : Launch} {e : Env} {s : State} {m : MethodId} {args : Array Value} {below : List Frame} {meth : Method} {c : Code} {D : XD} {h : TH} (hC : XCx D cJ7_checkIndex 3 RJ7 h p (xRm 0 0 h) s m args meth c) (hr : meth.sig.returnType = some .int) (hnh : c.exceptionTable.isEmpty = true) (hin : meth.name = "checkIndex") {x : Int32} :
    ∀ (b0 : Int32) (b1 : Int32) (b2 : Nat), F_J7_checkIndex D.2.2.2 h b0 b1 b2 = some x → XJ p l e (xRm 0 0 h) s m args below meth c D 3 (.returned (some (.int x))) h h 0 [(0, .int b0), (1, .int b1), (2, rv b2)] [] h := by
  have hx := hC.1
  have hb := hC.2.1
  intro b0 b1 b2 hF H locs cells slots ls hX hl
  rw [F_J7_checkIndex] at hF
  refine lv_iload_n hx hb dJ7_checkIndex_0 rfl (lv_at hl 0 rfl) ?_
  refine lv_if_lt (tgt := 9) hx hb dJ7_checkIndex_1 (by decide) (fun c_1 => ?_) (fun c_1 => ?_)
  · replace hF := it_t hF c_1
    refine X_aload_n hx hb dJ7_checkIndex_9 rfl (lv_at hl 2 rfl) ?_
    refine lv_iload_n hx hb dJ7_checkIndex_10 rfl (lv_at hl 0 rfl) ?_
    refine lv_iload_n hx hb dJ7_checkIndex_11 rfl (lv_at hl 1 rfl) ?_
    exact nm_none hF
  · replace hF := it_f hF c_1
    refine lv_iload_n hx hb dJ7_checkIndex_4 rfl (lv_at hl 0 rfl) ?_
    refine lv_iload_n hx hb dJ7_checkIndex_5 rfl (lv_at hl 1 rfl) ?_
    refine lv_icmp_lt (tgt := 16) hx hb dJ7_checkIndex_6 (by decide) (fun c_2 => ?_) (fun c_2 => ?_)
    · replace hF := it_t hF c_2
      refine lv_iload_n hx hb dJ7_checkIndex_16 rfl (lv_at hl 0 rfl) ?_
      exact x_reti hC hX hr rfl (Option.some.inj hF) rfl dJ7_checkIndex_17
    · replace hF := it_f hF c_2
      refine X_aload_n hx hb dJ7_checkIndex_9 rfl (lv_at hl 2 rfl) ?_
      refine lv_iload_n hx hb dJ7_checkIndex_10 rfl (lv_at hl 0 rfl) ?_
      refine lv_iload_n hx hb dJ7_checkIndex_11 rfl (lv_at hl 1 rfl) ?_
      exact nm_none hF
theorem m_J7_checkIndex (l : Launch) (D : XD) (b0 : Int32) (b1 : Int32) (b2 : Nat) (h : TH) (x : Int32) (hF : F_J7_checkIndex D.2.2.2 h b0 b1 b2 = some x) : XMt l yJ7_checkIndex (ws_ yJ7_checkIndex cJ7_checkIndex 3 (some .int)) 0 0 D [.int b0, .int b1, rv b2] h (.returned (some (.int x))) h := by
  refine x_met (by decide +kernel) ?_ ?_
  · simp [lg_sl, rv_cat, cat_i, cat_l]
  intro p e s m below meth c hC hr hnh hin ls hl hX
  replace hl : lv_has ls 3 [(0, .int b0), (1, .int b1), (2, rv b2)] := by simpa [lv_args, rv_cat, cat_i, cat_l] using hl
  exact w_J7_checkIndex hC hr hnh hin b0 b1 b2 hF s.heap [] 0 0 ls hX hl
theorem iX_J6_105 {p : Program} {l : Launch} {e : Env} {R : Room} {s : State} {m : MethodId} {args : Array Value} {below : List Frame} {meth : Method} {c : Code} {H : Heap} {locs : List Loc} {cells slots nL : Nat} {Q : State → Prop} {D : XD} {h0 h : TH} {cc : ByteArray} {pc : Nat} {ls : Array Slot} {rest : List Value} (hC : XCx D cc nL RJ6 h0 p R s m args meth c) (hX : XSt D s h0 h H locs cells slots) {b0 : Int32} {b1 : Int32} {b2 : Nat} {x : Int32} (hcF : F_J7_checkIndex D.2.2.2 h b0 b1 b2 = some x) (hl : ls.size = nL) (hW : (rest.map fun v => v.category).sum ≤ 8) (hRf : 0 + 1 ≤ R.frames) (hRl : 22 ≤ R.locals) (hdg : decode cc pc = .ok (.invokestatic 105, 3)) (kk : ∀ (H1 : Heap) (locs1 : List Loc) (cells1 slots1 : Nat), XSt D s h0 h H1 locs1 cells1 slots1 → W p l e R s m args below meth c H1 locs1 cells1 slots1 Q (F0 m (pc + 3) ls (.int x :: rest))) : W p l e R s m args below meth c H locs cells slots Q (F0 m pc ls (rv b2 :: .int b1 :: .int b0 :: rest)) := by
  exact X_callS hC hX (As := [.int b0, .int b1, rv b2]) (m_J7_checkIndex l D b0 b1 b2 h _ hcF) (va_cwS 3 hC.2.2.2.2.1 (lw_S q510 q511 q139 q512) rfl rfl rfl (by decide +kernel) ⟨Nat.le_trans (Nat.le_of_ble_eq_true rfl) hRf, Nat.le_trans (Nat.le_of_ble_eq_true rfl) hRl⟩) rfl rfl hl hW hdg kk
/-! java/util/Objects.checkIndex -/
def F_J6_checkIndex (K : Nat → Nat) (h : TH) (b0 : Int32) (b1 : Int32) : Option Int32 :=
  bd (F_J7_checkIndex K h b0 b1 0) fun r_2 =>
  some r_2
set_option maxHeartbeats 4000000 in
theorem w_J6_checkIndex {p : Program} {l : Launch} {e : Env} {s : State} {m : MethodId} {args : Array Value} {below : List Frame} {meth : Method} {c : Code} {D : XD} {h : TH} (hC : XCx D cJ6_checkIndex 2 RJ6 h p (xRm 1 22 h) s m args meth c) (hr : meth.sig.returnType = some .int) (hnh : c.exceptionTable.isEmpty = true) (hin : meth.name = "checkIndex") {x : Int32} :
    ∀ (b0 : Int32) (b1 : Int32), F_J6_checkIndex D.2.2.2 h b0 b1 = some x → XJ p l e (xRm 1 22 h) s m args below meth c D 2 (.returned (some (.int x))) h h 0 [(0, .int b0), (1, .int b1)] [] h := by
  have hx := hC.1
  have hb := hC.2.1
  intro b0 b1 hF H locs cells slots ls hX hl
  rw [F_J6_checkIndex] at hF
  refine lv_iload_n hx hb dJ6_checkIndex_0 rfl (lv_at hl 0 rfl) ?_
  refine lv_iload_n hx hb dJ6_checkIndex_1 rfl (lv_at hl 1 rfl) ?_
  refine X_null hx hb dJ6_checkIndex_2 ?_
  obtain ⟨r_2, hc_1, hF⟩ := bd_ok hF
  refine iX_J6_105 hC hX hc_1 hl.1 (Nat.le_of_ble_eq_true rfl) (Nat.le_of_ble_eq_true rfl) (Nat.le_of_ble_eq_true rfl) dJ6_checkIndex_3 (fun H locs cells slots hX => ?_)
  exact x_reti hC hX hr rfl (Option.some.inj hF) rfl dJ6_checkIndex_6
theorem m_J6_checkIndex (l : Launch) (D : XD) (b0 : Int32) (b1 : Int32) (h : TH) (x : Int32) (hF : F_J6_checkIndex D.2.2.2 h b0 b1 = some x) : XMt l yJ6_checkIndex (ws_ yJ6_checkIndex cJ6_checkIndex 2 (some .int)) 1 22 D [.int b0, .int b1] h (.returned (some (.int x))) h := by
  refine x_met (by decide +kernel) ?_ ?_
  · exact Nat.le_of_ble_eq_true rfl
  intro p e s m below meth c hC hr hnh hin ls hl hX
  replace hl : lv_has ls 2 [(0, .int b0), (1, .int b1)] := by simpa [lv_args, rv_cat, cat_i, cat_l] using hl
  exact w_J6_checkIndex hC hr hnh hin b0 b1 hF s.heap [] 0 0 ls hX hl
theorem gX_J2_48 {p : Program} {l : Launch} {e : Env} {R : Room} {s : State} {m : MethodId} {args : Array Value} {below : List Frame} {meth : Method} {c : Code} {H : Heap} {locs : List Loc} {cells slots nL : Nat} {Q : State → Prop} {D : XD} {h0 h : TH} {cc : ByteArray} {pc : Nat} {ls : Array Slot} {rest : List Value} (hC : XCx D cc nL RJ2 h0 p R s m args meth c) (hX : XSt D s h0 h H locs cells slots) {a : Nat} (hf : hasF (hT h a) 42 = true) (hdg : decode cc pc = .ok (.getfield 48, 3)) (kk : W p l e R s m args below meth c H locs cells slots Q (F0 m (pc + 3) ls (.int (hI h 42 a) :: rest))) : W p l e R s m args below meth c H locs cells slots Q (F0 m pc ls (rv a :: rest)) :=
  X_geti hC hX 42 hf rfl q204 (fun _ h => h) hdg kk
theorem iX_J2_118 {p : Program} {l : Launch} {e : Env} {R : Room} {s : State} {m : MethodId} {args : Array Value} {below : List Frame} {meth : Method} {c : Code} {H : Heap} {locs : List Loc} {cells slots nL : Nat} {Q : State → Prop} {D : XD} {h0 h : TH} {cc : ByteArray} {pc : Nat} {ls : Array Slot} {rest : List Value} (hC : XCx D cc nL RJ2 h0 p R s m args meth c) (hX : XSt D s h0 h H locs cells slots) {b0 : Int32} {b1 : Int32} {x : Int32} (hcF : F_J6_checkIndex D.2.2.2 h b0 b1 = some x) (hl : ls.size = nL) (hW : (rest.map fun v => v.category).sum ≤ 8) (hRf : 1 + 1 ≤ R.frames) (hRl : 43 ≤ R.locals) (hdg : decode cc pc = .ok (.invokestatic 118, 3)) (kk : ∀ (H1 : Heap) (locs1 : List Loc) (cells1 slots1 : Nat), XSt D s h0 h H1 locs1 cells1 slots1 → W p l e R s m args below meth c H1 locs1 cells1 slots1 Q (F0 m (pc + 3) ls (.int x :: rest))) : W p l e R s m args below meth c H locs cells slots Q (F0 m pc ls (.int b1 :: .int b0 :: rest)) := by
  exact X_callS hC hX (As := [.int b0, .int b1]) (m_J6_checkIndex l D b0 b1 h _ hcF) (va_cwS 2 hC.2.2.2.2.1 (lw_S q507 q508 q138 q509) rfl rfl rfl (by decide +kernel) ⟨Nat.le_trans (Nat.le_of_ble_eq_true rfl) hRf, Nat.le_trans (Nat.le_of_ble_eq_true rfl) hRl⟩) rfl rfl hl hW hdg kk
theorem iX_J2_123 {p : Program} {l : Launch} {e : Env} {R : Room} {s : State} {m : MethodId} {args : Array Value} {below : List Frame} {meth : Method} {c : Code} {H : Heap} {locs : List Loc} {cells slots nL : Nat} {Q : State → Prop} {D : XD} {h0 h : TH} {cc : ByteArray} {pc : Nat} {ls : Array Slot} {rest : List Value} (hC : XCx D cc nL RJ2 h0 p R s m args meth c) (hX : XSt D s h0 h H locs cells slots) {a : Nat} {b0 : Int32} {x : Nat} (ht : hT h a = 3) (hcF : F_J2_elementData D.2.2.2 h a b0 = some x) (hl : ls.size = nL) (hW : (rest.map fun v => v.category).sum ≤ 8) (hRf : 0 + 1 ≤ R.frames) (hRl : 21 ≤ R.locals) (hdg : decode cc pc = .ok (.invokevirtual 123, 3)) (kk : ∀ (H1 : Heap) (locs1 : List Loc) (cells1 slots1 : Nat), XSt D s h0 h H1 locs1 cells1 slots1 → W p l e R s m args below meth c H1 locs1 cells1 slots1 Q (F0 m (pc + 3) ls (rv x :: rest))) : W p l e R s m args below meth c H locs cells slots Q (F0 m pc ls (.int b0 :: rv a :: rest)) := by
  have q := ht
  exact X_callV hC hX (by rw [q]; decide) (by rw [q]; rfl) (As := [.int b0]) (m_J2_elementData l D a b0 h _ hcF) (cwV 1 hC.2.2.2.2.1 (lw_V q513 q514 q515 q129 q516) rfl rfl rfl (by decide +kernel) ⟨Nat.le_trans (Nat.le_of_ble_eq_true rfl) hRf, Nat.le_trans (Nat.le_of_ble_eq_true rfl) hRl⟩) rfl rfl hl hW hdg kk
/-! java/util/ArrayList.get -/
def F_J2_get (K : Nat → Nat) (h : TH) (a0 : Nat) (b0 : Int32) : Option Nat :=
  gd (hasF (hT h a0) 42 = true) <|
  bd (F_J6_checkIndex K h b0 (hI h 42 a0)) fun r_3 =>
  gd (hT h a0 = 3) <|
  bd (F_J2_elementData K h a0 b0) fun r_6 =>
  some r_6
set_option maxHeartbeats 4000000 in
theorem w_J2_get {p : Program} {l : Launch} {e : Env} {s : State} {m : MethodId} {args : Array Value} {below : List Frame} {meth : Method} {c : Code} {D : XD} {h : TH} (hC : XCx D cJ2_get 2 RJ2 h p (xRm 2 43 h) s m args meth c) (hr : meth.sig.returnType = some (.object "java/lang/Object")) (hnh : c.exceptionTable.isEmpty = true) (hin : meth.name = "get") {x : Nat} :
    ∀ (a0 : Nat) (b0 : Int32), F_J2_get D.2.2.2 h a0 b0 = some x → XJ p l e (xRm 2 43 h) s m args below meth c D 2 (.returned (some (rv x))) h h 0 [(0, rv a0), (1, .int b0)] [] h := by
  have hx := hC.1
  have hb := hC.2.1
  intro a0 b0 hF H locs cells slots ls hX hl
  rw [F_J2_get] at hF
  refine lv_iload_n hx hb dJ2_get_0 rfl (lv_at hl 1 rfl) ?_
  refine X_aload_n hx hb dJ2_get_1 rfl (lv_at hl 0 rfl) ?_
  obtain ⟨h_1, hF⟩ := gd_ok hF
  refine gX_J2_48 hC hX h_1 dJ2_get_2 ?_
  obtain ⟨r_3, hc_2, hF⟩ := bd_ok hF
  refine iX_J2_118 hC hX hc_2 hl.1 (Nat.le_of_ble_eq_true rfl) (Nat.le_of_ble_eq_true rfl) (Nat.le_of_ble_eq_true rfl) dJ2_get_5 (fun H locs cells slots hX => ?_)
  refine lv_pop hx hb dJ2_get_8 rfl ?_
  refine X_aload_n hx hb dJ2_get_9 rfl (lv_at hl 0 rfl) ?_
  refine lv_iload_n hx hb dJ2_get_10 rfl (lv_at hl 1 rfl) ?_
  obtain ⟨h_4, hF⟩ := gd_ok hF
  obtain ⟨r_6, hc_5, hF⟩ := bd_ok hF
  refine iX_J2_123 hC hX h_4 hc_5 hl.1 (Nat.le_of_ble_eq_true rfl) (Nat.le_of_ble_eq_true rfl) (Nat.le_of_ble_eq_true rfl) dJ2_get_11 (fun H locs cells slots hX => ?_)
  exact x_reta hC hX hr (Or.inl ⟨_, rfl⟩) (Option.some.inj hF) rfl dJ2_get_14
theorem m_J2_get (l : Launch) (D : XD) (a0 : Nat) (b0 : Int32) (h : TH) (x : Nat) (hF : F_J2_get D.2.2.2 h a0 b0 = some x) : XMt l yJ2_get (ws_ yJ2_get cJ2_get 2 (some (.object "java/lang/Object"))) 2 43 D [rv a0, .int b0] h (.returned (some (rv x))) h := by
  refine x_met (by decide +kernel) ?_ ?_
  · simp [lg_sl, rv_cat, cat_i, cat_l]
  intro p e s m below meth c hC hr hnh hin ls hl hX
  replace hl : lv_has ls 2 [(0, rv a0), (1, .int b0)] := by simpa [lv_args, rv_cat, cat_i, cat_l] using hl
  exact w_J2_get hC hr hnh hin a0 b0 hF s.heap [] 0 0 ls hX hl
/-! java/util/ArrayList.size -/
def F_J2_size (K : Nat → Nat) (h : TH) (a0 : Nat) : Option Int32 :=
  gd (hasF (hT h a0) 42 = true) <|
  some (hI h 42 a0)
set_option maxHeartbeats 4000000 in
theorem w_J2_size {p : Program} {l : Launch} {e : Env} {s : State} {m : MethodId} {args : Array Value} {below : List Frame} {meth : Method} {c : Code} {D : XD} {h : TH} (hC : XCx D cJ2_size 1 RJ2 h p (xRm 0 0 h) s m args meth c) (hr : meth.sig.returnType = some .int) (hnh : c.exceptionTable.isEmpty = true) (hin : meth.name = "size") {x : Int32} :
    ∀ (a0 : Nat), F_J2_size D.2.2.2 h a0 = some x → XJ p l e (xRm 0 0 h) s m args below meth c D 1 (.returned (some (.int x))) h h 0 [(0, rv a0)] [] h := by
  have hx := hC.1
  have hb := hC.2.1
  intro a0 hF H locs cells slots ls hX hl
  rw [F_J2_size] at hF
  refine X_aload_n hx hb dJ2_size_0 rfl (lv_at hl 0 rfl) ?_
  obtain ⟨h_1, hF⟩ := gd_ok hF
  refine gX_J2_48 hC hX h_1 dJ2_size_1 ?_
  exact x_reti hC hX hr rfl (Option.some.inj hF) rfl dJ2_size_4
theorem m_J2_size (l : Launch) (D : XD) (a0 : Nat) (h : TH) (x : Int32) (hF : F_J2_size D.2.2.2 h a0 = some x) : XMt l yJ2_size (ws_ yJ2_size cJ2_size 1 (some .int)) 0 0 D [rv a0] h (.returned (some (.int x))) h := by
  refine x_met (by decide +kernel) ?_ ?_
  · simp [lg_sl, rv_cat, cat_i, cat_l]
  intro p e s m below meth c hC hr hnh hin ls hl hX
  replace hl : lv_has ls 1 [(0, rv a0)] := by simpa [lv_args, rv_cat, cat_i, cat_l] using hl
  exact w_J2_size hC hr hnh hin a0 hF s.heap [] 0 0 ls hX hl
/-! java/util/AbstractCollection.<init> -/
def F_J0_init (K : Nat → Nat) (h : TH) (a0 : Nat) : Option Unit :=
  gd (a0 ≠ 0) <|
  some ()
set_option maxHeartbeats 4000000 in
theorem w_J0_init {p : Program} {l : Launch} {e : Env} {s : State} {m : MethodId} {args : Array Value} {below : List Frame} {meth : Method} {c : Code} {D : XD} {h : TH} (hC : XCx D cJ0_init 1 RJ0 h p (xRm 1 30 h) s m args meth c) (hr : meth.sig.returnType = none) (hnh : c.exceptionTable.isEmpty = true) (hin : meth.name = "<init>") {x : Unit} :
    ∀ (a0 : Nat), F_J0_init D.2.2.2 h a0 = some x → XJ p l e (xRm 1 30 h) s m args below meth c D 1 (.returned none) h h 0 [(0, rv a0)] [] h := by
  have hx := hC.1
  have hb := hC.2.1
  intro a0 hF H locs cells slots ls hX hl
  rw [F_J0_init] at hF
  refine X_aload_n hx hb dJ0_init_0 rfl (lv_at hl 0 rfl) ?_
  obtain ⟨h_1, hF⟩ := gd_ok hF
  refine X_objInit hC h_1 q198 q175 q176 hl.1 (Nat.le_of_ble_eq_true rfl) (objlo (Nat.le_of_ble_eq_true rfl) (Nat.le_of_ble_eq_true rfl)) dJ0_init_1 ?_
  exact x_retv hC hX hr rfl dJ0_init_4
theorem m_J0_init (l : Launch) (D : XD) (a0 : Nat) (h : TH) (x : Unit) (hF : F_J0_init D.2.2.2 h a0 = some x) : XMt l yJ0_init (ws_ yJ0_init cJ0_init 1 (none)) 1 30 D [rv a0] h (.returned none) h := by
  refine x_met (by decide +kernel) ?_ ?_
  · simp [lg_sl, rv_cat, cat_i, cat_l]
  intro p e s m below meth c hC hr hnh hin ls hl hX
  replace hl : lv_has ls 1 [(0, rv a0)] := by simpa [lv_args, rv_cat, cat_i, cat_l] using hl
  exact w_J0_init hC hr hnh hin a0 hF s.heap [] 0 0 ls hX hl
theorem iX_J1_1 {p : Program} {l : Launch} {e : Env} {R : Room} {s : State} {m : MethodId} {args : Array Value} {below : List Frame} {meth : Method} {c : Code} {H : Heap} {locs : List Loc} {cells slots nL : Nat} {Q : State → Prop} {D : XD} {h0 h : TH} {cc : ByteArray} {pc : Nat} {ls : Array Slot} {rest : List Value} (hC : XCx D cc nL RJ1 h0 p R s m args meth c) (hX : XSt D s h0 h H locs cells slots) {a : Nat} {x : Unit} (ha : a ≠ 0) (hcF : F_J0_init D.2.2.2 h a = some x) (hl : ls.size = nL) (hW : (rest.map fun v => v.category).sum ≤ 8) (hRf : 1 + 1 ≤ R.frames) (hRl : 50 ≤ R.locals) (hdg : decode cc pc = .ok (.invokespecial 1, 3)) (kk : ∀ (H1 : Heap) (locs1 : List Loc) (cells1 slots1 : Nat), XSt D s h0 h H1 locs1 cells1 slots1 → W p l e R s m args below meth c H1 locs1 cells1 slots1 Q (F0 m (pc + 3) ls (rest))) : W p l e R s m args below meth c H locs cells slots Q (F0 m pc ls (rv a :: rest)) := by
  exact X_callI hC hX ha (As := []) (m_J0_init l D a h _ hcF) (cwI 0 hC.2.2.2.2.1 (lw_meth q197) rfl rfl rfl (hC.2.2.2.2.1 _ q127) (hC.2.2.2.2.1 _ q195) (hC.2.2.2.2.1 _ q196) rfl (by decide +kernel) ⟨Nat.le_trans (Nat.le_of_ble_eq_true rfl) hRf, Nat.le_trans (Nat.le_of_ble_eq_true rfl) hRl⟩) rfl rfl hl hW hdg kk
theorem pX_J1_7 {p : Program} {l : Launch} {e : Env} {R : Room} {s : State} {m : MethodId} {args : Array Value} {below : List Frame} {meth : Method} {c : Code} {H : Heap} {locs : List Loc} {cells slots nL : Nat} {Q : State → Prop} {D : XD} {h0 h : TH} {cc : ByteArray} {pc : Nat} {ls : Array Slot} {rest : List Value} (hC : XCx D cc nL RJ1 h0 p R s m args meth c) (hX : XSt D s h0 h H locs cells slots) {a : Nat} {v : Int32} (hf : hasF (hT h a) 40 = true) (hw : hT h a ≤ 24) (hdg : decode cc pc = .ok (.putfield 7, 3)) (kk : ∀ (H1 : Heap) (locs1 : List Loc), XSt D s h0 (uI h 40 a v) H1 locs1 cells slots → W p l e R s m args below meth c H1 locs1 cells slots Q (F0 m (pc + 3) ls rest)) : W p l e R s m args below meth c H locs cells slots Q (F0 m pc ls (.int v :: rv a :: rest)) :=
  X_puti hC hX 40 hf hw rfl rfl q205 (fun _ h => h) ⟨rfl, rfl⟩ hdg kk
/-! java/util/AbstractList.<init> -/
def F_J1_init (K : Nat → Nat) (a0 : Nat) (h : TH) : Option TH :=
  gd (a0 ≠ 0) <|
  bd (F_J0_init K h a0) fun u_3 =>
  gd (hasF (hT h a0) 40 = true) <|
  gd (hT h a0 ≤ 24) <|
  lt (uI h 40 a0 (0 : Int32)) fun h_6 =>
  some h_6
set_option maxHeartbeats 4000000 in
theorem w_J1_init {p : Program} {l : Launch} {e : Env} {s : State} {m : MethodId} {args : Array Value} {below : List Frame} {meth : Method} {c : Code} {D : XD} {h0 : TH} (hC : XCx D cJ1_init 1 RJ1 h0 p (xRm 2 50 h0) s m args meth c) (hr : meth.sig.returnType = none) (hnh : c.exceptionTable.isEmpty = true) (hin : meth.name = "<init>") {x : TH} :
    ∀ (a0 : Nat) (h : TH), F_J1_init D.2.2.2 a0 h = some x → XJ p l e (xRm 2 50 h0) s m args below meth c D 1 (.returned none) h0 x 0 [(0, rv a0)] [] h := by
  have hx := hC.1
  have hb := hC.2.1
  intro a0 h hF H locs cells slots ls hX hl
  rw [F_J1_init] at hF
  refine X_aload_n hx hb dJ1_init_0 rfl (lv_at hl 0 rfl) ?_
  obtain ⟨h_1, hF⟩ := gd_ok hF
  obtain ⟨u_3, hc_2, hF⟩ := bd_ok hF
  refine iX_J1_1 hC hX h_1 hc_2 hl.1 (Nat.le_of_ble_eq_true rfl) (Nat.le_of_ble_eq_true rfl) (Nat.le_of_ble_eq_true rfl) dJ1_init_1 (fun H locs cells slots hX => ?_)
  refine X_aload_n hx hb dJ1_init_4 rfl (lv_at hl 0 rfl) ?_
  refine lv_iconst (v := 0) hx hb dJ1_init_5 (by decide) ?_
  obtain ⟨h_4, hF⟩ := gd_ok hF
  obtain ⟨h_5, hF⟩ := gd_ok hF
  refine pX_J1_7 hC hX h_4 h_5 dJ1_init_6 (fun H locs hX => ?_)
  obtain ⟨h_6, eh_6, hF⟩ := lt_ok hF
  rw [← eh_6] at hX
  exact x_retv hC hX hr (Option.some.inj hF) dJ1_init_9
theorem m_J1_init (l : Launch) (D : XD) (a0 : Nat) (h : TH) (x : TH) (hF : F_J1_init D.2.2.2 a0 h = some x) : XMt l yJ1_init (ws_ yJ1_init cJ1_init 1 (none)) 2 50 D [rv a0] h (.returned none) x := by
  refine x_met (by decide +kernel) ?_ ?_
  · simp [lg_sl, rv_cat, cat_i, cat_l]
  intro p e s m below meth c hC hr hnh hin ls hl hX
  replace hl : lv_has ls 1 [(0, rv a0)] := by simpa [lv_args, rv_cat, cat_i, cat_l] using hl
  exact w_J1_init hC hr hnh hin a0 h hF s.heap [] 0 0 ls hX hl
theorem iX_J2_1 {p : Program} {l : Launch} {e : Env} {R : Room} {s : State} {m : MethodId} {args : Array Value} {below : List Frame} {meth : Method} {c : Code} {H : Heap} {locs : List Loc} {cells slots nL : Nat} {Q : State → Prop} {D : XD} {h0 h : TH} {cc : ByteArray} {pc : Nat} {ls : Array Slot} {rest : List Value} (hC : XCx D cc nL RJ2 h0 p R s m args meth c) (hX : XSt D s h0 h H locs cells slots) {a : Nat} {x : TH} (ha : a ≠ 0) (hcF : F_J1_init D.2.2.2 a h = some x) (hl : ls.size = nL) (hW : (rest.map fun v => v.category).sum ≤ 8) (hRf : 2 + 1 ≤ R.frames) (hRl : 70 ≤ R.locals) (hdg : decode cc pc = .ok (.invokespecial 1, 3)) (kk : ∀ (H1 : Heap) (locs1 : List Loc) (cells1 slots1 : Nat), XSt D s h0 x H1 locs1 cells1 slots1 → W p l e R s m args below meth c H1 locs1 cells1 slots1 Q (F0 m (pc + 3) ls (rest))) : W p l e R s m args below meth c H locs cells slots Q (F0 m pc ls (rv a :: rest)) := by
  exact X_callI hC hX ha (As := []) (m_J1_init l D a h _ hcF) (cwI 0 hC.2.2.2.2.1 (lw_meth q194) rfl rfl rfl (hC.2.2.2.2.1 _ q128) (hC.2.2.2.2.1 _ q192) (hC.2.2.2.2.1 _ q193) rfl (by decide +kernel) ⟨Nat.le_trans (Nat.le_of_ble_eq_true rfl) hRf, Nat.le_trans (Nat.le_of_ble_eq_true rfl) hRl⟩) rfl rfl hl hW hdg kk
theorem sX_J2_15 {p : Program} {l : Launch} {e : Env} {R : Room} {s : State} {m : MethodId} {args : Array Value} {below : List Frame} {meth : Method} {c : Code} {H : Heap} {locs : List Loc} {cells slots nL : Nat} {Q : State → Prop} {D : XD} {h0 h : TH} {cc : ByteArray} {pc : Nat} {ls : Array Slot} {rest : List Value} (hC : XCx D cc nL RJ2 h0 p R s m args meth c) (hX : XSt D s h0 h H locs cells slots) (hdg : decode cc pc = .ok (.getstatic 15, 3)) (kk : W p l e R s m args below meth c H locs cells slots Q (F0 m (pc + 3) ls (rv (D.2.2.2 35) :: rest))) : W p l e R s m args below meth c H locs cells slots Q (F0 m pc ls rest) :=
  X_gets hC hX (q := .inl 35) (List.mem_of_getElem? (i := 5) rfl) q201 hdg kk
theorem pX_J2_9 {p : Program} {l : Launch} {e : Env} {R : Room} {s : State} {m : MethodId} {args : Array Value} {below : List Frame} {meth : Method} {c : Code} {H : Heap} {locs : List Loc} {cells slots nL : Nat} {Q : State → Prop} {D : XD} {h0 h : TH} {cc : ByteArray} {pc : Nat} {ls : Array Slot} {rest : List Value} (hC : XCx D cc nL RJ2 h0 p R s m args meth c) (hX : XSt D s h0 h H locs cells slots) {a : Nat} {v : Nat} (hf : hasF (hT h a) 41 = true) (hw : hT h a ≤ 24) (hdg : decode cc pc = .ok (.putfield 9, 3)) (kk : ∀ (H1 : Heap) (locs1 : List Loc), XSt D s h0 (uR h 41 a v) H1 locs1 cells slots → W p l e R s m args below meth c H1 locs1 cells slots Q (F0 m (pc + 3) ls rest)) : W p l e R s m args below meth c H locs cells slots Q (F0 m pc ls (rv v :: rv a :: rest)) :=
  X_putr hC hX 41 hf hw rfl rfl q203 (fun _ h => h) hdg kk
/-! java/util/ArrayList.<init> -/
def F_J2_init (K : Nat → Nat) (a0 : Nat) (b0 : Int32) (h : TH) : Option TH :=
  gd (a0 ≠ 0) <|
  bd (F_J1_init K a0 h) fun h_3 =>
  if b0 ≤ 0 then
    if b0 = 0 then
      lt ((K 35)) fun r_6 =>
      gd (hasF (hT h_3 a0) 41 = true) <|
      gd (hT h_3 a0 ≤ 24) <|
      lt (uR h_3 41 a0 r_6) fun h_9 =>
      some h_9
    else
      none
  else
    gd (¬ b0 < 0) <|
    gd (Int32.toNatClampNeg b0 ≤ 67108864) <|
    gd (hc h_3 + 1 ≤ XC ∧ hs h_3 + Int32.toNatClampNeg b0 ≤ XS) <|
    lt (hz h_3 + 1) fun r_13 =>
    lt (nA h_3 37 (Int32.toNatClampNeg b0)) fun h_14 =>
    gd (hasF (hT h_14 a0) 41 = true) <|
    gd (hT h_14 a0 ≤ 24) <|
    lt (uR h_14 41 a0 r_13) fun h_17 =>
    some h_17
set_option maxHeartbeats 4000000 in
theorem w_J2_init {p : Program} {l : Launch} {e : Env} {s : State} {m : MethodId} {args : Array Value} {below : List Frame} {meth : Method} {c : Code} {D : XD} {h0 : TH} (hC : XCx D cJ2_init 2 RJ2 h0 p (xRm 3 70 h0) s m args meth c) (hr : meth.sig.returnType = none) (hnh : c.exceptionTable.isEmpty = true) (hin : meth.name = "<init>") {x : TH} :
    ∀ (a0 : Nat) (b0 : Int32) (h : TH), F_J2_init D.2.2.2 a0 b0 h = some x → XJ p l e (xRm 3 70 h0) s m args below meth c D 2 (.returned none) h0 x 0 [(0, rv a0), (1, .int b0)] [] h := by
  have hx := hC.1
  have hb := hC.2.1
  intro a0 b0 h hF H locs cells slots ls hX hl
  rw [F_J2_init] at hF
  refine X_aload_n hx hb dJ2_init_0 rfl (lv_at hl 0 rfl) ?_
  obtain ⟨h_1, hF⟩ := gd_ok hF
  obtain ⟨h_3, hc_2, hF⟩ := bd_ok hF
  refine iX_J2_1 hC hX h_1 hc_2 hl.1 (Nat.le_of_ble_eq_true rfl) (Nat.le_of_ble_eq_true rfl) (Nat.le_of_ble_eq_true rfl) dJ2_init_1 (fun H locs cells slots hX => ?_)
  refine lv_iload_n hx hb dJ2_init_4 rfl (lv_at hl 1 rfl) ?_
  refine lv_if_le (tgt := 19) hx hb dJ2_init_5 (by decide) (fun c_4 => ?_) (fun c_4 => ?_)
  · replace hF := it_t hF c_4
    refine lv_iload_n hx hb dJ2_init_19 rfl (lv_at hl 1 rfl) ?_
    refine lv_if_ne (tgt := 33) hx hb dJ2_init_20 (by decide) (fun c_5 => ?_) (fun c_5 => ?_)
    · replace hF := it_f hF c_5
      exact nm_none hF
    · replace hF := it_t hF c_5
      refine X_aload_n hx hb dJ2_init_23 rfl (lv_at hl 0 rfl) ?_
      refine sX_J2_15 hC hX dJ2_init_24 ?_
      refine lv_topr (fun r_6 er_6 => ?_)
      replace hF := lt_at hF er_6
      obtain ⟨h_7, hF⟩ := gd_ok hF
      obtain ⟨h_8, hF⟩ := gd_ok hF
      refine pX_J2_9 hC hX h_7 h_8 dJ2_init_27 (fun H locs hX => ?_)
      obtain ⟨h_9, eh_9, hF⟩ := lt_ok hF
      rw [← eh_9] at hX
      refine lv_goto (tgt := 60) hx hb dJ2_init_30 (by decide) ?_
      exact x_retv hC hX hr (Option.some.inj hF) dJ2_init_60
  · replace hF := it_f hF c_4
    refine X_aload_n hx hb dJ2_init_8 rfl (lv_at hl 0 rfl) ?_
    refine lv_iload_n hx hb dJ2_init_9 rfl (lv_at hl 1 rfl) ?_
    obtain ⟨h_10, hF⟩ := gd_ok hF
    obtain ⟨h_11, hF⟩ := gd_ok hF
    obtain ⟨h_12, hF⟩ := gd_ok hF
    refine X_anew hC hX q199 h_10 h_11 h_12 dJ2_init_10 (fun H cells slots hX => ?_)
    refine lv_topr (fun r_13 er_13 => ?_)
    replace hF := lt_at hF er_13
    obtain ⟨h_14, eh_14, hF⟩ := lt_ok hF
    rw [← eh_14] at hX
    obtain ⟨h_15, hF⟩ := gd_ok hF
    obtain ⟨h_16, hF⟩ := gd_ok hF
    refine pX_J2_9 hC hX h_15 h_16 dJ2_init_13 (fun H locs hX => ?_)
    obtain ⟨h_17, eh_17, hF⟩ := lt_ok hF
    rw [← eh_17] at hX
    refine lv_goto (tgt := 60) hx hb dJ2_init_16 (by decide) ?_
    exact x_retv hC hX hr (Option.some.inj hF) dJ2_init_60
theorem m_J2_init (l : Launch) (D : XD) (a0 : Nat) (b0 : Int32) (h : TH) (x : TH) (hF : F_J2_init D.2.2.2 a0 b0 h = some x) : XMt l yJ2_init (ws_ yJ2_init cJ2_init 2 (none)) 3 70 D [rv a0, .int b0] h (.returned none) x := by
  refine x_met (by decide +kernel) ?_ ?_
  · simp [lg_sl, rv_cat, cat_i, cat_l]
  intro p e s m below meth c hC hr hnh hin ls hl hX
  replace hl : lv_has ls 2 [(0, rv a0), (1, .int b0)] := by simpa [lv_args, rv_cat, cat_i, cat_l] using hl
  exact w_J2_init hC hr hnh hin a0 b0 h hF s.heap [] 0 0 ls hX hl
theorem nX_X1_9 {p : Program} {l : Launch} {e : Env} {R : Room} {s : State} {m : MethodId} {args : Array Value} {below : List Frame} {meth : Method} {c : Code} {H : Heap} {locs : List Loc} {cells slots nL : Nat} {Q : State → Prop} {D : XD} {h0 h : TH} {cc : ByteArray} {pc : Nat} {ls : Array Slot} {rest : List Value} (hC : XCx D cc nL RX1 h0 p R s m args meth c) (hX : XSt D s h0 h H locs cells slots) (hroom : hc h + 1 ≤ XC ∧ hs h + 3 ≤ XS) (hdg : decode cc pc = .ok (.new 9, 3)) (kk : ∀ (H1 : Heap) (cells1 slots1 : Nat), XSt D s h0 (nO h 3 3) H1 locs cells1 slots1 → W p l e R s m args below meth c H1 locs cells1 slots1 Q (F0 m (pc + 3) ls (rv (hz h + 1) :: rest))) : W p l e R s m args below meth c H locs cells slots Q (F0 m pc ls rest) :=
  X_new hC hX 3 ⟨by decide, by decide⟩ rfl q187 q188 q129 hroom hdg kk
theorem iX_X1_11 {p : Program} {l : Launch} {e : Env} {R : Room} {s : State} {m : MethodId} {args : Array Value} {below : List Frame} {meth : Method} {c : Code} {H : Heap} {locs : List Loc} {cells slots nL : Nat} {Q : State → Prop} {D : XD} {h0 h : TH} {cc : ByteArray} {pc : Nat} {ls : Array Slot} {rest : List Value} (hC : XCx D cc nL RX1 h0 p R s m args meth c) (hX : XSt D s h0 h H locs cells slots) {a : Nat} {b0 : Int32} {x : TH} (ha : a ≠ 0) (hcF : F_J2_init D.2.2.2 a b0 h = some x) (hl : ls.size = nL) (hW : (rest.map fun v => v.category).sum ≤ 8) (hRf : 3 + 1 ≤ R.frames) (hRl : 91 ≤ R.locals) (hdg : decode cc pc = .ok (.invokespecial 11, 3)) (kk : ∀ (H1 : Heap) (locs1 : List Loc) (cells1 slots1 : Nat), XSt D s h0 x H1 locs1 cells1 slots1 → W p l e R s m args below meth c H1 locs1 cells1 slots1 Q (F0 m (pc + 3) ls (rest))) : W p l e R s m args below meth c H locs cells slots Q (F0 m pc ls (.int b0 :: rv a :: rest)) := by
  exact X_callI hC hX ha (As := [.int b0]) (m_J2_init l D a b0 h _ hcF) (cwI 1 hC.2.2.2.2.1 (lw_meth q191) rfl rfl rfl (hC.2.2.2.2.1 _ q129) (hC.2.2.2.2.1 _ q189) (hC.2.2.2.2.1 _ q190) rfl (by decide +kernel) ⟨Nat.le_trans (Nat.le_of_ble_eq_true rfl) hRf, Nat.le_trans (Nat.le_of_ble_eq_true rfl) hRl⟩) rfl rfl hl hW hdg kk
theorem pX_X1_14 {p : Program} {l : Launch} {e : Env} {R : Room} {s : State} {m : MethodId} {args : Array Value} {below : List Frame} {meth : Method} {c : Code} {H : Heap} {locs : List Loc} {cells slots nL : Nat} {Q : State → Prop} {D : XD} {h0 h : TH} {cc : ByteArray} {pc : Nat} {ls : Array Slot} {rest : List Value} (hC : XCx D cc nL RX1 h0 p R s m args meth c) (hX : XSt D s h0 h H locs cells slots) (hinit : meth.name = "<init>") {a : Nat} {v : Nat} (hf : hasF (hT h a) 30 = true) (hw : hT h a ≤ 24) (hsep : (30 = 58 ∨ 30 = 63 ∨ 30 = 66 → hR h 49 a = 0) ∧ (30 = 49 → ∀ g, g = 58 ∨ g = 63 ∨ g = 66 → hasF (hT h a) g = true → hR h g a = v)) (hdg : decode cc pc = .ok (.putfield 14, 3)) (kk : ∀ (H1 : Heap) (locs1 : List Loc), XSt D s h0 (uR h 30 a v) H1 locs1 cells slots → W p l e R s m args below meth c H1 locs1 cells slots Q (F0 m (pc + 3) ls rest)) : W p l e R s m args below meth c H locs cells slots Q (F0 m pc ls (rv v :: rv a :: rest)) :=
  X_putrF hC hX hinit 30 hf hw rfl rfl rfl q218 hsep hdg kk
theorem pX_X1_20 {p : Program} {l : Launch} {e : Env} {R : Room} {s : State} {m : MethodId} {args : Array Value} {below : List Frame} {meth : Method} {c : Code} {H : Heap} {locs : List Loc} {cells slots nL : Nat} {Q : State → Prop} {D : XD} {h0 h : TH} {cc : ByteArray} {pc : Nat} {ls : Array Slot} {rest : List Value} (hC : XCx D cc nL RX1 h0 p R s m args meth c) (hX : XSt D s h0 h H locs cells slots) (hinit : meth.name = "<init>") {a : Nat} {v : Nat} (hf : hasF (hT h a) 31 = true) (hw : hT h a ≤ 24) (hsep : (31 = 58 ∨ 31 = 63 ∨ 31 = 66 → hR h 49 a = 0) ∧ (31 = 49 → ∀ g, g = 58 ∨ g = 63 ∨ g = 66 → hasF (hT h a) g = true → hR h g a = v)) (hdg : decode cc pc = .ok (.putfield 20, 3)) (kk : ∀ (H1 : Heap) (locs1 : List Loc), XSt D s h0 (uR h 31 a v) H1 locs1 cells slots → W p l e R s m args below meth c H1 locs1 cells slots Q (F0 m (pc + 3) ls rest)) : W p l e R s m args below meth c H locs cells slots Q (F0 m pc ls (rv v :: rv a :: rest)) :=
  X_putrF hC hX hinit 31 hf hw rfl rfl rfl q222 hsep hdg kk
theorem pX_X1_23 {p : Program} {l : Launch} {e : Env} {R : Room} {s : State} {m : MethodId} {args : Array Value} {below : List Frame} {meth : Method} {c : Code} {H : Heap} {locs : List Loc} {cells slots nL : Nat} {Q : State → Prop} {D : XD} {h0 h : TH} {cc : ByteArray} {pc : Nat} {ls : Array Slot} {rest : List Value} (hC : XCx D cc nL RX1 h0 p R s m args meth c) (hX : XSt D s h0 h H locs cells slots) (hinit : meth.name = "<init>") {a : Nat} {v : Nat} (hf : hasF (hT h a) 32 = true) (hw : hT h a ≤ 24) (hsep : (32 = 58 ∨ 32 = 63 ∨ 32 = 66 → hR h 49 a = 0) ∧ (32 = 49 → ∀ g, g = 58 ∨ g = 63 ∨ g = 66 → hasF (hT h a) g = true → hR h g a = v)) (hdg : decode cc pc = .ok (.putfield 23, 3)) (kk : ∀ (H1 : Heap) (locs1 : List Loc), XSt D s h0 (uR h 32 a v) H1 locs1 cells slots → W p l e R s m args below meth c H1 locs1 cells slots Q (F0 m (pc + 3) ls rest)) : W p l e R s m args below meth c H locs cells slots Q (F0 m pc ls (rv v :: rv a :: rest)) :=
  X_putrF hC hX hinit 32 hf hw rfl rfl rfl q225 hsep hdg kk
theorem pX_X1_26 {p : Program} {l : Launch} {e : Env} {R : Room} {s : State} {m : MethodId} {args : Array Value} {below : List Frame} {meth : Method} {c : Code} {H : Heap} {locs : List Loc} {cells slots nL : Nat} {Q : State → Prop} {D : XD} {h0 h : TH} {cc : ByteArray} {pc : Nat} {ls : Array Slot} {rest : List Value} (hC : XCx D cc nL RX1 h0 p R s m args meth c) (hX : XSt D s h0 h H locs cells slots) {a : Nat} {v : Int32} (hf : hasF (hT h a) 33 = true) (hw : hT h a ≤ 24) (hdg : decode cc pc = .ok (.putfield 26, 3)) (kk : ∀ (H1 : Heap) (locs1 : List Loc), XSt D s h0 (uI h 33 a v) H1 locs1 cells slots → W p l e R s m args below meth c H1 locs1 cells slots Q (F0 m (pc + 3) ls rest)) : W p l e R s m args below meth c H locs cells slots Q (F0 m pc ls (.int v :: rv a :: rest)) :=
  X_puti hC hX 33 hf hw rfl rfl q228 (fun _ h => h) ⟨rfl, rfl⟩ hdg kk
/-! BlindCards$Recipe.<init> -/
def F_X1_init (K : Nat → Nat) (a0 : Nat) (h : TH) : Option TH :=
  gd (a0 ≠ 0) <|
  gd (hc h + 1 ≤ XC ∧ hs h + 3 ≤ XS) <|
  lt (hz h + 1) fun r_3 =>
  lt (nO h 3 3) fun h_4 =>
  gd (r_3 ≠ 0) <|
  bd (F_J2_init K r_3 (4 : Int32) h_4) fun h_7 =>
  gd (hasF (hT h_7 a0) 30 = true) <|
  gd (hT h_7 a0 ≤ 24) <|
  lt (uR h_7 30 a0 r_3) fun h_10 =>
  gd (hc h_10 + 1 ≤ XC ∧ hs h_10 + 3 ≤ XS) <|
  lt (hz h_10 + 1) fun r_12 =>
  lt (nO h_10 3 3) fun h_13 =>
  gd (r_12 ≠ 0) <|
  bd (F_J2_init K r_12 (1 : Int32) h_13) fun h_16 =>
  gd (hasF (hT h_16 a0) 31 = true) <|
  gd (hT h_16 a0 ≤ 24) <|
  lt (uR h_16 31 a0 r_12) fun h_19 =>
  gd (hc h_19 + 1 ≤ XC ∧ hs h_19 + 3 ≤ XS) <|
  lt (hz h_19 + 1) fun r_21 =>
  lt (nO h_19 3 3) fun h_22 =>
  gd (r_21 ≠ 0) <|
  bd (F_J2_init K r_21 (1 : Int32) h_22) fun h_25 =>
  gd (hasF (hT h_25 a0) 32 = true) <|
  gd (hT h_25 a0 ≤ 24) <|
  lt (uR h_25 32 a0 r_21) fun h_28 =>
  gd (hasF (hT h_28 a0) 33 = true) <|
  gd (hT h_28 a0 ≤ 24) <|
  lt (uI h_28 33 a0 (2 : Int32)) fun h_31 =>
  some h_31
set_option maxHeartbeats 4000000 in
theorem w_X1_init {p : Program} {l : Launch} {e : Env} {s : State} {m : MethodId} {args : Array Value} {below : List Frame} {meth : Method} {c : Code} {D : XD} {h0 : TH} (hC : XCx D cX1_init 1 RX1 h0 p (xRm 4 91 h0) s m args meth c) (hr : meth.sig.returnType = none) (hnh : c.exceptionTable.isEmpty = true) (hin : meth.name = "<init>") {x : TH} :
    ∀ (a0 : Nat) (h : TH), F_X1_init D.2.2.2 a0 h = some x → XJ p l e (xRm 4 91 h0) s m args below meth c D 1 (.returned none) h0 x 0 [(0, rv a0)] [] h := by
  have hx := hC.1
  have hb := hC.2.1
  intro a0 h hF H locs cells slots ls hX hl
  rw [F_X1_init] at hF
  refine X_aload_n hx hb dX1_init_0 rfl (lv_at hl 0 rfl) ?_
  obtain ⟨h_1, hF⟩ := gd_ok hF
  refine X_objInit hC h_1 q186 q175 q176 hl.1 (Nat.le_of_ble_eq_true rfl) (objlo (Nat.le_of_ble_eq_true rfl) (Nat.le_of_ble_eq_true rfl)) dX1_init_1 ?_
  refine X_aload_n hx hb dX1_init_4 rfl (lv_at hl 0 rfl) ?_
  obtain ⟨h_2, hF⟩ := gd_ok hF
  refine nX_X1_9 hC hX h_2 dX1_init_5 (fun H cells slots hX => ?_)
  refine lv_topr (fun r_3 er_3 => ?_)
  replace hF := lt_at hF er_3
  obtain ⟨h_4, eh_4, hF⟩ := lt_ok hF
  rw [← eh_4] at hX
  refine lv_dup hx hb dX1_init_8 (rv_cat _) ?_
  refine lv_iconst (v := 4) hx hb dX1_init_9 (by decide) ?_
  obtain ⟨h_5, hF⟩ := gd_ok hF
  obtain ⟨h_7, hc_6, hF⟩ := bd_ok hF
  refine iX_X1_11 hC hX h_5 hc_6 hl.1 (cat4 (Nat.le_of_ble_eq_true rfl)) (Nat.le_of_ble_eq_true rfl) (Nat.le_of_ble_eq_true rfl) dX1_init_10 (fun H locs cells slots hX => ?_)
  obtain ⟨h_8, hF⟩ := gd_ok hF
  obtain ⟨h_9, hF⟩ := gd_ok hF
  refine pX_X1_14 hC hX hin h_8 h_9 ⟨fun q => absurd q (by decide), fun q => absurd q (by decide)⟩ dX1_init_13 (fun H locs hX => ?_)
  obtain ⟨h_10, eh_10, hF⟩ := lt_ok hF
  rw [← eh_10] at hX
  refine X_aload_n hx hb dX1_init_16 rfl (lv_at hl 0 rfl) ?_
  obtain ⟨h_11, hF⟩ := gd_ok hF
  refine nX_X1_9 hC hX h_11 dX1_init_17 (fun H cells slots hX => ?_)
  refine lv_topr (fun r_12 er_12 => ?_)
  replace hF := lt_at hF er_12
  obtain ⟨h_13, eh_13, hF⟩ := lt_ok hF
  rw [← eh_13] at hX
  refine lv_dup hx hb dX1_init_20 (rv_cat _) ?_
  refine lv_iconst (v := 1) hx hb dX1_init_21 (by decide) ?_
  obtain ⟨h_14, hF⟩ := gd_ok hF
  obtain ⟨h_16, hc_15, hF⟩ := bd_ok hF
  refine iX_X1_11 hC hX h_14 hc_15 hl.1 (cat4 (Nat.le_of_ble_eq_true rfl)) (Nat.le_of_ble_eq_true rfl) (Nat.le_of_ble_eq_true rfl) dX1_init_22 (fun H locs cells slots hX => ?_)
  obtain ⟨h_17, hF⟩ := gd_ok hF
  obtain ⟨h_18, hF⟩ := gd_ok hF
  refine pX_X1_20 hC hX hin h_17 h_18 ⟨fun q => absurd q (by decide), fun q => absurd q (by decide)⟩ dX1_init_25 (fun H locs hX => ?_)
  obtain ⟨h_19, eh_19, hF⟩ := lt_ok hF
  rw [← eh_19] at hX
  refine X_aload_n hx hb dX1_init_28 rfl (lv_at hl 0 rfl) ?_
  obtain ⟨h_20, hF⟩ := gd_ok hF
  refine nX_X1_9 hC hX h_20 dX1_init_29 (fun H cells slots hX => ?_)
  refine lv_topr (fun r_21 er_21 => ?_)
  replace hF := lt_at hF er_21
  obtain ⟨h_22, eh_22, hF⟩ := lt_ok hF
  rw [← eh_22] at hX
  refine lv_dup hx hb dX1_init_32 (rv_cat _) ?_
  refine lv_iconst (v := 1) hx hb dX1_init_33 (by decide) ?_
  obtain ⟨h_23, hF⟩ := gd_ok hF
  obtain ⟨h_25, hc_24, hF⟩ := bd_ok hF
  refine iX_X1_11 hC hX h_23 hc_24 hl.1 (cat4 (Nat.le_of_ble_eq_true rfl)) (Nat.le_of_ble_eq_true rfl) (Nat.le_of_ble_eq_true rfl) dX1_init_34 (fun H locs cells slots hX => ?_)
  obtain ⟨h_26, hF⟩ := gd_ok hF
  obtain ⟨h_27, hF⟩ := gd_ok hF
  refine pX_X1_23 hC hX hin h_26 h_27 ⟨fun q => absurd q (by decide), fun q => absurd q (by decide)⟩ dX1_init_37 (fun H locs hX => ?_)
  obtain ⟨h_28, eh_28, hF⟩ := lt_ok hF
  rw [← eh_28] at hX
  refine X_aload_n hx hb dX1_init_40 rfl (lv_at hl 0 rfl) ?_
  refine lv_iconst (v := 2) hx hb dX1_init_41 (by decide) ?_
  obtain ⟨h_29, hF⟩ := gd_ok hF
  obtain ⟨h_30, hF⟩ := gd_ok hF
  refine pX_X1_26 hC hX h_29 h_30 dX1_init_42 (fun H locs hX => ?_)
  obtain ⟨h_31, eh_31, hF⟩ := lt_ok hF
  rw [← eh_31] at hX
  exact x_retv hC hX hr (Option.some.inj hF) dX1_init_45
theorem m_X1_init (l : Launch) (D : XD) (a0 : Nat) (h : TH) (x : TH) (hF : F_X1_init D.2.2.2 a0 h = some x) : XMt l yX1_init (ws_ yX1_init cX1_init 1 (none)) 4 91 D [rv a0] h (.returned none) x := by
  refine x_met (by decide +kernel) ?_ ?_
  · simp [lg_sl, rv_cat, cat_i, cat_l]
  intro p e s m below meth c hC hr hnh hin ls hl hX
  replace hl : lv_has ls 1 [(0, rv a0)] := by simpa [lv_args, rv_cat, cat_i, cat_l] using hl
  exact w_X1_init hC hr hnh hin a0 h hF s.heap [] 0 0 ls hX hl
/-! java/lang/Math.min -/
def F_J4_min (K : Nat → Nat) (h : TH) (b0 : Int32) (b1 : Int32) : Option Int32 :=
  if b1 < b0 then
    some b1
  else
    some b0
set_option maxHeartbeats 4000000 in
theorem w_J4_min {p : Program} {l : Launch} {e : Env} {s : State} {m : MethodId} {args : Array Value} {below : List Frame} {meth : Method} {c : Code} {D : XD} {h : TH} (hC : XCx D cJ4_min 2 RJ4 h p (xRm 0 0 h) s m args meth c) (hr : meth.sig.returnType = some .int) (hnh : c.exceptionTable.isEmpty = true) (hin : meth.name = "min") {x : Int32} :
    ∀ (b0 : Int32) (b1 : Int32), F_J4_min D.2.2.2 h b0 b1 = some x → XJ p l e (xRm 0 0 h) s m args below meth c D 2 (.returned (some (.int x))) h h 0 [(0, .int b0), (1, .int b1)] [] h := by
  have hx := hC.1
  have hb := hC.2.1
  intro b0 b1 hF H locs cells slots ls hX hl
  rw [F_J4_min] at hF
  refine lv_iload_n hx hb dJ4_min_0 rfl (lv_at hl 0 rfl) ?_
  refine lv_iload_n hx hb dJ4_min_1 rfl (lv_at hl 1 rfl) ?_
  refine lv_icmp_gt (tgt := 9) hx hb dJ4_min_2 (by decide) (fun c_1 => ?_) (fun c_1 => ?_)
  · replace hF := it_t hF c_1
    refine lv_iload_n hx hb dJ4_min_9 rfl (lv_at hl 1 rfl) ?_
    exact x_reti hC hX hr rfl (Option.some.inj hF) rfl dJ4_min_10
  · replace hF := it_f hF c_1
    refine lv_iload_n hx hb dJ4_min_5 rfl (lv_at hl 0 rfl) ?_
    refine lv_goto (tgt := 10) hx hb dJ4_min_6 (by decide) ?_
    exact x_reti hC hX hr rfl (Option.some.inj hF) rfl dJ4_min_10
theorem m_J4_min (l : Launch) (D : XD) (b0 : Int32) (b1 : Int32) (h : TH) (x : Int32) (hF : F_J4_min D.2.2.2 h b0 b1 = some x) : XMt l yJ4_min (ws_ yJ4_min cJ4_min 2 (some .int)) 0 0 D [.int b0, .int b1] h (.returned (some (.int x))) h := by
  refine x_met (by decide +kernel) ?_ ?_
  · exact Nat.le_of_ble_eq_true rfl
  intro p e s m below meth c hC hr hnh hin ls hl hX
  replace hl : lv_has ls 2 [(0, .int b0), (1, .int b1)] := by simpa [lv_args, rv_cat, cat_i, cat_l] using hl
  exact w_J4_min hC hr hnh hin b0 b1 hF s.heap [] 0 0 ls hX hl
theorem iX_J3_194 {p : Program} {l : Launch} {e : Env} {R : Room} {s : State} {m : MethodId} {args : Array Value} {below : List Frame} {meth : Method} {c : Code} {H : Heap} {locs : List Loc} {cells slots nL : Nat} {Q : State → Prop} {D : XD} {h0 h : TH} {cc : ByteArray} {pc : Nat} {ls : Array Slot} {rest : List Value} (hC : XCx D cc nL RJ3 h0 p R s m args meth c) (hX : XSt D s h0 h H locs cells slots) {b0 : Int32} {b1 : Int32} {x : Int32} (hcF : F_J4_max D.2.2.2 h b0 b1 = some x) (hl : ls.size = nL) (hW : (rest.map fun v => v.category).sum ≤ 8) (hRf : 0 + 1 ≤ R.frames) (hRl : 21 ≤ R.locals) (hdg : decode cc pc = .ok (.invokestatic 194, 3)) (kk : ∀ (H1 : Heap) (locs1 : List Loc) (cells1 slots1 : Nat), XSt D s h0 h H1 locs1 cells1 slots1 → W p l e R s m args below meth c H1 locs1 cells1 slots1 Q (F0 m (pc + 3) ls (.int x :: rest))) : W p l e R s m args below meth c H locs cells slots Q (F0 m pc ls (.int b1 :: .int b0 :: rest)) := by
  exact X_callS hC hX (As := [.int b0, .int b1]) (m_J4_max l D b0 b1 h _ hcF) (va_cwS 2 hC.2.2.2.2.1 (lw_S q413 q414 q135 q415) rfl rfl rfl (by decide +kernel) ⟨Nat.le_trans (Nat.le_of_ble_eq_true rfl) hRf, Nat.le_trans (Nat.le_of_ble_eq_true rfl) hRl⟩) rfl rfl hl hW hdg kk
/-! jdk/internal/util/ArraysSupport.newLength -/
def F_J3_newLength (K : Nat → Nat) (h : TH) (b0 : Int32) (b1 : Int32) (b2 : Int32) : Option Int32 :=
  bd (F_J4_max K h b1 b2) fun r_2 =>
  lt ((b0 + r_2)) fun x_3 =>
  if x_3 ≤ (0 : Int32) then
    none
  else
    if (2147483639 : Int32) < x_3 then
      none
    else
      some x_3
set_option maxHeartbeats 4000000 in
theorem w_J3_newLength {p : Program} {l : Launch} {e : Env} {s : State} {m : MethodId} {args : Array Value} {below : List Frame} {meth : Method} {c : Code} {D : XD} {h : TH} (hC : XCx D cJ3_newLength 4 RJ3 h p (xRm 1 21 h) s m args meth c) (hr : meth.sig.returnType = some .int) (hnh : c.exceptionTable.isEmpty = true) (hin : meth.name = "newLength") {x : Int32} :
    ∀ (b0 : Int32) (b1 : Int32) (b2 : Int32), F_J3_newLength D.2.2.2 h b0 b1 b2 = some x → XJ p l e (xRm 1 21 h) s m args below meth c D 4 (.returned (some (.int x))) h h 0 [(0, .int b0), (1, .int b1), (2, .int b2)] [] h := by
  have hx := hC.1
  have hb := hC.2.1
  intro b0 b1 b2 hF H locs cells slots ls hX hl
  rw [F_J3_newLength] at hF
  refine lv_iload_n hx hb dJ3_newLength_0 rfl (lv_at hl 0 rfl) ?_
  refine lv_iload_n hx hb dJ3_newLength_1 rfl (lv_at hl 1 rfl) ?_
  refine lv_iload_n hx hb dJ3_newLength_2 rfl (lv_at hl 2 rfl) ?_
  obtain ⟨r_2, hc_1, hF⟩ := bd_ok hF
  refine iX_J3_194 hC hX hc_1 hl.1 (Nat.le_of_ble_eq_true rfl) (Nat.le_of_ble_eq_true rfl) (Nat.le_of_ble_eq_true rfl) dJ3_newLength_3 (fun H locs cells slots hX => ?_)
  refine lv_iadd hx hb dJ3_newLength_6 ?_
  refine lv_topi (fun x_3 ex_3 => ?_)
  replace hF := lt_at hF ex_3
  refine lv_istore_n (lv' := [(3, .int x_3), (0, .int b0), (1, .int b1), (2, .int b2)]) hx hb dJ3_newLength_7 rfl hl (by decide) rfl (fun ls hl => ?_)
  refine lv_iconst (v := 0) hx hb dJ3_newLength_8 (by decide) ?_
  refine lv_iload_n hx hb dJ3_newLength_9 rfl (lv_at hl 0 rfl) ?_
  refine lv_icmp_ge (tgt := 21) hx hb dJ3_newLength_10 (by decide) (fun c_4 => ?_) (fun c_4 => ?_)
  · replace hF := it_t hF c_4
    refine lv_iload_n hx hb dJ3_newLength_21 rfl (lv_at hl 1 rfl) ?_
    refine lv_iload_n hx hb dJ3_newLength_22 rfl (lv_at hl 2 rfl) ?_
    exact nm_none hF
  · replace hF := it_f hF c_4
    refine lv_iload_n hx hb dJ3_newLength_13 rfl (lv_at hl 0 rfl) ?_
    refine lv_ldc (v := 2147483639) hx hb hC.2.2.2.1 (hC.2.2.2.2.1 _ q416) dJ3_newLength_14 ?_
    refine lv_icmp_gt (tgt := 21) hx hb dJ3_newLength_16 (by decide) (fun c_5 => ?_) (fun c_5 => ?_)
    · replace hF := it_t hF c_5
      refine lv_iload_n hx hb dJ3_newLength_21 rfl (lv_at hl 1 rfl) ?_
      refine lv_iload_n hx hb dJ3_newLength_22 rfl (lv_at hl 2 rfl) ?_
      exact nm_none hF
    · replace hF := it_f hF c_5
      refine lv_iload_n hx hb dJ3_newLength_19 rfl (lv_at hl 0 rfl) ?_
      exact x_reti hC hX hr rfl (Option.some.inj hF) rfl dJ3_newLength_20
theorem m_J3_newLength (l : Launch) (D : XD) (b0 : Int32) (b1 : Int32) (b2 : Int32) (h : TH) (x : Int32) (hF : F_J3_newLength D.2.2.2 h b0 b1 b2 = some x) : XMt l yJ3_newLength (ws_ yJ3_newLength cJ3_newLength 4 (some .int)) 1 21 D [.int b0, .int b1, .int b2] h (.returned (some (.int x))) h := by
  refine x_met (by decide +kernel) ?_ ?_
  · exact Nat.le_of_ble_eq_true rfl
  intro p e s m below meth c hC hr hnh hin ls hl hX
  replace hl : lv_has ls 4 [(0, .int b0), (1, .int b1), (2, .int b2)] := by simpa [lv_args, rv_cat, cat_i, cat_l] using hl
  exact w_J3_newLength hC hr hnh hin b0 b1 b2 hF s.heap [] 0 0 ls hX hl
theorem pX_X0_219 {p : Program} {l : Launch} {e : Env} {R : Room} {s : State} {m : MethodId} {args : Array Value} {below : List Frame} {meth : Method} {c : Code} {H : Heap} {locs : List Loc} {cells slots nL : Nat} {Q : State → Prop} {D : XD} {h0 h : TH} {cc : ByteArray} {pc : Nat} {ls : Array Slot} {rest : List Value} (hC : XCx D cc nL RX0 h0 p R s m args meth c) (hX : XSt D s h0 h H locs cells slots) {a : Nat} {v : Int32} (hf : hasF (hT h a) 15 = true) (hw : hT h a ≤ 24) (hdg : decode cc pc = .ok (.putfield 219, 3)) (kk : ∀ (H1 : Heap) (locs1 : List Loc), XSt D s h0 (uI h 15 a v) H1 locs1 cells slots → W p l e R s m args below meth c H1 locs1 cells slots Q (F0 m (pc + 3) ls rest)) : W p l e R s m args below meth c H locs cells slots Q (F0 m pc ls (.int v :: rv a :: rest)) :=
  X_puti hC hX 15 hf hw rfl rfl q765 (fun _ h => h) ⟨rfl, rfl⟩ hdg kk
theorem gX_X0_78 {p : Program} {l : Launch} {e : Env} {R : Room} {s : State} {m : MethodId} {args : Array Value} {below : List Frame} {meth : Method} {c : Code} {H : Heap} {locs : List Loc} {cells slots nL : Nat} {Q : State → Prop} {D : XD} {h0 h : TH} {cc : ByteArray} {pc : Nat} {ls : Array Slot} {rest : List Value} (hC : XCx D cc nL RX0 h0 p R s m args meth c) (hX : XSt D s h0 h H locs cells slots) {a : Nat} (hf : hasF (hT h a) 13 = true) (hdg : decode cc pc = .ok (.getfield 78, 3)) (kk : W p l e R s m args below meth c H locs cells slots Q (F0 m (pc + 3) ls (rv (hR h 13 a) :: rest))) : W p l e R s m args below meth c H locs cells slots Q (F0 m pc ls (rv a :: rest)) :=
  X_getr hC hX 13 hf rfl (fun q => absurd q (by decide)) q763 (fun _ h => h) hdg kk
theorem gX_X0_15 {p : Program} {l : Launch} {e : Env} {R : Room} {s : State} {m : MethodId} {args : Array Value} {below : List Frame} {meth : Method} {c : Code} {H : Heap} {locs : List Loc} {cells slots nL : Nat} {Q : State → Prop} {D : XD} {h0 h : TH} {cc : ByteArray} {pc : Nat} {ls : Array Slot} {rest : List Value} (hC : XCx D cc nL RX0 h0 p R s m args meth c) (hX : XSt D s h0 h H locs cells slots) {a : Nat} (hf : hasF (hT h a) 7 = true) (hdg : decode cc pc = .ok (.getfield 15, 3)) (kk : W p l e R s m args below meth c H locs cells slots Q (F0 m (pc + 3) ls (rv (hR h 7 a) :: rest))) : W p l e R s m args below meth c H locs cells slots Q (F0 m pc ls (rv a :: rest)) :=
  X_getr hC hX 7 hf rfl (fun q => absurd q (by decide)) q753 (fun _ h => h) hdg kk
theorem iX_X0_152 {p : Program} {l : Launch} {e : Env} {R : Room} {s : State} {m : MethodId} {args : Array Value} {below : List Frame} {meth : Method} {c : Code} {H : Heap} {locs : List Loc} {cells slots nL : Nat} {Q : State → Prop} {D : XD} {h0 h : TH} {cc : ByteArray} {pc : Nat} {ls : Array Slot} {rest : List Value} (hC : XCx D cc nL RX0 h0 p R s m args meth c) (hX : XSt D s h0 h H locs cells slots) {a : Nat} {x : Int32} (ht : hT h a = 2) (hcF : F_X1_inputs D.2.2.2 h a = some x) (hl : ls.size = nL) (hW : (rest.map fun v => v.category).sum ≤ 8) (hRf : 0 + 1 ≤ R.frames) (hRl : 20 ≤ R.locals) (hdg : decode cc pc = .ok (.invokevirtual 152, 3)) (kk : ∀ (H1 : Heap) (locs1 : List Loc) (cells1 slots1 : Nat), XSt D s h0 h H1 locs1 cells1 slots1 → W p l e R s m args below meth c H1 locs1 cells1 slots1 Q (F0 m (pc + 3) ls (.int x :: rest))) : W p l e R s m args below meth c H locs cells slots Q (F0 m pc ls (rv a :: rest)) := by
  have q := ht
  exact X_callV hC hX (by rw [q]; decide) (by rw [q]; rfl) (As := []) (m_X1_inputs l D a h _ hcF) (cwV 0 hC.2.2.2.2.1 (lw_V q1595 q480 q481 q126 q482) rfl rfl rfl (by decide +kernel) ⟨Nat.le_trans (Nat.le_of_ble_eq_true rfl) hRf, Nat.le_trans (Nat.le_of_ble_eq_true rfl) hRl⟩) rfl rfl hl hW hdg kk
theorem gX_X0_145 {p : Program} {l : Launch} {e : Env} {R : Room} {s : State} {m : MethodId} {args : Array Value} {below : List Frame} {meth : Method} {c : Code} {H : Heap} {locs : List Loc} {cells slots nL : Nat} {Q : State → Prop} {D : XD} {h0 h : TH} {cc : ByteArray} {pc : Nat} {ls : Array Slot} {rest : List Value} (hC : XCx D cc nL RX0 h0 p R s m args meth c) (hX : XSt D s h0 h H locs cells slots) {a : Nat} (hf : hasF (hT h a) 30 = true) (hdg : decode cc pc = .ok (.getfield 145, 3)) (kk : W p l e R s m args below meth c H locs cells slots Q (F0 m (pc + 3) ls (rv (hR h 30 a) :: rest))) : W p l e R s m args below meth c H locs cells slots Q (F0 m pc ls (rv a :: rest)) :=
  X_getr hC hX 30 hf rfl (fun q => absurd q (by decide)) q220 (fun _ h => h) hdg kk
theorem iX_X0_148 {p : Program} {l : Launch} {e : Env} {R : Room} {s : State} {m : MethodId} {args : Array Value} {below : List Frame} {meth : Method} {c : Code} {H : Heap} {locs : List Loc} {cells slots nL : Nat} {Q : State → Prop} {D : XD} {h0 h : TH} {cc : ByteArray} {pc : Nat} {ls : Array Slot} {rest : List Value} (hC : XCx D cc nL RX0 h0 p R s m args meth c) (hX : XSt D s h0 h H locs cells slots) {a : Nat} {x : Int32} (ht : hT h a = 3) (hcF : F_J2_size D.2.2.2 h a = some x) (hl : ls.size = nL) (hW : (rest.map fun v => v.category).sum ≤ 8) (hRf : 0 + 1 ≤ R.frames) (hRl : 20 ≤ R.locals) (hdg : decode cc pc = .ok (.invokevirtual 148, 3)) (kk : ∀ (H1 : Heap) (locs1 : List Loc) (cells1 slots1 : Nat), XSt D s h0 h H1 locs1 cells1 slots1 → W p l e R s m args below meth c H1 locs1 cells1 slots1 Q (F0 m (pc + 3) ls (.int x :: rest))) : W p l e R s m args below meth c H locs cells slots Q (F0 m pc ls (rv a :: rest)) := by
  have q := ht
  exact X_callV hC hX (by rw [q]; decide) (by rw [q]; rfl) (As := []) (m_J2_size l D a h _ hcF) (cwV 0 hC.2.2.2.2.1 (lw_V q1582 q488 q489 q129 q490) rfl rfl rfl (by decide +kernel) ⟨Nat.le_trans (Nat.le_of_ble_eq_true rfl) hRf, Nat.le_trans (Nat.le_of_ble_eq_true rfl) hRl⟩) rfl rfl hl hW hdg kk
theorem iX_X0_222 {p : Program} {l : Launch} {e : Env} {R : Room} {s : State} {m : MethodId} {args : Array Value} {below : List Frame} {meth : Method} {c : Code} {H : Heap} {locs : List Loc} {cells slots nL : Nat} {Q : State → Prop} {D : XD} {h0 h : TH} {cc : ByteArray} {pc : Nat} {ls : Array Slot} {rest : List Value} (hC : XCx D cc nL RX0 h0 p R s m args meth c) (hX : XSt D s h0 h H locs cells slots) {a : Nat} {b0 : Int32} {x : Nat} (ht : hT h a = 3) (hcF : F_J2_get D.2.2.2 h a b0 = some x) (hl : ls.size = nL) (hW : (rest.map fun v => v.category).sum ≤ 8) (hRf : 2 + 1 ≤ R.frames) (hRl : 64 ≤ R.locals) (hdg : decode cc pc = .ok (.invokevirtual 222, 3)) (kk : ∀ (H1 : Heap) (locs1 : List Loc) (cells1 slots1 : Nat), XSt D s h0 h H1 locs1 cells1 slots1 → W p l e R s m args below meth c H1 locs1 cells1 slots1 Q (F0 m (pc + 3) ls (rv x :: rest))) : W p l e R s m args below meth c H locs cells slots Q (F0 m pc ls (.int b0 :: rv a :: rest)) := by
  have q := ht
  exact X_callV hC hX (by rw [q]; decide) (by rw [q]; rfl) (As := [.int b0]) (m_J2_get l D a b0 h _ hcF) (cwV 1 hC.2.2.2.2.1 (lw_V q1680 q504 q505 q129 q506) rfl rfl rfl (by decide +kernel) ⟨Nat.le_trans (Nat.le_of_ble_eq_true rfl) hRf, Nat.le_trans (Nat.le_of_ble_eq_true rfl) hRl⟩) rfl rfl hl hW hdg kk
theorem iX_X0_228 {p : Program} {l : Launch} {e : Env} {R : Room} {s : State} {m : MethodId} {args : Array Value} {below : List Frame} {meth : Method} {c : Code} {H : Heap} {locs : List Loc} {cells slots nL : Nat} {Q : State → Prop} {D : XD} {h0 h : TH} {cc : ByteArray} {pc : Nat} {ls : Array Slot} {rest : List Value} (hC : XCx D cc nL RX0 h0 p R s m args meth c) (hX : XSt D s h0 h H locs cells slots) {a : Nat} {x : Int32} (ht : hT h a = 19) (hcF : F_X19_many D.2.2.2 h a = some x) (hl : ls.size = nL) (hW : (rest.map fun v => v.category).sum ≤ 8) (hRf : 0 + 1 ≤ R.frames) (hRl : 20 ≤ R.locals) (hdg : decode cc pc = .ok (.invokevirtual 228, 3)) (kk : ∀ (H1 : Heap) (locs1 : List Loc) (cells1 slots1 : Nat), XSt D s h0 h H1 locs1 cells1 slots1 → W p l e R s m args below meth c H1 locs1 cells1 slots1 Q (F0 m (pc + 3) ls (.int x :: rest))) : W p l e R s m args below meth c H locs cells slots Q (F0 m pc ls (rv a :: rest)) := by
  have q := ht
  exact X_callV hC hX (by rw [q]; decide) (by rw [q]; rfl) (As := []) (m_X19_many l D a h _ hcF) (cwV 0 hC.2.2.2.2.1 (lw_V q1682 q543 q544 q163 q545) rfl rfl rfl (by decide +kernel) ⟨Nat.le_trans (Nat.le_of_ble_eq_true rfl) hRf, Nat.le_trans (Nat.le_of_ble_eq_true rfl) hRl⟩) rfl rfl hl hW hdg kk
theorem iX_X0_230 {p : Program} {l : Launch} {e : Env} {R : Room} {s : State} {m : MethodId} {args : Array Value} {below : List Frame} {meth : Method} {c : Code} {H : Heap} {locs : List Loc} {cells slots nL : Nat} {Q : State → Prop} {D : XD} {h0 h : TH} {cc : ByteArray} {pc : Nat} {ls : Array Slot} {rest : List Value} (hC : XCx D cc nL RX0 h0 p R s m args meth c) (hX : XSt D s h0 h H locs cells slots) {a : Nat} {b0 : Int32} {b1 : Int32} {b2 : Int32} {b3 : Int32} {x : Int32} (ht : hT h a = 19) (hcF : F_X19_cards D.2.2.2 h a b0 b1 b2 b3 = some x) (hl : ls.size = nL) (hW : (rest.map fun v => v.category).sum ≤ 8) (hRf : 0 + 1 ≤ R.frames) (hRl : 24 ≤ R.locals) (hdg : decode cc pc = .ok (.invokevirtual 230, 3)) (kk : ∀ (H1 : Heap) (locs1 : List Loc) (cells1 slots1 : Nat), XSt D s h0 h H1 locs1 cells1 slots1 → W p l e R s m args below meth c H1 locs1 cells1 slots1 Q (F0 m (pc + 3) ls (.int x :: rest))) : W p l e R s m args below meth c H locs cells slots Q (F0 m pc ls (.int b3 :: .int b2 :: .int b1 :: .int b0 :: rv a :: rest)) := by
  have q := ht
  exact X_callV hC hX (by rw [q]; decide) (by rw [q]; rfl) (As := [.int b0, .int b1, .int b2, .int b3]) (m_X19_cards l D a b0 b1 b2 b3 h _ hcF) (cwV 4 hC.2.2.2.2.1 (lw_V q1683 q551 q552 q163 q553) rfl rfl rfl (by decide +kernel) ⟨Nat.le_trans (Nat.le_of_ble_eq_true rfl) hRf, Nat.le_trans (Nat.le_of_ble_eq_true rfl) hRl⟩) rfl rfl hl hW hdg kk
/-! BlindCards.layStart -/
def F_X0_layStart_b143 (K : Nat → Nat) (k31 : Nat → Int32 → TH → Option TH) (x0 : Nat) (x1 : Int32) (x2 : Int32) (x3 : Int32) (h : TH) : Option TH :=
  gd (hasF (hT h x0) 13 = true) <|
  lt (hR h 13 x0) fun r_2 =>
  gd (hT h r_2 = 35 ∨ hT h r_2 = 36 ∨ hT h r_2 = 37 ∨ hT h r_2 = 48) <|
  gd (inb (0 : Int32) (hN h r_2)) <|
  lt (hY h r_2 (Int32.toNatClampNeg (0 : Int32))) fun r_5 =>
  gd (hT h r_5 = 34) <|
  gd (inb (((256 : Int32) * x1) + x2) (hN h r_5)) <|
  lt (uL h r_5 (Int32.toNatClampNeg (((256 : Int32) * x1) + x2)) (1 : Int64)) fun h_8 =>
  gd (hasF (hT h_8 x0) 15 = true) <|
  gd (hT h_8 x0 ≤ 24) <|
  lt (uI h_8 15 x0 x3) fun h_11 =>
  lt (x1 + (1 : Int32)) fun x1_12 =>
  k31 x0 x1_12 h_11
set_option maxHeartbeats 4000000 in
theorem w_X0_layStart_b143 {p : Program} {l : Launch} {e : Env} {s : State} {m : MethodId} {args : Array Value} {below : List Frame} {meth : Method} {c : Code} {D : XD} {h0 : TH} (hC : XCx D cX0_layStart 6 RX0 h0 p (xRm 3 64 h0) s m args meth c) (hr : meth.sig.returnType = none) (hnh : c.exceptionTable.isEmpty = true) (hin : meth.name = "layStart") {x : TH} (k31 : Nat → Int32 → TH → Option TH) (hk31 : ∀ (x0 : Nat) (x1 : Int32) (h : TH), k31 x0 x1 h = some x → XJ p l e (xRm 3 64 h0) s m args below meth c D 6 (.returned none) h0 x 31 [(0, rv x0), (1, .int x1)] [] h) :
    ∀ (x0 : Nat) (x1 : Int32) (x2 : Int32) (x3 : Int32) (h : TH), F_X0_layStart_b143 D.2.2.2 k31 x0 x1 x2 x3 h = some x → XJ p l e (xRm 3 64 h0) s m args below meth c D 6 (.returned none) h0 x 143 [(0, rv x0), (1, .int x1), (2, .int x2), (3, .int x3)] [] h := by
  have hx := hC.1
  have hb := hC.2.1
  intro x0 x1 x2 x3 h hF H locs cells slots ls hX hl
  rw [F_X0_layStart_b143] at hF
  refine X_aload_n hx hb dX0_layStart_143 rfl (lv_at hl 0 rfl) ?_
  obtain ⟨h_1, hF⟩ := gd_ok hF
  refine gX_X0_78 hC hX h_1 dX0_layStart_144 ?_
  refine lv_topr (fun r_2 er_2 => ?_)
  replace hF := lt_at hF er_2
  refine lv_iconst (v := 0) hx hb dX0_layStart_147 (by decide) ?_
  obtain ⟨h_3, hF⟩ := gd_ok hF
  obtain ⟨h_4, hF⟩ := gd_ok hF
  refine X_aald hC hX h_3 h_4 dX0_layStart_148 ?_
  refine lv_topr (fun r_5 er_5 => ?_)
  replace hF := lt_at hF er_5
  refine lv_sipush (v := 256) hx hb dX0_layStart_149 (by decide) ?_
  refine lv_iload_n hx hb dX0_layStart_152 rfl (lv_at hl 1 rfl) ?_
  refine lv_imul hx hb dX0_layStart_153 ?_
  refine lv_iload_n hx hb dX0_layStart_154 rfl (lv_at hl 2 rfl) ?_
  refine lv_iadd hx hb dX0_layStart_155 ?_
  refine lv_lconst (v := 1) hx hb dX0_layStart_156 (by decide) ?_
  obtain ⟨h_6, hF⟩ := gd_ok hF
  obtain ⟨h_7, hF⟩ := gd_ok hF
  refine X_last hC hX h_6 h_7 dX0_layStart_157 (fun H locs hX => ?_)
  obtain ⟨h_8, eh_8, hF⟩ := lt_ok hF
  rw [← eh_8] at hX
  refine X_aload_n hx hb dX0_layStart_158 rfl (lv_at hl 0 rfl) ?_
  refine lv_iload_n hx hb dX0_layStart_159 rfl (lv_at hl 3 rfl) ?_
  obtain ⟨h_9, hF⟩ := gd_ok hF
  obtain ⟨h_10, hF⟩ := gd_ok hF
  refine pX_X0_219 hC hX h_9 h_10 dX0_layStart_160 (fun H locs hX => ?_)
  obtain ⟨h_11, eh_11, hF⟩ := lt_ok hF
  rw [← eh_11] at hX
  obtain ⟨x1_12, ex1_12, hF⟩ := lt_ok hF
  refine lv_iinc (v := x1_12) hx hb dX0_layStart_163 hl (k := 1) rfl (by rw [ex1_12]; rfl) (by decide) rfl (fun ls hl => ?_)
  replace hl : lv_has ls 6 [(1, .int x1_12), (0, rv x0), (2, .int x2), (3, .int x3)] := lv_subS hl (List.forall_mem_cons.mpr ⟨Or.inl rfl, (List.forall_mem_cons.mpr ⟨Or.inr ⟨List.mem_of_getElem? (i := 0) rfl, by simp [rv_cat]⟩, (List.forall_mem_cons.mpr ⟨Or.inr ⟨List.mem_of_getElem? (i := 2) rfl, rfl⟩, (List.forall_mem_cons.mpr ⟨Or.inr ⟨List.mem_of_getElem? (i := 3) rfl, rfl⟩, (fun _ h => nomatch h)⟩)⟩)⟩)⟩)
  refine lv_goto (tgt := 31) hx hb dX0_layStart_166 (by decide) ?_
  exact hk31 x0 x1_12 h_11 hF H locs cells slots ls hX (lv_sub hl [1, 0] rfl)
def F_X0_layStart_b137 (K : Nat → Nat) (k49 : Nat → Int32 → Int32 → Int32 → Int32 → TH → Option TH) (x0 : Nat) (x1 : Int32) (x2 : Int32) (x3 : Int32) (x4 : Int32) (h : TH) : Option TH :=
  lt (x4 + (1 : Int32)) fun x4_1 =>
  k49 x0 x1 x2 x3 x4_1 h
set_option maxHeartbeats 4000000 in
theorem w_X0_layStart_b137 {p : Program} {l : Launch} {e : Env} {s : State} {m : MethodId} {args : Array Value} {below : List Frame} {meth : Method} {c : Code} {D : XD} {h0 : TH} (hC : XCx D cX0_layStart 6 RX0 h0 p (xRm 3 64 h0) s m args meth c) (hr : meth.sig.returnType = none) (hnh : c.exceptionTable.isEmpty = true) (hin : meth.name = "layStart") {x : TH} (k49 : Nat → Int32 → Int32 → Int32 → Int32 → TH → Option TH) (hk49 : ∀ (x0 : Nat) (x1 : Int32) (x2 : Int32) (x3 : Int32) (x4 : Int32) (h : TH), k49 x0 x1 x2 x3 x4 h = some x → XJ p l e (xRm 3 64 h0) s m args below meth c D 6 (.returned none) h0 x 49 [(0, rv x0), (1, .int x1), (2, .int x2), (3, .int x3), (4, .int x4)] [] h) :
    ∀ (x0 : Nat) (x1 : Int32) (x2 : Int32) (x3 : Int32) (x4 : Int32) (h : TH), F_X0_layStart_b137 D.2.2.2 k49 x0 x1 x2 x3 x4 h = some x → XJ p l e (xRm 3 64 h0) s m args below meth c D 6 (.returned none) h0 x 137 [(0, rv x0), (1, .int x1), (2, .int x2), (3, .int x3), (4, .int x4)] [] h := by
  have hx := hC.1
  have hb := hC.2.1
  intro x0 x1 x2 x3 x4 h hF H locs cells slots ls hX hl
  rw [F_X0_layStart_b137] at hF
  obtain ⟨x4_1, ex4_1, hF⟩ := lt_ok hF
  refine lv_iinc (v := x4_1) (lv' := [(4, .int x4_1), (0, rv x0), (1, .int x1), (2, .int x2), (3, .int x3)]) hx hb dX0_layStart_137 hl (k := 4) rfl (by rw [ex4_1]; rfl) (by decide) rfl (fun ls hl => ?_)
  refine lv_goto (tgt := 49) hx hb dX0_layStart_140 (by decide) ?_
  exact hk49 x0 x1 x2 x3 x4_1 h hF H locs cells slots ls hX (lv_sub hl [1, 2, 3, 4, 0] rfl)
def F_X0_layStart_b114 (K : Nat → Nat) (k143 : Nat → Int32 → Int32 → Int32 → TH → Option TH) (x0 : Nat) (x1 : Int32) (x2 : Int32) (x3 : Int32) (h : TH) : Option TH :=
  k143 x0 x1 x2 x3 h
set_option maxHeartbeats 4000000 in
theorem w_X0_layStart_b114 {p : Program} {l : Launch} {e : Env} {s : State} {m : MethodId} {args : Array Value} {below : List Frame} {meth : Method} {c : Code} {D : XD} {h0 : TH} (hC : XCx D cX0_layStart 6 RX0 h0 p (xRm 3 64 h0) s m args meth c) (hr : meth.sig.returnType = none) (hnh : c.exceptionTable.isEmpty = true) (hin : meth.name = "layStart") {x : TH} (k143 : Nat → Int32 → Int32 → Int32 → TH → Option TH) (hk143 : ∀ (x0 : Nat) (x1 : Int32) (x2 : Int32) (x3 : Int32) (h : TH), k143 x0 x1 x2 x3 h = some x → XJ p l e (xRm 3 64 h0) s m args below meth c D 6 (.returned none) h0 x 143 [(0, rv x0), (1, .int x1), (2, .int x2), (3, .int x3)] [] h) :
    ∀ (x0 : Nat) (x1 : Int32) (x2 : Int32) (x3 : Int32) (h : TH), F_X0_layStart_b114 D.2.2.2 k143 x0 x1 x2 x3 h = some x → XJ p l e (xRm 3 64 h0) s m args below meth c D 6 (.returned none) h0 x 114 [(0, rv x0), (1, .int x1), (2, .int x2), (3, .int x3)] [] h := by
  have hx := hC.1
  have hb := hC.2.1
  intro x0 x1 x2 x3 h hF H locs cells slots ls hX hl
  rw [F_X0_layStart_b114] at hF
  refine lv_goto (tgt := 143) hx hb dX0_layStart_114 (by decide) ?_
  exact hk143 x0 x1 x2 x3 h hF H locs cells slots ls hX (lv_sub hl [0, 1, 2, 3] rfl)
def F_X0_layStart_L49 (K : Nat → Nat) (k31 : Nat → Int32 → TH → Option TH) : Nat → Nat → Int32 → Int32 → Int32 → Int32 → TH → Option TH
  | 0, _, _, _, _, _, _ => none
  | fu + 1, x0, x1, x2, x3, x4, h =>
    gd (hasF (hT h x0) 7 = true) <|
    lt (hR h 7 x0) fun r_2 =>
    gd (hasF (hT h r_2) 30 = true) <|
    lt (hR h 30 r_2) fun r_4 =>
    gd (hT h r_4 = 3) <|
    bd (F_J2_size K h r_4) fun r_7 =>
    if r_7 ≤ x4 then
      F_X0_layStart_b143 K k31 x0 x1 x2 x3 h
    else
      gd (hasF (hT h x0) 7 = true) <|
      lt (hR h 7 x0) fun r_10 =>
      gd (hasF (hT h r_10) 30 = true) <|
      lt (hR h 30 r_10) fun r_12 =>
      gd (hT h r_12 = 3) <|
      bd (F_J2_get K h r_12 x4) fun r_15 =>
      bd (isI h r_15 "BlindCards$Lay") fun r_16 =>
      if r_16 = 0 then
        F_X0_layStart_b137 K (F_X0_layStart_L49 K k31 fu) x0 x1 x2 x3 x4 h
      else
        gd (hasF (hT h x0) 7 = true) <|
        lt (hR h 7 x0) fun r_20 =>
        gd (hasF (hT h r_20) 30 = true) <|
        lt (hR h 30 r_20) fun r_22 =>
        gd (hT h r_22 = 3) <|
        bd (F_J2_get K h r_22 x4) fun r_25 =>
        gd (r_25 = 0 ∨ castB (hT h r_25) "BlindCards$Lay" = true) <|
        gd (hT h r_25 = 19) <|
        bd (F_X19_many K h r_25) fun r_29 =>
        if (x3 + r_29) ≤ (8 : Int32) then
          gd (hT h r_25 = 19) <|
          bd (F_X19_cards K h r_25 x3 x1 (-1 : Int32) (0 : Int32)) fun r_33 =>
          lt ((x2 ||| r_33)) fun x_34 =>
          gd (hT h r_25 = 19) <|
          bd (F_X19_many K h r_25) fun r_37 =>
          lt ((x3 + r_37)) fun x_38 =>
          F_X0_layStart_b137 K (F_X0_layStart_L49 K k31 fu) x0 x1 x_34 x_38 x4 h
        else
          F_X0_layStart_b114 K (F_X0_layStart_b143 K k31) x0 x1 x2 x3 h
set_option maxHeartbeats 4000000 in
theorem w_X0_layStart_L49 {p : Program} {l : Launch} {e : Env} {s : State} {m : MethodId} {args : Array Value} {below : List Frame} {meth : Method} {c : Code} {D : XD} {h0 : TH} (hC : XCx D cX0_layStart 6 RX0 h0 p (xRm 3 64 h0) s m args meth c) (hr : meth.sig.returnType = none) (hnh : c.exceptionTable.isEmpty = true) (hin : meth.name = "layStart") {x : TH} (k31 : Nat → Int32 → TH → Option TH) (hk31 : ∀ (x0 : Nat) (x1 : Int32) (h : TH), k31 x0 x1 h = some x → XJ p l e (xRm 3 64 h0) s m args below meth c D 6 (.returned none) h0 x 31 [(0, rv x0), (1, .int x1)] [] h) :
    ∀ (fu : Nat) (x0 : Nat) (x1 : Int32) (x2 : Int32) (x3 : Int32) (x4 : Int32) (h : TH), F_X0_layStart_L49 D.2.2.2 k31 fu x0 x1 x2 x3 x4 h = some x → XJ p l e (xRm 3 64 h0) s m args below meth c D 6 (.returned none) h0 x 49 [(0, rv x0), (1, .int x1), (2, .int x2), (3, .int x3), (4, .int x4)] [] h := by
  have hx := hC.1
  have hb := hC.2.1
  intro fu
  induction fu with
  | zero => intro x0 x1 x2 x3 x4 h hF; exact nm_none hF
  | succ fu ih =>
    intro x0 x1 x2 x3 x4 h hF H locs cells slots ls hX hl
    rw [F_X0_layStart_L49] at hF
    refine lv_iload hx hb dX0_layStart_49 (lv_at hl 4 rfl) ?_
    refine X_aload_n hx hb dX0_layStart_51 rfl (lv_at hl 0 rfl) ?_
    obtain ⟨h_1, hF⟩ := gd_ok hF
    refine gX_X0_15 hC hX h_1 dX0_layStart_52 ?_
    refine lv_topr (fun r_2 er_2 => ?_)
    replace hF := lt_at hF er_2
    obtain ⟨h_3, hF⟩ := gd_ok hF
    refine gX_X0_145 hC hX h_3 dX0_layStart_55 ?_
    refine lv_topr (fun r_4 er_4 => ?_)
    replace hF := lt_at hF er_4
    obtain ⟨h_5, hF⟩ := gd_ok hF
    obtain ⟨r_7, hc_6, hF⟩ := bd_ok hF
    refine iX_X0_148 hC hX h_5 hc_6 hl.1 (Nat.le_of_ble_eq_true rfl) (Nat.le_of_ble_eq_true rfl) (Nat.le_of_ble_eq_true rfl) dX0_layStart_58 (fun H locs cells slots hX => ?_)
    refine lv_icmp_ge (tgt := 143) hx hb dX0_layStart_61 (by decide) (fun c_8 => ?_) (fun c_8 => ?_)
    · replace hF := it_t hF c_8
      exact w_X0_layStart_b143 hC hr hnh hin k31 hk31 x0 x1 x2 x3 h hF H locs cells slots ls hX (lv_sub hl [0, 1, 2, 3] rfl)
    · replace hF := it_f hF c_8
      refine X_aload_n hx hb dX0_layStart_64 rfl (lv_at hl 0 rfl) ?_
      obtain ⟨h_9, hF⟩ := gd_ok hF
      refine gX_X0_15 hC hX h_9 dX0_layStart_65 ?_
      refine lv_topr (fun r_10 er_10 => ?_)
      replace hF := lt_at hF er_10
      obtain ⟨h_11, hF⟩ := gd_ok hF
      refine gX_X0_145 hC hX h_11 dX0_layStart_68 ?_
      refine lv_topr (fun r_12 er_12 => ?_)
      replace hF := lt_at hF er_12
      refine lv_iload hx hb dX0_layStart_71 (lv_at hl 4 rfl) ?_
      obtain ⟨h_13, hF⟩ := gd_ok hF
      obtain ⟨r_15, hc_14, hF⟩ := bd_ok hF
      refine iX_X0_222 hC hX h_13 hc_14 hl.1 (Nat.le_of_ble_eq_true rfl) (Nat.le_of_ble_eq_true rfl) (Nat.le_of_ble_eq_true rfl) dX0_layStart_73 (fun H locs cells slots hX => ?_)
      obtain ⟨r_16, hc_17, hF⟩ := bd_ok hF
      refine X_inst hC hX hc_17 q1681 dX0_layStart_76 ?_
      refine lv_if_ne (tgt := 85) hx hb dX0_layStart_79 (by decide) (fun c_18 => ?_) (fun c_18 => ?_)
      · replace hF := it_f hF c_18
        refine X_aload_n hx hb dX0_layStart_85 rfl (lv_at hl 0 rfl) ?_
        obtain ⟨h_19, hF⟩ := gd_ok hF
        refine gX_X0_15 hC hX h_19 dX0_layStart_86 ?_
        refine lv_topr (fun r_20 er_20 => ?_)
        replace hF := lt_at hF er_20
        obtain ⟨h_21, hF⟩ := gd_ok hF
        refine gX_X0_145 hC hX h_21 dX0_layStart_89 ?_
        refine lv_topr (fun r_22 er_22 => ?_)
        replace hF := lt_at hF er_22
        refine lv_iload hx hb dX0_layStart_92 (lv_at hl 4 rfl) ?_
        obtain ⟨h_23, hF⟩ := gd_ok hF
        obtain ⟨r_25, hc_24, hF⟩ := bd_ok hF
        refine iX_X0_222 hC hX h_23 hc_24 hl.1 (Nat.le_of_ble_eq_true rfl) (Nat.le_of_ble_eq_true rfl) (Nat.le_of_ble_eq_true rfl) dX0_layStart_94 (fun H locs cells slots hX => ?_)
        obtain ⟨h_26, hF⟩ := gd_ok hF
        refine X_cast hC hX h_26 q1681 dX0_layStart_97 ?_
        refine X_astore (lv' := [(5, rv r_25), (0, rv x0), (1, .int x1), (2, .int x2), (3, .int x3), (4, .int x4)]) hx hb dX0_layStart_100 hl (by decide) rfl (fun ls hl => ?_)
        refine lv_iload_n hx hb dX0_layStart_102 rfl (lv_at hl 4 rfl) ?_
        refine X_aload hx hb dX0_layStart_103 (lv_at hl 0 rfl) ?_
        obtain ⟨h_27, hF⟩ := gd_ok hF
        obtain ⟨r_29, hc_28, hF⟩ := bd_ok hF
        refine iX_X0_228 hC hX h_27 hc_28 hl.1 (Nat.le_of_ble_eq_true rfl) (Nat.le_of_ble_eq_true rfl) (Nat.le_of_ble_eq_true rfl) dX0_layStart_105 (fun H locs cells slots hX => ?_)
        refine lv_iadd hx hb dX0_layStart_108 ?_
        refine lv_bipush (v := 8) hx hb dX0_layStart_109 (by decide) ?_
        refine lv_icmp_le (tgt := 117) hx hb dX0_layStart_111 (by decide) (fun c_30 => ?_) (fun c_30 => ?_)
        · replace hF := it_t hF c_30
          refine lv_iload_n hx hb dX0_layStart_117 rfl (lv_at hl 3 rfl) ?_
          refine X_aload hx hb dX0_layStart_118 (lv_at hl 0 rfl) ?_
          refine lv_iload_n hx hb dX0_layStart_120 rfl (lv_at hl 4 rfl) ?_
          refine lv_iload_n hx hb dX0_layStart_121 rfl (lv_at hl 2 rfl) ?_
          refine lv_iconst (v := -1) hx hb dX0_layStart_122 (by decide) ?_
          refine lv_iconst (v := 0) hx hb dX0_layStart_123 (by decide) ?_
          obtain ⟨h_31, hF⟩ := gd_ok hF
          obtain ⟨r_33, hc_32, hF⟩ := bd_ok hF
          refine iX_X0_230 hC hX h_31 hc_32 hl.1 (Nat.le_of_ble_eq_true rfl) (Nat.le_of_ble_eq_true rfl) (Nat.le_of_ble_eq_true rfl) dX0_layStart_124 (fun H locs cells slots hX => ?_)
          refine lv_ior hx hb dX0_layStart_127 ?_
          refine lv_topi (fun x_34 ex_34 => ?_)
          replace hF := lt_at hF ex_34
          refine lv_istore_n (lv' := [(2, .int x_34), (5, rv r_25), (0, rv x0), (1, .int x1), (3, .int x3), (4, .int x4)]) hx hb dX0_layStart_128 rfl hl (by decide) rfl (fun ls hl => ?_)
          refine lv_iload_n hx hb dX0_layStart_129 rfl (lv_at hl 4 rfl) ?_
          refine X_aload hx hb dX0_layStart_130 (lv_at hl 1 rfl) ?_
          obtain ⟨h_35, hF⟩ := gd_ok hF
          obtain ⟨r_37, hc_36, hF⟩ := bd_ok hF
          refine iX_X0_228 hC hX h_35 hc_36 hl.1 (Nat.le_of_ble_eq_true rfl) (Nat.le_of_ble_eq_true rfl) (Nat.le_of_ble_eq_true rfl) dX0_layStart_132 (fun H locs cells slots hX => ?_)
          refine lv_iadd hx hb dX0_layStart_135 ?_
          refine lv_topi (fun x_38 ex_38 => ?_)
          replace hF := lt_at hF ex_38
          refine lv_istore_n (lv' := [(3, .int x_38), (2, .int x_34), (5, rv r_25), (0, rv x0), (1, .int x1), (4, .int x4)]) hx hb dX0_layStart_136 rfl hl (by decide) rfl (fun ls hl => ?_)
          exact w_X0_layStart_b137 hC hr hnh hin (F_X0_layStart_L49 D.2.2.2 k31 fu) ih x0 x1 x_34 x_38 x4 h hF H locs cells slots ls hX (lv_sub hl [3, 4, 1, 0, 5] rfl)
        · replace hF := it_f hF c_30
          exact w_X0_layStart_b114 hC hr hnh hin (F_X0_layStart_b143 D.2.2.2 k31) (w_X0_layStart_b143 hC hr hnh hin k31 hk31) x0 x1 x2 x3 h hF H locs cells slots ls hX (lv_sub hl [1, 2, 3, 4] rfl)
      · replace hF := it_t hF c_18
        refine lv_goto (tgt := 137) hx hb dX0_layStart_82 (by decide) ?_
        exact w_X0_layStart_b137 hC hr hnh hin (F_X0_layStart_L49 D.2.2.2 k31 fu) ih x0 x1 x2 x3 x4 h hF H locs cells slots ls hX (lv_sub hl [0, 1, 2, 3, 4] rfl)
def F_X0_layStart_L31 (K : Nat → Nat) : Nat → Nat → Int32 → TH → Option TH
  | 0, _, _, _ => none
  | fu + 1, x0, x1, h =>
    gd (hasF (hT h x0) 7 = true) <|
    lt (hR h 7 x0) fun r_2 =>
    gd (hT h r_2 = 2) <|
    bd (F_X1_inputs K h r_2) fun r_5 =>
    if r_5 ≤ x1 then
      some h
    else
      F_X0_layStart_L49 K (F_X0_layStart_L31 K fu) MN x0 x1 (0 : Int32) (0 : Int32) (0 : Int32) h
set_option maxHeartbeats 4000000 in
theorem w_X0_layStart_L31 {p : Program} {l : Launch} {e : Env} {s : State} {m : MethodId} {args : Array Value} {below : List Frame} {meth : Method} {c : Code} {D : XD} {h0 : TH} (hC : XCx D cX0_layStart 6 RX0 h0 p (xRm 3 64 h0) s m args meth c) (hr : meth.sig.returnType = none) (hnh : c.exceptionTable.isEmpty = true) (hin : meth.name = "layStart") {x : TH} :
    ∀ (fu : Nat) (x0 : Nat) (x1 : Int32) (h : TH), F_X0_layStart_L31 D.2.2.2 fu x0 x1 h = some x → XJ p l e (xRm 3 64 h0) s m args below meth c D 6 (.returned none) h0 x 31 [(0, rv x0), (1, .int x1)] [] h := by
  have hx := hC.1
  have hb := hC.2.1
  intro fu
  induction fu with
  | zero => intro x0 x1 h hF; exact nm_none hF
  | succ fu ih =>
    intro x0 x1 h hF H locs cells slots ls hX hl
    rw [F_X0_layStart_L31] at hF
    refine lv_iload_n hx hb dX0_layStart_31 rfl (lv_at hl 1 rfl) ?_
    refine X_aload_n hx hb dX0_layStart_32 rfl (lv_at hl 0 rfl) ?_
    obtain ⟨h_1, hF⟩ := gd_ok hF
    refine gX_X0_15 hC hX h_1 dX0_layStart_33 ?_
    refine lv_topr (fun r_2 er_2 => ?_)
    replace hF := lt_at hF er_2
    obtain ⟨h_3, hF⟩ := gd_ok hF
    obtain ⟨r_5, hc_4, hF⟩ := bd_ok hF
    refine iX_X0_152 hC hX h_3 hc_4 hl.1 (Nat.le_of_ble_eq_true rfl) (Nat.le_of_ble_eq_true rfl) (Nat.le_of_ble_eq_true rfl) dX0_layStart_36 (fun H locs cells slots hX => ?_)
    refine lv_icmp_ge (tgt := 169) hx hb dX0_layStart_39 (by decide) (fun c_6 => ?_) (fun c_6 => ?_)
    · replace hF := it_t hF c_6
      exact x_retv hC hX hr (Option.some.inj hF) dX0_layStart_169
    · replace hF := it_f hF c_6
      refine lv_iconst (v := 0) hx hb dX0_layStart_42 (by decide) ?_
      refine lv_istore_n (lv' := [(2, .int (0 : Int32)), (0, rv x0), (1, .int x1)]) hx hb dX0_layStart_43 rfl hl (by decide) rfl (fun ls hl => ?_)
      refine lv_iconst (v := 0) hx hb dX0_layStart_44 (by decide) ?_
      refine lv_istore_n (lv' := [(3, .int (0 : Int32)), (2, .int (0 : Int32)), (0, rv x0), (1, .int x1)]) hx hb dX0_layStart_45 rfl hl (by decide) rfl (fun ls hl => ?_)
      refine lv_iconst (v := 0) hx hb dX0_layStart_46 (by decide) ?_
      refine lv_istore (lv' := [(4, .int (0 : Int32)), (3, .int (0 : Int32)), (2, .int (0 : Int32)), (0, rv x0), (1, .int x1)]) hx hb dX0_layStart_47 hl (by decide) rfl (fun ls hl => ?_)
      exact w_X0_layStart_L49 hC hr hnh hin (F_X0_layStart_L31 D.2.2.2 fu) ih MN x0 x1 (0 : Int32) (0 : Int32) (0 : Int32) h hF H locs cells slots ls hX (lv_sub hl [3, 4, 2, 1, 0] rfl)
def F_X0_layStart_b29 (K : Nat → Nat) (x0 : Nat) (h : TH) : Option TH :=
  F_X0_layStart_L31 K MN x0 (0 : Int32) h
set_option maxHeartbeats 4000000 in
theorem w_X0_layStart_b29 {p : Program} {l : Launch} {e : Env} {s : State} {m : MethodId} {args : Array Value} {below : List Frame} {meth : Method} {c : Code} {D : XD} {h0 : TH} (hC : XCx D cX0_layStart 6 RX0 h0 p (xRm 3 64 h0) s m args meth c) (hr : meth.sig.returnType = none) (hnh : c.exceptionTable.isEmpty = true) (hin : meth.name = "layStart") {x : TH} :
    ∀ (x0 : Nat) (h : TH), F_X0_layStart_b29 D.2.2.2 x0 h = some x → XJ p l e (xRm 3 64 h0) s m args below meth c D 6 (.returned none) h0 x 29 [(0, rv x0)] [] h := by
  have hx := hC.1
  have hb := hC.2.1
  intro x0 h hF H locs cells slots ls hX hl
  rw [F_X0_layStart_b29] at hF
  refine lv_iconst (v := 0) hx hb dX0_layStart_29 (by decide) ?_
  refine lv_istore_n (i := 1) hx hb dX0_layStart_30 rfl hl (by decide) rfl (fun ls hl => ?_)
  replace hl : lv_has ls 6 [(1, .int (0 : Int32)), (0, rv x0)] := lv_subS hl (List.forall_mem_cons.mpr ⟨Or.inl rfl, (List.forall_mem_cons.mpr ⟨Or.inr ⟨List.mem_of_getElem? (i := 0) rfl, by simp [rv_cat]⟩, (fun _ h => nomatch h)⟩)⟩)
  exact w_X0_layStart_L31 hC hr hnh hin MN x0 (0 : Int32) h hF H locs cells slots ls hX (lv_sub hl [1, 0] rfl)
def F_X0_layStart_L7 (K : Nat → Nat) : Nat → Nat → Int32 → TH → Option TH
  | 0, _, _, _ => none
  | fu + 1, x0, x1, h =>
    if (2048 : Int32) ≤ x1 then
      F_X0_layStart_b29 K x0 h
    else
      gd (hasF (hT h x0) 13 = true) <|
      lt (hR h 13 x0) fun r_3 =>
      gd (hT h r_3 = 35 ∨ hT h r_3 = 36 ∨ hT h r_3 = 37 ∨ hT h r_3 = 48) <|
      gd (inb (0 : Int32) (hN h r_3)) <|
      lt (hY h r_3 (Int32.toNatClampNeg (0 : Int32))) fun r_6 =>
      gd (hT h r_6 = 34) <|
      gd (inb x1 (hN h r_6)) <|
      lt (uL h r_6 (Int32.toNatClampNeg x1) (0 : Int64)) fun h_9 =>
      lt (x1 + (1 : Int32)) fun x1_10 =>
      F_X0_layStart_L7 K fu x0 x1_10 h_9
set_option maxHeartbeats 4000000 in
theorem w_X0_layStart_L7 {p : Program} {l : Launch} {e : Env} {s : State} {m : MethodId} {args : Array Value} {below : List Frame} {meth : Method} {c : Code} {D : XD} {h0 : TH} (hC : XCx D cX0_layStart 6 RX0 h0 p (xRm 3 64 h0) s m args meth c) (hr : meth.sig.returnType = none) (hnh : c.exceptionTable.isEmpty = true) (hin : meth.name = "layStart") {x : TH} :
    ∀ (fu : Nat) (x0 : Nat) (x1 : Int32) (h : TH), F_X0_layStart_L7 D.2.2.2 fu x0 x1 h = some x → XJ p l e (xRm 3 64 h0) s m args below meth c D 6 (.returned none) h0 x 7 [(0, rv x0), (1, .int x1)] [] h := by
  have hx := hC.1
  have hb := hC.2.1
  intro fu
  induction fu with
  | zero => intro x0 x1 h hF; exact nm_none hF
  | succ fu ih =>
    intro x0 x1 h hF H locs cells slots ls hX hl
    rw [F_X0_layStart_L7] at hF
    refine lv_iload_n hx hb dX0_layStart_7 rfl (lv_at hl 1 rfl) ?_
    refine lv_sipush (v := 2048) hx hb dX0_layStart_8 (by decide) ?_
    refine lv_icmp_ge (tgt := 29) hx hb dX0_layStart_11 (by decide) (fun c_1 => ?_) (fun c_1 => ?_)
    · replace hF := it_t hF c_1
      exact w_X0_layStart_b29 hC hr hnh hin x0 h hF H locs cells slots ls hX (lv_sub hl [0] rfl)
    · replace hF := it_f hF c_1
      refine X_aload_n hx hb dX0_layStart_14 rfl (lv_at hl 0 rfl) ?_
      obtain ⟨h_2, hF⟩ := gd_ok hF
      refine gX_X0_78 hC hX h_2 dX0_layStart_15 ?_
      refine lv_topr (fun r_3 er_3 => ?_)
      replace hF := lt_at hF er_3
      refine lv_iconst (v := 0) hx hb dX0_layStart_18 (by decide) ?_
      obtain ⟨h_4, hF⟩ := gd_ok hF
      obtain ⟨h_5, hF⟩ := gd_ok hF
      refine X_aald hC hX h_4 h_5 dX0_layStart_19 ?_
      refine lv_topr (fun r_6 er_6 => ?_)
      replace hF := lt_at hF er_6
      refine lv_iload_n hx hb dX0_layStart_20 rfl (lv_at hl 1 rfl) ?_
      refine lv_lconst (v := 0) hx hb dX0_layStart_21 (by decide) ?_
      obtain ⟨h_7, hF⟩ := gd_ok hF
      obtain ⟨h_8, hF⟩ := gd_ok hF
      refine X_last hC hX h_7 h_8 dX0_layStart_22 (fun H locs hX => ?_)
      obtain ⟨h_9, eh_9, hF⟩ := lt_ok hF
      rw [← eh_9] at hX
      obtain ⟨x1_10, ex1_10, hF⟩ := lt_ok hF
      refine lv_iinc (v := x1_10) hx hb dX0_layStart_23 hl (k := 1) rfl (by rw [ex1_10]; rfl) (by decide) rfl (fun ls hl => ?_)
      replace hl : lv_has ls 6 [(1, .int x1_10), (0, rv x0)] := lv_subS hl (List.forall_mem_cons.mpr ⟨Or.inl rfl, (List.forall_mem_cons.mpr ⟨Or.inr ⟨List.mem_of_getElem? (i := 0) rfl, by simp [rv_cat]⟩, (fun _ h => nomatch h)⟩)⟩)
      refine lv_goto (tgt := 7) hx hb dX0_layStart_26 (by decide) ?_
      exact ih x0 x1_10 h_9 hF H locs cells slots ls hX (lv_sub hl [1, 0] rfl)
def F_X0_layStart (K : Nat → Nat) (a0 : Nat) (h : TH) : Option TH :=
  gd (hasF (hT h a0) 15 = true) <|
  gd (hT h a0 ≤ 24) <|
  lt (uI h 15 a0 (0 : Int32)) fun h_3 =>
  F_X0_layStart_L7 K MN a0 (0 : Int32) h_3
set_option maxHeartbeats 4000000 in
theorem w_X0_layStart {p : Program} {l : Launch} {e : Env} {s : State} {m : MethodId} {args : Array Value} {below : List Frame} {meth : Method} {c : Code} {D : XD} {h0 : TH} (hC : XCx D cX0_layStart 6 RX0 h0 p (xRm 3 64 h0) s m args meth c) (hr : meth.sig.returnType = none) (hnh : c.exceptionTable.isEmpty = true) (hin : meth.name = "layStart") {x : TH} :
    ∀ (a0 : Nat) (h : TH), F_X0_layStart D.2.2.2 a0 h = some x → XJ p l e (xRm 3 64 h0) s m args below meth c D 6 (.returned none) h0 x 0 [(0, rv a0)] [] h := by
  have hx := hC.1
  have hb := hC.2.1
  intro a0 h hF H locs cells slots ls hX hl
  rw [F_X0_layStart] at hF
  refine X_aload_n hx hb dX0_layStart_0 rfl (lv_at hl 0 rfl) ?_
  refine lv_iconst (v := 0) hx hb dX0_layStart_1 (by decide) ?_
  obtain ⟨h_1, hF⟩ := gd_ok hF
  obtain ⟨h_2, hF⟩ := gd_ok hF
  refine pX_X0_219 hC hX h_1 h_2 dX0_layStart_2 (fun H locs hX => ?_)
  obtain ⟨h_3, eh_3, hF⟩ := lt_ok hF
  rw [← eh_3] at hX
  refine lv_iconst (v := 0) hx hb dX0_layStart_5 (by decide) ?_
  refine lv_istore_n (i := 1) hx hb dX0_layStart_6 rfl hl (by decide) rfl (fun ls hl => ?_)
  replace hl : lv_has ls 6 [(1, .int (0 : Int32)), (0, rv a0)] := lv_subS hl (List.forall_mem_cons.mpr ⟨Or.inl rfl, (List.forall_mem_cons.mpr ⟨Or.inr ⟨List.mem_of_getElem? (i := 0) rfl, by simp [rv_cat]⟩, (fun _ h => nomatch h)⟩)⟩)
  exact w_X0_layStart_L7 hC hr hnh hin MN a0 (0 : Int32) h_3 hF H locs cells slots ls hX (lv_sub hl [1, 0] rfl)
theorem m_X0_layStart (l : Launch) (D : XD) (a0 : Nat) (h : TH) (x : TH) (hF : F_X0_layStart D.2.2.2 a0 h = some x) : XMt l yX0_layStart (ws_ yX0_layStart cX0_layStart 6 (none)) 3 64 D [rv a0] h (.returned none) x := by
  refine x_met (by decide +kernel) ?_ ?_
  · simp [lg_sl, rv_cat, cat_i, cat_l]
  intro p e s m below meth c hC hr hnh hin ls hl hX
  replace hl : lv_has ls 6 [(0, rv a0)] := by simpa [lv_args, rv_cat, cat_i, cat_l] using hl
  exact w_X0_layStart hC hr hnh hin a0 h hF s.heap [] 0 0 ls hX hl
theorem gX_X0_213 {p : Program} {l : Launch} {e : Env} {R : Room} {s : State} {m : MethodId} {args : Array Value} {below : List Frame} {meth : Method} {c : Code} {H : Heap} {locs : List Loc} {cells slots nL : Nat} {Q : State → Prop} {D : XD} {h0 h : TH} {cc : ByteArray} {pc : Nat} {ls : Array Slot} {rest : List Value} (hC : XCx D cc nL RX0 h0 p R s m args meth c) (hX : XSt D s h0 h H locs cells slots) {a : Nat} (hf : hasF (hT h a) 33 = true) (hdg : decode cc pc = .ok (.getfield 213, 3)) (kk : W p l e R s m args below meth c H locs cells slots Q (F0 m (pc + 3) ls (.int (hI h 33 a) :: rest))) : W p l e R s m args below meth c H locs cells slots Q (F0 m pc ls (rv a :: rest)) :=
  X_geti hC hX 33 hf rfl q230 (fun _ h => h) hdg kk
theorem gX_X0_265 {p : Program} {l : Launch} {e : Env} {R : Room} {s : State} {m : MethodId} {args : Array Value} {below : List Frame} {meth : Method} {c : Code} {H : Heap} {locs : List Loc} {cells slots nL : Nat} {Q : State → Prop} {D : XD} {h0 h : TH} {cc : ByteArray} {pc : Nat} {ls : Array Slot} {rest : List Value} (hC : XCx D cc nL RX0 h0 p R s m args meth c) (hX : XSt D s h0 h H locs cells slots) {a : Nat} (hf : hasF (hT h a) 31 = true) (hdg : decode cc pc = .ok (.getfield 265, 3)) (kk : W p l e R s m args below meth c H locs cells slots Q (F0 m (pc + 3) ls (rv (hR h 31 a) :: rest))) : W p l e R s m args below meth c H locs cells slots Q (F0 m pc ls (rv a :: rest)) :=
  X_getr hC hX 31 hf rfl (fun q => absurd q (by decide)) q224 (fun _ h => h) hdg kk
theorem gX_X0_249 {p : Program} {l : Launch} {e : Env} {R : Room} {s : State} {m : MethodId} {args : Array Value} {below : List Frame} {meth : Method} {c : Code} {H : Heap} {locs : List Loc} {cells slots nL : Nat} {Q : State → Prop} {D : XD} {h0 h : TH} {cc : ByteArray} {pc : Nat} {ls : Array Slot} {rest : List Value} (hC : XCx D cc nL RX0 h0 p R s m args meth c) (hX : XSt D s h0 h H locs cells slots) {a : Nat} (hf : hasF (hT h a) 32 = true) (hdg : decode cc pc = .ok (.getfield 249, 3)) (kk : W p l e R s m args below meth c H locs cells slots Q (F0 m (pc + 3) ls (rv (hR h 32 a) :: rest))) : W p l e R s m args below meth c H locs cells slots Q (F0 m pc ls (rv a :: rest)) :=
  X_getr hC hX 32 hf rfl (fun q => absurd q (by decide)) q227 (fun _ h => h) hdg kk
theorem iX_X0_277 {p : Program} {l : Launch} {e : Env} {R : Room} {s : State} {m : MethodId} {args : Array Value} {below : List Frame} {meth : Method} {c : Code} {H : Heap} {locs : List Loc} {cells slots nL : Nat} {Q : State → Prop} {D : XD} {h0 h : TH} {cc : ByteArray} {pc : Nat} {ls : Array Slot} {rest : List Value} (hC : XCx D cc nL RX0 h0 p R s m args meth c) (hX : XSt D s h0 h H locs cells slots) {a : Nat} {x : TH} (ht : hT h a = 1) (hcF : F_X0_layStart D.2.2.2 a h = some x) (hl : ls.size = nL) (hW : (rest.map fun v => v.category).sum ≤ 8) (hRf : 3 + 1 ≤ R.frames) (hRl : 89 ≤ R.locals) (hdg : decode cc pc = .ok (.invokevirtual 277, 3)) (kk : ∀ (H1 : Heap) (locs1 : List Loc) (cells1 slots1 : Nat), XSt D s h0 x H1 locs1 cells1 slots1 → W p l e R s m args below meth c H1 locs1 cells1 slots1 Q (F0 m (pc + 3) ls (rest))) : W p l e R s m args below meth c H locs cells slots Q (F0 m pc ls (rv a :: rest)) := by
  have q := ht
  exact X_callV hC hX (by rw [q]; decide) (by rw [q]; rfl) (As := []) (m_X0_layStart l D a h _ hcF) (cwV 0 hC.2.2.2.2.1 (lw_V q1676 q1678 qs43 q125 q1679) rfl rfl rfl (by decide +kernel) ⟨Nat.le_trans (Nat.le_of_ble_eq_true rfl) hRf, Nat.le_trans (Nat.le_of_ble_eq_true rfl) hRl⟩) rfl rfl hl hW hdg kk
theorem gX_X0_219 {p : Program} {l : Launch} {e : Env} {R : Room} {s : State} {m : MethodId} {args : Array Value} {below : List Frame} {meth : Method} {c : Code} {H : Heap} {locs : List Loc} {cells slots nL : Nat} {Q : State → Prop} {D : XD} {h0 h : TH} {cc : ByteArray} {pc : Nat} {ls : Array Slot} {rest : List Value} (hC : XCx D cc nL RX0 h0 p R s m args meth c) (hX : XSt D s h0 h H locs cells slots) {a : Nat} (hf : hasF (hT h a) 15 = true) (hdg : decode cc pc = .ok (.getfield 219, 3)) (kk : W p l e R s m args below meth c H locs cells slots Q (F0 m (pc + 3) ls (.int (hI h 15 a) :: rest))) : W p l e R s m args below meth c H locs cells slots Q (F0 m pc ls (rv a :: rest)) :=
  X_geti hC hX 15 hf rfl q765 (fun _ h => h) hdg kk
theorem gX_X0_96 {p : Program} {l : Launch} {e : Env} {R : Room} {s : State} {m : MethodId} {args : Array Value} {below : List Frame} {meth : Method} {c : Code} {H : Heap} {locs : List Loc} {cells slots nL : Nat} {Q : State → Prop} {D : XD} {h0 h : TH} {cc : ByteArray} {pc : Nat} {ls : Array Slot} {rest : List Value} (hC : XCx D cc nL RX0 h0 p R s m args meth c) (hX : XSt D s h0 h H locs cells slots) {a : Nat} (hf : hasF (hT h a) 26 = true) (hdg : decode cc pc = .ok (.getfield 96, 3)) (kk : W p l e R s m args below meth c H locs cells slots Q (F0 m (pc + 3) ls (rv (hR h 26 a) :: rest))) : W p l e R s m args below meth c H locs cells slots Q (F0 m pc ls (rv a :: rest)) :=
  X_getr hC hX 26 hf rfl (fun q => absurd q (by decide)) q776 (fun _ h => h) hdg kk
theorem gX_X0_329 {p : Program} {l : Launch} {e : Env} {R : Room} {s : State} {m : MethodId} {args : Array Value} {below : List Frame} {meth : Method} {c : Code} {H : Heap} {locs : List Loc} {cells slots nL : Nat} {Q : State → Prop} {D : XD} {h0 h : TH} {cc : ByteArray} {pc : Nat} {ls : Array Slot} {rest : List Value} (hC : XCx D cc nL RX0 h0 p R s m args meth c) (hX : XSt D s h0 h H locs cells slots) {a : Nat} (hf : hasF (hT h a) 12 = true) (hdg : decode cc pc = .ok (.getfield 329, 3)) (kk : W p l e R s m args below meth c H locs cells slots Q (F0 m (pc + 3) ls (.int (hI h 12 a) :: rest))) : W p l e R s m args below meth c H locs cells slots Q (F0 m pc ls (rv a :: rest)) :=
  X_geti hC hX 12 hf rfl q762 (fun _ h => h) hdg kk
theorem gX_X0_117 {p : Program} {l : Launch} {e : Env} {R : Room} {s : State} {m : MethodId} {args : Array Value} {below : List Frame} {meth : Method} {c : Code} {H : Heap} {locs : List Loc} {cells slots nL : Nat} {Q : State → Prop} {D : XD} {h0 h : TH} {cc : ByteArray} {pc : Nat} {ls : Array Slot} {rest : List Value} (hC : XCx D cc nL RX0 h0 p R s m args meth c) (hX : XSt D s h0 h H locs cells slots) {a : Nat} (hf : hasF (hT h a) 4 = true) (hdg : decode cc pc = .ok (.getfield 117, 3)) (kk : W p l e R s m args below meth c H locs cells slots Q (F0 m (pc + 3) ls (.int (hI h 4 a) :: rest))) : W p l e R s m args below meth c H locs cells slots Q (F0 m pc ls (rv a :: rest)) :=
  X_geti hC hX 4 hf rfl q750 (fun _ h => h) hdg kk
theorem gX_X0_75 {p : Program} {l : Launch} {e : Env} {R : Room} {s : State} {m : MethodId} {args : Array Value} {below : List Frame} {meth : Method} {c : Code} {H : Heap} {locs : List Loc} {cells slots nL : Nat} {Q : State → Prop} {D : XD} {h0 h : TH} {cc : ByteArray} {pc : Nat} {ls : Array Slot} {rest : List Value} (hC : XCx D cc nL RX0 h0 p R s m args meth c) (hX : XSt D s h0 h H locs cells slots) {a : Nat} (hf : hasF (hT h a) 11 = true) (hdg : decode cc pc = .ok (.getfield 75, 3)) (kk : W p l e R s m args below meth c H locs cells slots Q (F0 m (pc + 3) ls (.int (hI h 11 a) :: rest))) : W p l e R s m args below meth c H locs cells slots Q (F0 m pc ls (rv a :: rest)) :=
  X_geti hC hX 11 hf rfl q761 (fun _ h => h) hdg kk
theorem gX_X0_355 {p : Program} {l : Launch} {e : Env} {R : Room} {s : State} {m : MethodId} {args : Array Value} {below : List Frame} {meth : Method} {c : Code} {H : Heap} {locs : List Loc} {cells slots nL : Nat} {Q : State → Prop} {D : XD} {h0 h : TH} {cc : ByteArray} {pc : Nat} {ls : Array Slot} {rest : List Value} (hC : XCx D cc nL RX0 h0 p R s m args meth c) (hX : XSt D s h0 h H locs cells slots) {a : Nat} (hf : hasF (hT h a) 34 = true) (hdg : decode cc pc = .ok (.getfield 355, 3)) (kk : W p l e R s m args below meth c H locs cells slots Q (F0 m (pc + 3) ls (.int (hI h 34 a) :: rest))) : W p l e R s m args below meth c H locs cells slots Q (F0 m pc ls (rv a :: rest)) :=
  X_geti hC hX 34 hf rfl q232 (fun _ h => h) hdg kk
/-! BlindCards.about -/
def F_X0_about (K : Nat → Nat) (a0 : Nat) (b0 : Int32) (h : TH) : Option (Int32 × TH) :=
  if b0 = (0 : Int32) then
    gd (hasF (hT h a0) 7 = true) <|
    lt (hR h 7 a0) fun r_3 =>
    gd (hasF (hT h r_3) 33 = true) <|
    some ((hI h 33 r_3), h)
  else
  if b0 = (1 : Int32) then
    gd (hasF (hT h a0) 7 = true) <|
    lt (hR h 7 a0) fun r_7 =>
    gd (hasF (hT h r_7) 30 = true) <|
    lt (hR h 30 r_7) fun r_9 =>
    gd (hT h r_9 = 3) <|
    bd (F_J2_size K h r_9) fun r_12 =>
    some (r_12, h)
  else
  if b0 = (2 : Int32) then
    gd (hasF (hT h a0) 7 = true) <|
    lt (hR h 7 a0) fun r_15 =>
    gd (hasF (hT h r_15) 31 = true) <|
    lt (hR h 31 r_15) fun r_17 =>
    gd (hT h r_17 = 3) <|
    bd (F_J2_size K h r_17) fun r_20 =>
    some (r_20, h)
  else
  if b0 = (3 : Int32) then
    gd (hasF (hT h a0) 7 = true) <|
    lt (hR h 7 a0) fun r_23 =>
    gd (hasF (hT h r_23) 32 = true) <|
    lt (hR h 32 r_23) fun r_25 =>
    gd (hT h r_25 = 3) <|
    bd (F_J2_size K h r_25) fun r_28 =>
    some (r_28, h)
  else
  if b0 = (4 : Int32) then
    gd (hT h a0 = 1) <|
    bd (F_X0_layStart K a0 h) fun h_32 =>
    gd (hasF (hT h_32 a0) 15 = true) <|
    some ((hI h_32 15 a0), h_32)
  else
  if b0 = (5 : Int32) then
    gd (hasF (hT h a0) 26 = true) <|
    lt (hR h 26 a0) fun r_36 =>
    gd (hT h r_36 = 3) <|
    bd (F_J2_size K h r_36) fun r_39 =>
    some (r_39, h)
  else
  if b0 = (6 : Int32) then
    gd (hasF (hT h a0) 12 = true) <|
    some ((hI h 12 a0), h)
  else
  if b0 = (7 : Int32) then
    gd (hasF (hT h a0) 4 = true) <|
    some ((hI h 4 a0), h)
  else
  if b0 = (8 : Int32) then
    gd (hasF (hT h a0) 11 = true) <|
    some ((hI h 11 a0), h)
  else
  if b0 = (9 : Int32) then
    gd (hasF (hT h a0) 7 = true) <|
    lt (hR h 7 a0) fun r_48 =>
    gd (hasF (hT h r_48) 34 = true) <|
    some ((hI h 34 r_48), h)
  else
    some ((-1 : Int32), h)
set_option maxHeartbeats 4000000 in
theorem w_X0_about {p : Program} {l : Launch} {e : Env} {s : State} {m : MethodId} {args : Array Value} {below : List Frame} {meth : Method} {c : Code} {D : XD} {h0 : TH} (hC : XCx D cX0_about 2 RX0 h0 p (xRm 4 89 h0) s m args meth c) (hr : meth.sig.returnType = some .int) (hnh : c.exceptionTable.isEmpty = true) (hin : meth.name = "about") {x : (Int32 × TH)} :
    ∀ (a0 : Nat) (b0 : Int32) (h : TH), F_X0_about D.2.2.2 a0 b0 h = some x → XJ p l e (xRm 4 89 h0) s m args below meth c D 2 (.returned (some (.int x.1))) h0 x.2 0 [(0, rv a0), (1, .int b0)] [] h := by
  have hx := hC.1
  have hb := hC.2.1
  intro a0 b0 h hF H locs cells slots ls hX hl
  rw [F_X0_about] at hF
  refine lv_iload_n hx hb dX0_about_0 rfl (lv_at hl 1 rfl) ?_
  by_cases c_1 : b0 = (0 : Int32)
  · replace hF := it_t hF c_1
    refine lv_tableIn (off := 55) (tgt := 56) hx hb dX0_about_1 (by rw [c_1]; decide) (by rw [c_1]; decide) (by rw [c_1]; rfl) (by decide) ?_
    refine X_aload_n hx hb dX0_about_56 rfl (lv_at hl 0 rfl) ?_
    obtain ⟨h_2, hF⟩ := gd_ok hF
    refine gX_X0_15 hC hX h_2 dX0_about_57 ?_
    refine lv_topr (fun r_3 er_3 => ?_)
    replace hF := lt_at hF er_3
    obtain ⟨h_4, hF⟩ := gd_ok hF
    refine gX_X0_213 hC hX h_4 dX0_about_60 ?_
    exact x_reti hC hX hr rfl (rt1 hF) (rt2 hF) dX0_about_63
  replace hF := it_f hF c_1
  by_cases c_5 : b0 = (1 : Int32)
  · replace hF := it_t hF c_5
    refine lv_tableIn (off := 63) (tgt := 64) hx hb dX0_about_1 (by rw [c_5]; decide) (by rw [c_5]; decide) (by rw [c_5]; rfl) (by decide) ?_
    refine X_aload_n hx hb dX0_about_64 rfl (lv_at hl 0 rfl) ?_
    obtain ⟨h_6, hF⟩ := gd_ok hF
    refine gX_X0_15 hC hX h_6 dX0_about_65 ?_
    refine lv_topr (fun r_7 er_7 => ?_)
    replace hF := lt_at hF er_7
    obtain ⟨h_8, hF⟩ := gd_ok hF
    refine gX_X0_145 hC hX h_8 dX0_about_68 ?_
    refine lv_topr (fun r_9 er_9 => ?_)
    replace hF := lt_at hF er_9
    obtain ⟨h_10, hF⟩ := gd_ok hF
    obtain ⟨r_12, hc_11, hF⟩ := bd_ok hF
    refine iX_X0_148 hC hX h_10 hc_11 hl.1 (Nat.le_of_ble_eq_true rfl) (Nat.le_of_ble_eq_true rfl) (Nat.le_of_ble_eq_true rfl) dX0_about_71 (fun H locs cells slots hX => ?_)
    exact x_reti hC hX hr rfl (rt1 hF) (rt2 hF) dX0_about_74
  replace hF := it_f hF c_5
  by_cases c_13 : b0 = (2 : Int32)
  · replace hF := it_t hF c_13
    refine lv_tableIn (off := 74) (tgt := 75) hx hb dX0_about_1 (by rw [c_13]; decide) (by rw [c_13]; decide) (by rw [c_13]; rfl) (by decide) ?_
    refine X_aload_n hx hb dX0_about_75 rfl (lv_at hl 0 rfl) ?_
    obtain ⟨h_14, hF⟩ := gd_ok hF
    refine gX_X0_15 hC hX h_14 dX0_about_76 ?_
    refine lv_topr (fun r_15 er_15 => ?_)
    replace hF := lt_at hF er_15
    obtain ⟨h_16, hF⟩ := gd_ok hF
    refine gX_X0_265 hC hX h_16 dX0_about_79 ?_
    refine lv_topr (fun r_17 er_17 => ?_)
    replace hF := lt_at hF er_17
    obtain ⟨h_18, hF⟩ := gd_ok hF
    obtain ⟨r_20, hc_19, hF⟩ := bd_ok hF
    refine iX_X0_148 hC hX h_18 hc_19 hl.1 (Nat.le_of_ble_eq_true rfl) (Nat.le_of_ble_eq_true rfl) (Nat.le_of_ble_eq_true rfl) dX0_about_82 (fun H locs cells slots hX => ?_)
    exact x_reti hC hX hr rfl (rt1 hF) (rt2 hF) dX0_about_85
  replace hF := it_f hF c_13
  by_cases c_21 : b0 = (3 : Int32)
  · replace hF := it_t hF c_21
    refine lv_tableIn (off := 85) (tgt := 86) hx hb dX0_about_1 (by rw [c_21]; decide) (by rw [c_21]; decide) (by rw [c_21]; rfl) (by decide) ?_
    refine X_aload_n hx hb dX0_about_86 rfl (lv_at hl 0 rfl) ?_
    obtain ⟨h_22, hF⟩ := gd_ok hF
    refine gX_X0_15 hC hX h_22 dX0_about_87 ?_
    refine lv_topr (fun r_23 er_23 => ?_)
    replace hF := lt_at hF er_23
    obtain ⟨h_24, hF⟩ := gd_ok hF
    refine gX_X0_249 hC hX h_24 dX0_about_90 ?_
    refine lv_topr (fun r_25 er_25 => ?_)
    replace hF := lt_at hF er_25
    obtain ⟨h_26, hF⟩ := gd_ok hF
    obtain ⟨r_28, hc_27, hF⟩ := bd_ok hF
    refine iX_X0_148 hC hX h_26 hc_27 hl.1 (Nat.le_of_ble_eq_true rfl) (Nat.le_of_ble_eq_true rfl) (Nat.le_of_ble_eq_true rfl) dX0_about_93 (fun H locs cells slots hX => ?_)
    exact x_reti hC hX hr rfl (rt1 hF) (rt2 hF) dX0_about_96
  replace hF := it_f hF c_21
  by_cases c_29 : b0 = (4 : Int32)
  · replace hF := it_t hF c_29
    refine lv_tableIn (off := 96) (tgt := 97) hx hb dX0_about_1 (by rw [c_29]; decide) (by rw [c_29]; decide) (by rw [c_29]; rfl) (by decide) ?_
    refine X_aload_n hx hb dX0_about_97 rfl (lv_at hl 0 rfl) ?_
    obtain ⟨h_30, hF⟩ := gd_ok hF
    obtain ⟨h_32, hc_31, hF⟩ := bd_ok hF
    refine iX_X0_277 hC hX h_30 hc_31 hl.1 (Nat.le_of_ble_eq_true rfl) (Nat.le_of_ble_eq_true rfl) (Nat.le_of_ble_eq_true rfl) dX0_about_98 (fun H locs cells slots hX => ?_)
    refine X_aload_n hx hb dX0_about_101 rfl (lv_at hl 0 rfl) ?_
    obtain ⟨h_33, hF⟩ := gd_ok hF
    refine gX_X0_219 hC hX h_33 dX0_about_102 ?_
    exact x_reti hC hX hr rfl (rt1 hF) (rt2 hF) dX0_about_105
  replace hF := it_f hF c_29
  by_cases c_34 : b0 = (5 : Int32)
  · replace hF := it_t hF c_34
    refine lv_tableIn (off := 105) (tgt := 106) hx hb dX0_about_1 (by rw [c_34]; decide) (by rw [c_34]; decide) (by rw [c_34]; rfl) (by decide) ?_
    refine X_aload_n hx hb dX0_about_106 rfl (lv_at hl 0 rfl) ?_
    obtain ⟨h_35, hF⟩ := gd_ok hF
    refine gX_X0_96 hC hX h_35 dX0_about_107 ?_
    refine lv_topr (fun r_36 er_36 => ?_)
    replace hF := lt_at hF er_36
    obtain ⟨h_37, hF⟩ := gd_ok hF
    obtain ⟨r_39, hc_38, hF⟩ := bd_ok hF
    refine iX_X0_148 hC hX h_37 hc_38 hl.1 (Nat.le_of_ble_eq_true rfl) (Nat.le_of_ble_eq_true rfl) (Nat.le_of_ble_eq_true rfl) dX0_about_110 (fun H locs cells slots hX => ?_)
    exact x_reti hC hX hr rfl (rt1 hF) (rt2 hF) dX0_about_113
  replace hF := it_f hF c_34
  by_cases c_40 : b0 = (6 : Int32)
  · replace hF := it_t hF c_40
    refine lv_tableIn (off := 113) (tgt := 114) hx hb dX0_about_1 (by rw [c_40]; decide) (by rw [c_40]; decide) (by rw [c_40]; rfl) (by decide) ?_
    refine X_aload_n hx hb dX0_about_114 rfl (lv_at hl 0 rfl) ?_
    obtain ⟨h_41, hF⟩ := gd_ok hF
    refine gX_X0_329 hC hX h_41 dX0_about_115 ?_
    exact x_reti hC hX hr rfl (rt1 hF) (rt2 hF) dX0_about_118
  replace hF := it_f hF c_40
  by_cases c_42 : b0 = (7 : Int32)
  · replace hF := it_t hF c_42
    refine lv_tableIn (off := 118) (tgt := 119) hx hb dX0_about_1 (by rw [c_42]; decide) (by rw [c_42]; decide) (by rw [c_42]; rfl) (by decide) ?_
    refine X_aload_n hx hb dX0_about_119 rfl (lv_at hl 0 rfl) ?_
    obtain ⟨h_43, hF⟩ := gd_ok hF
    refine gX_X0_117 hC hX h_43 dX0_about_120 ?_
    exact x_reti hC hX hr rfl (rt1 hF) (rt2 hF) dX0_about_123
  replace hF := it_f hF c_42
  by_cases c_44 : b0 = (8 : Int32)
  · replace hF := it_t hF c_44
    refine lv_tableIn (off := 123) (tgt := 124) hx hb dX0_about_1 (by rw [c_44]; decide) (by rw [c_44]; decide) (by rw [c_44]; rfl) (by decide) ?_
    refine X_aload_n hx hb dX0_about_124 rfl (lv_at hl 0 rfl) ?_
    obtain ⟨h_45, hF⟩ := gd_ok hF
    refine gX_X0_75 hC hX h_45 dX0_about_125 ?_
    exact x_reti hC hX hr rfl (rt1 hF) (rt2 hF) dX0_about_128
  replace hF := it_f hF c_44
  by_cases c_46 : b0 = (9 : Int32)
  · replace hF := it_t hF c_46
    refine lv_tableIn (off := 128) (tgt := 129) hx hb dX0_about_1 (by rw [c_46]; decide) (by rw [c_46]; decide) (by rw [c_46]; rfl) (by decide) ?_
    refine X_aload_n hx hb dX0_about_129 rfl (lv_at hl 0 rfl) ?_
    obtain ⟨h_47, hF⟩ := gd_ok hF
    refine gX_X0_15 hC hX h_47 dX0_about_130 ?_
    refine lv_topr (fun r_48 er_48 => ?_)
    replace hF := lt_at hF er_48
    obtain ⟨h_49, hF⟩ := gd_ok hF
    refine gX_X0_355 hC hX h_49 dX0_about_133 ?_
    exact x_reti hC hX hr rfl (rt1 hF) (rt2 hF) dX0_about_136
  replace hF := it_f hF c_46
  refine lv_tableD (keys := [0, 1, 2, 3, 4, 5, 6, 7, 8, 9]) (tgt := 137) hx hb dX0_about_1 (List.forall_mem_cons.mpr ⟨ne_toInt c_1 rfl, (List.forall_mem_cons.mpr ⟨ne_toInt c_5 rfl, (List.forall_mem_cons.mpr ⟨ne_toInt c_13 rfl, (List.forall_mem_cons.mpr ⟨ne_toInt c_21 rfl, (List.forall_mem_cons.mpr ⟨ne_toInt c_29 rfl, (List.forall_mem_cons.mpr ⟨ne_toInt c_34 rfl, (List.forall_mem_cons.mpr ⟨ne_toInt c_40 rfl, (List.forall_mem_cons.mpr ⟨ne_toInt c_42 rfl, (List.forall_mem_cons.mpr ⟨ne_toInt c_44 rfl, (List.forall_mem_cons.mpr ⟨ne_toInt c_46 rfl, (fun _ h => nomatch h)⟩)⟩)⟩)⟩)⟩)⟩)⟩)⟩)⟩)⟩) rfl rfl (by decide) ?_
  refine lv_iconst (v := -1) hx hb dX0_about_137 (by decide) ?_
  exact x_reti hC hX hr rfl (rt1 hF) (rt2 hF) dX0_about_138
theorem m_X0_about (l : Launch) (D : XD) (a0 : Nat) (b0 : Int32) (h : TH) (x : (Int32 × TH)) (hF : F_X0_about D.2.2.2 a0 b0 h = some x) : XMt l yX0_about (ws_ yX0_about cX0_about 2 (some .int)) 4 89 D [rv a0, .int b0] h (.returned (some (.int x.1))) x.2 := by
  refine x_met (by decide +kernel) ?_ ?_
  · simp [lg_sl, rv_cat, cat_i, cat_l]
  intro p e s m below meth c hC hr hnh hin ls hl hX
  replace hl : lv_has ls 2 [(0, rv a0), (1, .int b0)] := by simpa [lv_args, rv_cat, cat_i, cat_l] using hl
  exact w_X0_about hC hr hnh hin a0 b0 h hF s.heap [] 0 0 ls hX hl
/-! BlindCards.isIn -/
def F_X0_isIn (K : Nat → Nat) (h : TH) (b0 : Int32) (b1 : Int32) (b2 : Int32) : Option Int32 :=
  if b0 < b1 then
    some (0 : Int32)
  else
    if b2 < b0 then
      some (0 : Int32)
    else
      some (1 : Int32)
set_option maxHeartbeats 4000000 in
theorem w_X0_isIn {p : Program} {l : Launch} {e : Env} {s : State} {m : MethodId} {args : Array Value} {below : List Frame} {meth : Method} {c : Code} {D : XD} {h : TH} (hC : XCx D cX0_isIn 3 RX0 h p (xRm 0 0 h) s m args meth c) (hr : meth.sig.returnType = some .boolean) (hnh : c.exceptionTable.isEmpty = true) (hin : meth.name = "isIn") {x : Int32} :
    ∀ (b0 : Int32) (b1 : Int32) (b2 : Int32), F_X0_isIn D.2.2.2 h b0 b1 b2 = some x → XJ p l e (xRm 0 0 h) s m args below meth c D 3 (.returned (some (.int x))) h h 0 [(0, .int b0), (1, .int b1), (2, .int b2)] [] h := by
  have hx := hC.1
  have hb := hC.2.1
  intro b0 b1 b2 hF H locs cells slots ls hX hl
  rw [F_X0_isIn] at hF
  refine lv_iload_n hx hb dX0_isIn_0 rfl (lv_at hl 0 rfl) ?_
  refine lv_iload_n hx hb dX0_isIn_1 rfl (lv_at hl 1 rfl) ?_
  refine lv_icmp_lt (tgt := 14) hx hb dX0_isIn_2 (by decide) (fun c_1 => ?_) (fun c_1 => ?_)
  · replace hF := it_t hF c_1
    refine lv_iconst (v := 0) hx hb dX0_isIn_14 (by decide) ?_
    exact x_reti hC hX hr rfl (Option.some.inj hF) rfl dX0_isIn_15
  · replace hF := it_f hF c_1
    refine lv_iload_n hx hb dX0_isIn_5 rfl (lv_at hl 0 rfl) ?_
    refine lv_iload_n hx hb dX0_isIn_6 rfl (lv_at hl 2 rfl) ?_
    refine lv_icmp_gt (tgt := 14) hx hb dX0_isIn_7 (by decide) (fun c_2 => ?_) (fun c_2 => ?_)
    · replace hF := it_t hF c_2
      refine lv_iconst (v := 0) hx hb dX0_isIn_14 (by decide) ?_
      exact x_reti hC hX hr rfl (Option.some.inj hF) rfl dX0_isIn_15
    · replace hF := it_f hF c_2
      refine lv_iconst (v := 1) hx hb dX0_isIn_10 (by decide) ?_
      refine lv_goto (tgt := 15) hx hb dX0_isIn_11 (by decide) ?_
      exact x_reti hC hX hr rfl (Option.some.inj hF) rfl dX0_isIn_15
theorem m_X0_isIn (l : Launch) (D : XD) (b0 : Int32) (b1 : Int32) (b2 : Int32) (h : TH) (x : Int32) (hF : F_X0_isIn D.2.2.2 h b0 b1 b2 = some x) : XMt l yX0_isIn (ws_ yX0_isIn cX0_isIn 3 (some .boolean)) 0 0 D [.int b0, .int b1, .int b2] h (.returned (some (.int x))) h := by
  refine x_met (by decide +kernel) ?_ ?_
  · exact Nat.le_of_ble_eq_true rfl
  intro p e s m below meth c hC hr hnh hin ls hl hX
  replace hl : lv_has ls 3 [(0, .int b0), (1, .int b1), (2, .int b2)] := by simpa [lv_args, rv_cat, cat_i, cat_l] using hl
  exact w_X0_isIn hC hr hnh hin b0 b1 b2 hF s.heap [] 0 0 ls hX hl
theorem iX_X0_155 {p : Program} {l : Launch} {e : Env} {R : Room} {s : State} {m : MethodId} {args : Array Value} {below : List Frame} {meth : Method} {c : Code} {H : Heap} {locs : List Loc} {cells slots nL : Nat} {Q : State → Prop} {D : XD} {h0 h : TH} {cc : ByteArray} {pc : Nat} {ls : Array Slot} {rest : List Value} (hC : XCx D cc nL RX0 h0 p R s m args meth c) (hX : XSt D s h0 h H locs cells slots) {b0 : Int32} {b1 : Int32} {b2 : Int32} {x : Int32} (hcF : F_X0_isIn D.2.2.2 h b0 b1 b2 = some x) (hl : ls.size = nL) (hW : (rest.map fun v => v.category).sum ≤ 8) (hRf : 0 + 1 ≤ R.frames) (hRl : 22 ≤ R.locals) (hdg : decode cc pc = .ok (.invokestatic 155, 3)) (kk : ∀ (H1 : Heap) (locs1 : List Loc) (cells1 slots1 : Nat), XSt D s h0 h H1 locs1 cells1 slots1 → W p l e R s m args below meth c H1 locs1 cells1 slots1 Q (F0 m (pc + 3) ls (.int x :: rest))) : W p l e R s m args below meth c H locs cells slots Q (F0 m pc ls (.int b2 :: .int b1 :: .int b0 :: rest)) := by
  exact X_callS hC hX (As := [.int b0, .int b1, .int b2]) (m_X0_isIn l D b0 b1 b2 h _ hcF) (va_cwS 3 hC.2.2.2.2.1 (lw_S q1596 q1597 q125 q1598) rfl rfl rfl (by decide +kernel) ⟨Nat.le_trans (Nat.le_of_ble_eq_true rfl) hRf, Nat.le_trans (Nat.le_of_ble_eq_true rfl) hRl⟩) rfl rfl hl hW hdg kk
/-! BlindCards.isInput -/
def F_X0_isInput (K : Nat → Nat) (h : TH) (a0 : Nat) (b0 : Int32) : Option Int32 :=
  gd (hasF (hT h a0) 7 = true) <|
  lt (hR h 7 a0) fun r_2 =>
  gd (hT h r_2 = 2) <|
  bd (F_X1_inputs K h r_2) fun r_5 =>
  bd (F_X0_isIn K h b0 (0 : Int32) (r_5 - (1 : Int32))) fun r_7 =>
  gd (r_7 = 0 ∨ r_7 = 1) <|
  some r_7
set_option maxHeartbeats 4000000 in
theorem w_X0_isInput {p : Program} {l : Launch} {e : Env} {s : State} {m : MethodId} {args : Array Value} {below : List Frame} {meth : Method} {c : Code} {D : XD} {h : TH} (hC : XCx D cX0_isInput 2 RX0 h p (xRm 1 22 h) s m args meth c) (hr : meth.sig.returnType = some .boolean) (hnh : c.exceptionTable.isEmpty = true) (hin : meth.name = "isInput") {x : Int32} :
    ∀ (a0 : Nat) (b0 : Int32), F_X0_isInput D.2.2.2 h a0 b0 = some x → XJ p l e (xRm 1 22 h) s m args below meth c D 2 (.returned (some (.int x))) h h 0 [(0, rv a0), (1, .int b0)] [] h := by
  have hx := hC.1
  have hb := hC.2.1
  intro a0 b0 hF H locs cells slots ls hX hl
  rw [F_X0_isInput] at hF
  refine lv_iload_n hx hb dX0_isInput_0 rfl (lv_at hl 1 rfl) ?_
  refine lv_iconst (v := 0) hx hb dX0_isInput_1 (by decide) ?_
  refine X_aload_n hx hb dX0_isInput_2 rfl (lv_at hl 0 rfl) ?_
  obtain ⟨h_1, hF⟩ := gd_ok hF
  refine gX_X0_15 hC hX h_1 dX0_isInput_3 ?_
  refine lv_topr (fun r_2 er_2 => ?_)
  replace hF := lt_at hF er_2
  obtain ⟨h_3, hF⟩ := gd_ok hF
  obtain ⟨r_5, hc_4, hF⟩ := bd_ok hF
  refine iX_X0_152 hC hX h_3 hc_4 hl.1 (Nat.le_of_ble_eq_true rfl) (Nat.le_of_ble_eq_true rfl) (Nat.le_of_ble_eq_true rfl) dX0_isInput_6 (fun H locs cells slots hX => ?_)
  refine lv_iconst (v := 1) hx hb dX0_isInput_9 (by decide) ?_
  refine lv_isub hx hb dX0_isInput_10 ?_
  obtain ⟨r_7, hc_6, hF⟩ := bd_ok hF
  refine iX_X0_155 hC hX hc_6 hl.1 (Nat.le_of_ble_eq_true rfl) (Nat.le_of_ble_eq_true rfl) (Nat.le_of_ble_eq_true rfl) dX0_isInput_11 (fun H locs cells slots hX => ?_)
  obtain ⟨h_8, hF⟩ := gd_ok hF
  exact x_reti hC hX hr (zb_nar h_8).1 (Option.some.inj hF) rfl dX0_isInput_14
theorem m_X0_isInput (l : Launch) (D : XD) (a0 : Nat) (b0 : Int32) (h : TH) (x : Int32) (hF : F_X0_isInput D.2.2.2 h a0 b0 = some x) : XMt l yX0_isInput (ws_ yX0_isInput cX0_isInput 2 (some .boolean)) 1 22 D [rv a0, .int b0] h (.returned (some (.int x))) h := by
  refine x_met (by decide +kernel) ?_ ?_
  · simp [lg_sl, rv_cat, cat_i, cat_l]
  intro p e s m below meth c hC hr hnh hin ls hl hX
  replace hl : lv_has ls 2 [(0, rv a0), (1, .int b0)] := by simpa [lv_args, rv_cat, cat_i, cat_l] using hl
  exact w_X0_isInput hC hr hnh hin a0 b0 hF s.heap [] 0 0 ls hX hl
theorem pX_X24_9 {p : Program} {l : Launch} {e : Env} {R : Room} {s : State} {m : MethodId} {args : Array Value} {below : List Frame} {meth : Method} {c : Code} {H : Heap} {locs : List Loc} {cells slots nL : Nat} {Q : State → Prop} {D : XD} {h0 h : TH} {cc : ByteArray} {pc : Nat} {ls : Array Slot} {rest : List Value} (hC : XCx D cc nL RX24 h0 p R s m args meth c) (hX : XSt D s h0 h H locs cells slots) {a : Nat} {v : Int32} (hf : hasF (hT h a) 117 = true) (hw : hT h a ≤ 24) (hdg : decode cc pc = .ok (.putfield 9, 3)) (kk : ∀ (H1 : Heap) (locs1 : List Loc), XSt D s h0 (uI h 117 a v) H1 locs1 cells slots → W p l e R s m args below meth c H1 locs1 cells slots Q (F0 m (pc + 3) ls rest)) : W p l e R s m args below meth c H locs cells slots Q (F0 m pc ls (.int v :: rv a :: rest)) :=
  X_puti hC hX 117 hf hw rfl rfl q1754 (fun _ h => h) ⟨rfl, rfl⟩ hdg kk
theorem pX_X24_15 {p : Program} {l : Launch} {e : Env} {R : Room} {s : State} {m : MethodId} {args : Array Value} {below : List Frame} {meth : Method} {c : Code} {H : Heap} {locs : List Loc} {cells slots nL : Nat} {Q : State → Prop} {D : XD} {h0 h : TH} {cc : ByteArray} {pc : Nat} {ls : Array Slot} {rest : List Value} (hC : XCx D cc nL RX24 h0 p R s m args meth c) (hX : XSt D s h0 h H locs cells slots) (hinit : meth.name = "<init>") {a : Nat} {v : Int32} (hf : hasF (hT h a) 115 = true) (hw : hT h a ≤ 24) (hdg : decode cc pc = .ok (.putfield 15, 3)) (kk : ∀ (H1 : Heap) (locs1 : List Loc), XSt D s h0 (uI h 115 a v) H1 locs1 cells slots → W p l e R s m args below meth c H1 locs1 cells slots Q (F0 m (pc + 3) ls rest)) : W p l e R s m args below meth c H locs cells slots Q (F0 m pc ls (.int v :: rv a :: rest)) :=
  X_putiF hC hX hinit 115 hf hw rfl rfl rfl q1751 ⟨rfl, rfl⟩ hdg kk
theorem pX_X24_18 {p : Program} {l : Launch} {e : Env} {R : Room} {s : State} {m : MethodId} {args : Array Value} {below : List Frame} {meth : Method} {c : Code} {H : Heap} {locs : List Loc} {cells slots nL : Nat} {Q : State → Prop} {D : XD} {h0 h : TH} {cc : ByteArray} {pc : Nat} {ls : Array Slot} {rest : List Value} (hC : XCx D cc nL RX24 h0 p R s m args meth c) (hX : XSt D s h0 h H locs cells slots) (hinit : meth.name = "<init>") {a : Nat} {v : Int32} (hf : hasF (hT h a) 116 = true) (hw : hT h a ≤ 24) (hdg : decode cc pc = .ok (.putfield 18, 3)) (kk : ∀ (H1 : Heap) (locs1 : List Loc), XSt D s h0 (uI h 116 a v) H1 locs1 cells slots → W p l e R s m args below meth c H1 locs1 cells slots Q (F0 m (pc + 3) ls rest)) : W p l e R s m args below meth c H locs cells slots Q (F0 m pc ls (.int v :: rv a :: rest)) :=
  X_putiF hC hX hinit 116 hf hw rfl rfl rfl q1753 ⟨rfl, rfl⟩ hdg kk
/-! BlindCards$Look.<init> -/
def F_X24_init (K : Nat → Nat) (a0 : Nat) (b0 : Int32) (b1 : Int32) (h : TH) : Option TH :=
  gd (a0 ≠ 0) <|
  gd (hasF (hT h a0) 117 = true) <|
  gd (hT h a0 ≤ 24) <|
  lt (uI h 117 a0 (-1 : Int32)) fun h_4 =>
  gd (hasF (hT h_4 a0) 115 = true) <|
  gd (hT h_4 a0 ≤ 24) <|
  lt (uI h_4 115 a0 b0) fun h_7 =>
  gd (hasF (hT h_7 a0) 116 = true) <|
  gd (hT h_7 a0 ≤ 24) <|
  lt (uI h_7 116 a0 b1) fun h_10 =>
  some h_10
set_option maxHeartbeats 4000000 in
theorem w_X24_init {p : Program} {l : Launch} {e : Env} {s : State} {m : MethodId} {args : Array Value} {below : List Frame} {meth : Method} {c : Code} {D : XD} {h0 : TH} (hC : XCx D cX24_init 3 RX24 h0 p (xRm 1 30 h0) s m args meth c) (hr : meth.sig.returnType = none) (hnh : c.exceptionTable.isEmpty = true) (hin : meth.name = "<init>") {x : TH} :
    ∀ (a0 : Nat) (b0 : Int32) (b1 : Int32) (h : TH), F_X24_init D.2.2.2 a0 b0 b1 h = some x → XJ p l e (xRm 1 30 h0) s m args below meth c D 3 (.returned none) h0 x 0 [(0, rv a0), (1, .int b0), (2, .int b1)] [] h := by
  have hx := hC.1
  have hb := hC.2.1
  intro a0 b0 b1 h hF H locs cells slots ls hX hl
  rw [F_X24_init] at hF
  refine X_aload_n hx hb dX24_init_0 rfl (lv_at hl 0 rfl) ?_
  obtain ⟨h_1, hF⟩ := gd_ok hF
  refine X_objInit hC h_1 q1750 q175 q176 hl.1 (Nat.le_of_ble_eq_true rfl) (objlo (Nat.le_of_ble_eq_true rfl) (Nat.le_of_ble_eq_true rfl)) dX24_init_1 ?_
  refine X_aload_n hx hb dX24_init_4 rfl (lv_at hl 0 rfl) ?_
  refine lv_iconst (v := -1) hx hb dX24_init_5 (by decide) ?_
  obtain ⟨h_2, hF⟩ := gd_ok hF
  obtain ⟨h_3, hF⟩ := gd_ok hF
  refine pX_X24_9 hC hX h_2 h_3 dX24_init_6 (fun H locs hX => ?_)
  obtain ⟨h_4, eh_4, hF⟩ := lt_ok hF
  rw [← eh_4] at hX
  refine X_aload_n hx hb dX24_init_9 rfl (lv_at hl 0 rfl) ?_
  refine lv_iload_n hx hb dX24_init_10 rfl (lv_at hl 1 rfl) ?_
  obtain ⟨h_5, hF⟩ := gd_ok hF
  obtain ⟨h_6, hF⟩ := gd_ok hF
  refine pX_X24_15 hC hX hin h_5 h_6 dX24_init_11 (fun H locs hX => ?_)
  obtain ⟨h_7, eh_7, hF⟩ := lt_ok hF
  rw [← eh_7] at hX
  refine X_aload_n hx hb dX24_init_14 rfl (lv_at hl 0 rfl) ?_
  refine lv_iload_n hx hb dX24_init_15 rfl (lv_at hl 2 rfl) ?_
  obtain ⟨h_8, hF⟩ := gd_ok hF
  obtain ⟨h_9, hF⟩ := gd_ok hF
  refine pX_X24_18 hC hX hin h_8 h_9 dX24_init_16 (fun H locs hX => ?_)
  obtain ⟨h_10, eh_10, hF⟩ := lt_ok hF
  rw [← eh_10] at hX
  exact x_retv hC hX hr (Option.some.inj hF) dX24_init_19
theorem m_X24_init (l : Launch) (D : XD) (a0 : Nat) (b0 : Int32) (b1 : Int32) (h : TH) (x : TH) (hF : F_X24_init D.2.2.2 a0 b0 b1 h = some x) : XMt l yX24_init (ws_ yX24_init cX24_init 3 (none)) 1 30 D [rv a0, .int b0, .int b1] h (.returned none) x := by
  refine x_met (by decide +kernel) ?_ ?_
  · simp [lg_sl, rv_cat, cat_i, cat_l]
  intro p e s m below meth c hC hr hnh hin ls hl hX
  replace hl : lv_has ls 3 [(0, rv a0), (1, .int b0), (2, .int b1)] := by simpa [lv_args, rv_cat, cat_i, cat_l] using hl
  exact w_X24_init hC hr hnh hin a0 b0 b1 h hF s.heap [] 0 0 ls hX hl
theorem nX_X24_10 {p : Program} {l : Launch} {e : Env} {R : Room} {s : State} {m : MethodId} {args : Array Value} {below : List Frame} {meth : Method} {c : Code} {H : Heap} {locs : List Loc} {cells slots nL : Nat} {Q : State → Prop} {D : XD} {h0 h : TH} {cc : ByteArray} {pc : Nat} {ls : Array Slot} {rest : List Value} (hC : XCx D cc nL RX24 h0 p R s m args meth c) (hX : XSt D s h0 h H locs cells slots) (hroom : hc h + 1 ≤ XC ∧ hs h + 3 ≤ XS) (hdg : decode cc pc = .ok (.new 10, 3)) (kk : ∀ (H1 : Heap) (cells1 slots1 : Nat), XSt D s h0 (nO h 24 3) H1 locs cells1 slots1 → W p l e R s m args below meth c H1 locs cells1 slots1 Q (F0 m (pc + 3) ls (rv (hz h + 1) :: rest))) : W p l e R s m args below meth c H locs cells slots Q (F0 m pc ls rest) :=
  X_new hC hX 24 ⟨by decide, by decide⟩ rfl q1801 q1746 q168 hroom hdg kk
theorem gX_X24_15 {p : Program} {l : Launch} {e : Env} {R : Room} {s : State} {m : MethodId} {args : Array Value} {below : List Frame} {meth : Method} {c : Code} {H : Heap} {locs : List Loc} {cells slots nL : Nat} {Q : State → Prop} {D : XD} {h0 h : TH} {cc : ByteArray} {pc : Nat} {ls : Array Slot} {rest : List Value} (hC : XCx D cc nL RX24 h0 p R s m args meth c) (hX : XSt D s h0 h H locs cells slots) {a : Nat} (hf : hasF (hT h a) 115 = true) (hdg : decode cc pc = .ok (.getfield 15, 3)) (kk : W p l e R s m args below meth c H locs cells slots Q (F0 m (pc + 3) ls (.int (hI h 115 a) :: rest))) : W p l e R s m args below meth c H locs cells slots Q (F0 m pc ls (rv a :: rest)) :=
  X_geti hC hX 115 hf rfl q1751 (fun _ h => h) hdg kk
theorem gX_X24_18 {p : Program} {l : Launch} {e : Env} {R : Room} {s : State} {m : MethodId} {args : Array Value} {below : List Frame} {meth : Method} {c : Code} {H : Heap} {locs : List Loc} {cells slots nL : Nat} {Q : State → Prop} {D : XD} {h0 h : TH} {cc : ByteArray} {pc : Nat} {ls : Array Slot} {rest : List Value} (hC : XCx D cc nL RX24 h0 p R s m args meth c) (hX : XSt D s h0 h H locs cells slots) {a : Nat} (hf : hasF (hT h a) 116 = true) (hdg : decode cc pc = .ok (.getfield 18, 3)) (kk : W p l e R s m args below meth c H locs cells slots Q (F0 m (pc + 3) ls (.int (hI h 116 a) :: rest))) : W p l e R s m args below meth c H locs cells slots Q (F0 m pc ls (rv a :: rest)) :=
  X_geti hC hX 116 hf rfl q1753 (fun _ h => h) hdg kk
theorem iX_X24_21 {p : Program} {l : Launch} {e : Env} {R : Room} {s : State} {m : MethodId} {args : Array Value} {below : List Frame} {meth : Method} {c : Code} {H : Heap} {locs : List Loc} {cells slots nL : Nat} {Q : State → Prop} {D : XD} {h0 h : TH} {cc : ByteArray} {pc : Nat} {ls : Array Slot} {rest : List Value} (hC : XCx D cc nL RX24 h0 p R s m args meth c) (hX : XSt D s h0 h H locs cells slots) {a : Nat} {b0 : Int32} {b1 : Int32} {x : TH} (ha : a ≠ 0) (hcF : F_X24_init D.2.2.2 a b0 b1 h = some x) (hl : ls.size = nL) (hW : (rest.map fun v => v.category).sum ≤ 8) (hRf : 1 + 1 ≤ R.frames) (hRl : 52 ≤ R.locals) (hdg : decode cc pc = .ok (.invokespecial 21, 3)) (kk : ∀ (H1 : Heap) (locs1 : List Loc) (cells1 slots1 : Nat), XSt D s h0 x H1 locs1 cells1 slots1 → W p l e R s m args below meth c H1 locs1 cells1 slots1 Q (F0 m (pc + 3) ls (rest))) : W p l e R s m args below meth c H locs cells slots Q (F0 m pc ls (.int b1 :: .int b0 :: rv a :: rest)) := by
  exact X_callI hC hX ha (As := [.int b0, .int b1]) (m_X24_init l D a b0 b1 h _ hcF) (cwI 2 hC.2.2.2.2.1 (lw_meth q1749) rfl rfl rfl (hC.2.2.2.2.1 _ q168) (hC.2.2.2.2.1 _ q1802) (hC.2.2.2.2.1 _ q1748) rfl (by decide +kernel) ⟨Nat.le_trans (Nat.le_of_ble_eq_true rfl) hRf, Nat.le_trans (Nat.le_of_ble_eq_true rfl) hRl⟩) rfl rfl hl hW hdg kk
theorem gX_X24_9 {p : Program} {l : Launch} {e : Env} {R : Room} {s : State} {m : MethodId} {args : Array Value} {below : List Frame} {meth : Method} {c : Code} {H : Heap} {locs : List Loc} {cells slots nL : Nat} {Q : State → Prop} {D : XD} {h0 h : TH} {cc : ByteArray} {pc : Nat} {ls : Array Slot} {rest : List Value} (hC : XCx D cc nL RX24 h0 p R s m args meth c) (hX : XSt D s h0 h H locs cells slots) {a : Nat} (hf : hasF (hT h a) 117 = true) (hdg : decode cc pc = .ok (.getfield 9, 3)) (kk : W p l e R s m args below meth c H locs cells slots Q (F0 m (pc + 3) ls (.int (hI h 117 a) :: rest))) : W p l e R s m args below meth c H locs cells slots Q (F0 m pc ls (rv a :: rest)) :=
  X_geti hC hX 117 hf rfl q1754 (fun _ h => h) hdg kk
/-! BlindCards$Look.again -/
def F_X24_again (K : Nat → Nat) (a0 : Nat) (h : TH) : Option (Nat × TH) :=
  gd (hc h + 1 ≤ XC ∧ hs h + 3 ≤ XS) <|
  lt (hz h + 1) fun r_2 =>
  lt (nO h 24 3) fun h_3 =>
  gd (hasF (hT h_3 a0) 115 = true) <|
  gd (hasF (hT h_3 a0) 116 = true) <|
  gd (r_2 ≠ 0) <|
  bd (F_X24_init K r_2 (hI h_3 115 a0) (hI h_3 116 a0) h_3) fun h_8 =>
  gd (hasF (hT h_8 a0) 117 = true) <|
  gd (hasF (hT h_8 r_2) 117 = true) <|
  gd (hT h_8 r_2 ≤ 24) <|
  lt (uI h_8 117 r_2 (hI h_8 117 a0)) fun h_12 =>
  some (r_2, h_12)
set_option maxHeartbeats 4000000 in
theorem w_X24_again {p : Program} {l : Launch} {e : Env} {s : State} {m : MethodId} {args : Array Value} {below : List Frame} {meth : Method} {c : Code} {D : XD} {h0 : TH} (hC : XCx D cX24_again 2 RX24 h0 p (xRm 2 52 h0) s m args meth c) (hr : meth.sig.returnType = some (.object "BlindCards$Look")) (hnh : c.exceptionTable.isEmpty = true) (hin : meth.name = "again") {x : (Nat × TH)} :
    ∀ (a0 : Nat) (h : TH), F_X24_again D.2.2.2 a0 h = some x → XJ p l e (xRm 2 52 h0) s m args below meth c D 2 (.returned (some (rv x.1))) h0 x.2 0 [(0, rv a0)] [] h := by
  have hx := hC.1
  have hb := hC.2.1
  intro a0 h hF H locs cells slots ls hX hl
  rw [F_X24_again] at hF
  obtain ⟨h_1, hF⟩ := gd_ok hF
  refine nX_X24_10 hC hX h_1 dX24_again_0 (fun H cells slots hX => ?_)
  refine lv_topr (fun r_2 er_2 => ?_)
  replace hF := lt_at hF er_2
  obtain ⟨h_3, eh_3, hF⟩ := lt_ok hF
  rw [← eh_3] at hX
  refine lv_dup hx hb dX24_again_3 (rv_cat _) ?_
  refine X_aload_n hx hb dX24_again_4 rfl (lv_at hl 0 rfl) ?_
  obtain ⟨h_4, hF⟩ := gd_ok hF
  refine gX_X24_15 hC hX h_4 dX24_again_5 ?_
  refine X_aload_n hx hb dX24_again_8 rfl (lv_at hl 0 rfl) ?_
  obtain ⟨h_5, hF⟩ := gd_ok hF
  refine gX_X24_18 hC hX h_5 dX24_again_9 ?_
  obtain ⟨h_6, hF⟩ := gd_ok hF
  obtain ⟨h_8, hc_7, hF⟩ := bd_ok hF
  refine iX_X24_21 hC hX h_6 hc_7 hl.1 (cat4 (Nat.le_of_ble_eq_true rfl)) (Nat.le_of_ble_eq_true rfl) (Nat.le_of_ble_eq_true rfl) dX24_again_12 (fun H locs cells slots hX => ?_)
  refine X_astore_n (i := 1) hx hb dX24_again_15 rfl hl (by decide) rfl (fun ls hl => ?_)
  replace hl : lv_has ls 2 [(1, rv r_2), (0, rv a0)] := lv_subS hl (List.forall_mem_cons.mpr ⟨Or.inl rfl, (List.forall_mem_cons.mpr ⟨Or.inr ⟨List.mem_of_getElem? (i := 0) rfl, by simp [rv_cat]⟩, (fun _ h => nomatch h)⟩)⟩)
  refine X_aload_n hx hb dX24_again_16 rfl (lv_at hl 0 rfl) ?_
  refine X_aload_n hx hb dX24_again_17 rfl (lv_at hl 1 rfl) ?_
  obtain ⟨h_9, hF⟩ := gd_ok hF
  refine gX_X24_9 hC hX h_9 dX24_again_18 ?_
  obtain ⟨h_10, hF⟩ := gd_ok hF
  obtain ⟨h_11, hF⟩ := gd_ok hF
  refine pX_X24_9 hC hX h_10 h_11 dX24_again_21 (fun H locs hX => ?_)
  obtain ⟨h_12, eh_12, hF⟩ := lt_ok hF
  rw [← eh_12] at hX
  refine X_aload_n hx hb dX24_again_24 rfl (lv_at hl 0 rfl) ?_
  exact x_reta hC hX hr (Or.inl ⟨_, rfl⟩) (rt1 hF) (rt2 hF) dX24_again_25
theorem m_X24_again (l : Launch) (D : XD) (a0 : Nat) (h : TH) (x : (Nat × TH)) (hF : F_X24_again D.2.2.2 a0 h = some x) : XMt l yX24_again (ws_ yX24_again cX24_again 2 (some (.object "BlindCards$Look"))) 2 52 D [rv a0] h (.returned (some (rv x.1))) x.2 := by
  refine x_met (by decide +kernel) ?_ ?_
  · simp [lg_sl, rv_cat, cat_i, cat_l]
  intro p e s m below meth c hC hr hnh hin ls hl hX
  replace hl : lv_has ls 2 [(0, rv a0)] := by simpa [lv_args, rv_cat, cat_i, cat_l] using hl
  exact w_X24_again hC hr hnh hin a0 h hF s.heap [] 0 0 ls hX hl
end
