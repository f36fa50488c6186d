set_option maxRecDepth 100000
noncomputable section
/-! BlindCards.leaks -/
def F_X0_leaks_b129 (K : Nat → Nat) (h : TH) (k15 : Nat → Int32 → Int32 → Option Int32) (x0 : Nat) (x1 : Int32) (x2 : Int32) : Option Int32 :=
  lt (x2 + (1 : Int32)) fun x2_1 =>
  k15 x0 x1 x2_1
set_option maxHeartbeats 4000000 in
theorem w_X0_leaks_b129 {p : Program} {l : Launch} {e : Env} {s : State} {m : MethodId} {args : Array Value} {below : List Frame} {meth : Method} {c : Code} {D : XD} {h : TH} (hC : XCx D cX0_leaks 5 RX0 h p (xRm 454 10437 h) s m args meth c) (hr : meth.sig.returnType = some .int) (hnh : c.exceptionTable.isEmpty = true) (hin : meth.name = "leaks") {x : Int32} (k15 : Nat → Int32 → Int32 → Option Int32) (hk15 : ∀ (x0 : Nat) (x1 : Int32) (x2 : Int32), k15 x0 x1 x2 = some x → XJ p l e (xRm 454 10437 h) s m args below meth c D 5 (.returned (some (.int x))) h h 15 [(0, rv x0), (1, .int x1), (2, .int x2)] [] h) :
    ∀ (x0 : Nat) (x1 : Int32) (x2 : Int32), F_X0_leaks_b129 D.2.2.2 h k15 x0 x1 x2 = some x → XJ p l e (xRm 454 10437 h) s m args below meth c D 5 (.returned (some (.int x))) h h 129 [(0, rv x0), (1, .int x1), (2, .int x2)] [] h := by
  have hx := hC.1
  have hb := hC.2.1
  intro x0 x1 x2 hF H locs cells slots ls hX hl
  rw [F_X0_leaks_b129] at hF
  obtain ⟨x2_1, ex2_1, hF⟩ := lt_ok hF
  refine lv_iinc (v := x2_1) (lv' := [(2, .int x2_1), (0, rv x0), (1, .int x1)]) hx hb dX0_leaks_129 hl (k := 2) rfl (by rw [ex2_1]; rfl) (by decide) rfl (fun ls hl => ?_)
  refine lv_goto (tgt := 15) hx hb dX0_leaks_132 (by decide) ?_
  exact hk15 x0 x1 x2_1 hF H locs cells slots ls hX (lv_sub hl [1, 2, 0] rfl)
def F_X0_leaks_b123 (K : Nat → Nat) (h : TH) (k28 : Nat → Int32 → Int32 → Int32 → Option Int32) (x0 : Nat) (x1 : Int32) (x2 : Int32) (x3 : Int32) : Option Int32 :=
  lt (x3 + (1 : Int32)) fun x3_1 =>
  k28 x0 x1 x2 x3_1
set_option maxHeartbeats 4000000 in
theorem w_X0_leaks_b123 {p : Program} {l : Launch} {e : Env} {s : State} {m : MethodId} {args : Array Value} {below : List Frame} {meth : Method} {c : Code} {D : XD} {h : TH} (hC : XCx D cX0_leaks 5 RX0 h p (xRm 454 10437 h) s m args meth c) (hr : meth.sig.returnType = some .int) (hnh : c.exceptionTable.isEmpty = true) (hin : meth.name = "leaks") {x : Int32} (k28 : Nat → Int32 → Int32 → Int32 → Option Int32) (hk28 : ∀ (x0 : Nat) (x1 : Int32) (x2 : Int32) (x3 : Int32), k28 x0 x1 x2 x3 = some x → XJ p l e (xRm 454 10437 h) s m args below meth c D 5 (.returned (some (.int x))) h h 28 [(0, rv x0), (1, .int x1), (2, .int x2), (3, .int x3)] [] h) :
    ∀ (x0 : Nat) (x1 : Int32) (x2 : Int32) (x3 : Int32), F_X0_leaks_b123 D.2.2.2 h k28 x0 x1 x2 x3 = some x → XJ p l e (xRm 454 10437 h) s m args below meth c D 5 (.returned (some (.int x))) h h 123 [(0, rv x0), (1, .int x1), (2, .int x2), (3, .int x3)] [] h := by
  have hx := hC.1
  have hb := hC.2.1
  intro x0 x1 x2 x3 hF H locs cells slots ls hX hl
  rw [F_X0_leaks_b123] at hF
  obtain ⟨x3_1, ex3_1, hF⟩ := lt_ok hF
  refine lv_iinc (v := x3_1) (lv' := [(3, .int x3_1), (0, rv x0), (1, .int x1), (2, .int x2)]) hx hb dX0_leaks_123 hl (k := 3) rfl (by rw [ex3_1]; rfl) (by decide) rfl (fun ls hl => ?_)
  refine lv_goto (tgt := 28) hx hb dX0_leaks_126 (by decide) ?_
  exact hk28 x0 x1 x2 x3_1 hF H locs cells slots ls hX (lv_sub hl [1, 2, 3, 0] rfl)
def F_X0_leaks_b117 (K : Nat → Nat) (h : TH) (k44 : Nat → Int32 → Int32 → Int32 → Int32 → Option Int32) (x0 : Nat) (x1 : Int32) (x2 : Int32) (x3 : Int32) (x4 : Int32) : Option Int32 :=
  lt (x4 + (1 : Int32)) fun x4_1 =>
  k44 x0 x1 x2 x3 x4_1
set_option maxHeartbeats 4000000 in
theorem w_X0_leaks_b117 {p : Program} {l : Launch} {e : Env} {s : State} {m : MethodId} {args : Array Value} {below : List Frame} {meth : Method} {c : Code} {D : XD} {h : TH} (hC : XCx D cX0_leaks 5 RX0 h p (xRm 454 10437 h) s m args meth c) (hr : meth.sig.returnType = some .int) (hnh : c.exceptionTable.isEmpty = true) (hin : meth.name = "leaks") {x : Int32} (k44 : Nat → Int32 → Int32 → Int32 → Int32 → Option Int32) (hk44 : ∀ (x0 : Nat) (x1 : Int32) (x2 : Int32) (x3 : Int32) (x4 : Int32), k44 x0 x1 x2 x3 x4 = some x → XJ p l e (xRm 454 10437 h) s m args below meth c D 5 (.returned (some (.int x))) h h 44 [(0, rv x0), (1, .int x1), (2, .int x2), (3, .int x3), (4, .int x4)] [] h) :
    ∀ (x0 : Nat) (x1 : Int32) (x2 : Int32) (x3 : Int32) (x4 : Int32), F_X0_leaks_b117 D.2.2.2 h k44 x0 x1 x2 x3 x4 = some x → XJ p l e (xRm 454 10437 h) s m args below meth c D 5 (.returned (some (.int x))) h h 117 [(0, rv x0), (1, .int x1), (2, .int x2), (3, .int x3), (4, .int x4)] [] h := by
  have hx := hC.1
  have hb := hC.2.1
  intro x0 x1 x2 x3 x4 hF H locs cells slots ls hX hl
  rw [F_X0_leaks_b117] at hF
  obtain ⟨x4_1, ex4_1, hF⟩ := lt_ok hF
  refine lv_iinc (v := x4_1) (lv' := [(4, .int x4_1), (0, rv x0), (1, .int x1), (2, .int x2), (3, .int x3)]) hx hb dX0_leaks_117 hl (k := 4) rfl (by rw [ex4_1]; rfl) (by decide) rfl (fun ls hl => ?_)
  refine lv_goto (tgt := 44) hx hb dX0_leaks_120 (by decide) ?_
  exact hk44 x0 x1 x2 x3 x4_1 hF H locs cells slots ls hX (lv_sub hl [1, 2, 3, 4, 0] rfl)
def F_X0_leaks_b100 (K : Nat → Nat) (h : TH) (x2 : Int32) (x3 : Int32) (x4 : Int32) : Option Int32 :=
  some ((((1000 : Int32) * x2) + ((100 : Int32) * x3)) + ((10 : Int32) * x4))
set_option maxHeartbeats 4000000 in
theorem w_X0_leaks_b100 {p : Program} {l : Launch} {e : Env} {s : State} {m : MethodId} {args : Array Value} {below : List Frame} {meth : Method} {c : Code} {D : XD} {h : TH} (hC : XCx D cX0_leaks 5 RX0 h p (xRm 454 10437 h) s m args meth c) (hr : meth.sig.returnType = some .int) (hnh : c.exceptionTable.isEmpty = true) (hin : meth.name = "leaks") {x : Int32} :
    ∀ (x2 : Int32) (x3 : Int32) (x4 : Int32), F_X0_leaks_b100 D.2.2.2 h x2 x3 x4 = some x → XJ p l e (xRm 454 10437 h) s m args below meth c D 5 (.returned (some (.int x))) h h 100 [(2, .int x2), (3, .int x3), (4, .int x4)] [] h := by
  have hx := hC.1
  have hb := hC.2.1
  intro x2 x3 x4 hF H locs cells slots ls hX hl
  rw [F_X0_leaks_b100] at hF
  refine lv_sipush (v := 1000) hx hb dX0_leaks_100 (by decide) ?_
  refine lv_iload_n hx hb dX0_leaks_103 rfl (lv_at hl 0 rfl) ?_
  refine lv_imul hx hb dX0_leaks_104 ?_
  refine lv_bipush (v := 100) hx hb dX0_leaks_105 (by decide) ?_
  refine lv_iload_n hx hb dX0_leaks_107 rfl (lv_at hl 1 rfl) ?_
  refine lv_imul hx hb dX0_leaks_108 ?_
  refine lv_iadd hx hb dX0_leaks_109 ?_
  refine lv_bipush (v := 10) hx hb dX0_leaks_110 (by decide) ?_
  refine lv_iload hx hb dX0_leaks_112 (lv_at hl 2 rfl) ?_
  refine lv_imul hx hb dX0_leaks_114 ?_
  refine lv_iadd hx hb dX0_leaks_115 ?_
  exact x_reti hC hX hr rfl (Option.some.inj hF) rfl dX0_leaks_116
def F_X0_leaks_L44 (K : Nat → Nat) (h : TH) (k28 : Nat → Int32 → Int32 → Int32 → Option Int32) : Nat → Nat → Int32 → Int32 → Int32 → Int32 → Option Int32
  | 0, _, _, _, _, _ => none
  | fu + 1, x0, x1, x2, x3, x4 =>
    gd (hasF (hT h x0) 7 = true) <|
    lt (hR h 7 x0) fun r_2 =>
    gd (hT h r_2 = 2) <|
    bd (F_X1_inputs K h r_2) fun r_5 =>
    if r_5 ≤ x4 then
      F_X0_leaks_b123 K h k28 x0 x1 x2 x3
    else
      gd (hT h x0 = 1) <|
      bd (F_X0_areLike K h x0 x3 x4 x1) fun r_9 =>
      if r_9 = 0 then
        F_X0_leaks_b117 K h (F_X0_leaks_L44 K h k28 fu) x0 x1 x2 x3 x4
      else
        gd (hasF (hT h x0) 8 = true) <|
        lt (hR h 8 x0) fun r_12 =>
        gd (hasF (hT h r_12) 53 = true) <|
        lt (hR h 53 r_12) fun r_14 =>
        gd (hT h r_14 = 34) <|
        gd (inb (((8 : Int32) * x2) + x3) (hN h r_14)) <|
        gd (hasF (hT h x0) 8 = true) <|
        lt (hR h 8 x0) fun r_18 =>
        gd (hasF (hT h r_18) 53 = true) <|
        lt (hR h 53 r_18) fun r_20 =>
        gd (hT h r_20 = 34) <|
        gd (inb (((8 : Int32) * x2) + x4) (hN h r_20)) <|
        if (lg_cmp (hL h r_14 (Int32.toNatClampNeg (((8 : Int32) * x2) + x3))) (hL h r_20 (Int32.toNatClampNeg (((8 : Int32) * x2) + x4)))) = 0 then
          F_X0_leaks_b117 K h (F_X0_leaks_L44 K h k28 fu) x0 x1 x2 x3 x4
        else
          F_X0_leaks_b100 K h x2 x3 x4
set_option maxHeartbeats 4000000 in
theorem w_X0_leaks_L44 {p : Program} {l : Launch} {e : Env} {s : State} {m : MethodId} {args : Array Value} {below : List Frame} {meth : Method} {c : Code} {D : XD} {h : TH} (hC : XCx D cX0_leaks 5 RX0 h p (xRm 454 10437 h) s m args meth c) (hr : meth.sig.returnType = some .int) (hnh : c.exceptionTable.isEmpty = true) (hin : meth.name = "leaks") {x : Int32} (k28 : Nat → Int32 → Int32 → Int32 → Option Int32) (hk28 : ∀ (x0 : Nat) (x1 : Int32) (x2 : Int32) (x3 : Int32), k28 x0 x1 x2 x3 = some x → XJ p l e (xRm 454 10437 h) s m args below meth c D 5 (.returned (some (.int x))) h h 28 [(0, rv x0), (1, .int x1), (2, .int x2), (3, .int x3)] [] h) :
    ∀ (fu : Nat) (x0 : Nat) (x1 : Int32) (x2 : Int32) (x3 : Int32) (x4 : Int32), F_X0_leaks_L44 D.2.2.2 h k28 fu x0 x1 x2 x3 x4 = some x → XJ p l e (xRm 454 10437 h) s m args below meth c D 5 (.returned (some (.int x))) h h 44 [(0, rv x0), (1, .int x1), (2, .int x2), (3, .int x3), (4, .int x4)] [] h := by
  have hx := hC.1
  have hb := hC.2.1
  intro fu
  induction fu with
  | zero => intro x0 x1 x2 x3 x4 hF; exact nm_none hF
  | succ fu ih =>
    intro x0 x1 x2 x3 x4 hF H locs cells slots ls hX hl
    rw [F_X0_leaks_L44] at hF
    refine lv_iload hx hb dX0_leaks_44 (lv_at hl 4 rfl) ?_
    refine X_aload_n hx hb dX0_leaks_46 rfl (lv_at hl 0 rfl) ?_
    obtain ⟨h_1, hF⟩ := gd_ok hF
    refine gX_X0_15 hC hX h_1 dX0_leaks_47 ?_
    refine lv_topr (fun r_2 er_2 => ?_)
    replace hF := lt_at hF er_2
    obtain ⟨h_3, hF⟩ := gd_ok hF
    obtain ⟨r_5, hc_4, hF⟩ := bd_ok hF
    refine iX_X0_152 hC hX h_3 hc_4 hl.1 (Nat.le_of_ble_eq_true rfl) (Nat.le_of_ble_eq_true rfl) (Nat.le_of_ble_eq_true rfl) dX0_leaks_50 (fun H locs cells slots hX => ?_)
    refine lv_icmp_ge (tgt := 123) hx hb dX0_leaks_53 (by decide) (fun c_6 => ?_) (fun c_6 => ?_)
    · replace hF := it_t hF c_6
      exact w_X0_leaks_b123 hC hr hnh hin k28 hk28 x0 x1 x2 x3 hF H locs cells slots ls hX (lv_sub hl [0, 1, 2, 3] rfl)
    · replace hF := it_f hF c_6
      refine X_aload_n hx hb dX0_leaks_56 rfl (lv_at hl 0 rfl) ?_
      refine lv_iload_n hx hb dX0_leaks_57 rfl (lv_at hl 3 rfl) ?_
      refine lv_iload hx hb dX0_leaks_58 (lv_at hl 4 rfl) ?_
      refine lv_iload_n hx hb dX0_leaks_60 rfl (lv_at hl 1 rfl) ?_
      obtain ⟨h_7, hF⟩ := gd_ok hF
      obtain ⟨r_9, hc_8, hF⟩ := bd_ok hF
      refine iX_X0_202 hC hX h_7 hc_8 hl.1 (Nat.le_of_ble_eq_true rfl) (Nat.le_of_ble_eq_true rfl) (Nat.le_of_ble_eq_true rfl) dX0_leaks_61 (fun H locs cells slots hX => ?_)
      refine lv_if_eq (tgt := 117) hx hb dX0_leaks_64 (by decide) (fun c_10 => ?_) (fun c_10 => ?_)
      · replace hF := it_t hF c_10
        exact w_X0_leaks_b117 hC hr hnh hin (F_X0_leaks_L44 D.2.2.2 h k28 fu) ih x0 x1 x2 x3 x4 hF H locs cells slots ls hX (lv_sub hl [0, 1, 2, 3, 4] rfl)
      · replace hF := it_f hF c_10
        refine X_aload_n hx hb dX0_leaks_67 rfl (lv_at hl 0 rfl) ?_
        obtain ⟨h_11, hF⟩ := gd_ok hF
        refine gX_X0_57 hC hX h_11 dX0_leaks_68 ?_
        refine lv_topr (fun r_12 er_12 => ?_)
        replace hF := lt_at hF er_12
        obtain ⟨h_13, hF⟩ := gd_ok hF
        refine gX_X0_184 hC hX h_13 dX0_leaks_71 ?_
        refine lv_topr (fun r_14 er_14 => ?_)
        replace hF := lt_at hF er_14
        refine lv_bipush (v := 8) hx hb dX0_leaks_74 (by decide) ?_
        refine lv_iload_n hx hb dX0_leaks_76 rfl (lv_at hl 2 rfl) ?_
        refine lv_imul hx hb dX0_leaks_77 ?_
        refine lv_iload_n hx hb dX0_leaks_78 rfl (lv_at hl 3 rfl) ?_
        refine lv_iadd hx hb dX0_leaks_79 ?_
        obtain ⟨h_15, hF⟩ := gd_ok hF
        obtain ⟨h_16, hF⟩ := gd_ok hF
        refine X_lald hC hX h_15 h_16 dX0_leaks_80 ?_
        refine X_aload_n hx hb dX0_leaks_81 rfl (lv_at hl 0 rfl) ?_
        obtain ⟨h_17, hF⟩ := gd_ok hF
        refine gX_X0_57 hC hX h_17 dX0_leaks_82 ?_
        refine lv_topr (fun r_18 er_18 => ?_)
        replace hF := lt_at hF er_18
        obtain ⟨h_19, hF⟩ := gd_ok hF
        refine gX_X0_184 hC hX h_19 dX0_leaks_85 ?_
        refine lv_topr (fun r_20 er_20 => ?_)
        replace hF := lt_at hF er_20
        refine lv_bipush (v := 8) hx hb dX0_leaks_88 (by decide) ?_
        refine lv_iload_n hx hb dX0_leaks_90 rfl (lv_at hl 2 rfl) ?_
        refine lv_imul hx hb dX0_leaks_91 ?_
        refine lv_iload hx hb dX0_leaks_92 (lv_at hl 4 rfl) ?_
        refine lv_iadd hx hb dX0_leaks_94 ?_
        obtain ⟨h_21, hF⟩ := gd_ok hF
        obtain ⟨h_22, hF⟩ := gd_ok hF
        refine X_lald hC hX h_21 h_22 dX0_leaks_95 ?_
        refine W.lcmp hx hb dX0_leaks_96 ?_
        refine lv_if_eq (tgt := 117) hx hb dX0_leaks_97 (by decide) (fun c_23 => ?_) (fun c_23 => ?_)
        · replace hF := it_t hF c_23
          exact w_X0_leaks_b117 hC hr hnh hin (F_X0_leaks_L44 D.2.2.2 h k28 fu) ih x0 x1 x2 x3 x4 hF H locs cells slots ls hX (lv_sub hl [0, 1, 2, 3, 4] rfl)
        · replace hF := it_f hF c_23
          exact w_X0_leaks_b100 hC hr hnh hin x2 x3 x4 hF H locs cells slots ls hX (lv_sub hl [2, 3, 4] rfl)
def F_X0_leaks_L28 (K : Nat → Nat) (h : TH) (k15 : Nat → Int32 → Int32 → Option Int32) : Nat → Nat → Int32 → Int32 → Int32 → Option Int32
  | 0, _, _, _, _ => none
  | fu + 1, x0, x1, x2, x3 =>
    gd (hasF (hT h x0) 7 = true) <|
    lt (hR h 7 x0) fun r_2 =>
    gd (hT h r_2 = 2) <|
    bd (F_X1_inputs K h r_2) fun r_5 =>
    if r_5 ≤ x3 then
      F_X0_leaks_b129 K h k15 x0 x1 x2
    else
      lt ((x3 + (1 : Int32))) fun x_7 =>
      F_X0_leaks_L44 K h (F_X0_leaks_L28 K h k15 fu) MN x0 x1 x2 x3 x_7
set_option maxHeartbeats 4000000 in
theorem w_X0_leaks_L28 {p : Program} {l : Launch} {e : Env} {s : State} {m : MethodId} {args : Array Value} {below : List Frame} {meth : Method} {c : Code} {D : XD} {h : TH} (hC : XCx D cX0_leaks 5 RX0 h p (xRm 454 10437 h) s m args meth c) (hr : meth.sig.returnType = some .int) (hnh : c.exceptionTable.isEmpty = true) (hin : meth.name = "leaks") {x : Int32} (k15 : Nat → Int32 → Int32 → Option Int32) (hk15 : ∀ (x0 : Nat) (x1 : Int32) (x2 : Int32), k15 x0 x1 x2 = some x → XJ p l e (xRm 454 10437 h) s m args below meth c D 5 (.returned (some (.int x))) h h 15 [(0, rv x0), (1, .int x1), (2, .int x2)] [] h) :
    ∀ (fu : Nat) (x0 : Nat) (x1 : Int32) (x2 : Int32) (x3 : Int32), F_X0_leaks_L28 D.2.2.2 h k15 fu x0 x1 x2 x3 = some x → XJ p l e (xRm 454 10437 h) s m args below meth c D 5 (.returned (some (.int x))) h h 28 [(0, rv x0), (1, .int x1), (2, .int x2), (3, .int x3)] [] h := by
  have hx := hC.1
  have hb := hC.2.1
  intro fu
  induction fu with
  | zero => intro x0 x1 x2 x3 hF; exact nm_none hF
  | succ fu ih =>
    intro x0 x1 x2 x3 hF H locs cells slots ls hX hl
    rw [F_X0_leaks_L28] at hF
    refine lv_iload_n hx hb dX0_leaks_28 rfl (lv_at hl 3 rfl) ?_
    refine X_aload_n hx hb dX0_leaks_29 rfl (lv_at hl 0 rfl) ?_
    obtain ⟨h_1, hF⟩ := gd_ok hF
    refine gX_X0_15 hC hX h_1 dX0_leaks_30 ?_
    refine lv_topr (fun r_2 er_2 => ?_)
    replace hF := lt_at hF er_2
    obtain ⟨h_3, hF⟩ := gd_ok hF
    obtain ⟨r_5, hc_4, hF⟩ := bd_ok hF
    refine iX_X0_152 hC hX h_3 hc_4 hl.1 (Nat.le_of_ble_eq_true rfl) (Nat.le_of_ble_eq_true rfl) (Nat.le_of_ble_eq_true rfl) dX0_leaks_33 (fun H locs cells slots hX => ?_)
    refine lv_icmp_ge (tgt := 129) hx hb dX0_leaks_36 (by decide) (fun c_6 => ?_) (fun c_6 => ?_)
    · replace hF := it_t hF c_6
      exact w_X0_leaks_b129 hC hr hnh hin k15 hk15 x0 x1 x2 hF H locs cells slots ls hX (lv_sub hl [0, 1, 2] rfl)
    · replace hF := it_f hF c_6
      refine lv_iload_n hx hb dX0_leaks_39 rfl (lv_at hl 3 rfl) ?_
      refine lv_iconst (v := 1) hx hb dX0_leaks_40 (by decide) ?_
      refine lv_iadd hx hb dX0_leaks_41 ?_
      refine lv_topi (fun x_7 ex_7 => ?_)
      replace hF := lt_at hF ex_7
      refine lv_istore (lv' := [(4, .int x_7), (0, rv x0), (1, .int x1), (2, .int x2), (3, .int x3)]) hx hb dX0_leaks_42 hl (by decide) rfl (fun ls hl => ?_)
      exact w_X0_leaks_L44 hC hr hnh hin (F_X0_leaks_L28 D.2.2.2 h k15 fu) ih MN x0 x1 x2 x3 x_7 hF H locs cells slots ls hX (lv_sub hl [1, 2, 3, 4, 0] rfl)
def F_X0_leaks_L15 (K : Nat → Nat) (h : TH) : Nat → Nat → Int32 → Int32 → Option Int32
  | 0, _, _, _ => none
  | fu + 1, x0, x1, x2 =>
    gd (hasF (hT h x0) 8 = true) <|
    lt (hR h 8 x0) fun r_2 =>
    gd (hasF (hT h r_2) 55 = true) <|
    if (hI h 55 r_2) ≤ x2 then
      some (-1 : Int32)
    else
      F_X0_leaks_L28 K h (F_X0_leaks_L15 K h fu) MN x0 x1 x2 (0 : Int32)
set_option maxHeartbeats 4000000 in
theorem w_X0_leaks_L15 {p : Program} {l : Launch} {e : Env} {s : State} {m : MethodId} {args : Array Value} {below : List Frame} {meth : Method} {c : Code} {D : XD} {h : TH} (hC : XCx D cX0_leaks 5 RX0 h p (xRm 454 10437 h) s m args meth c) (hr : meth.sig.returnType = some .int) (hnh : c.exceptionTable.isEmpty = true) (hin : meth.name = "leaks") {x : Int32} :
    ∀ (fu : Nat) (x0 : Nat) (x1 : Int32) (x2 : Int32), F_X0_leaks_L15 D.2.2.2 h fu x0 x1 x2 = some x → XJ p l e (xRm 454 10437 h) s m args below meth c D 5 (.returned (some (.int x))) h h 15 [(0, rv x0), (1, .int x1), (2, .int x2)] [] h := by
  have hx := hC.1
  have hb := hC.2.1
  intro fu
  induction fu with
  | zero => intro x0 x1 x2 hF; exact nm_none hF
  | succ fu ih =>
    intro x0 x1 x2 hF H locs cells slots ls hX hl
    rw [F_X0_leaks_L15] at hF
    refine lv_iload_n hx hb dX0_leaks_15 rfl (lv_at hl 2 rfl) ?_
    refine X_aload_n hx hb dX0_leaks_16 rfl (lv_at hl 0 rfl) ?_
    obtain ⟨h_1, hF⟩ := gd_ok hF
    refine gX_X0_57 hC hX h_1 dX0_leaks_17 ?_
    refine lv_topr (fun r_2 er_2 => ?_)
    replace hF := lt_at hF er_2
    obtain ⟨h_3, hF⟩ := gd_ok hF
    refine gX_X0_159 hC hX h_3 dX0_leaks_20 ?_
    refine lv_icmp_ge (tgt := 135) hx hb dX0_leaks_23 (by decide) (fun c_4 => ?_) (fun c_4 => ?_)
    · replace hF := it_t hF c_4
      refine lv_iconst (v := -1) hx hb dX0_leaks_135 (by decide) ?_
      exact x_reti hC hX hr rfl (Option.some.inj hF) rfl dX0_leaks_136
    · replace hF := it_f hF c_4
      refine lv_iconst (v := 0) hx hb dX0_leaks_26 (by decide) ?_
      refine lv_istore_n (lv' := [(3, .int (0 : Int32)), (0, rv x0), (1, .int x1), (2, .int x2)]) hx hb dX0_leaks_27 rfl hl (by decide) rfl (fun ls hl => ?_)
      exact w_X0_leaks_L28 hC hr hnh hin (F_X0_leaks_L15 D.2.2.2 h fu) ih MN x0 x1 x2 (0 : Int32) hF H locs cells slots ls hX (lv_sub hl [1, 2, 3, 0] rfl)
def F_X0_leaks (K : Nat → Nat) (h : TH) (a0 : Nat) (b0 : Int32) : Option Int32 :=
  gd (hasF (hT h a0) 8 = true) <|
  lt (hR h 8 a0) fun r_2 =>
  gd (hasF (hT h r_2) 57 = true) <|
  if (hI h 57 r_2) = 0 then
    F_X0_leaks_L15 K h MN a0 b0 (0 : Int32)
  else
    some (-2 : Int32)
set_option maxHeartbeats 4000000 in
theorem w_X0_leaks {p : Program} {l : Launch} {e : Env} {s : State} {m : MethodId} {args : Array Value} {below : List Frame} {meth : Method} {c : Code} {D : XD} {h : TH} (hC : XCx D cX0_leaks 5 RX0 h p (xRm 454 10437 h) s m args meth c) (hr : meth.sig.returnType = some .int) (hnh : c.exceptionTable.isEmpty = true) (hin : meth.name = "leaks") {x : Int32} :
    ∀ (a0 : Nat) (b0 : Int32), F_X0_leaks D.2.2.2 h a0 b0 = some x → XJ p l e (xRm 454 10437 h) s m args below meth c D 5 (.returned (some (.int x))) h h 0 [(0, rv a0), (1, .int b0)] [] h := by
  have hx := hC.1
  have hb := hC.2.1
  intro a0 b0 hF H locs cells slots ls hX hl
  rw [F_X0_leaks] at hF
  refine X_aload_n hx hb dX0_leaks_0 rfl (lv_at hl 0 rfl) ?_
  obtain ⟨h_1, hF⟩ := gd_ok hF
  refine gX_X0_57 hC hX h_1 dX0_leaks_1 ?_
  refine lv_topr (fun r_2 er_2 => ?_)
  replace hF := lt_at hF er_2
  obtain ⟨h_3, hF⟩ := gd_ok hF
  refine gX_X0_171 hC hX h_3 dX0_leaks_4 ?_
  refine lv_if_eq (tgt := 13) hx hb dX0_leaks_7 (by decide) (fun c_4 => ?_) (fun c_4 => ?_)
  · replace hF := it_t hF c_4
    refine lv_iconst (v := 0) hx hb dX0_leaks_13 (by decide) ?_
    refine lv_istore_n (lv' := [(2, .int (0 : Int32)), (0, rv a0), (1, .int b0)]) hx hb dX0_leaks_14 rfl hl (by decide) rfl (fun ls hl => ?_)
    exact w_X0_leaks_L15 hC hr hnh hin MN a0 b0 (0 : Int32) hF H locs cells slots ls hX (lv_sub hl [1, 2, 0] rfl)
  · replace hF := it_f hF c_4
    refine lv_bipush (v := -2) hx hb dX0_leaks_10 (by decide) ?_
    exact x_reti hC hX hr rfl (Option.some.inj hF) rfl dX0_leaks_12
theorem m_X0_leaks (l : Launch) (D : XD) (a0 : Nat) (b0 : Int32) (h : TH) (x : Int32) (hF : F_X0_leaks D.2.2.2 h a0 b0 = some x) : XMt l yX0_leaks (ws_ yX0_leaks cX0_leaks 5 (some .int)) 454 10437 D [rv a0, .int b0] h (.returned (some (.int x))) h := by
  refine x_met (by decide +kernel) ?_ ?_
  · simp [lg_sl, rv_cat, cat_i, cat_l]
  intro p e s m below meth c hC hr hnh hin ls hl hX
  replace hl : lv_has ls 5 [(0, rv a0), (1, .int b0)] := by simpa [lv_args, rv_cat, cat_i, cat_l] using hl
  exact w_X0_leaks hC hr hnh hin a0 b0 hF s.heap [] 0 0 ls hX hl
theorem gX_X0_187 {p : Program} {l : Launch} {e : Env} {R : Room} {s : State} {m : MethodId} {args : Array Value} {below : List Frame} {meth : Method} {c : Code} {H : Heap} {locs : List Loc} {cells slots nL : Nat} {Q : State → Prop} {D : XD} {h0 h : TH} {cc : ByteArray} {pc : Nat} {ls : Array Slot} {rest : List Value} (hC : XCx D cc nL RX0 h0 p R s m args meth c) (hX : XSt D s h0 h H locs cells slots) {a : Nat} (hf : hasF (hT h a) 54 = true) (hdg : decode cc pc = .ok (.getfield 187, 3)) (kk : W p l e R s m args below meth c H locs cells slots Q (F0 m (pc + 3) ls (rv (hR h 54 a) :: rest))) : W p l e R s m args below meth c H locs cells slots Q (F0 m pc ls (rv a :: rest)) :=
  X_getr hC hX 54 hf rfl (fun q => absurd q (by decide)) q278 (fun _ h => h) hdg kk
/-! BlindCards.odds -/
def F_X0_odds (K : Nat → Nat) (h : TH) (a0 : Nat) (b0 : Int32) (b1 : Int32) (b2 : Int32) : Option Int64 :=
  gd (hasF (hT h a0) 8 = true) <|
  lt (hR h 8 a0) fun r_2 =>
  gd (hasF (hT h r_2) 57 = true) <|
  if (hI h 57 r_2) = 0 then
    gd (hT h a0 = 1) <|
    bd (F_X0_isPath K h a0 b0) fun r_7 =>
    if r_7 = 0 then
      some (-1 : Int64)
    else
      gd (hT h a0 = 1) <|
      bd (F_X0_isInput K h a0 b1) fun r_11 =>
      if r_11 = 0 then
        some (-1 : Int64)
      else
        bd (F_X0_isIn K h b2 (0 : Int32) (1 : Int32)) fun r_14 =>
        if r_14 = 0 then
          some (-1 : Int64)
        else
          gd (hasF (hT h a0) 8 = true) <|
          lt (hR h 8 a0) fun r_17 =>
          gd (hasF (hT h r_17) 53 = true) <|
          lt (hR h 53 r_17) fun r_19 =>
          gd (hT h r_19 = 34) <|
          gd (inb (((8 : Int32) * b0) + b1) (hN h r_19)) <|
          gd (hasF (hT h a0) 8 = true) <|
          lt (hR h 8 a0) fun r_23 =>
          gd (hasF (hT h r_23) 54 = true) <|
          lt (hR h 54 r_23) fun r_25 =>
          gd (hT h r_25 = 34) <|
          gd (inb b0 (hN h r_25)) <|
          bd (F_X0_partOf K h (hL h r_19 (Int32.toNatClampNeg (((8 : Int32) * b0) + b1))) (hL h r_25 (Int32.toNatClampNeg b0)) b2) fun r_29 =>
          some r_29
  else
    some (-2 : Int64)
set_option maxHeartbeats 4000000 in
theorem w_X0_odds {p : Program} {l : Launch} {e : Env} {s : State} {m : MethodId} {args : Array Value} {below : List Frame} {meth : Method} {c : Code} {D : XD} {h : TH} (hC : XCx D cX0_odds 4 RX0 h p (xRm 102 2349 h) s m args meth c) (hr : meth.sig.returnType = some .long) (hnh : c.exceptionTable.isEmpty = true) (hin : meth.name = "odds") {x : Int64} :
    ∀ (a0 : Nat) (b0 : Int32) (b1 : Int32) (b2 : Int32), F_X0_odds D.2.2.2 h a0 b0 b1 b2 = some x → XJ p l e (xRm 102 2349 h) s m args below meth c D 4 (.returned (some (.long x))) h h 0 [(0, rv a0), (1, .int b0), (2, .int b1), (3, .int b2)] [] h := by
  have hx := hC.1
  have hb := hC.2.1
  intro a0 b0 b1 b2 hF H locs cells slots ls hX hl
  rw [F_X0_odds] at hF
  refine X_aload_n hx hb dX0_odds_0 rfl (lv_at hl 0 rfl) ?_
  obtain ⟨h_1, hF⟩ := gd_ok hF
  refine gX_X0_57 hC hX h_1 dX0_odds_1 ?_
  refine lv_topr (fun r_2 er_2 => ?_)
  replace hF := lt_at hF er_2
  obtain ⟨h_3, hF⟩ := gd_ok hF
  refine gX_X0_171 hC hX h_3 dX0_odds_4 ?_
  refine lv_if_eq (tgt := 16) hx hb dX0_odds_7 (by decide) (fun c_4 => ?_) (fun c_4 => ?_)
  · replace hF := it_t hF c_4
    refine X_aload_n hx hb dX0_odds_16 rfl (lv_at hl 0 rfl) ?_
    refine lv_iload_n hx hb dX0_odds_17 rfl (lv_at hl 1 rfl) ?_
    obtain ⟨h_5, hF⟩ := gd_ok hF
    obtain ⟨r_7, hc_6, hF⟩ := bd_ok hF
    refine iX_X0_174 hC hX h_5 hc_6 hl.1 (Nat.le_of_ble_eq_true rfl) (Nat.le_of_ble_eq_true rfl) (Nat.le_of_ble_eq_true rfl) dX0_odds_18 (fun H locs cells slots hX => ?_)
    refine lv_if_eq (tgt := 71) hx hb dX0_odds_21 (by decide) (fun c_8 => ?_) (fun c_8 => ?_)
    · replace hF := it_t hF c_8
      refine lv_ldc2 (v := -1) hx hb hC.2.2.2.1 (hC.2.2.2.2.1 _ q1623) dX0_odds_71 ?_
      exact x_retl hC hX hr (Option.some.inj hF) rfl dX0_odds_74
    · replace hF := it_f hF c_8
      refine X_aload_n hx hb dX0_odds_24 rfl (lv_at hl 0 rfl) ?_
      refine lv_iload_n hx hb dX0_odds_25 rfl (lv_at hl 2 rfl) ?_
      obtain ⟨h_9, hF⟩ := gd_ok hF
      obtain ⟨r_11, hc_10, hF⟩ := bd_ok hF
      refine iX_X0_166 hC hX h_9 hc_10 hl.1 (Nat.le_of_ble_eq_true rfl) (Nat.le_of_ble_eq_true rfl) (Nat.le_of_ble_eq_true rfl) dX0_odds_26 (fun H locs cells slots hX => ?_)
      refine lv_if_eq (tgt := 71) hx hb dX0_odds_29 (by decide) (fun c_12 => ?_) (fun c_12 => ?_)
      · replace hF := it_t hF c_12
        refine lv_ldc2 (v := -1) hx hb hC.2.2.2.1 (hC.2.2.2.2.1 _ q1623) dX0_odds_71 ?_
        exact x_retl hC hX hr (Option.some.inj hF) rfl dX0_odds_74
      · replace hF := it_f hF c_12
        refine lv_iload_n hx hb dX0_odds_32 rfl (lv_at hl 3 rfl) ?_
        refine lv_iconst (v := 0) hx hb dX0_odds_33 (by decide) ?_
        refine lv_iconst (v := 1) hx hb dX0_odds_34 (by decide) ?_
        obtain ⟨r_14, hc_13, hF⟩ := bd_ok hF
        refine iX_X0_155 hC hX hc_13 hl.1 (Nat.le_of_ble_eq_true rfl) (Nat.le_of_ble_eq_true rfl) (Nat.le_of_ble_eq_true rfl) dX0_odds_35 (fun H locs cells slots hX => ?_)
        refine lv_if_eq (tgt := 71) hx hb dX0_odds_38 (by decide) (fun c_15 => ?_) (fun c_15 => ?_)
        · replace hF := it_t hF c_15
          refine lv_ldc2 (v := -1) hx hb hC.2.2.2.1 (hC.2.2.2.2.1 _ q1623) dX0_odds_71 ?_
          exact x_retl hC hX hr (Option.some.inj hF) rfl dX0_odds_74
        · replace hF := it_f hF c_15
          refine X_aload_n hx hb dX0_odds_41 rfl (lv_at hl 0 rfl) ?_
          obtain ⟨h_16, hF⟩ := gd_ok hF
          refine gX_X0_57 hC hX h_16 dX0_odds_42 ?_
          refine lv_topr (fun r_17 er_17 => ?_)
          replace hF := lt_at hF er_17
          obtain ⟨h_18, hF⟩ := gd_ok hF
          refine gX_X0_184 hC hX h_18 dX0_odds_45 ?_
          refine lv_topr (fun r_19 er_19 => ?_)
          replace hF := lt_at hF er_19
          refine lv_bipush (v := 8) hx hb dX0_odds_48 (by decide) ?_
          refine lv_iload_n hx hb dX0_odds_50 rfl (lv_at hl 1 rfl) ?_
          refine lv_imul hx hb dX0_odds_51 ?_
          refine lv_iload_n hx hb dX0_odds_52 rfl (lv_at hl 2 rfl) ?_
          refine lv_iadd hx hb dX0_odds_53 ?_
          obtain ⟨h_20, hF⟩ := gd_ok hF
          obtain ⟨h_21, hF⟩ := gd_ok hF
          refine X_lald hC hX h_20 h_21 dX0_odds_54 ?_
          refine X_aload_n hx hb dX0_odds_55 rfl (lv_at hl 0 rfl) ?_
          obtain ⟨h_22, hF⟩ := gd_ok hF
          refine gX_X0_57 hC hX h_22 dX0_odds_56 ?_
          refine lv_topr (fun r_23 er_23 => ?_)
          replace hF := lt_at hF er_23
          obtain ⟨h_24, hF⟩ := gd_ok hF
          refine gX_X0_187 hC hX h_24 dX0_odds_59 ?_
          refine lv_topr (fun r_25 er_25 => ?_)
          replace hF := lt_at hF er_25
          refine lv_iload_n hx hb dX0_odds_62 rfl (lv_at hl 1 rfl) ?_
          obtain ⟨h_26, hF⟩ := gd_ok hF
          obtain ⟨h_27, hF⟩ := gd_ok hF
          refine X_lald hC hX h_26 h_27 dX0_odds_63 ?_
          refine lv_iload_n hx hb dX0_odds_64 rfl (lv_at hl 3 rfl) ?_
          obtain ⟨r_29, hc_28, hF⟩ := bd_ok hF
          refine iX_X0_190 hC hX hc_28 hl.1 (Nat.le_of_ble_eq_true rfl) (Nat.le_of_ble_eq_true rfl) (Nat.le_of_ble_eq_true rfl) dX0_odds_65 (fun H locs cells slots hX => ?_)
          refine lv_goto (tgt := 74) hx hb dX0_odds_68 (by decide) ?_
          exact x_retl hC hX hr (Option.some.inj hF) rfl dX0_odds_74
  · replace hF := it_f hF c_4
    refine lv_ldc2 (v := -2) hx hb hC.2.2.2.1 (hC.2.2.2.2.1 _ q1616) dX0_odds_10 ?_
    refine lv_goto (tgt := 74) hx hb dX0_odds_13 (by decide) ?_
    exact x_retl hC hX hr (Option.some.inj hF) rfl dX0_odds_74
theorem m_X0_odds (l : Launch) (D : XD) (a0 : Nat) (b0 : Int32) (b1 : Int32) (b2 : Int32) (h : TH) (x : Int64) (hF : F_X0_odds D.2.2.2 h a0 b0 b1 b2 = some x) : XMt l yX0_odds (ws_ yX0_odds cX0_odds 4 (some .long)) 102 2349 D [rv a0, .int b0, .int b1, .int b2] h (.returned (some (.long x))) h := by
  refine x_met (by decide +kernel) ?_ ?_
  · simp [lg_sl, rv_cat, cat_i, cat_l]
  intro p e s m below meth c hC hr hnh hin ls hl hX
  replace hl : lv_has ls 4 [(0, rv a0), (1, .int b0), (2, .int b1), (3, .int b2)] := by simpa [lv_args, rv_cat, cat_i, cat_l] using hl
  exact w_X0_odds hC hr hnh hin a0 b0 b1 b2 hF s.heap [] 0 0 ls hX hl
theorem iX_X11_351 {p : Program} {l : Launch} {e : Env} {R : Room} {s : State} {m : MethodId} {args : Array Value} {below : List Frame} {meth : Method} {c : Code} {H : Heap} {locs : List Loc} {cells slots nL : Nat} {Q : State → Prop} {D : XD} {h0 h : TH} {cc : ByteArray} {pc : Nat} {ls : Array Slot} {rest : List Value} (hC : XCx D cc nL RX11 h0 p R s m args meth c) (hX : XSt D s h0 h H locs cells slots) {a : Nat} {x : Int32} (ht : hT h a = 7) (hcF : F_X11_isWho D.2.2.2 h a = some x) (hl : ls.size = nL) (hW : (rest.map fun v => v.category).sum ≤ 8) (hRf : 3 + 1 ≤ R.frames) (hRl : 85 ≤ R.locals) (hdg : decode cc pc = .ok (.invokevirtual 351, 3)) (kk : ∀ (H1 : Heap) (locs1 : List Loc) (cells1 slots1 : Nat), XSt D s h0 h H1 locs1 cells1 slots1 → W p l e R s m args below meth c H1 locs1 cells1 slots1 Q (F0 m (pc + 3) ls (.int x :: rest))) : W p l e R s m args below meth c H locs cells slots Q (F0 m pc ls (rv a :: rest)) := by
  have q := ht
  exact X_callV hC hX (by rw [q]; decide) (by rw [q]; rfl) (As := []) (m_X11_isWho l D a h _ hcF) (cwV 0 hC.2.2.2.2.1 (lw_V q1212 q1214 qs21 q146 q1215) rfl rfl rfl (by decide +kernel) ⟨Nat.le_trans (Nat.le_of_ble_eq_true rfl) hRf, Nat.le_trans (Nat.le_of_ble_eq_true rfl) hRl⟩) rfl rfl hl hW hdg kk
theorem gX_X11_354 {p : Program} {l : Launch} {e : Env} {R : Room} {s : State} {m : MethodId} {args : Array Value} {below : List Frame} {meth : Method} {c : Code} {H : Heap} {locs : List Loc} {cells slots nL : Nat} {Q : State → Prop} {D : XD} {h0 h : TH} {cc : ByteArray} {pc : Nat} {ls : Array Slot} {rest : List Value} (hC : XCx D cc nL RX11 h0 p R s m args meth c) (hX : XSt D s h0 h H locs cells slots) {a : Nat} (hf : hasF (hT h a) 34 = true) (hdg : decode cc pc = .ok (.getfield 354, 3)) (kk : W p l e R s m args below meth c H locs cells slots Q (F0 m (pc + 3) ls (.int (hI h 34 a) :: rest))) : W p l e R s m args below meth c H locs cells slots Q (F0 m pc ls (rv a :: rest)) :=
  X_geti hC hX 34 hf rfl q231 (fun _ h => h) hdg kk
theorem gX_X11_334 {p : Program} {l : Launch} {e : Env} {R : Room} {s : State} {m : MethodId} {args : Array Value} {below : List Frame} {meth : Method} {c : Code} {H : Heap} {locs : List Loc} {cells slots nL : Nat} {Q : State → Prop} {D : XD} {h0 h : TH} {cc : ByteArray} {pc : Nat} {ls : Array Slot} {rest : List Value} (hC : XCx D cc nL RX11 h0 p R s m args meth c) (hX : XSt D s h0 h H locs cells slots) {a : Nat} (hf : hasF (hT h a) 71 = true) (hdg : decode cc pc = .ok (.getfield 334, 3)) (kk : W p l e R s m args below meth c H locs cells slots Q (F0 m (pc + 3) ls (.int (hI h 71 a) :: rest))) : W p l e R s m args below meth c H locs cells slots Q (F0 m pc ls (rv a :: rest)) :=
  X_geti hC hX 71 hf rfl q868 (fun _ h => h) hdg kk
theorem pX_X11_354 {p : Program} {l : Launch} {e : Env} {R : Room} {s : State} {m : MethodId} {args : Array Value} {below : List Frame} {meth : Method} {c : Code} {H : Heap} {locs : List Loc} {cells slots nL : Nat} {Q : State → Prop} {D : XD} {h0 h : TH} {cc : ByteArray} {pc : Nat} {ls : Array Slot} {rest : List Value} (hC : XCx D cc nL RX11 h0 p R s m args meth c) (hX : XSt D s h0 h H locs cells slots) {a : Nat} {v : Int32} (hf : hasF (hT h a) 34 = true) (hw : hT h a ≤ 24) (hdg : decode cc pc = .ok (.putfield 354, 3)) (kk : ∀ (H1 : Heap) (locs1 : List Loc), XSt D s h0 (uI h 34 a v) H1 locs1 cells slots → W p l e R s m args below meth c H1 locs1 cells slots Q (F0 m (pc + 3) ls rest)) : W p l e R s m args below meth c H locs cells slots Q (F0 m pc ls (.int v :: rv a :: rest)) :=
  X_puti hC hX 34 hf hw rfl rfl q231 (fun _ h => h) ⟨rfl, rfl⟩ hdg kk
theorem nX_X11_372 {p : Program} {l : Launch} {e : Env} {R : Room} {s : State} {m : MethodId} {args : Array Value} {below : List Frame} {meth : Method} {c : Code} {H : Heap} {locs : List Loc} {cells slots nL : Nat} {Q : State → Prop} {D : XD} {h0 h : TH} {cc : ByteArray} {pc : Nat} {ls : Array Slot} {rest : List Value} (hC : XCx D cc nL RX11 h0 p R s m args meth c) (hX : XSt D s h0 h H locs cells slots) (hroom : hc h + 1 ≤ XC ∧ hs h + 1 ≤ XS) (hdg : decode cc pc = .ok (.new 372, 3)) (kk : ∀ (H1 : Heap) (cells1 slots1 : Nat), XSt D s h0 (nO h 12 1) H1 locs cells1 slots1 → W p l e R s m args below meth c H1 locs cells1 slots1 Q (F0 m (pc + 3) ls (rv (hz h + 1) :: rest))) : W p l e R s m args below meth c H locs cells slots Q (F0 m pc ls rest) :=
  X_new hC hX 12 ⟨by decide, by decide⟩ rfl q1232 q1233 q158 hroom hdg kk
theorem iX_X11_374 {p : Program} {l : Launch} {e : Env} {R : Room} {s : State} {m : MethodId} {args : Array Value} {below : List Frame} {meth : Method} {c : Code} {H : Heap} {locs : List Loc} {cells slots nL : Nat} {Q : State → Prop} {D : XD} {h0 h : TH} {cc : ByteArray} {pc : Nat} {ls : Array Slot} {rest : List Value} (hC : XCx D cc nL RX11 h0 p R s m args meth c) (hX : XSt D s h0 h H locs cells slots) {a : Nat} {b0 : Int32} {x : TH} (ha : a ≠ 0) (hcF : F_X14_init D.2.2.2 a b0 h = some x) (hl : ls.size = nL) (hW : (rest.map fun v => v.category).sum ≤ 8) (hRf : 1 + 1 ≤ R.frames) (hRl : 51 ≤ R.locals) (hdg : decode cc pc = .ok (.invokespecial 374, 3)) (kk : ∀ (H1 : Heap) (locs1 : List Loc) (cells1 slots1 : Nat), XSt D s h0 x H1 locs1 cells1 slots1 → W p l e R s m args below meth c H1 locs1 cells1 slots1 Q (F0 m (pc + 3) ls (rest))) : W p l e R s m args below meth c H locs cells slots Q (F0 m pc ls (.int b0 :: rv a :: rest)) := by
  exact X_callI hC hX ha (As := [.int b0]) (m_X14_init l D a b0 h _ hcF) (cwI 1 hC.2.2.2.2.1 (lw_meth q1236) rfl rfl rfl (hC.2.2.2.2.1 _ q158) (hC.2.2.2.2.1 _ q1234) (hC.2.2.2.2.1 _ q1235) rfl (by decide +kernel) ⟨Nat.le_trans (Nat.le_of_ble_eq_true rfl) hRf, Nat.le_trans (Nat.le_of_ble_eq_true rfl) hRl⟩) rfl rfl hl hW hdg kk
theorem sX_X11_369 {p : Program} {l : Launch} {e : Env} {R : Room} {s : State} {m : MethodId} {args : Array Value} {below : List Frame} {meth : Method} {c : Code} {H : Heap} {locs : List Loc} {cells slots nL : Nat} {Q : State → Prop} {D : XD} {h0 h : TH} {cc : ByteArray} {pc : Nat} {ls : Array Slot} {rest : List Value} (hC : XCx D cc nL RX11 h0 p R s m args meth c) (hX : XSt D s h0 h H locs cells slots) (hdg : decode cc pc = .ok (.getstatic 369, 3)) (kk : W p l e R s m args below meth c H locs cells slots Q (F0 m (pc + 3) ls (rv (D.2.2.2 33) :: rest))) : W p l e R s m args below meth c H locs cells slots Q (F0 m pc ls rest) :=
  X_gets hC hX (q := .inl 33) (List.mem_of_getElem? (i := 3) rfl) q1230 hdg kk
theorem sX_X11_366 {p : Program} {l : Launch} {e : Env} {R : Room} {s : State} {m : MethodId} {args : Array Value} {below : List Frame} {meth : Method} {c : Code} {H : Heap} {locs : List Loc} {cells slots nL : Nat} {Q : State → Prop} {D : XD} {h0 h : TH} {cc : ByteArray} {pc : Nat} {ls : Array Slot} {rest : List Value} (hC : XCx D cc nL RX11 h0 p R s m args meth c) (hX : XSt D s h0 h H locs cells slots) (hdg : decode cc pc = .ok (.getstatic 366, 3)) (kk : W p l e R s m args below meth c H locs cells slots Q (F0 m (pc + 3) ls (rv (D.2.2.2 32) :: rest))) : W p l e R s m args below meth c H locs cells slots Q (F0 m pc ls rest) :=
  X_gets hC hX (q := .inl 32) (List.mem_of_getElem? (i := 2) rfl) q1228 hdg kk
theorem sX_X11_363 {p : Program} {l : Launch} {e : Env} {R : Room} {s : State} {m : MethodId} {args : Array Value} {below : List Frame} {meth : Method} {c : Code} {H : Heap} {locs : List Loc} {cells slots nL : Nat} {Q : State → Prop} {D : XD} {h0 h : TH} {cc : ByteArray} {pc : Nat} {ls : Array Slot} {rest : List Value} (hC : XCx D cc nL RX11 h0 p R s m args meth c) (hX : XSt D s h0 h H locs cells slots) (hdg : decode cc pc = .ok (.getstatic 363, 3)) (kk : W p l e R s m args below meth c H locs cells slots Q (F0 m (pc + 3) ls (rv (D.2.2.2 31) :: rest))) : W p l e R s m args below meth c H locs cells slots Q (F0 m pc ls rest) :=
  X_gets hC hX (q := .inl 31) (List.mem_of_getElem? (i := 1) rfl) q1226 hdg kk
theorem sX_X11_357 {p : Program} {l : Launch} {e : Env} {R : Room} {s : State} {m : MethodId} {args : Array Value} {below : List Frame} {meth : Method} {c : Code} {H : Heap} {locs : List Loc} {cells slots nL : Nat} {Q : State → Prop} {D : XD} {h0 h : TH} {cc : ByteArray} {pc : Nat} {ls : Array Slot} {rest : List Value} (hC : XCx D cc nL RX11 h0 p R s m args meth c) (hX : XSt D s h0 h H locs cells slots) (hdg : decode cc pc = .ok (.getstatic 357, 3)) (kk : W p l e R s m args below meth c H locs cells slots Q (F0 m (pc + 3) ls (rv (D.2.2.2 30) :: rest))) : W p l e R s m args below meth c H locs cells slots Q (F0 m pc ls rest) :=
  X_gets hC hX (q := .inl 30) (List.mem_of_getElem? (i := 0) rfl) q1224 hdg kk
theorem pX_X11_334 {p : Program} {l : Launch} {e : Env} {R : Room} {s : State} {m : MethodId} {args : Array Value} {below : List Frame} {meth : Method} {c : Code} {H : Heap} {locs : List Loc} {cells slots nL : Nat} {Q : State → Prop} {D : XD} {h0 h : TH} {cc : ByteArray} {pc : Nat} {ls : Array Slot} {rest : List Value} (hC : XCx D cc nL RX11 h0 p R s m args meth c) (hX : XSt D s h0 h H locs cells slots) {a : Nat} {v : Int32} (hf : hasF (hT h a) 71 = true) (hw : hT h a ≤ 24) (hdg : decode cc pc = .ok (.putfield 334, 3)) (kk : ∀ (H1 : Heap) (locs1 : List Loc), XSt D s h0 (uI h 71 a v) H1 locs1 cells slots → W p l e R s m args below meth c H1 locs1 cells slots Q (F0 m (pc + 3) ls rest)) : W p l e R s m args below meth c H locs cells slots Q (F0 m pc ls (.int v :: rv a :: rest)) :=
  X_puti hC hX 71 hf hw rfl rfl q868 (fun _ h => h) ⟨rfl, rfl⟩ hdg kk
theorem iXo_X11_201 {p : Program} {l : Launch} {e : Env} {R : Room} {s : State} {m : MethodId} {args : Array Value} {below : List Frame} {meth : Method} {c : Code} {H : Heap} {locs : List Loc} {cells slots nL : Nat} {Q : State → Prop} {D : XD} {h0 h : TH} {cc : ByteArray} {pc : Nat} {ls : Array Slot} {rest : List Value} {h1 : TH} (hC : XCx D cc nL RX11 h0 p R s m args meth c) (hX : XSt D s h0 h H locs cells slots) {a : Nat} {x : Nat} {fr lo : Nat} (ht : hT h a = 7) (hcF : XMt l yX11_both (ws_ yX11_both cX11_both 2 (some (.object "BlindCards$Node"))) fr lo D [rv a] h (.returned (some (rv x))) h1) (hl : ls.size = nL) (hW : (rest.map fun v => v.category).sum ≤ 8) (hRf : fr + 1 ≤ R.frames) (hRl : 8 + (2 + 11) + lo ≤ R.locals) (hdg : decode cc pc = .ok (.invokevirtual 201, 3)) (kk : ∀ (H1 : Heap) (locs1 : List Loc) (cells1 slots1 : Nat), XSt D s h0 h1 H1 locs1 cells1 slots1 → W p l e R s m args below meth c H1 locs1 cells1 slots1 Q (F0 m (pc + 3) ls (rv x :: rest))) : W p l e R s m args below meth c H locs cells slots Q (F0 m pc ls (rv a :: rest)) := by
  have q := ht
  exact X_callV hC hX (by rw [q]; decide) (by rw [q]; rfl) (As := []) hcF (cwV 0 hC.2.2.2.2.1 (lw_V q1177 q1179 qs15 q146 q1180) rfl rfl rfl (by decide +kernel) ⟨hRf, hRl⟩) rfl rfl hl hW hdg kk
theorem iXo_X11_201_t {p : Program} {l : Launch} {e : Env} {R : Room} {s : State} {m : MethodId} {args : Array Value} {below : List Frame} {meth : Method} {c : Code} {H : Heap} {locs : List Loc} {cells slots nL : Nat} {D : XD} {h0 h : TH} {cc : ByteArray} {pc : Nat} {ls : Array Slot} {rest : List Value} {h1 : TH} (hC : XCx D cc nL RX11 h0 p R s m args meth c) (hX : XSt D s h0 h H locs cells slots) (hnh : c.exceptionTable.isEmpty = true) {a : Nat} {x : Nat} {fr lo : Nat} (ht : hT h a = 7) (hcF : XMt l yX11_both (ws_ yX11_both cX11_both 2 (some (.object "BlindCards$Node"))) fr lo D [rv a] h (.threw (x - 1)) h1) (hl : ls.size = nL) (hW : (rest.map fun v => v.category).sum ≤ 8) (hRf : fr + 1 ≤ R.frames) (hRl : 8 + (2 + 11) + lo ≤ R.locals) (hdg : decode cc pc = .ok (.invokevirtual 201, 3)) : W p l e R s m args below meth c H locs cells slots (XMQ below D (.threw (x - 1)) h0 h1 s) (F0 m pc ls (rv a :: rest)) := by
  have q := ht
  exact X_callVT hC hX hnh (by rw [q]; decide) (by rw [q]; rfl) (As := []) hcF (cwV 0 hC.2.2.2.2.1 (lw_V q1177 q1179 qs15 q146 q1180) rfl rfl rfl (by decide +kernel) ⟨hRf, hRl⟩) rfl rfl hl hW hdg rfl
theorem iXo_X11_348 {p : Program} {l : Launch} {e : Env} {R : Room} {s : State} {m : MethodId} {args : Array Value} {below : List Frame} {meth : Method} {c : Code} {H : Heap} {locs : List Loc} {cells slots nL : Nat} {Q : State → Prop} {D : XD} {h0 h : TH} {cc : ByteArray} {pc : Nat} {ls : Array Slot} {rest : List Value} {h1 : TH} (hC : XCx D cc nL RX11 h0 p R s m args meth c) (hX : XSt D s h0 h H locs cells slots) {a : Nat} {x : Nat} {fr lo : Nat} (ht : hT h a = 7) (hcF : XMt l yX11_unit (ws_ yX11_unit cX11_unit 2 (some (.object "BlindCards$Node"))) fr lo D [rv a] h (.returned (some (rv x))) h1) (hl : ls.size = nL) (hW : (rest.map fun v => v.category).sum ≤ 8) (hRf : fr + 1 ≤ R.frames) (hRl : 8 + (2 + 11) + lo ≤ R.locals) (hdg : decode cc pc = .ok (.invokevirtual 348, 3)) (kk : ∀ (H1 : Heap) (locs1 : List Loc) (cells1 slots1 : Nat), XSt D s h0 h1 H1 locs1 cells1 slots1 → W p l e R s m args below meth c H1 locs1 cells1 slots1 Q (F0 m (pc + 3) ls (rv x :: rest))) : W p l e R s m args below meth c H locs cells slots Q (F0 m pc ls (rv a :: rest)) := by
  have q := ht
  exact X_callV hC hX (by rw [q]; decide) (by rw [q]; rfl) (As := []) hcF (cwV 0 hC.2.2.2.2.1 (lw_V q1208 q1210 qs20 q146 q1211) rfl rfl rfl (by decide +kernel) ⟨hRf, hRl⟩) rfl rfl hl hW hdg kk
theorem iXo_X11_348_t {p : Program} {l : Launch} {e : Env} {R : Room} {s : State} {m : MethodId} {args : Array Value} {below : List Frame} {meth : Method} {c : Code} {H : Heap} {locs : List Loc} {cells slots nL : Nat} {D : XD} {h0 h : TH} {cc : ByteArray} {pc : Nat} {ls : Array Slot} {rest : List Value} {h1 : TH} (hC : XCx D cc nL RX11 h0 p R s m args meth c) (hX : XSt D s h0 h H locs cells slots) (hnh : c.exceptionTable.isEmpty = true) {a : Nat} {x : Nat} {fr lo : Nat} (ht : hT h a = 7) (hcF : XMt l yX11_unit (ws_ yX11_unit cX11_unit 2 (some (.object "BlindCards$Node"))) fr lo D [rv a] h (.threw (x - 1)) h1) (hl : ls.size = nL) (hW : (rest.map fun v => v.category).sum ≤ 8) (hRf : fr + 1 ≤ R.frames) (hRl : 8 + (2 + 11) + lo ≤ R.locals) (hdg : decode cc pc = .ok (.invokevirtual 348, 3)) : W p l e R s m args below meth c H locs cells slots (XMQ below D (.threw (x - 1)) h0 h1 s) (F0 m pc ls (rv a :: rest)) := by
  have q := ht
  exact X_callVT hC hX hnh (by rw [q]; decide) (by rw [q]; rfl) (As := []) hcF (cwV 0 hC.2.2.2.2.1 (lw_V q1208 q1210 qs20 q146 q1211) rfl rfl rfl (by decide +kernel) ⟨hRf, hRl⟩) rfl rfl hl hW hdg rfl
theorem nX_X11_326 {p : Program} {l : Launch} {e : Env} {R : Room} {s : State} {m : MethodId} {args : Array Value} {below : List Frame} {meth : Method} {c : Code} {H : Heap} {locs : List Loc} {cells slots nL : Nat} {Q : State → Prop} {D : XD} {h0 h : TH} {cc : ByteArray} {pc : Nat} {ls : Array Slot} {rest : List Value} (hC : XCx D cc nL RX11 h0 p R s m args meth c) (hX : XSt D s h0 h H locs cells slots) (hroom : hc h + 1 ≤ XC ∧ hs h + 3 ≤ XS) (hdg : decode cc pc = .ok (.new 326, 3)) (kk : ∀ (H1 : Heap) (cells1 slots1 : Nat), XSt D s h0 (nO h 13 3) H1 locs cells1 slots1 → W p l e R s m args below meth c H1 locs cells1 slots1 Q (F0 m (pc + 3) ls (rv (hz h + 1) :: rest))) : W p l e R s m args below meth c H locs cells slots Q (F0 m pc ls rest) :=
  X_new hC hX 13 ⟨by decide, by decide⟩ rfl q1242 q1243 q159 hroom hdg kk
theorem iX_X11_328 {p : Program} {l : Launch} {e : Env} {R : Room} {s : State} {m : MethodId} {args : Array Value} {below : List Frame} {meth : Method} {c : Code} {H : Heap} {locs : List Loc} {cells slots nL : Nat} {Q : State → Prop} {D : XD} {h0 h : TH} {cc : ByteArray} {pc : Nat} {ls : Array Slot} {rest : List Value} (hC : XCx D cc nL RX11 h0 p R s m args meth c) (hX : XSt D s h0 h H locs cells slots) {a : Nat} {b0 : Nat} {b1 : Nat} {b2 : Int32} {x : TH} (ha : a ≠ 0) (hcF : F_X15_init D.2.2.2 a b0 b1 b2 h = some x) (hl : ls.size = nL) (hW : (rest.map fun v => v.category).sum ≤ 8) (hRf : 1 + 1 ≤ R.frames) (hRl : 53 ≤ R.locals) (hdg : decode cc pc = .ok (.invokespecial 328, 3)) (kk : ∀ (H1 : Heap) (locs1 : List Loc) (cells1 slots1 : Nat), XSt D s h0 x H1 locs1 cells1 slots1 → W p l e R s m args below meth c H1 locs1 cells1 slots1 Q (F0 m (pc + 3) ls (rest))) : W p l e R s m args below meth c H locs cells slots Q (F0 m pc ls (.int b2 :: rv b1 :: rv b0 :: rv a :: rest)) := by
  exact X_callI hC hX ha (As := [rv b0, rv b1, .int b2]) (m_X15_init l D a b0 b1 b2 h _ hcF) (cwI 3 hC.2.2.2.2.1 (lw_meth q1246) rfl rfl rfl (hC.2.2.2.2.1 _ q159) (hC.2.2.2.2.1 _ q1244) (hC.2.2.2.2.1 _ q1245) rfl (by decide +kernel) ⟨Nat.le_trans (Nat.le_of_ble_eq_true rfl) hRf, Nat.le_trans (Nat.le_of_ble_eq_true rfl) hRl⟩) rfl rfl hl hW hdg kk
theorem iXo_X11_345 {p : Program} {l : Launch} {e : Env} {R : Room} {s : State} {m : MethodId} {args : Array Value} {below : List Frame} {meth : Method} {c : Code} {H : Heap} {locs : List Loc} {cells slots nL : Nat} {Q : State → Prop} {D : XD} {h0 h : TH} {cc : ByteArray} {pc : Nat} {ls : Array Slot} {rest : List Value} {h1 : TH} (hC : XCx D cc nL RX11 h0 p R s m args meth c) (hX : XSt D s h0 h H locs cells slots) {a : Nat} {x : Nat} {fr lo : Nat} (ht : hT h a = 7) (hcF : XMt l yX11_term (ws_ yX11_term cX11_term 2 (some (.object "BlindCards$Node"))) fr lo D [rv a] h (.returned (some (rv x))) h1) (hl : ls.size = nL) (hW : (rest.map fun v => v.category).sum ≤ 8) (hRf : fr + 1 ≤ R.frames) (hRl : 8 + (2 + 11) + lo ≤ R.locals) (hdg : decode cc pc = .ok (.invokevirtual 345, 3)) (kk : ∀ (H1 : Heap) (locs1 : List Loc) (cells1 slots1 : Nat), XSt D s h0 h1 H1 locs1 cells1 slots1 → W p l e R s m args below meth c H1 locs1 cells1 slots1 Q (F0 m (pc + 3) ls (rv x :: rest))) : W p l e R s m args below meth c H locs cells slots Q (F0 m pc ls (rv a :: rest)) := by
  have q := ht
  exact X_callV hC hX (by rw [q]; decide) (by rw [q]; rfl) (As := []) hcF (cwV 0 hC.2.2.2.2.1 (lw_V q1204 q1206 qs19 q146 q1207) rfl rfl rfl (by decide +kernel) ⟨hRf, hRl⟩) rfl rfl hl hW hdg kk
theorem iXo_X11_345_t {p : Program} {l : Launch} {e : Env} {R : Room} {s : State} {m : MethodId} {args : Array Value} {below : List Frame} {meth : Method} {c : Code} {H : Heap} {locs : List Loc} {cells slots nL : Nat} {D : XD} {h0 h : TH} {cc : ByteArray} {pc : Nat} {ls : Array Slot} {rest : List Value} {h1 : TH} (hC : XCx D cc nL RX11 h0 p R s m args meth c) (hX : XSt D s h0 h H locs cells slots) (hnh : c.exceptionTable.isEmpty = true) {a : Nat} {x : Nat} {fr lo : Nat} (ht : hT h a = 7) (hcF : XMt l yX11_term (ws_ yX11_term cX11_term 2 (some (.object "BlindCards$Node"))) fr lo D [rv a] h (.threw (x - 1)) h1) (hl : ls.size = nL) (hW : (rest.map fun v => v.category).sum ≤ 8) (hRf : fr + 1 ≤ R.frames) (hRl : 8 + (2 + 11) + lo ≤ R.locals) (hdg : decode cc pc = .ok (.invokevirtual 345, 3)) : W p l e R s m args below meth c H locs cells slots (XMQ below D (.threw (x - 1)) h0 h1 s) (F0 m pc ls (rv a :: rest)) := by
  have q := ht
  exact X_callVT hC hX hnh (by rw [q]; decide) (by rw [q]; rfl) (As := []) hcF (cwV 0 hC.2.2.2.2.1 (lw_V q1204 q1206 qs19 q146 q1207) rfl rfl rfl (by decide +kernel) ⟨hRf, hRl⟩) rfl rfl hl hW hdg rfl
theorem iXo_X11_342 {p : Program} {l : Launch} {e : Env} {R : Room} {s : State} {m : MethodId} {args : Array Value} {below : List Frame} {meth : Method} {c : Code} {H : Heap} {locs : List Loc} {cells slots nL : Nat} {Q : State → Prop} {D : XD} {h0 h : TH} {cc : ByteArray} {pc : Nat} {ls : Array Slot} {rest : List Value} {h1 : TH} (hC : XCx D cc nL RX11 h0 p R s m args meth c) (hX : XSt D s h0 h H locs cells slots) {a : Nat} {x : Nat} {fr lo : Nat} (ht : hT h a = 7) (hcF : XMt l yX11_sum (ws_ yX11_sum cX11_sum 3 (some (.object "BlindCards$Node"))) fr lo D [rv a] h (.returned (some (rv x))) h1) (hl : ls.size = nL) (hW : (rest.map fun v => v.category).sum ≤ 8) (hRf : fr + 1 ≤ R.frames) (hRl : 8 + (3 + 11) + lo ≤ R.locals) (hdg : decode cc pc = .ok (.invokevirtual 342, 3)) (kk : ∀ (H1 : Heap) (locs1 : List Loc) (cells1 slots1 : Nat), XSt D s h0 h1 H1 locs1 cells1 slots1 → W p l e R s m args below meth c H1 locs1 cells1 slots1 Q (F0 m (pc + 3) ls (rv x :: rest))) : W p l e R s m args below meth c H locs cells slots Q (F0 m pc ls (rv a :: rest)) := by
  have q := ht
  exact X_callV hC hX (by rw [q]; decide) (by rw [q]; rfl) (As := []) hcF (cwV 0 hC.2.2.2.2.1 (lw_V q1200 q1202 qs18 q146 q1203) rfl rfl rfl (by decide +kernel) ⟨hRf, hRl⟩) rfl rfl hl hW hdg kk
theorem iXo_X11_342_t {p : Program} {l : Launch} {e : Env} {R : Room} {s : State} {m : MethodId} {args : Array Value} {below : List Frame} {meth : Method} {c : Code} {H : Heap} {locs : List Loc} {cells slots nL : Nat} {D : XD} {h0 h : TH} {cc : ByteArray} {pc : Nat} {ls : Array Slot} {rest : List Value} {h1 : TH} (hC : XCx D cc nL RX11 h0 p R s m args meth c) (hX : XSt D s h0 h H locs cells slots) (hnh : c.exceptionTable.isEmpty = true) {a : Nat} {x : Nat} {fr lo : Nat} (ht : hT h a = 7) (hcF : XMt l yX11_sum (ws_ yX11_sum cX11_sum 3 (some (.object "BlindCards$Node"))) fr lo D [rv a] h (.threw (x - 1)) h1) (hl : ls.size = nL) (hW : (rest.map fun v => v.category).sum ≤ 8) (hRf : fr + 1 ≤ R.frames) (hRl : 8 + (3 + 11) + lo ≤ R.locals) (hdg : decode cc pc = .ok (.invokevirtual 342, 3)) : W p l e R s m args below meth c H locs cells slots (XMQ below D (.threw (x - 1)) h0 h1 s) (F0 m pc ls (rv a :: rest)) := by
  have q := ht
  exact X_callVT hC hX hnh (by rw [q]; decide) (by rw [q]; rfl) (As := []) hcF (cwV 0 hC.2.2.2.2.1 (lw_V q1200 q1202 qs18 q146 q1203) rfl rfl rfl (by decide +kernel) ⟨hRf, hRl⟩) rfl rfl hl hW hdg rfl
theorem nX_X11_337 {p : Program} {l : Launch} {e : Env} {R : Room} {s : State} {m : MethodId} {args : Array Value} {below : List Frame} {meth : Method} {c : Code} {H : Heap} {locs : List Loc} {cells slots nL : Nat} {Q : State → Prop} {D : XD} {h0 h : TH} {cc : ByteArray} {pc : Nat} {ls : Array Slot} {rest : List Value} (hC : XCx D cc nL RX11 h0 p R s m args meth c) (hX : XSt D s h0 h H locs cells slots) (hroom : hc h + 1 ≤ XC ∧ hs h + 1 ≤ XS) (hdg : decode cc pc = .ok (.new 337, 3)) (kk : ∀ (H1 : Heap) (cells1 slots1 : Nat), XSt D s h0 (nO h 11 1) H1 locs cells1 slots1 → W p l e R s m args below meth c H1 locs cells1 slots1 Q (F0 m (pc + 3) ls (rv (hz h + 1) :: rest))) : W p l e R s m args below meth c H locs cells slots Q (F0 m pc ls rest) :=
  X_new hC hX 11 ⟨by decide, by decide⟩ rfl q1190 q1191 q155 hroom hdg kk
theorem iXo_X11_331 {p : Program} {l : Launch} {e : Env} {R : Room} {s : State} {m : MethodId} {args : Array Value} {below : List Frame} {meth : Method} {c : Code} {H : Heap} {locs : List Loc} {cells slots nL : Nat} {Q : State → Prop} {D : XD} {h0 h : TH} {cc : ByteArray} {pc : Nat} {ls : Array Slot} {rest : List Value} {h1 : TH} (hC : XCx D cc nL RX11 h0 p R s m args meth c) (hX : XSt D s h0 h H locs cells slots) {a : Nat} {x : Nat} {fr lo : Nat} (ht : hT h a = 7) (hcF : XMt l yX11_one (ws_ yX11_one cX11_one 3 (some (.object "BlindCards$Node"))) fr lo D [rv a] h (.returned (some (rv x))) h1) (hl : ls.size = nL) (hW : (rest.map fun v => v.category).sum ≤ 8) (hRf : fr + 1 ≤ R.frames) (hRl : 8 + (3 + 11) + lo ≤ R.locals) (hdg : decode cc pc = .ok (.invokevirtual 331, 3)) (kk : ∀ (H1 : Heap) (locs1 : List Loc) (cells1 slots1 : Nat), XSt D s h0 h1 H1 locs1 cells1 slots1 → W p l e R s m args below meth c H1 locs1 cells1 slots1 Q (F0 m (pc + 3) ls (rv x :: rest))) : W p l e R s m args below meth c H locs cells slots Q (F0 m pc ls (rv a :: rest)) := by
  have q := ht
  exact X_callV hC hX (by rw [q]; decide) (by rw [q]; rfl) (As := []) hcF (cwV 0 hC.2.2.2.2.1 (lw_V q1185 q1187 qs17 q146 q1188) rfl rfl rfl (by decide +kernel) ⟨hRf, hRl⟩) rfl rfl hl hW hdg kk
theorem iXo_X11_331_t {p : Program} {l : Launch} {e : Env} {R : Room} {s : State} {m : MethodId} {args : Array Value} {below : List Frame} {meth : Method} {c : Code} {H : Heap} {locs : List Loc} {cells slots nL : Nat} {D : XD} {h0 h : TH} {cc : ByteArray} {pc : Nat} {ls : Array Slot} {rest : List Value} {h1 : TH} (hC : XCx D cc nL RX11 h0 p R s m args meth c) (hX : XSt D s h0 h H locs cells slots) (hnh : c.exceptionTable.isEmpty = true) {a : Nat} {x : Nat} {fr lo : Nat} (ht : hT h a = 7) (hcF : XMt l yX11_one (ws_ yX11_one cX11_one 3 (some (.object "BlindCards$Node"))) fr lo D [rv a] h (.threw (x - 1)) h1) (hl : ls.size = nL) (hW : (rest.map fun v => v.category).sum ≤ 8) (hRf : fr + 1 ≤ R.frames) (hRl : 8 + (3 + 11) + lo ≤ R.locals) (hdg : decode cc pc = .ok (.invokevirtual 331, 3)) : W p l e R s m args below meth c H locs cells slots (XMQ below D (.threw (x - 1)) h0 h1 s) (F0 m pc ls (rv a :: rest)) := by
  have q := ht
  exact X_callVT hC hX hnh (by rw [q]; decide) (by rw [q]; rfl) (As := []) hcF (cwV 0 hC.2.2.2.2.1 (lw_V q1185 q1187 qs17 q146 q1188) rfl rfl rfl (by decide +kernel) ⟨hRf, hRl⟩) rfl rfl hl hW hdg rfl
theorem iX_X11_339 {p : Program} {l : Launch} {e : Env} {R : Room} {s : State} {m : MethodId} {args : Array Value} {below : List Frame} {meth : Method} {c : Code} {H : Heap} {locs : List Loc} {cells slots nL : Nat} {Q : State → Prop} {D : XD} {h0 h : TH} {cc : ByteArray} {pc : Nat} {ls : Array Slot} {rest : List Value} (hC : XCx D cc nL RX11 h0 p R s m args meth c) (hX : XSt D s h0 h H locs cells slots) {a : Nat} {b0 : Nat} {x : TH} (ha : a ≠ 0) (hcF : F_X13_init D.2.2.2 a b0 h = some x) (hl : ls.size = nL) (hW : (rest.map fun v => v.category).sum ≤ 8) (hRf : 1 + 1 ≤ R.frames) (hRl : 51 ≤ R.locals) (hdg : decode cc pc = .ok (.invokespecial 339, 3)) (kk : ∀ (H1 : Heap) (locs1 : List Loc) (cells1 slots1 : Nat), XSt D s h0 x H1 locs1 cells1 slots1 → W p l e R s m args below meth c H1 locs1 cells1 slots1 Q (F0 m (pc + 3) ls (rest))) : W p l e R s m args below meth c H locs cells slots Q (F0 m pc ls (rv b0 :: rv a :: rest)) := by
  exact X_callI hC hX ha (As := [rv b0]) (m_X13_init l D a b0 h _ hcF) (cwI 1 hC.2.2.2.2.1 (lw_meth q1194) rfl rfl rfl (hC.2.2.2.2.1 _ q155) (hC.2.2.2.2.1 _ q1192) (hC.2.2.2.2.1 _ q1193) rfl (by decide +kernel) ⟨Nat.le_trans (Nat.le_of_ble_eq_true rfl) hRf, Nat.le_trans (Nat.le_of_ble_eq_true rfl) hRl⟩) rfl rfl hl hW hdg kk
theorem iXo_X11_324 {p : Program} {l : Launch} {e : Env} {R : Room} {s : State} {m : MethodId} {args : Array Value} {below : List Frame} {meth : Method} {c : Code} {H : Heap} {locs : List Loc} {cells slots nL : Nat} {Q : State → Prop} {D : XD} {h0 h : TH} {cc : ByteArray} {pc : Nat} {ls : Array Slot} {rest : List Value} {h1 : TH} (hC : XCx D cc nL RX11 h0 p R s m args meth c) (hX : XSt D s h0 h H locs cells slots) {a : Nat} {x : Nat} {fr lo : Nat} (ht : hT h a = 7) (hcF : XMt l yX11_all (ws_ yX11_all cX11_all 2 (some (.object "BlindCards$Node"))) fr lo D [rv a] h (.returned (some (rv x))) h1) (hl : ls.size = nL) (hW : (rest.map fun v => v.category).sum ≤ 8) (hRf : fr + 1 ≤ R.frames) (hRl : 8 + (2 + 11) + lo ≤ R.locals) (hdg : decode cc pc = .ok (.invokevirtual 324, 3)) (kk : ∀ (H1 : Heap) (locs1 : List Loc) (cells1 slots1 : Nat), XSt D s h0 h1 H1 locs1 cells1 slots1 → W p l e R s m args below meth c H1 locs1 cells1 slots1 Q (F0 m (pc + 3) ls (rv x :: rest))) : W p l e R s m args below meth c H locs cells slots Q (F0 m pc ls (rv a :: rest)) := by
  have q := ht
  exact X_callV hC hX (by rw [q]; decide) (by rw [q]; rfl) (As := []) hcF (cwV 0 hC.2.2.2.2.1 (lw_V q1181 q1183 qs16 q146 q1184) rfl rfl rfl (by decide +kernel) ⟨hRf, hRl⟩) rfl rfl hl hW hdg kk
theorem iXo_X11_324_t {p : Program} {l : Launch} {e : Env} {R : Room} {s : State} {m : MethodId} {args : Array Value} {below : List Frame} {meth : Method} {c : Code} {H : Heap} {locs : List Loc} {cells slots nL : Nat} {D : XD} {h0 h : TH} {cc : ByteArray} {pc : Nat} {ls : Array Slot} {rest : List Value} {h1 : TH} (hC : XCx D cc nL RX11 h0 p R s m args meth c) (hX : XSt D s h0 h H locs cells slots) (hnh : c.exceptionTable.isEmpty = true) {a : Nat} {x : Nat} {fr lo : Nat} (ht : hT h a = 7) (hcF : XMt l yX11_all (ws_ yX11_all cX11_all 2 (some (.object "BlindCards$Node"))) fr lo D [rv a] h (.threw (x - 1)) h1) (hl : ls.size = nL) (hW : (rest.map fun v => v.category).sum ≤ 8) (hRf : fr + 1 ≤ R.frames) (hRl : 8 + (2 + 11) + lo ≤ R.locals) (hdg : decode cc pc = .ok (.invokevirtual 324, 3)) : W p l e R s m args below meth c H locs cells slots (XMQ below D (.threw (x - 1)) h0 h1 s) (F0 m pc ls (rv a :: rest)) := by
  have q := ht
  exact X_callVT hC hX hnh (by rw [q]; decide) (by rw [q]; rfl) (As := []) hcF (cwV 0 hC.2.2.2.2.1 (lw_V q1181 q1183 qs16 q146 q1184) rfl rfl rfl (by decide +kernel) ⟨hRf, hRl⟩) rfl rfl hl hW hdg rfl
/-! BlindCards$Reader.unit BlindCards$Reader.term BlindCards$Reader.sum BlindCards$Reader.one BlindCards$Reader.all BlindCards$Reader.both -/
def B_X11_unit_b63 (K : Nat → Nat) (o_X11_unit : Nat → TH → Option ((Nat ⊕ Nat) × TH)) (o_X11_term : Nat → TH → Option ((Nat ⊕ Nat) × TH)) (o_X11_sum : Nat → TH → Option ((Nat ⊕ Nat) × TH)) (o_X11_one : Nat → TH → Option ((Nat ⊕ Nat) × TH)) (o_X11_all : Nat → TH → Option ((Nat ⊕ Nat) × TH)) (o_X11_both : Nat → TH → Option ((Nat ⊕ Nat) × TH)) (x0 : Nat) (h : TH) : Option ((Nat ⊕ Nat) × TH) :=
  gd (hT h x0 = 7) <|
  bd2 (F_X11_wrong K x0 h) fun r_4 h_3 =>
  gd (r_4 ≠ 0) <|
  some (.inr r_4, h_3)
set_option maxHeartbeats 4000000 in
theorem w_X11_unit_b63_g {p : Program} {l : Launch} {e : Env} {s : State} {m : MethodId} {args : Array Value} {below : List Frame} {meth : Method} {c : Code} {D : XD} {h0 : TH} {fr lo : Nat} (hC : XCx D cX11_unit 2 RX11 h0 p (xRm (fr + 1) (lo + 22) h0) s m args meth c) (hr : meth.sig.returnType = some (.object "BlindCards$Node")) (hnh : c.exceptionTable.isEmpty = true) (hin : meth.name = "unit") (hfr : 8 ≤ fr) (hlo : 215 ≤ lo) (o_X11_unit : Nat → TH → Option ((Nat ⊕ Nat) × TH)) (ho_X11_unit : ∀ (a : Nat) (h : TH) (x : ((Nat ⊕ Nat) × TH)), o_X11_unit a h = some x → XMt l yX11_unit (ws_ yX11_unit cX11_unit 2 (some (.object "BlindCards$Node"))) fr lo D [rv a] h (ocR x.1) x.2) (o_X11_term : Nat → TH → Option ((Nat ⊕ Nat) × TH)) (ho_X11_term : ∀ (a : Nat) (h : TH) (x : ((Nat ⊕ Nat) × TH)), o_X11_term a h = some x → XMt l yX11_term (ws_ yX11_term cX11_term 2 (some (.object "BlindCards$Node"))) fr lo D [rv a] h (ocR x.1) x.2) (o_X11_sum : Nat → TH → Option ((Nat ⊕ Nat) × TH)) (ho_X11_sum : ∀ (a : Nat) (h : TH) (x : ((Nat ⊕ Nat) × TH)), o_X11_sum a h = some x → XMt l yX11_sum (ws_ yX11_sum cX11_sum 3 (some (.object "BlindCards$Node"))) fr lo D [rv a] h (ocR x.1) x.2) (o_X11_one : Nat → TH → Option ((Nat ⊕ Nat) × TH)) (ho_X11_one : ∀ (a : Nat) (h : TH) (x : ((Nat ⊕ Nat) × TH)), o_X11_one a h = some x → XMt l yX11_one (ws_ yX11_one cX11_one 3 (some (.object "BlindCards$Node"))) fr lo D [rv a] h (ocR x.1) x.2) (o_X11_all : Nat → TH → Option ((Nat ⊕ Nat) × TH)) (ho_X11_all : ∀ (a : Nat) (h : TH) (x : ((Nat ⊕ Nat) × TH)), o_X11_all a h = some x → XMt l yX11_all (ws_ yX11_all cX11_all 2 (some (.object "BlindCards$Node"))) fr lo D [rv a] h (ocR x.1) x.2) (o_X11_both : Nat → TH → Option ((Nat ⊕ Nat) × TH)) (ho_X11_both : ∀ (a : Nat) (h : TH) (x : ((Nat ⊕ Nat) × TH)), o_X11_both a h = some x → XMt l yX11_both (ws_ yX11_both cX11_both 2 (some (.object "BlindCards$Node"))) fr lo D [rv a] h (ocR x.1) x.2) {x : ((Nat ⊕ Nat) × TH)} :
    ∀ (x0 : Nat) (h : TH), B_X11_unit_b63 D.2.2.2 o_X11_unit o_X11_term o_X11_sum o_X11_one o_X11_all o_X11_both x0 h = some x → XJ p l e (xRm (fr + 1) (lo + 22) h0) s m args below meth c D 2 (ocR x.1) h0 x.2 63 [(0, rv x0)] [] h := by
  have hx := hC.1
  have hb := hC.2.1
  intro x0 h hF H locs cells slots ls hX hl
  rw [B_X11_unit_b63] at hF
  refine X_aload_n hx hb dX11_unit_63 rfl (lv_at hl 0 rfl) ?_
  obtain ⟨h_1, hF⟩ := gd_ok hF
  obtain ⟨r_4, h_3, hc_2, hF⟩ := bd2_ok hF
  refine iX_X11_90 hC hX h_1 hc_2 hl.1 (Nat.le_of_ble_eq_true rfl) (by show _ ≤ fr + 1; omega) (by show _ ≤ lo + 22; omega) dX11_unit_64 (fun H locs cells slots hX => ?_)
  obtain ⟨h_5, hF⟩ := gd_ok hF
  cases hF
  exact x_throw hC hX hnh h_5 rfl rfl dX11_unit_67
def B_X11_unit_b202 (K : Nat → Nat) (o_X11_unit : Nat → TH → Option ((Nat ⊕ Nat) × TH)) (o_X11_term : Nat → TH → Option ((Nat ⊕ Nat) × TH)) (o_X11_sum : Nat → TH → Option ((Nat ⊕ Nat) × TH)) (o_X11_one : Nat → TH → Option ((Nat ⊕ Nat) × TH)) (o_X11_all : Nat → TH → Option ((Nat ⊕ Nat) × TH)) (o_X11_both : Nat → TH → Option ((Nat ⊕ Nat) × TH)) (x0 : Nat) (y0 : Nat) (h : TH) : Option ((Nat ⊕ Nat) × TH) :=
  gd (hT h x0 = 7) <|
  bd (F_X11_go K x0 h) fun h_3 =>
  some (.inl y0, h_3)
set_option maxHeartbeats 4000000 in
theorem w_X11_unit_b202_g {p : Program} {l : Launch} {e : Env} {s : State} {m : MethodId} {args : Array Value} {below : List Frame} {meth : Method} {c : Code} {D : XD} {h0 : TH} {fr lo : Nat} (hC : XCx D cX11_unit 2 RX11 h0 p (xRm (fr + 1) (lo + 22) h0) s m args meth c) (hr : meth.sig.returnType = some (.object "BlindCards$Node")) (hnh : c.exceptionTable.isEmpty = true) (hin : meth.name = "unit") (hfr : 8 ≤ fr) (hlo : 215 ≤ lo) (o_X11_unit : Nat → TH → Option ((Nat ⊕ Nat) × TH)) (ho_X11_unit : ∀ (a : Nat) (h : TH) (x : ((Nat ⊕ Nat) × TH)), o_X11_unit a h = some x → XMt l yX11_unit (ws_ yX11_unit cX11_unit 2 (some (.object "BlindCards$Node"))) fr lo D [rv a] h (ocR x.1) x.2) (o_X11_term : Nat → TH → Option ((Nat ⊕ Nat) × TH)) (ho_X11_term : ∀ (a : Nat) (h : TH) (x : ((Nat ⊕ Nat) × TH)), o_X11_term a h = some x → XMt l yX11_term (ws_ yX11_term cX11_term 2 (some (.object "BlindCards$Node"))) fr lo D [rv a] h (ocR x.1) x.2) (o_X11_sum : Nat → TH → Option ((Nat ⊕ Nat) × TH)) (ho_X11_sum : ∀ (a : Nat) (h : TH) (x : ((Nat ⊕ Nat) × TH)), o_X11_sum a h = some x → XMt l yX11_sum (ws_ yX11_sum cX11_sum 3 (some (.object "BlindCards$Node"))) fr lo D [rv a] h (ocR x.1) x.2) (o_X11_one : Nat → TH → Option ((Nat ⊕ Nat) × TH)) (ho_X11_one : ∀ (a : Nat) (h : TH) (x : ((Nat ⊕ Nat) × TH)), o_X11_one a h = some x → XMt l yX11_one (ws_ yX11_one cX11_one 3 (some (.object "BlindCards$Node"))) fr lo D [rv a] h (ocR x.1) x.2) (o_X11_all : Nat → TH → Option ((Nat ⊕ Nat) × TH)) (ho_X11_all : ∀ (a : Nat) (h : TH) (x : ((Nat ⊕ Nat) × TH)), o_X11_all a h = some x → XMt l yX11_all (ws_ yX11_all cX11_all 2 (some (.object "BlindCards$Node"))) fr lo D [rv a] h (ocR x.1) x.2) (o_X11_both : Nat → TH → Option ((Nat ⊕ Nat) × TH)) (ho_X11_both : ∀ (a : Nat) (h : TH) (x : ((Nat ⊕ Nat) × TH)), o_X11_both a h = some x → XMt l yX11_both (ws_ yX11_both cX11_both 2 (some (.object "BlindCards$Node"))) fr lo D [rv a] h (ocR x.1) x.2) {x : ((Nat ⊕ Nat) × TH)} :
    ∀ (x0 : Nat) (y0 : Nat) (h : TH), B_X11_unit_b202 D.2.2.2 o_X11_unit o_X11_term o_X11_sum o_X11_one o_X11_all o_X11_both x0 y0 h = some x → XJ p l e (xRm (fr + 1) (lo + 22) h0) s m args below meth c D 2 (ocR x.1) h0 x.2 202 [(0, rv x0)] [rv y0] h := by
  have hx := hC.1
  have hb := hC.2.1
  intro x0 y0 h hF H locs cells slots ls hX hl
  rw [B_X11_unit_b202] at hF
  refine X_astore_n (i := 1) hx hb dX11_unit_202 rfl hl (by decide) rfl (fun ls hl => ?_)
  replace hl : lv_has ls 2 [(1, rv y0), (0, rv x0)] := lv_subS hl (List.forall_mem_cons.mpr ⟨Or.inl rfl, (List.forall_mem_cons.mpr ⟨Or.inr ⟨List.mem_of_getElem? (i := 0) rfl, by simp [rv_cat]⟩, (fun _ h => nomatch h)⟩)⟩)
  refine X_aload_n hx hb dX11_unit_203 rfl (lv_at hl 1 rfl) ?_
  obtain ⟨h_1, hF⟩ := gd_ok hF
  obtain ⟨h_3, hc_2, hF⟩ := bd_ok hF
  refine iX_X11_94 hC hX h_1 hc_2 hl.1 (Nat.le_of_ble_eq_true rfl) (by show _ ≤ fr + 1; omega) (by show _ ≤ lo + 22; omega) dX11_unit_204 (fun H locs cells slots hX => ?_)
  refine X_aload_n hx hb dX11_unit_207 rfl (lv_at hl 0 rfl) ?_
  cases hF
  exact x_reta hC hX hr (Or.inl ⟨_, rfl⟩) rfl rfl dX11_unit_208
def B_X11_unit_b68 (K : Nat → Nat) (o_X11_unit : Nat → TH → Option ((Nat ⊕ Nat) × TH)) (o_X11_term : Nat → TH → Option ((Nat ⊕ Nat) × TH)) (o_X11_sum : Nat → TH → Option ((Nat ⊕ Nat) × TH)) (o_X11_one : Nat → TH → Option ((Nat ⊕ Nat) × TH)) (o_X11_all : Nat → TH → Option ((Nat ⊕ Nat) × TH)) (o_X11_both : Nat → TH → Option ((Nat ⊕ Nat) × TH)) (x0 : Nat) (h : TH) : Option ((Nat ⊕ Nat) × TH) :=
  gd (hasF (hT h x0) 73 = true) <|
  lt (hR h 73 x0) fun r_2 =>
  gd (hasF (hT h r_2) 34 = true) <|
  gd (hasF (hT h r_2) 34 = true) <|
  gd (hT h r_2 ≤ 24) <|
  lt (uI h 34 r_2 ((hI h 34 r_2) + (1 : Int32))) fun h_6 =>
  gd (hasF (hT h_6 x0) 68 = true) <|
  if (hI h_6 68 x0) = (40 : Int32) then
    gd (hasF (hT h_6 x0) 71 = true) <|
    gd (hasF (hT h_6 x0) 71 = true) <|
    gd (hT h_6 x0 ≤ 24) <|
    lt (uI h_6 71 x0 ((hI h_6 71 x0) + (1 : Int32))) fun h_39 =>
    gd (hT h_39 x0 = 7) <|
    bd (F_X11_go K x0 h_39) fun h_42 =>
    gd (hT h_42 x0 = 7) <|
    bt (o_X11_both x0 h_42) fun r_45 h_46 =>
    gd (hasF (hT h_46 x0) 68 = true) <|
    if (hI h_46 68 x0) = (41 : Int32) then
      gd (hasF (hT h_46 x0) 71 = true) <|
      gd (hasF (hT h_46 x0) 71 = true) <|
      gd (hT h_46 x0 ≤ 24) <|
      lt (uI h_46 71 x0 ((hI h_46 71 x0) - (1 : Int32))) fun h_53 =>
      gd (hT h_53 x0 = 7) <|
      bd (F_X11_go K x0 h_53) fun h_56 =>
      some (.inl r_45, h_56)
    else
      gd (hT h_46 x0 = 7) <|
      bd2 (F_X11_wrong K x0 h_46) fun r_60 h_59 =>
      gd (r_60 ≠ 0) <|
      some (.inr r_60, h_59)
  else
    gd (hT h_6 x0 = 7) <|
    bd (F_X11_isWho K h_6 x0) fun r_11 =>
    if r_11 = 0 then
      lt ((K 7)) fun r_13 =>
      gd (hT h_6 x0 = 7) <|
      bd (F_X11_is K h_6 x0 r_13) fun r_16 =>
      if r_16 = 0 then
        gd (hc h_6 + 1 ≤ XC ∧ hs h_6 + 1 ≤ XS) <|
        lt (hz h_6 + 1) fun r_19 =>
        lt (nO h_6 12 1) fun h_20 =>
        gd (hasF (hT h_20 x0) 70 = true) <|
        gd (r_19 ≠ 0) <|
        bd (F_X14_init K r_19 (hI h_20 70 x0) h_20) fun h_24 =>
        B_X11_unit_b202 K o_X11_unit o_X11_term o_X11_sum o_X11_one o_X11_all o_X11_both x0 r_19 h_24
      else
        lt ((K 33)) fun r_25 =>
        B_X11_unit_b202 K o_X11_unit o_X11_term o_X11_sum o_X11_one o_X11_all o_X11_both x0 r_25 h_6
    else
      gd (hT h_6 x0 = 7) <|
      bt (F_X11_who K x0 h_6) fun r_28 h_29 =>
      if r_28 = 0 then
        lt ((K 30)) fun r_35 =>
        some (.inl r_35, h_29)
      else
        if r_28 = (1 : Int32) then
          lt ((K 31)) fun r_34 =>
          some (.inl r_34, h_29)
        else
          lt ((K 32)) fun r_33 =>
          some (.inl r_33, h_29)
set_option maxHeartbeats 4000000 in
theorem w_X11_unit_b68_g {p : Program} {l : Launch} {e : Env} {s : State} {m : MethodId} {args : Array Value} {below : List Frame} {meth : Method} {c : Code} {D : XD} {h0 : TH} {fr lo : Nat} (hC : XCx D cX11_unit 2 RX11 h0 p (xRm (fr + 1) (lo + 22) h0) s m args meth c) (hr : meth.sig.returnType = some (.object "BlindCards$Node")) (hnh : c.exceptionTable.isEmpty = true) (hin : meth.name = "unit") (hfr : 8 ≤ fr) (hlo : 215 ≤ lo) (o_X11_unit : Nat → TH → Option ((Nat ⊕ Nat) × TH)) (ho_X11_unit : ∀ (a : Nat) (h : TH) (x : ((Nat ⊕ Nat) × TH)), o_X11_unit a h = some x → XMt l yX11_unit (ws_ yX11_unit cX11_unit 2 (some (.object "BlindCards$Node"))) fr lo D [rv a] h (ocR x.1) x.2) (o_X11_term : Nat → TH → Option ((Nat ⊕ Nat) × TH)) (ho_X11_term : ∀ (a : Nat) (h : TH) (x : ((Nat ⊕ Nat) × TH)), o_X11_term a h = some x → XMt l yX11_term (ws_ yX11_term cX11_term 2 (some (.object "BlindCards$Node"))) fr lo D [rv a] h (ocR x.1) x.2) (o_X11_sum : Nat → TH → Option ((Nat ⊕ Nat) × TH)) (ho_X11_sum : ∀ (a : Nat) (h : TH) (x : ((Nat ⊕ Nat) × TH)), o_X11_sum a h = some x → XMt l yX11_sum (ws_ yX11_sum cX11_sum 3 (some (.object "BlindCards$Node"))) fr lo D [rv a] h (ocR x.1) x.2) (o_X11_one : Nat → TH → Option ((Nat ⊕ Nat) × TH)) (ho_X11_one : ∀ (a : Nat) (h : TH) (x : ((Nat ⊕ Nat) × TH)), o_X11_one a h = some x → XMt l yX11_one (ws_ yX11_one cX11_one 3 (some (.object "BlindCards$Node"))) fr lo D [rv a] h (ocR x.1) x.2) (o_X11_all : Nat → TH → Option ((Nat ⊕ Nat) × TH)) (ho_X11_all : ∀ (a : Nat) (h : TH) (x : ((Nat ⊕ Nat) × TH)), o_X11_all a h = some x → XMt l yX11_all (ws_ yX11_all cX11_all 2 (some (.object "BlindCards$Node"))) fr lo D [rv a] h (ocR x.1) x.2) (o_X11_both : Nat → TH → Option ((Nat ⊕ Nat) × TH)) (ho_X11_both : ∀ (a : Nat) (h : TH) (x : ((Nat ⊕ Nat) × TH)), o_X11_both a h = some x → XMt l yX11_both (ws_ yX11_both cX11_both 2 (some (.object "BlindCards$Node"))) fr lo D [rv a] h (ocR x.1) x.2) {x : ((Nat ⊕ Nat) × TH)} :
    ∀ (x0 : Nat) (h : TH), B_X11_unit_b68 D.2.2.2 o_X11_unit o_X11_term o_X11_sum o_X11_one o_X11_all o_X11_both x0 h = some x → XJ p l e (xRm (fr + 1) (lo + 22) h0) s m args below meth c D 2 (ocR x.1) h0 x.2 68 [(0, rv x0)] [] h := by
  have hx := hC.1
  have hb := hC.2.1
  intro x0 h hF H locs cells slots ls hX hl
  rw [B_X11_unit_b68] at hF
  refine X_aload_n hx hb dX11_unit_68 rfl (lv_at hl 0 rfl) ?_
  obtain ⟨h_1, hF⟩ := gd_ok hF
  refine gX_X11_24 hC hX h_1 dX11_unit_69 ?_
  refine lv_topr (fun r_2 er_2 => ?_)
  replace hF := lt_at hF er_2
  refine lv_dup hx hb dX11_unit_72 (rv_cat _) ?_
  obtain ⟨h_3, hF⟩ := gd_ok hF
  refine gX_X11_354 hC hX h_3 dX11_unit_73 ?_
  refine lv_iconst (v := 1) hx hb dX11_unit_76 (by decide) ?_
  refine lv_iadd hx hb dX11_unit_77 ?_
  obtain ⟨h_4, hF⟩ := gd_ok hF
  obtain ⟨h_5, hF⟩ := gd_ok hF
  refine pX_X11_354 hC hX h_4 h_5 dX11_unit_78 (fun H locs hX => ?_)
  obtain ⟨h_6, eh_6, hF⟩ := lt_ok hF
  rw [← eh_6] at hX
  refine X_aload_n hx hb dX11_unit_81 rfl (lv_at hl 0 rfl) ?_
  obtain ⟨h_7, hF⟩ := gd_ok hF
  refine gX_X11_46 hC hX h_7 dX11_unit_82 ?_
  refine lv_bipush (v := 40) hx hb dX11_unit_85 (by decide) ?_
  refine lv_icmp_ne (tgt := 139) hx hb dX11_unit_87 (by decide) (fun c_8 => ?_) (fun c_8 => ?_)
  · replace hF := it_f hF c_8
    refine X_aload_n hx hb dX11_unit_139 rfl (lv_at hl 0 rfl) ?_
    obtain ⟨h_9, hF⟩ := gd_ok hF
    obtain ⟨r_11, hc_10, hF⟩ := bd_ok hF
    refine iX_X11_351 hC hX h_9 hc_10 hl.1 (Nat.le_of_ble_eq_true rfl) (by show _ ≤ fr + 1; omega) (by show _ ≤ lo + 22; omega) dX11_unit_140 (fun H locs cells slots hX => ?_)
    refine lv_if_eq (tgt := 176) hx hb dX11_unit_143 (by decide) (fun c_12 => ?_) (fun c_12 => ?_)
    · replace hF := it_t hF c_12
      refine X_aload_n hx hb dX11_unit_176 rfl (lv_at hl 0 rfl) ?_
      refine X_ldcS hC (i := 7) (List.mem_of_getElem? (i := 7) rfl) dX11_unit_177 ?_
      refine lv_topr (fun r_13 er_13 => ?_)
      replace hF := lt_at hF er_13
      obtain ⟨h_14, hF⟩ := gd_ok hF
      obtain ⟨r_16, hc_15, hF⟩ := bd_ok hF
      refine iX_X11_86 hC hX h_14 hc_15 hl.1 (Nat.le_of_ble_eq_true rfl) (by show _ ≤ fr + 1; omega) (by show _ ≤ lo + 22; omega) dX11_unit_179 (fun H locs cells slots hX => ?_)
      refine lv_if_eq (tgt := 191) hx hb dX11_unit_182 (by decide) (fun c_17 => ?_) (fun c_17 => ?_)
      · replace hF := it_t hF c_17
        obtain ⟨h_18, hF⟩ := gd_ok hF
        refine nX_X11_372 hC hX h_18 dX11_unit_191 (fun H cells slots hX => ?_)
        refine lv_topr (fun r_19 er_19 => ?_)
        replace hF := lt_at hF er_19
        obtain ⟨h_20, eh_20, hF⟩ := lt_ok hF
        rw [← eh_20] at hX
        refine lv_dup hx hb dX11_unit_194 (rv_cat _) ?_
        refine X_aload_n hx hb dX11_unit_195 rfl (lv_at hl 0 rfl) ?_
        obtain ⟨h_21, hF⟩ := gd_ok hF
        refine gX_X11_69 hC hX h_21 dX11_unit_196 ?_
        obtain ⟨h_22, hF⟩ := gd_ok hF
        obtain ⟨h_24, hc_23, hF⟩ := bd_ok hF
        refine iX_X11_374 hC hX h_22 hc_23 hl.1 (cat4 (Nat.le_of_ble_eq_true rfl)) (by show _ ≤ fr + 1; omega) (by show _ ≤ lo + 22; omega) dX11_unit_199 (fun H locs cells slots hX => ?_)
        exact w_X11_unit_b202_g hC hr hnh hin hfr hlo o_X11_unit ho_X11_unit o_X11_term ho_X11_term o_X11_sum ho_X11_sum o_X11_one ho_X11_one o_X11_all ho_X11_all o_X11_both ho_X11_both x0 r_19 h_24 hF H locs cells slots ls hX (lv_sub hl [0] rfl)
      · replace hF := it_f hF c_17
        refine sX_X11_369 hC hX dX11_unit_185 ?_
        refine lv_topr (fun r_25 er_25 => ?_)
        replace hF := lt_at hF er_25
        refine lv_goto (tgt := 202) hx hb dX11_unit_188 (by decide) ?_
        exact w_X11_unit_b202_g hC hr hnh hin hfr hlo o_X11_unit ho_X11_unit o_X11_term ho_X11_term o_X11_sum ho_X11_sum o_X11_one ho_X11_one o_X11_all ho_X11_all o_X11_both ho_X11_both x0 r_25 h_6 hF H locs cells slots ls hX (lv_sub hl [0] rfl)
    · replace hF := it_f hF c_12
      refine X_aload_n hx hb dX11_unit_146 rfl (lv_at hl 0 rfl) ?_
      obtain ⟨h_26, hF⟩ := gd_ok hF
      rcases bt_ok hF with ⟨r_28, h_29, hc_27, hF⟩ | ⟨z_30, h_29, hc_27, hxx⟩
      rotate_left
      · subst hxx
        exact iX_X11_255_t hC hX hnh h_26 hc_27 hl.1 (Nat.le_of_ble_eq_true rfl) (by show _ ≤ fr + 1; omega) (by show _ ≤ lo + 22; omega) dX11_unit_147
      refine iX_X11_255 hC hX h_26 hc_27 hl.1 (Nat.le_of_ble_eq_true rfl) (by show _ ≤ fr + 1; omega) (by show _ ≤ lo + 22; omega) dX11_unit_147 (fun H locs cells slots hX => ?_)
      refine lv_istore_n (i := 1) hx hb dX11_unit_150 rfl hl (by decide) rfl (fun ls hl => ?_)
      replace hl : lv_has ls 2 [(1, .int r_28), (0, rv x0)] := lv_subS hl (List.forall_mem_cons.mpr ⟨Or.inl rfl, (List.forall_mem_cons.mpr ⟨Or.inr ⟨List.mem_of_getElem? (i := 0) rfl, by simp [rv_cat]⟩, (fun _ h => nomatch h)⟩)⟩)
      refine lv_iload_n hx hb dX11_unit_151 rfl (lv_at hl 0 rfl) ?_
      refine lv_if_ne (tgt := 161) hx hb dX11_unit_152 (by decide) (fun c_31 => ?_) (fun c_31 => ?_)
      · replace hF := it_f hF c_31
        refine lv_iload_n hx hb dX11_unit_161 rfl (lv_at hl 0 rfl) ?_
        refine lv_iconst (v := 1) hx hb dX11_unit_162 (by decide) ?_
        refine lv_icmp_ne (tgt := 172) hx hb dX11_unit_163 (by decide) (fun c_32 => ?_) (fun c_32 => ?_)
        · replace hF := it_f hF c_32
          refine sX_X11_366 hC hX dX11_unit_172 ?_
          refine lv_topr (fun r_33 er_33 => ?_)
          replace hF := lt_at hF er_33
          cases hF
          exact x_reta hC hX hr (Or.inl ⟨_, rfl⟩) rfl rfl dX11_unit_175
        · replace hF := it_t hF c_32
          refine sX_X11_363 hC hX dX11_unit_166 ?_
          refine lv_topr (fun r_34 er_34 => ?_)
          replace hF := lt_at hF er_34
          refine lv_goto (tgt := 175) hx hb dX11_unit_169 (by decide) ?_
          cases hF
          exact x_reta hC hX hr (Or.inl ⟨_, rfl⟩) rfl rfl dX11_unit_175
      · replace hF := it_t hF c_31
        refine sX_X11_357 hC hX dX11_unit_155 ?_
        refine lv_topr (fun r_35 er_35 => ?_)
        replace hF := lt_at hF er_35
        refine lv_goto (tgt := 175) hx hb dX11_unit_158 (by decide) ?_
        cases hF
        exact x_reta hC hX hr (Or.inl ⟨_, rfl⟩) rfl rfl dX11_unit_175
  · replace hF := it_t hF c_8
    refine X_aload_n hx hb dX11_unit_90 rfl (lv_at hl 0 rfl) ?_
    refine lv_dup hx hb dX11_unit_91 (rv_cat _) ?_
    obtain ⟨h_36, hF⟩ := gd_ok hF
    refine gX_X11_334 hC hX h_36 dX11_unit_92 ?_
    refine lv_iconst (v := 1) hx hb dX11_unit_95 (by decide) ?_
    refine lv_iadd hx hb dX11_unit_96 ?_
    obtain ⟨h_37, hF⟩ := gd_ok hF
    obtain ⟨h_38, hF⟩ := gd_ok hF
    refine pX_X11_334 hC hX h_37 h_38 dX11_unit_97 (fun H locs hX => ?_)
    obtain ⟨h_39, eh_39, hF⟩ := lt_ok hF
    rw [← eh_39] at hX
    refine X_aload_n hx hb dX11_unit_100 rfl (lv_at hl 0 rfl) ?_
    obtain ⟨h_40, hF⟩ := gd_ok hF
    obtain ⟨h_42, hc_41, hF⟩ := bd_ok hF
    refine iX_X11_94 hC hX h_40 hc_41 hl.1 (Nat.le_of_ble_eq_true rfl) (by show _ ≤ fr + 1; omega) (by show _ ≤ lo + 22; omega) dX11_unit_101 (fun H locs cells slots hX => ?_)
    refine X_aload_n hx hb dX11_unit_104 rfl (lv_at hl 0 rfl) ?_
    obtain ⟨h_43, hF⟩ := gd_ok hF
    rcases bt_ok hF with ⟨r_45, h_46, hc_44, hF⟩ | ⟨z_47, h_46, hc_44, hxx⟩
    rotate_left
    · subst hxx
      exact iXo_X11_201_t hC hX hnh h_43 (ho_X11_both x0 h_42 _ hc_44) hl.1 (Nat.le_of_ble_eq_true rfl) (by show _ ≤ fr + 1; omega) (by show _ ≤ lo + 22; omega) dX11_unit_105
    refine iXo_X11_201 hC hX h_43 (ho_X11_both x0 h_42 _ hc_44) hl.1 (Nat.le_of_ble_eq_true rfl) (by show _ ≤ fr + 1; omega) (by show _ ≤ lo + 22; omega) dX11_unit_105 (fun H locs cells slots hX => ?_)
    refine X_astore_n (i := 1) hx hb dX11_unit_108 rfl hl (by decide) rfl (fun ls hl => ?_)
    replace hl : lv_has ls 2 [(1, rv r_45), (0, rv x0)] := lv_subS hl (List.forall_mem_cons.mpr ⟨Or.inl rfl, (List.forall_mem_cons.mpr ⟨Or.inr ⟨List.mem_of_getElem? (i := 0) rfl, by simp [rv_cat]⟩, (fun _ h => nomatch h)⟩)⟩)
    refine X_aload_n hx hb dX11_unit_109 rfl (lv_at hl 1 rfl) ?_
    obtain ⟨h_48, hF⟩ := gd_ok hF
    refine gX_X11_46 hC hX h_48 dX11_unit_110 ?_
    refine lv_bipush (v := 41) hx hb dX11_unit_113 (by decide) ?_
    refine lv_icmp_eq (tgt := 123) hx hb dX11_unit_115 (by decide) (fun c_49 => ?_) (fun c_49 => ?_)
    · replace hF := it_t hF c_49
      refine X_aload_n hx hb dX11_unit_123 rfl (lv_at hl 1 rfl) ?_
      refine lv_dup hx hb dX11_unit_124 (rv_cat _) ?_
      obtain ⟨h_50, hF⟩ := gd_ok hF
      refine gX_X11_334 hC hX h_50 dX11_unit_125 ?_
      refine lv_iconst (v := 1) hx hb dX11_unit_128 (by decide) ?_
      refine lv_isub hx hb dX11_unit_129 ?_
      obtain ⟨h_51, hF⟩ := gd_ok hF
      obtain ⟨h_52, hF⟩ := gd_ok hF
      refine pX_X11_334 hC hX h_51 h_52 dX11_unit_130 (fun H locs hX => ?_)
      obtain ⟨h_53, eh_53, hF⟩ := lt_ok hF
      rw [← eh_53] at hX
      refine X_aload_n hx hb dX11_unit_133 rfl (lv_at hl 1 rfl) ?_
      obtain ⟨h_54, hF⟩ := gd_ok hF
      obtain ⟨h_56, hc_55, hF⟩ := bd_ok hF
      refine iX_X11_94 hC hX h_54 hc_55 hl.1 (Nat.le_of_ble_eq_true rfl) (by show _ ≤ fr + 1; omega) (by show _ ≤ lo + 22; omega) dX11_unit_134 (fun H locs cells slots hX => ?_)
      refine X_aload_n hx hb dX11_unit_137 rfl (lv_at hl 0 rfl) ?_
      cases hF
      exact x_reta hC hX hr (Or.inl ⟨_, rfl⟩) rfl rfl dX11_unit_138
    · replace hF := it_f hF c_49
      refine X_aload_n hx hb dX11_unit_118 rfl (lv_at hl 1 rfl) ?_
      obtain ⟨h_57, hF⟩ := gd_ok hF
      obtain ⟨r_60, h_59, hc_58, hF⟩ := bd2_ok hF
      refine iX_X11_90 hC hX h_57 hc_58 hl.1 (Nat.le_of_ble_eq_true rfl) (by show _ ≤ fr + 1; omega) (by show _ ≤ lo + 22; omega) dX11_unit_119 (fun H locs cells slots hX => ?_)
      obtain ⟨h_61, hF⟩ := gd_ok hF
      cases hF
      exact x_throw hC hX hnh h_61 rfl rfl dX11_unit_122
def B_X11_unit_b33 (K : Nat → Nat) (o_X11_unit : Nat → TH → Option ((Nat ⊕ Nat) × TH)) (o_X11_term : Nat → TH → Option ((Nat ⊕ Nat) × TH)) (o_X11_sum : Nat → TH → Option ((Nat ⊕ Nat) × TH)) (o_X11_one : Nat → TH → Option ((Nat ⊕ Nat) × TH)) (o_X11_all : Nat → TH → Option ((Nat ⊕ Nat) × TH)) (o_X11_both : Nat → TH → Option ((Nat ⊕ Nat) × TH)) (k63 : Nat → TH → Option ((Nat ⊕ Nat) × TH)) (x0 : Nat) (h : TH) : Option ((Nat ⊕ Nat) × TH) :=
  gd (hasF (hT h x0) 73 = true) <|
  lt (hR h 73 x0) fun r_2 =>
  gd (hasF (hT h r_2) 34 = true) <|
  if (hI h 34 r_2) = (40 : Int32) then
    k63 x0 h
  else
    gd (hasF (hT h x0) 68 = true) <|
    if (hI h 68 x0) = (40 : Int32) then
      gd (hasF (hT h x0) 71 = true) <|
      if (hI h 71 x0) ≤ (6 : Int32) then
        B_X11_unit_b68 K o_X11_unit o_X11_term o_X11_sum o_X11_one o_X11_all o_X11_both x0 h
      else
        k63 x0 h
    else
      B_X11_unit_b68 K o_X11_unit o_X11_term o_X11_sum o_X11_one o_X11_all o_X11_both x0 h
set_option maxHeartbeats 4000000 in
theorem w_X11_unit_b33_g {p : Program} {l : Launch} {e : Env} {s : State} {m : MethodId} {args : Array Value} {below : List Frame} {meth : Method} {c : Code} {D : XD} {h0 : TH} {fr lo : Nat} (hC : XCx D cX11_unit 2 RX11 h0 p (xRm (fr + 1) (lo + 22) h0) s m args meth c) (hr : meth.sig.returnType = some (.object "BlindCards$Node")) (hnh : c.exceptionTable.isEmpty = true) (hin : meth.name = "unit") (hfr : 8 ≤ fr) (hlo : 215 ≤ lo) (o_X11_unit : Nat → TH → Option ((Nat ⊕ Nat) × TH)) (ho_X11_unit : ∀ (a : Nat) (h : TH) (x : ((Nat ⊕ Nat) × TH)), o_X11_unit a h = some x → XMt l yX11_unit (ws_ yX11_unit cX11_unit 2 (some (.object "BlindCards$Node"))) fr lo D [rv a] h (ocR x.1) x.2) (o_X11_term : Nat → TH → Option ((Nat ⊕ Nat) × TH)) (ho_X11_term : ∀ (a : Nat) (h : TH) (x : ((Nat ⊕ Nat) × TH)), o_X11_term a h = some x → XMt l yX11_term (ws_ yX11_term cX11_term 2 (some (.object "BlindCards$Node"))) fr lo D [rv a] h (ocR x.1) x.2) (o_X11_sum : Nat → TH → Option ((Nat ⊕ Nat) × TH)) (ho_X11_sum : ∀ (a : Nat) (h : TH) (x : ((Nat ⊕ Nat) × TH)), o_X11_sum a h = some x → XMt l yX11_sum (ws_ yX11_sum cX11_sum 3 (some (.object "BlindCards$Node"))) fr lo D [rv a] h (ocR x.1) x.2) (o_X11_one : Nat → TH → Option ((Nat ⊕ Nat) × TH)) (ho_X11_one : ∀ (a : Nat) (h : TH) (x : ((Nat ⊕ Nat) × TH)), o_X11_one a h = some x → XMt l yX11_one (ws_ yX11_one cX11_one 3 (some (.object "BlindCards$Node"))) fr lo D [rv a] h (ocR x.1) x.2) (o_X11_all : Nat → TH → Option ((Nat ⊕ Nat) × TH)) (ho_X11_all : ∀ (a : Nat) (h : TH) (x : ((Nat ⊕ Nat) × TH)), o_X11_all a h = some x → XMt l yX11_all (ws_ yX11_all cX11_all 2 (some (.object "BlindCards$Node"))) fr lo D [rv a] h (ocR x.1) x.2) (o_X11_both : Nat → TH → Option ((Nat ⊕ Nat) × TH)) (ho_X11_both : ∀ (a : Nat) (h : TH) (x : ((Nat ⊕ Nat) × TH)), o_X11_both a h = some x → XMt l yX11_both (ws_ yX11_both cX11_both 2 (some (.object "BlindCards$Node"))) fr lo D [rv a] h (ocR x.1) x.2) {x : ((Nat ⊕ Nat) × TH)} (k63 : Nat → TH → Option ((Nat ⊕ Nat) × TH)) (hk63 : ∀ (x0 : Nat) (h : TH), k63 x0 h = some x → XJ p l e (xRm (fr + 1) (lo + 22) h0) s m args below meth c D 2 (ocR x.1) h0 x.2 63 [(0, rv x0)] [] h) :
    ∀ (x0 : Nat) (h : TH), B_X11_unit_b33 D.2.2.2 o_X11_unit o_X11_term o_X11_sum o_X11_one o_X11_all o_X11_both k63 x0 h = some x → XJ p l e (xRm (fr + 1) (lo + 22) h0) s m args below meth c D 2 (ocR x.1) h0 x.2 33 [(0, rv x0)] [] h := by
  have hx := hC.1
  have hb := hC.2.1
  intro x0 h hF H locs cells slots ls hX hl
  rw [B_X11_unit_b33] at hF
  refine X_aload_n hx hb dX11_unit_33 rfl (lv_at hl 0 rfl) ?_
  obtain ⟨h_1, hF⟩ := gd_ok hF
  refine gX_X11_24 hC hX h_1 dX11_unit_34 ?_
  refine lv_topr (fun r_2 er_2 => ?_)
  replace hF := lt_at hF er_2
  obtain ⟨h_3, hF⟩ := gd_ok hF
  refine gX_X11_354 hC hX h_3 dX11_unit_37 ?_
  refine lv_bipush (v := 40) hx hb dX11_unit_40 (by decide) ?_
  refine lv_icmp_eq (tgt := 63) hx hb dX11_unit_42 (by decide) (fun c_4 => ?_) (fun c_4 => ?_)
  · replace hF := it_t hF c_4
    exact hk63 x0 h hF H locs cells slots ls hX (lv_sub hl [0] rfl)
  · replace hF := it_f hF c_4
    refine X_aload_n hx hb dX11_unit_45 rfl (lv_at hl 0 rfl) ?_
    obtain ⟨h_5, hF⟩ := gd_ok hF
    refine gX_X11_46 hC hX h_5 dX11_unit_46 ?_
    refine lv_bipush (v := 40) hx hb dX11_unit_49 (by decide) ?_
    refine lv_icmp_ne (tgt := 68) hx hb dX11_unit_51 (by decide) (fun c_6 => ?_) (fun c_6 => ?_)
    · replace hF := it_f hF c_6
      exact w_X11_unit_b68_g hC hr hnh hin hfr hlo o_X11_unit ho_X11_unit o_X11_term ho_X11_term o_X11_sum ho_X11_sum o_X11_one ho_X11_one o_X11_all ho_X11_all o_X11_both ho_X11_both x0 h hF H locs cells slots ls hX (lv_sub hl [0] rfl)
    · replace hF := it_t hF c_6
      refine X_aload_n hx hb dX11_unit_54 rfl (lv_at hl 0 rfl) ?_
      obtain ⟨h_7, hF⟩ := gd_ok hF
      refine gX_X11_334 hC hX h_7 dX11_unit_55 ?_
      refine lv_bipush (v := 6) hx hb dX11_unit_58 (by decide) ?_
      refine lv_icmp_le (tgt := 68) hx hb dX11_unit_60 (by decide) (fun c_8 => ?_) (fun c_8 => ?_)
      · replace hF := it_t hF c_8
        exact w_X11_unit_b68_g hC hr hnh hin hfr hlo o_X11_unit ho_X11_unit o_X11_term ho_X11_term o_X11_sum ho_X11_sum o_X11_one ho_X11_one o_X11_all ho_X11_all o_X11_both ho_X11_both x0 h hF H locs cells slots ls hX (lv_sub hl [0] rfl)
      · replace hF := it_f hF c_8
        exact hk63 x0 h hF H locs cells slots ls hX (lv_sub hl [0] rfl)
def B_X11_unit (K : Nat → Nat) (o_X11_unit : Nat → TH → Option ((Nat ⊕ Nat) × TH)) (o_X11_term : Nat → TH → Option ((Nat ⊕ Nat) × TH)) (o_X11_sum : Nat → TH → Option ((Nat ⊕ Nat) × TH)) (o_X11_one : Nat → TH → Option ((Nat ⊕ Nat) × TH)) (o_X11_all : Nat → TH → Option ((Nat ⊕ Nat) × TH)) (o_X11_both : Nat → TH → Option ((Nat ⊕ Nat) × TH)) (a0 : Nat) (h : TH) : Option ((Nat ⊕ Nat) × TH) :=
  gd (hasF (hT h a0) 68 = true) <|
  if (hI h 68 a0) = (2 : Int32) then
    B_X11_unit_b33 K o_X11_unit o_X11_term o_X11_sum o_X11_one o_X11_all o_X11_both (B_X11_unit_b63 K o_X11_unit o_X11_term o_X11_sum o_X11_one o_X11_all o_X11_both) a0 h
  else
    gd (hasF (hT h a0) 68 = true) <|
    if (hI h 68 a0) = (40 : Int32) then
      B_X11_unit_b33 K o_X11_unit o_X11_term o_X11_sum o_X11_one o_X11_all o_X11_both (B_X11_unit_b63 K o_X11_unit o_X11_term o_X11_sum o_X11_one o_X11_all o_X11_both) a0 h
    else
      gd (hT h a0 = 7) <|
      bd (F_X11_isWho K h a0) fun r_7 =>
      if r_7 = 0 then
        lt ((K 7)) fun r_9 =>
        gd (hT h a0 = 7) <|
        bd (F_X11_is K h a0 r_9) fun r_12 =>
        if r_12 = 0 then
          B_X11_unit_b63 K o_X11_unit o_X11_term o_X11_sum o_X11_one o_X11_all o_X11_both a0 h
        else
          B_X11_unit_b33 K o_X11_unit o_X11_term o_X11_sum o_X11_one o_X11_all o_X11_both (B_X11_unit_b63 K o_X11_unit o_X11_term o_X11_sum o_X11_one o_X11_all o_X11_both) a0 h
      else
        B_X11_unit_b33 K o_X11_unit o_X11_term o_X11_sum o_X11_one o_X11_all o_X11_both (B_X11_unit_b63 K o_X11_unit o_X11_term o_X11_sum o_X11_one o_X11_all o_X11_both) a0 h
set_option maxHeartbeats 4000000 in
theorem w_X11_unit_g {p : Program} {l : Launch} {e : Env} {s : State} {m : MethodId} {args : Array Value} {below : List Frame} {meth : Method} {c : Code} {D : XD} {h0 : TH} {fr lo : Nat} (hC : XCx D cX11_unit 2 RX11 h0 p (xRm (fr + 1) (lo + 22) h0) s m args meth c) (hr : meth.sig.returnType = some (.object "BlindCards$Node")) (hnh : c.exceptionTable.isEmpty = true) (hin : meth.name = "unit") (hfr : 8 ≤ fr) (hlo : 215 ≤ lo) (o_X11_unit : Nat → TH → Option ((Nat ⊕ Nat) × TH)) (ho_X11_unit : ∀ (a : Nat) (h : TH) (x : ((Nat ⊕ Nat) × TH)), o_X11_unit a h = some x → XMt l yX11_unit (ws_ yX11_unit cX11_unit 2 (some (.object "BlindCards$Node"))) fr lo D [rv a] h (ocR x.1) x.2) (o_X11_term : Nat → TH → Option ((Nat ⊕ Nat) × TH)) (ho_X11_term : ∀ (a : Nat) (h : TH) (x : ((Nat ⊕ Nat) × TH)), o_X11_term a h = some x → XMt l yX11_term (ws_ yX11_term cX11_term 2 (some (.object "BlindCards$Node"))) fr lo D [rv a] h (ocR x.1) x.2) (o_X11_sum : Nat → TH → Option ((Nat ⊕ Nat) × TH)) (ho_X11_sum : ∀ (a : Nat) (h : TH) (x : ((Nat ⊕ Nat) × TH)), o_X11_sum a h = some x → XMt l yX11_sum (ws_ yX11_sum cX11_sum 3 (some (.object "BlindCards$Node"))) fr lo D [rv a] h (ocR x.1) x.2) (o_X11_one : Nat → TH → Option ((Nat ⊕ Nat) × TH)) (ho_X11_one : ∀ (a : Nat) (h : TH) (x : ((Nat ⊕ Nat) × TH)), o_X11_one a h = some x → XMt l yX11_one (ws_ yX11_one cX11_one 3 (some (.object "BlindCards$Node"))) fr lo D [rv a] h (ocR x.1) x.2) (o_X11_all : Nat → TH → Option ((Nat ⊕ Nat) × TH)) (ho_X11_all : ∀ (a : Nat) (h : TH) (x : ((Nat ⊕ Nat) × TH)), o_X11_all a h = some x → XMt l yX11_all (ws_ yX11_all cX11_all 2 (some (.object "BlindCards$Node"))) fr lo D [rv a] h (ocR x.1) x.2) (o_X11_both : Nat → TH → Option ((Nat ⊕ Nat) × TH)) (ho_X11_both : ∀ (a : Nat) (h : TH) (x : ((Nat ⊕ Nat) × TH)), o_X11_both a h = some x → XMt l yX11_both (ws_ yX11_both cX11_both 2 (some (.object "BlindCards$Node"))) fr lo D [rv a] h (ocR x.1) x.2) {x : ((Nat ⊕ Nat) × TH)} :
    ∀ (a0 : Nat) (h : TH), B_X11_unit D.2.2.2 o_X11_unit o_X11_term o_X11_sum o_X11_one o_X11_all o_X11_both a0 h = some x → XJ p l e (xRm (fr + 1) (lo + 22) h0) s m args below meth c D 2 (ocR x.1) h0 x.2 0 [(0, rv a0)] [] h := by
  have hx := hC.1
  have hb := hC.2.1
  intro a0 h hF H locs cells slots ls hX hl
  rw [B_X11_unit] at hF
  refine X_aload_n hx hb dX11_unit_0 rfl (lv_at hl 0 rfl) ?_
  obtain ⟨h_1, hF⟩ := gd_ok hF
  refine gX_X11_46 hC hX h_1 dX11_unit_1 ?_
  refine lv_iconst (v := 2) hx hb dX11_unit_4 (by decide) ?_
  refine lv_icmp_eq (tgt := 33) hx hb dX11_unit_5 (by decide) (fun c_2 => ?_) (fun c_2 => ?_)
  · replace hF := it_t hF c_2
    exact w_X11_unit_b33_g hC hr hnh hin hfr hlo o_X11_unit ho_X11_unit o_X11_term ho_X11_term o_X11_sum ho_X11_sum o_X11_one ho_X11_one o_X11_all ho_X11_all o_X11_both ho_X11_both (B_X11_unit_b63 D.2.2.2 o_X11_unit o_X11_term o_X11_sum o_X11_one o_X11_all o_X11_both) (w_X11_unit_b63_g hC hr hnh hin hfr hlo o_X11_unit ho_X11_unit o_X11_term ho_X11_term o_X11_sum ho_X11_sum o_X11_one ho_X11_one o_X11_all ho_X11_all o_X11_both ho_X11_both) a0 h hF H locs cells slots ls hX (lv_sub hl [0] rfl)
  · replace hF := it_f hF c_2
    refine X_aload_n hx hb dX11_unit_8 rfl (lv_at hl 0 rfl) ?_
    obtain ⟨h_3, hF⟩ := gd_ok hF
    refine gX_X11_46 hC hX h_3 dX11_unit_9 ?_
    refine lv_bipush (v := 40) hx hb dX11_unit_12 (by decide) ?_
    refine lv_icmp_eq (tgt := 33) hx hb dX11_unit_14 (by decide) (fun c_4 => ?_) (fun c_4 => ?_)
    · replace hF := it_t hF c_4
      exact w_X11_unit_b33_g hC hr hnh hin hfr hlo o_X11_unit ho_X11_unit o_X11_term ho_X11_term o_X11_sum ho_X11_sum o_X11_one ho_X11_one o_X11_all ho_X11_all o_X11_both ho_X11_both (B_X11_unit_b63 D.2.2.2 o_X11_unit o_X11_term o_X11_sum o_X11_one o_X11_all o_X11_both) (w_X11_unit_b63_g hC hr hnh hin hfr hlo o_X11_unit ho_X11_unit o_X11_term ho_X11_term o_X11_sum ho_X11_sum o_X11_one ho_X11_one o_X11_all ho_X11_all o_X11_both ho_X11_both) a0 h hF H locs cells slots ls hX (lv_sub hl [0] rfl)
    · replace hF := it_f hF c_4
      refine X_aload_n hx hb dX11_unit_17 rfl (lv_at hl 0 rfl) ?_
      obtain ⟨h_5, hF⟩ := gd_ok hF
      obtain ⟨r_7, hc_6, hF⟩ := bd_ok hF
      refine iX_X11_351 hC hX h_5 hc_6 hl.1 (Nat.le_of_ble_eq_true rfl) (by show _ ≤ fr + 1; omega) (by show _ ≤ lo + 22; omega) dX11_unit_18 (fun H locs cells slots hX => ?_)
      refine lv_if_ne (tgt := 33) hx hb dX11_unit_21 (by decide) (fun c_8 => ?_) (fun c_8 => ?_)
      · replace hF := it_f hF c_8
        exact w_X11_unit_b33_g hC hr hnh hin hfr hlo o_X11_unit ho_X11_unit o_X11_term ho_X11_term o_X11_sum ho_X11_sum o_X11_one ho_X11_one o_X11_all ho_X11_all o_X11_both ho_X11_both (B_X11_unit_b63 D.2.2.2 o_X11_unit o_X11_term o_X11_sum o_X11_one o_X11_all o_X11_both) (w_X11_unit_b63_g hC hr hnh hin hfr hlo o_X11_unit ho_X11_unit o_X11_term ho_X11_term o_X11_sum ho_X11_sum o_X11_one ho_X11_one o_X11_all ho_X11_all o_X11_both ho_X11_both) a0 h hF H locs cells slots ls hX (lv_sub hl [0] rfl)
      · replace hF := it_t hF c_8
        refine X_aload_n hx hb dX11_unit_24 rfl (lv_at hl 0 rfl) ?_
        refine X_ldcS hC (i := 7) (List.mem_of_getElem? (i := 7) rfl) dX11_unit_25 ?_
        refine lv_topr (fun r_9 er_9 => ?_)
        replace hF := lt_at hF er_9
        obtain ⟨h_10, hF⟩ := gd_ok hF
        obtain ⟨r_12, hc_11, hF⟩ := bd_ok hF
        refine iX_X11_86 hC hX h_10 hc_11 hl.1 (Nat.le_of_ble_eq_true rfl) (by show _ ≤ fr + 1; omega) (by show _ ≤ lo + 22; omega) dX11_unit_27 (fun H locs cells slots hX => ?_)
        refine lv_if_eq (tgt := 63) hx hb dX11_unit_30 (by decide) (fun c_13 => ?_) (fun c_13 => ?_)
        · replace hF := it_t hF c_13
          exact w_X11_unit_b63_g hC hr hnh hin hfr hlo o_X11_unit ho_X11_unit o_X11_term ho_X11_term o_X11_sum ho_X11_sum o_X11_one ho_X11_one o_X11_all ho_X11_all o_X11_both ho_X11_both a0 h hF H locs cells slots ls hX (lv_sub hl [0] rfl)
        · replace hF := it_f hF c_13
          exact w_X11_unit_b33_g hC hr hnh hin hfr hlo o_X11_unit ho_X11_unit o_X11_term ho_X11_term o_X11_sum ho_X11_sum o_X11_one ho_X11_one o_X11_all ho_X11_all o_X11_both ho_X11_both (B_X11_unit_b63 D.2.2.2 o_X11_unit o_X11_term o_X11_sum o_X11_one o_X11_all o_X11_both) (w_X11_unit_b63_g hC hr hnh hin hfr hlo o_X11_unit ho_X11_unit o_X11_term ho_X11_term o_X11_sum ho_X11_sum o_X11_one ho_X11_one o_X11_all ho_X11_all o_X11_both ho_X11_both) a0 h hF H locs cells slots ls hX (lv_sub hl [0] rfl)
theorem mb_X11_unit (l : Launch) (D : XD) {fr lo : Nat} (hfr : 8 ≤ fr) (hlo : 215 ≤ lo) (o_X11_unit : Nat → TH → Option ((Nat ⊕ Nat) × TH)) (ho_X11_unit : ∀ (a : Nat) (h : TH) (x : ((Nat ⊕ Nat) × TH)), o_X11_unit a h = some x → XMt l yX11_unit (ws_ yX11_unit cX11_unit 2 (some (.object "BlindCards$Node"))) fr lo D [rv a] h (ocR x.1) x.2) (o_X11_term : Nat → TH → Option ((Nat ⊕ Nat) × TH)) (ho_X11_term : ∀ (a : Nat) (h : TH) (x : ((Nat ⊕ Nat) × TH)), o_X11_term a h = some x → XMt l yX11_term (ws_ yX11_term cX11_term 2 (some (.object "BlindCards$Node"))) fr lo D [rv a] h (ocR x.1) x.2) (o_X11_sum : Nat → TH → Option ((Nat ⊕ Nat) × TH)) (ho_X11_sum : ∀ (a : Nat) (h : TH) (x : ((Nat ⊕ Nat) × TH)), o_X11_sum a h = some x → XMt l yX11_sum (ws_ yX11_sum cX11_sum 3 (some (.object "BlindCards$Node"))) fr lo D [rv a] h (ocR x.1) x.2) (o_X11_one : Nat → TH → Option ((Nat ⊕ Nat) × TH)) (ho_X11_one : ∀ (a : Nat) (h : TH) (x : ((Nat ⊕ Nat) × TH)), o_X11_one a h = some x → XMt l yX11_one (ws_ yX11_one cX11_one 3 (some (.object "BlindCards$Node"))) fr lo D [rv a] h (ocR x.1) x.2) (o_X11_all : Nat → TH → Option ((Nat ⊕ Nat) × TH)) (ho_X11_all : ∀ (a : Nat) (h : TH) (x : ((Nat ⊕ Nat) × TH)), o_X11_all a h = some x → XMt l yX11_all (ws_ yX11_all cX11_all 2 (some (.object "BlindCards$Node"))) fr lo D [rv a] h (ocR x.1) x.2) (o_X11_both : Nat → TH → Option ((Nat ⊕ Nat) × TH)) (ho_X11_both : ∀ (a : Nat) (h : TH) (x : ((Nat ⊕ Nat) × TH)), o_X11_both a h = some x → XMt l yX11_both (ws_ yX11_both cX11_both 2 (some (.object "BlindCards$Node"))) fr lo D [rv a] h (ocR x.1) x.2) (a0 : Nat) (h : TH) (x : ((Nat ⊕ Nat) × TH)) (hF : B_X11_unit D.2.2.2 o_X11_unit o_X11_term o_X11_sum o_X11_one o_X11_all o_X11_both a0 h = some x) : XMt l yX11_unit (ws_ yX11_unit cX11_unit 2 (some (.object "BlindCards$Node"))) (fr + 1) (lo + 22) D [rv a0] h (ocR x.1) x.2 := by
  refine x_met (by decide +kernel) ?_ ?_
  · simp [lg_sl, rv_cat, cat_i, cat_l]
  intro p e s m below meth c hC hr hnh hin ls hl hX
  replace hl : lv_has ls 2 [(0, rv a0)] := by simpa [lv_args, rv_cat, cat_i, cat_l] using hl
  exact w_X11_unit_g hC hr hnh hin hfr hlo o_X11_unit ho_X11_unit o_X11_term ho_X11_term o_X11_sum ho_X11_sum o_X11_one ho_X11_one o_X11_all ho_X11_all o_X11_both ho_X11_both a0 h hF s.heap [] 0 0 ls hX hl
def B_X11_term_L5 (K : Nat → Nat) (o_X11_unit : Nat → TH → Option ((Nat ⊕ Nat) × TH)) (o_X11_term : Nat → TH → Option ((Nat ⊕ Nat) × TH)) (o_X11_sum : Nat → TH → Option ((Nat ⊕ Nat) × TH)) (o_X11_one : Nat → TH → Option ((Nat ⊕ Nat) × TH)) (o_X11_all : Nat → TH → Option ((Nat ⊕ Nat) × TH)) (o_X11_both : Nat → TH → Option ((Nat ⊕ Nat) × TH)) : Nat → Nat → Nat → TH → Option ((Nat ⊕ Nat) × TH)
  | 0, _, _, _ => none
  | fu + 1, x0, x1, h =>
    gd (hasF (hT h x0) 68 = true) <|
    if (hI h 68 x0) = (42 : Int32) then
      gd (hT h x0 = 7) <|
      bd (F_X11_go K x0 h) fun h_5 =>
      gd (hc h_5 + 1 ≤ XC ∧ hs h_5 + 3 ≤ XS) <|
      lt (hz h_5 + 1) fun r_7 =>
      lt (nO h_5 13 3) fun h_8 =>
      gd (hT h_8 x0 = 7) <|
      bt (o_X11_unit x0 h_8) fun r_11 h_12 =>
      gd (r_7 ≠ 0) <|
      bd (F_X15_init K r_7 x1 r_11 (42 : Int32) h_12) fun h_16 =>
      B_X11_term_L5 K o_X11_unit o_X11_term o_X11_sum o_X11_one o_X11_all o_X11_both fu x0 r_7 h_16
    else
      some (.inl x1, h)
set_option maxHeartbeats 4000000 in
theorem w_X11_term_L5_g {p : Program} {l : Launch} {e : Env} {s : State} {m : MethodId} {args : Array Value} {below : List Frame} {meth : Method} {c : Code} {D : XD} {h0 : TH} {fr lo : Nat} (hC : XCx D cX11_term 2 RX11 h0 p (xRm (fr + 1) (lo + 22) h0) s m args meth c) (hr : meth.sig.returnType = some (.object "BlindCards$Node")) (hnh : c.exceptionTable.isEmpty = true) (hin : meth.name = "term") (hfr : 8 ≤ fr) (hlo : 215 ≤ lo) (o_X11_unit : Nat → TH → Option ((Nat ⊕ Nat) × TH)) (ho_X11_unit : ∀ (a : Nat) (h : TH) (x : ((Nat ⊕ Nat) × TH)), o_X11_unit a h = some x → XMt l yX11_unit (ws_ yX11_unit cX11_unit 2 (some (.object "BlindCards$Node"))) fr lo D [rv a] h (ocR x.1) x.2) (o_X11_term : Nat → TH → Option ((Nat ⊕ Nat) × TH)) (ho_X11_term : ∀ (a : Nat) (h : TH) (x : ((Nat ⊕ Nat) × TH)), o_X11_term a h = some x → XMt l yX11_term (ws_ yX11_term cX11_term 2 (some (.object "BlindCards$Node"))) fr lo D [rv a] h (ocR x.1) x.2) (o_X11_sum : Nat → TH → Option ((Nat ⊕ Nat) × TH)) (ho_X11_sum : ∀ (a : Nat) (h : TH) (x : ((Nat ⊕ Nat) × TH)), o_X11_sum a h = some x → XMt l yX11_sum (ws_ yX11_sum cX11_sum 3 (some (.object "BlindCards$Node"))) fr lo D [rv a] h (ocR x.1) x.2) (o_X11_one : Nat → TH → Option ((Nat ⊕ Nat) × TH)) (ho_X11_one : ∀ (a : Nat) (h : TH) (x : ((Nat ⊕ Nat) × TH)), o_X11_one a h = some x → XMt l yX11_one (ws_ yX11_one cX11_one 3 (some (.object "BlindCards$Node"))) fr lo D [rv a] h (ocR x.1) x.2) (o_X11_all : Nat → TH → Option ((Nat ⊕ Nat) × TH)) (ho_X11_all : ∀ (a : Nat) (h : TH) (x : ((Nat ⊕ Nat) × TH)), o_X11_all a h = some x → XMt l yX11_all (ws_ yX11_all cX11_all 2 (some (.object "BlindCards$Node"))) fr lo D [rv a] h (ocR x.1) x.2) (o_X11_both : Nat → TH → Option ((Nat ⊕ Nat) × TH)) (ho_X11_both : ∀ (a : Nat) (h : TH) (x : ((Nat ⊕ Nat) × TH)), o_X11_both a h = some x → XMt l yX11_both (ws_ yX11_both cX11_both 2 (some (.object "BlindCards$Node"))) fr lo D [rv a] h (ocR x.1) x.2) {x : ((Nat ⊕ Nat) × TH)} :
    ∀ (fu : Nat) (x0 : Nat) (x1 : Nat) (h : TH), B_X11_term_L5 D.2.2.2 o_X11_unit o_X11_term o_X11_sum o_X11_one o_X11_all o_X11_both fu x0 x1 h = some x → XJ p l e (xRm (fr + 1) (lo + 22) h0) s m args below meth c D 2 (ocR x.1) h0 x.2 5 [(0, rv x0), (1, rv x1)] [] h := by
  have hx := hC.1
  have hb := hC.2.1
  intro fu
  induction fu with
  | zero => intro x0 x1 h hF; exact nm_none hF
  | succ fu ih =>
    intro x0 x1 h hF H locs cells slots ls hX hl
    rw [B_X11_term_L5] at hF
    refine X_aload_n hx hb dX11_term_5 rfl (lv_at hl 0 rfl) ?_
    obtain ⟨h_1, hF⟩ := gd_ok hF
    refine gX_X11_46 hC hX h_1 dX11_term_6 ?_
    refine lv_bipush (v := 42) hx hb dX11_term_9 (by decide) ?_
    refine lv_icmp_ne (tgt := 36) hx hb dX11_term_11 (by decide) (fun c_2 => ?_) (fun c_2 => ?_)
    · replace hF := it_f hF c_2
      refine X_aload_n hx hb dX11_term_36 rfl (lv_at hl 1 rfl) ?_
      cases hF
      exact x_reta hC hX hr (Or.inl ⟨_, rfl⟩) rfl rfl dX11_term_37
    · replace hF := it_t hF c_2
      refine X_aload_n hx hb dX11_term_14 rfl (lv_at hl 0 rfl) ?_
      obtain ⟨h_3, hF⟩ := gd_ok hF
      obtain ⟨h_5, hc_4, hF⟩ := bd_ok hF
      refine iX_X11_94 hC hX h_3 hc_4 hl.1 (Nat.le_of_ble_eq_true rfl) (by show _ ≤ fr + 1; omega) (by show _ ≤ lo + 22; omega) dX11_term_15 (fun H locs cells slots hX => ?_)
      obtain ⟨h_6, hF⟩ := gd_ok hF
      refine nX_X11_326 hC hX h_6 dX11_term_18 (fun H cells slots hX => ?_)
      refine lv_topr (fun r_7 er_7 => ?_)
      replace hF := lt_at hF er_7
      obtain ⟨h_8, eh_8, hF⟩ := lt_ok hF
      rw [← eh_8] at hX
      refine lv_dup hx hb dX11_term_21 (rv_cat _) ?_
      refine X_aload_n hx hb dX11_term_22 rfl (lv_at hl 1 rfl) ?_
      refine X_aload_n hx hb dX11_term_23 rfl (lv_at hl 0 rfl) ?_
      obtain ⟨h_9, hF⟩ := gd_ok hF
      rcases bt_ok hF with ⟨r_11, h_12, hc_10, hF⟩ | ⟨z_13, h_12, hc_10, hxx⟩
      rotate_left
      · subst hxx
        exact iXo_X11_348_t hC hX hnh h_9 (ho_X11_unit x0 h_8 _ hc_10) hl.1 (cat4 (Nat.le_of_ble_eq_true rfl)) (by show _ ≤ fr + 1; omega) (by show _ ≤ lo + 22; omega) dX11_term_24
      refine iXo_X11_348 hC hX h_9 (ho_X11_unit x0 h_8 _ hc_10) hl.1 (cat4 (Nat.le_of_ble_eq_true rfl)) (by show _ ≤ fr + 1; omega) (by show _ ≤ lo + 22; omega) dX11_term_24 (fun H locs cells slots hX => ?_)
      refine lv_bipush (v := 42) hx hb dX11_term_27 (by decide) ?_
      obtain ⟨h_14, hF⟩ := gd_ok hF
      obtain ⟨h_16, hc_15, hF⟩ := bd_ok hF
      refine iX_X11_328 hC hX h_14 hc_15 hl.1 (cat4 (Nat.le_of_ble_eq_true rfl)) (by show _ ≤ fr + 1; omega) (by show _ ≤ lo + 22; omega) dX11_term_29 (fun H locs cells slots hX => ?_)
      refine X_astore_n (i := 1) hx hb dX11_term_32 rfl hl (by decide) rfl (fun ls hl => ?_)
      replace hl : lv_has ls 2 [(1, rv r_7), (0, rv x0)] := lv_subS hl (List.forall_mem_cons.mpr ⟨Or.inl rfl, (List.forall_mem_cons.mpr ⟨Or.inr ⟨List.mem_of_getElem? (i := 0) rfl, by simp [rv_cat]⟩, (fun _ h => nomatch h)⟩)⟩)
      refine lv_goto (tgt := 5) hx hb dX11_term_33 (by decide) ?_
      exact ih x0 r_7 h_16 hF H locs cells slots ls hX (lv_sub hl [1, 0] rfl)
def B_X11_term (K : Nat → Nat) (o_X11_unit : Nat → TH → Option ((Nat ⊕ Nat) × TH)) (o_X11_term : Nat → TH → Option ((Nat ⊕ Nat) × TH)) (o_X11_sum : Nat → TH → Option ((Nat ⊕ Nat) × TH)) (o_X11_one : Nat → TH → Option ((Nat ⊕ Nat) × TH)) (o_X11_all : Nat → TH → Option ((Nat ⊕ Nat) × TH)) (o_X11_both : Nat → TH → Option ((Nat ⊕ Nat) × TH)) (a0 : Nat) (h : TH) : Option ((Nat ⊕ Nat) × TH) :=
  gd (hT h a0 = 7) <|
  bt (o_X11_unit a0 h) fun r_3 h_4 =>
  B_X11_term_L5 K o_X11_unit o_X11_term o_X11_sum o_X11_one o_X11_all o_X11_both MN a0 r_3 h_4
set_option maxHeartbeats 4000000 in
theorem w_X11_term_g {p : Program} {l : Launch} {e : Env} {s : State} {m : MethodId} {args : Array Value} {below : List Frame} {meth : Method} {c : Code} {D : XD} {h0 : TH} {fr lo : Nat} (hC : XCx D cX11_term 2 RX11 h0 p (xRm (fr + 1) (lo + 22) h0) s m args meth c) (hr : meth.sig.returnType = some (.object "BlindCards$Node")) (hnh : c.exceptionTable.isEmpty = true) (hin : meth.name = "term") (hfr : 8 ≤ fr) (hlo : 215 ≤ lo) (o_X11_unit : Nat → TH → Option ((Nat ⊕ Nat) × TH)) (ho_X11_unit : ∀ (a : Nat) (h : TH) (x : ((Nat ⊕ Nat) × TH)), o_X11_unit a h = some x → XMt l yX11_unit (ws_ yX11_unit cX11_unit 2 (some (.object "BlindCards$Node"))) fr lo D [rv a] h (ocR x.1) x.2) (o_X11_term : Nat → TH → Option ((Nat ⊕ Nat) × TH)) (ho_X11_term : ∀ (a : Nat) (h : TH) (x : ((Nat ⊕ Nat) × TH)), o_X11_term a h = some x → XMt l yX11_term (ws_ yX11_term cX11_term 2 (some (.object "BlindCards$Node"))) fr lo D [rv a] h (ocR x.1) x.2) (o_X11_sum : Nat → TH → Option ((Nat ⊕ Nat) × TH)) (ho_X11_sum : ∀ (a : Nat) (h : TH) (x : ((Nat ⊕ Nat) × TH)), o_X11_sum a h = some x → XMt l yX11_sum (ws_ yX11_sum cX11_sum 3 (some (.object "BlindCards$Node"))) fr lo D [rv a] h (ocR x.1) x.2) (o_X11_one : Nat → TH → Option ((Nat ⊕ Nat) × TH)) (ho_X11_one : ∀ (a : Nat) (h : TH) (x : ((Nat ⊕ Nat) × TH)), o_X11_one a h = some x → XMt l yX11_one (ws_ yX11_one cX11_one 3 (some (.object "BlindCards$Node"))) fr lo D [rv a] h (ocR x.1) x.2) (o_X11_all : Nat → TH → Option ((Nat ⊕ Nat) × TH)) (ho_X11_all : ∀ (a : Nat) (h : TH) (x : ((Nat ⊕ Nat) × TH)), o_X11_all a h = some x → XMt l yX11_all (ws_ yX11_all cX11_all 2 (some (.object "BlindCards$Node"))) fr lo D [rv a] h (ocR x.1) x.2) (o_X11_both : Nat → TH → Option ((Nat ⊕ Nat) × TH)) (ho_X11_both : ∀ (a : Nat) (h : TH) (x : ((Nat ⊕ Nat) × TH)), o_X11_both a h = some x → XMt l yX11_both (ws_ yX11_both cX11_both 2 (some (.object "BlindCards$Node"))) fr lo D [rv a] h (ocR x.1) x.2) {x : ((Nat ⊕ Nat) × TH)} :
    ∀ (a0 : Nat) (h : TH), B_X11_term D.2.2.2 o_X11_unit o_X11_term o_X11_sum o_X11_one o_X11_all o_X11_both a0 h = some x → XJ p l e (xRm (fr + 1) (lo + 22) h0) s m args below meth c D 2 (ocR x.1) h0 x.2 0 [(0, rv a0)] [] h := by
  have hx := hC.1
  have hb := hC.2.1
  intro a0 h hF H locs cells slots ls hX hl
  rw [B_X11_term] at hF
  refine X_aload_n hx hb dX11_term_0 rfl (lv_at hl 0 rfl) ?_
  obtain ⟨h_1, hF⟩ := gd_ok hF
  rcases bt_ok hF with ⟨r_3, h_4, hc_2, hF⟩ | ⟨z_5, h_4, hc_2, hxx⟩
  rotate_left
  · subst hxx
    exact iXo_X11_348_t hC hX hnh h_1 (ho_X11_unit a0 h _ hc_2) hl.1 (Nat.le_of_ble_eq_true rfl) (by show _ ≤ fr + 1; omega) (by show _ ≤ lo + 22; omega) dX11_term_1
  refine iXo_X11_348 hC hX h_1 (ho_X11_unit a0 h _ hc_2) hl.1 (Nat.le_of_ble_eq_true rfl) (by show _ ≤ fr + 1; omega) (by show _ ≤ lo + 22; omega) dX11_term_1 (fun H locs cells slots hX => ?_)
  refine X_astore_n (i := 1) hx hb dX11_term_4 rfl hl (by decide) rfl (fun ls hl => ?_)
  replace hl : lv_has ls 2 [(1, rv r_3), (0, rv a0)] := lv_subS hl (List.forall_mem_cons.mpr ⟨Or.inl rfl, (List.forall_mem_cons.mpr ⟨Or.inr ⟨List.mem_of_getElem? (i := 0) rfl, by simp [rv_cat]⟩, (fun _ h => nomatch h)⟩)⟩)
  exact w_X11_term_L5_g hC hr hnh hin hfr hlo o_X11_unit ho_X11_unit o_X11_term ho_X11_term o_X11_sum ho_X11_sum o_X11_one ho_X11_one o_X11_all ho_X11_all o_X11_both ho_X11_both MN a0 r_3 h_4 hF H locs cells slots ls hX (lv_sub hl [1, 0] rfl)
theorem mb_X11_term (l : Launch) (D : XD) {fr lo : Nat} (hfr : 8 ≤ fr) (hlo : 215 ≤ lo) (o_X11_unit : Nat → TH → Option ((Nat ⊕ Nat) × TH)) (ho_X11_unit : ∀ (a : Nat) (h : TH) (x : ((Nat ⊕ Nat) × TH)), o_X11_unit a h = some x → XMt l yX11_unit (ws_ yX11_unit cX11_unit 2 (some (.object "BlindCards$Node"))) fr lo D [rv a] h (ocR x.1) x.2) (o_X11_term : Nat → TH → Option ((Nat ⊕ Nat) × TH)) (ho_X11_term : ∀ (a : Nat) (h : TH) (x : ((Nat ⊕ Nat) × TH)), o_X11_term a h = some x → XMt l yX11_term (ws_ yX11_term cX11_term 2 (some (.object "BlindCards$Node"))) fr lo D [rv a] h (ocR x.1) x.2) (o_X11_sum : Nat → TH → Option ((Nat ⊕ Nat) × TH)) (ho_X11_sum : ∀ (a : Nat) (h : TH) (x : ((Nat ⊕ Nat) × TH)), o_X11_sum a h = some x → XMt l yX11_sum (ws_ yX11_sum cX11_sum 3 (some (.object "BlindCards$Node"))) fr lo D [rv a] h (ocR x.1) x.2) (o_X11_one : Nat → TH → Option ((Nat ⊕ Nat) × TH)) (ho_X11_one : ∀ (a : Nat) (h : TH) (x : ((Nat ⊕ Nat) × TH)), o_X11_one a h = some x → XMt l yX11_one (ws_ yX11_one cX11_one 3 (some (.object "BlindCards$Node"))) fr lo D [rv a] h (ocR x.1) x.2) (o_X11_all : Nat → TH → Option ((Nat ⊕ Nat) × TH)) (ho_X11_all : ∀ (a : Nat) (h : TH) (x : ((Nat ⊕ Nat) × TH)), o_X11_all a h = some x → XMt l yX11_all (ws_ yX11_all cX11_all 2 (some (.object "BlindCards$Node"))) fr lo D [rv a] h (ocR x.1) x.2) (o_X11_both : Nat → TH → Option ((Nat ⊕ Nat) × TH)) (ho_X11_both : ∀ (a : Nat) (h : TH) (x : ((Nat ⊕ Nat) × TH)), o_X11_both a h = some x → XMt l yX11_both (ws_ yX11_both cX11_both 2 (some (.object "BlindCards$Node"))) fr lo D [rv a] h (ocR x.1) x.2) (a0 : Nat) (h : TH) (x : ((Nat ⊕ Nat) × TH)) (hF : B_X11_term D.2.2.2 o_X11_unit o_X11_term o_X11_sum o_X11_one o_X11_all o_X11_both a0 h = some x) : XMt l yX11_term (ws_ yX11_term cX11_term 2 (some (.object "BlindCards$Node"))) (fr + 1) (lo + 22) D [rv a0] h (ocR x.1) x.2 := by
  refine x_met (by decide +kernel) ?_ ?_
  · simp [lg_sl, rv_cat, cat_i, cat_l]
  intro p e s m below meth c hC hr hnh hin ls hl hX
  replace hl : lv_has ls 2 [(0, rv a0)] := by simpa [lv_args, rv_cat, cat_i, cat_l] using hl
  exact w_X11_term_g hC hr hnh hin hfr hlo o_X11_unit ho_X11_unit o_X11_term ho_X11_term o_X11_sum ho_X11_sum o_X11_one ho_X11_one o_X11_all ho_X11_all o_X11_both ho_X11_both a0 h hF s.heap [] 0 0 ls hX hl
def B_X11_sum_b23 (K : Nat → Nat) (o_X11_unit : Nat → TH → Option ((Nat ⊕ Nat) × TH)) (o_X11_term : Nat → TH → Option ((Nat ⊕ Nat) × TH)) (o_X11_sum : Nat → TH → Option ((Nat ⊕ Nat) × TH)) (o_X11_one : Nat → TH → Option ((Nat ⊕ Nat) × TH)) (o_X11_all : Nat → TH → Option ((Nat ⊕ Nat) × TH)) (o_X11_both : Nat → TH → Option ((Nat ⊕ Nat) × TH)) (k5 : Nat → Nat → TH → Option ((Nat ⊕ Nat) × TH)) (x0 : Nat) (x1 : Nat) (h : TH) : Option ((Nat ⊕ Nat) × TH) :=
  gd (hasF (hT h x0) 68 = true) <|
  lt ((UInt32.toInt32 (Int32.toUInt32 (hI h 68 x0) % 65536))) fun x_2 =>
  gd (hT h x0 = 7) <|
  bd (F_X11_go K x0 h) fun h_5 =>
  gd (hc h_5 + 1 ≤ XC ∧ hs h_5 + 3 ≤ XS) <|
  lt (hz h_5 + 1) fun r_7 =>
  lt (nO h_5 13 3) fun h_8 =>
  gd (hT h_8 x0 = 7) <|
  bt (o_X11_term x0 h_8) fun r_11 h_12 =>
  gd (r_7 ≠ 0) <|
  bd (F_X15_init K r_7 x1 r_11 x_2 h_12) fun h_16 =>
  k5 x0 r_7 h_16
set_option maxHeartbeats 4000000 in
theorem w_X11_sum_b23_g {p : Program} {l : Launch} {e : Env} {s : State} {m : MethodId} {args : Array Value} {below : List Frame} {meth : Method} {c : Code} {D : XD} {h0 : TH} {fr lo : Nat} (hC : XCx D cX11_sum 3 RX11 h0 p (xRm (fr + 1) (lo + 22) h0) s m args meth c) (hr : meth.sig.returnType = some (.object "BlindCards$Node")) (hnh : c.exceptionTable.isEmpty = true) (hin : meth.name = "sum") (hfr : 8 ≤ fr) (hlo : 215 ≤ lo) (o_X11_unit : Nat → TH → Option ((Nat ⊕ Nat) × TH)) (ho_X11_unit : ∀ (a : Nat) (h : TH) (x : ((Nat ⊕ Nat) × TH)), o_X11_unit a h = some x → XMt l yX11_unit (ws_ yX11_unit cX11_unit 2 (some (.object "BlindCards$Node"))) fr lo D [rv a] h (ocR x.1) x.2) (o_X11_term : Nat → TH → Option ((Nat ⊕ Nat) × TH)) (ho_X11_term : ∀ (a : Nat) (h : TH) (x : ((Nat ⊕ Nat) × TH)), o_X11_term a h = some x → XMt l yX11_term (ws_ yX11_term cX11_term 2 (some (.object "BlindCards$Node"))) fr lo D [rv a] h (ocR x.1) x.2) (o_X11_sum : Nat → TH → Option ((Nat ⊕ Nat) × TH)) (ho_X11_sum : ∀ (a : Nat) (h : TH) (x : ((Nat ⊕ Nat) × TH)), o_X11_sum a h = some x → XMt l yX11_sum (ws_ yX11_sum cX11_sum 3 (some (.object "BlindCards$Node"))) fr lo D [rv a] h (ocR x.1) x.2) (o_X11_one : Nat → TH → Option ((Nat ⊕ Nat) × TH)) (ho_X11_one : ∀ (a : Nat) (h : TH) (x : ((Nat ⊕ Nat) × TH)), o_X11_one a h = some x → XMt l yX11_one (ws_ yX11_one cX11_one 3 (some (.object "BlindCards$Node"))) fr lo D [rv a] h (ocR x.1) x.2) (o_X11_all : Nat → TH → Option ((Nat ⊕ Nat) × TH)) (ho_X11_all : ∀ (a : Nat) (h : TH) (x : ((Nat ⊕ Nat) × TH)), o_X11_all a h = some x → XMt l yX11_all (ws_ yX11_all cX11_all 2 (some (.object "BlindCards$Node"))) fr lo D [rv a] h (ocR x.1) x.2) (o_X11_both : Nat → TH → Option ((Nat ⊕ Nat) × TH)) (ho_X11_both : ∀ (a : Nat) (h : TH) (x : ((Nat ⊕ Nat) × TH)), o_X11_both a h = some x → XMt l yX11_both (ws_ yX11_both cX11_both 2 (some (.object "BlindCards$Node"))) fr lo D [rv a] h (ocR x.1) x.2) {x : ((Nat ⊕ Nat) × TH)} (k5 : Nat → Nat → TH → Option ((Nat ⊕ Nat) × TH)) (hk5 : ∀ (x0 : Nat) (x1 : Nat) (h : TH), k5 x0 x1 h = some x → XJ p l e (xRm (fr + 1) (lo + 22) h0) s m args below meth c D 3 (ocR x.1) h0 x.2 5 [(0, rv x0), (1, rv x1)] [] h) :
    ∀ (x0 : Nat) (x1 : Nat) (h : TH), B_X11_sum_b23 D.2.2.2 o_X11_unit o_X11_term o_X11_sum o_X11_one o_X11_all o_X11_both k5 x0 x1 h = some x → XJ p l e (xRm (fr + 1) (lo + 22) h0) s m args below meth c D 3 (ocR x.1) h0 x.2 23 [(0, rv x0), (1, rv x1)] [] h := by
  have hx := hC.1
  have hb := hC.2.1
  intro x0 x1 h hF H locs cells slots ls hX hl
  rw [B_X11_sum_b23] at hF
  refine X_aload_n hx hb dX11_sum_23 rfl (lv_at hl 0 rfl) ?_
  obtain ⟨h_1, hF⟩ := gd_ok hF
  refine gX_X11_46 hC hX h_1 dX11_sum_24 ?_
  refine lv_i2c hx hb dX11_sum_27 rfl ?_
  refine lv_topi (fun x_2 ex_2 => ?_)
  replace hF := lt_at hF ex_2
  refine lv_istore_n (i := 2) hx hb dX11_sum_28 rfl hl (by decide) rfl (fun ls hl => ?_)
  replace hl : lv_has ls 3 [(2, .int x_2), (0, rv x0), (1, rv x1)] := lv_subS hl (List.forall_mem_cons.mpr ⟨Or.inl rfl, (List.forall_mem_cons.mpr ⟨Or.inr ⟨List.mem_of_getElem? (i := 0) rfl, rfl⟩, (List.forall_mem_cons.mpr ⟨Or.inr ⟨List.mem_of_getElem? (i := 1) rfl, by simp [rv_cat]⟩, (fun _ h => nomatch h)⟩)⟩)⟩)
  refine X_aload_n hx hb dX11_sum_29 rfl (lv_at hl 1 rfl) ?_
  obtain ⟨h_3, hF⟩ := gd_ok hF
  obtain ⟨h_5, hc_4, hF⟩ := bd_ok hF
  refine iX_X11_94 hC hX h_3 hc_4 hl.1 (Nat.le_of_ble_eq_true rfl) (by show _ ≤ fr + 1; omega) (by show _ ≤ lo + 22; omega) dX11_sum_30 (fun H locs cells slots hX => ?_)
  obtain ⟨h_6, hF⟩ := gd_ok hF
  refine nX_X11_326 hC hX h_6 dX11_sum_33 (fun H cells slots hX => ?_)
  refine lv_topr (fun r_7 er_7 => ?_)
  replace hF := lt_at hF er_7
  obtain ⟨h_8, eh_8, hF⟩ := lt_ok hF
  rw [← eh_8] at hX
  refine lv_dup hx hb dX11_sum_36 (rv_cat _) ?_
  refine X_aload_n hx hb dX11_sum_37 rfl (lv_at hl 2 rfl) ?_
  refine X_aload_n hx hb dX11_sum_38 rfl (lv_at hl 1 rfl) ?_
  obtain ⟨h_9, hF⟩ := gd_ok hF
  rcases bt_ok hF with ⟨r_11, h_12, hc_10, hF⟩ | ⟨z_13, h_12, hc_10, hxx⟩
  rotate_left
  · subst hxx
    exact iXo_X11_345_t hC hX hnh h_9 (ho_X11_term x0 h_8 _ hc_10) hl.1 (cat4 (Nat.le_of_ble_eq_true rfl)) (by show _ ≤ fr + 1; omega) (by show _ ≤ lo + 22; omega) dX11_sum_39
  refine iXo_X11_345 hC hX h_9 (ho_X11_term x0 h_8 _ hc_10) hl.1 (cat4 (Nat.le_of_ble_eq_true rfl)) (by show _ ≤ fr + 1; omega) (by show _ ≤ lo + 22; omega) dX11_sum_39 (fun H locs cells slots hX => ?_)
  refine lv_iload_n hx hb dX11_sum_42 rfl (lv_at hl 0 rfl) ?_
  obtain ⟨h_14, hF⟩ := gd_ok hF
  obtain ⟨h_16, hc_15, hF⟩ := bd_ok hF
  refine iX_X11_328 hC hX h_14 hc_15 hl.1 (cat4 (Nat.le_of_ble_eq_true rfl)) (by show _ ≤ fr + 1; omega) (by show _ ≤ lo + 22; omega) dX11_sum_43 (fun H locs cells slots hX => ?_)
  refine X_astore_n (i := 1) hx hb dX11_sum_46 rfl hl (by decide) rfl (fun ls hl => ?_)
  replace hl : lv_has ls 3 [(1, rv r_7), (2, .int x_2), (0, rv x0)] := lv_subS hl (List.forall_mem_cons.mpr ⟨Or.inl rfl, (List.forall_mem_cons.mpr ⟨Or.inr ⟨List.mem_of_getElem? (i := 0) rfl, rfl⟩, (List.forall_mem_cons.mpr ⟨Or.inr ⟨List.mem_of_getElem? (i := 1) rfl, by simp [rv_cat]⟩, (fun _ h => nomatch h)⟩)⟩)⟩)
  refine lv_goto (tgt := 5) hx hb dX11_sum_47 (by decide) ?_
  exact hk5 x0 r_7 h_16 hF H locs cells slots ls hX (lv_sub hl [2, 0] rfl)
def B_X11_sum_L5 (K : Nat → Nat) (o_X11_unit : Nat → TH → Option ((Nat ⊕ Nat) × TH)) (o_X11_term : Nat → TH → Option ((Nat ⊕ Nat) × TH)) (o_X11_sum : Nat → TH → Option ((Nat ⊕ Nat) × TH)) (o_X11_one : Nat → TH → Option ((Nat ⊕ Nat) × TH)) (o_X11_all : Nat → TH → Option ((Nat ⊕ Nat) × TH)) (o_X11_both : Nat → TH → Option ((Nat ⊕ Nat) × TH)) : Nat → Nat → Nat → TH → Option ((Nat ⊕ Nat) × TH)
  | 0, _, _, _ => none
  | fu + 1, x0, x1, h =>
    gd (hasF (hT h x0) 68 = true) <|
    if (hI h 68 x0) = (43 : Int32) then
      B_X11_sum_b23 K o_X11_unit o_X11_term o_X11_sum o_X11_one o_X11_all o_X11_both (B_X11_sum_L5 K o_X11_unit o_X11_term o_X11_sum o_X11_one o_X11_all o_X11_both fu) x0 x1 h
    else
      gd (hasF (hT h x0) 68 = true) <|
      if (hI h 68 x0) = (45 : Int32) then
        B_X11_sum_b23 K o_X11_unit o_X11_term o_X11_sum o_X11_one o_X11_all o_X11_both (B_X11_sum_L5 K o_X11_unit o_X11_term o_X11_sum o_X11_one o_X11_all o_X11_both fu) x0 x1 h
      else
        some (.inl x1, h)
set_option maxHeartbeats 4000000 in
theorem w_X11_sum_L5_g {p : Program} {l : Launch} {e : Env} {s : State} {m : MethodId} {args : Array Value} {below : List Frame} {meth : Method} {c : Code} {D : XD} {h0 : TH} {fr lo : Nat} (hC : XCx D cX11_sum 3 RX11 h0 p (xRm (fr + 1) (lo + 22) h0) s m args meth c) (hr : meth.sig.returnType = some (.object "BlindCards$Node")) (hnh : c.exceptionTable.isEmpty = true) (hin : meth.name = "sum") (hfr : 8 ≤ fr) (hlo : 215 ≤ lo) (o_X11_unit : Nat → TH → Option ((Nat ⊕ Nat) × TH)) (ho_X11_unit : ∀ (a : Nat) (h : TH) (x : ((Nat ⊕ Nat) × TH)), o_X11_unit a h = some x → XMt l yX11_unit (ws_ yX11_unit cX11_unit 2 (some (.object "BlindCards$Node"))) fr lo D [rv a] h (ocR x.1) x.2) (o_X11_term : Nat → TH → Option ((Nat ⊕ Nat) × TH)) (ho_X11_term : ∀ (a : Nat) (h : TH) (x : ((Nat ⊕ Nat) × TH)), o_X11_term a h = some x → XMt l yX11_term (ws_ yX11_term cX11_term 2 (some (.object "BlindCards$Node"))) fr lo D [rv a] h (ocR x.1) x.2) (o_X11_sum : Nat → TH → Option ((Nat ⊕ Nat) × TH)) (ho_X11_sum : ∀ (a : Nat) (h : TH) (x : ((Nat ⊕ Nat) × TH)), o_X11_sum a h = some x → XMt l yX11_sum (ws_ yX11_sum cX11_sum 3 (some (.object "BlindCards$Node"))) fr lo D [rv a] h (ocR x.1) x.2) (o_X11_one : Nat → TH → Option ((Nat ⊕ Nat) × TH)) (ho_X11_one : ∀ (a : Nat) (h : TH) (x : ((Nat ⊕ Nat) × TH)), o_X11_one a h = some x → XMt l yX11_one (ws_ yX11_one cX11_one 3 (some (.object "BlindCards$Node"))) fr lo D [rv a] h (ocR x.1) x.2) (o_X11_all : Nat → TH → Option ((Nat ⊕ Nat) × TH)) (ho_X11_all : ∀ (a : Nat) (h : TH) (x : ((Nat ⊕ Nat) × TH)), o_X11_all a h = some x → XMt l yX11_all (ws_ yX11_all cX11_all 2 (some (.object "BlindCards$Node"))) fr lo D [rv a] h (ocR x.1) x.2) (o_X11_both : Nat → TH → Option ((Nat ⊕ Nat) × TH)) (ho_X11_both : ∀ (a : Nat) (h : TH) (x : ((Nat ⊕ Nat) × TH)), o_X11_both a h = some x → XMt l yX11_both (ws_ yX11_both cX11_both 2 (some (.object "BlindCards$Node"))) fr lo D [rv a] h (ocR x.1) x.2) {x : ((Nat ⊕ Nat) × TH)} :
    ∀ (fu : Nat) (x0 : Nat) (x1 : Nat) (h : TH), B_X11_sum_L5 D.2.2.2 o_X11_unit o_X11_term o_X11_sum o_X11_one o_X11_all o_X11_both fu x0 x1 h = some x → XJ p l e (xRm (fr + 1) (lo + 22) h0) s m args below meth c D 3 (ocR x.1) h0 x.2 5 [(0, rv x0), (1, rv x1)] [] h := by
  have hx := hC.1
  have hb := hC.2.1
  intro fu
  induction fu with
  | zero => intro x0 x1 h hF; exact nm_none hF
  | succ fu ih =>
    intro x0 x1 h hF H locs cells slots ls hX hl
    rw [B_X11_sum_L5] at hF
    refine X_aload_n hx hb dX11_sum_5 rfl (lv_at hl 0 rfl) ?_
    obtain ⟨h_1, hF⟩ := gd_ok hF
    refine gX_X11_46 hC hX h_1 dX11_sum_6 ?_
    refine lv_bipush (v := 43) hx hb dX11_sum_9 (by decide) ?_
    refine lv_icmp_eq (tgt := 23) hx hb dX11_sum_11 (by decide) (fun c_2 => ?_) (fun c_2 => ?_)
    · replace hF := it_t hF c_2
      exact w_X11_sum_b23_g hC hr hnh hin hfr hlo o_X11_unit ho_X11_unit o_X11_term ho_X11_term o_X11_sum ho_X11_sum o_X11_one ho_X11_one o_X11_all ho_X11_all o_X11_both ho_X11_both (B_X11_sum_L5 D.2.2.2 o_X11_unit o_X11_term o_X11_sum o_X11_one o_X11_all o_X11_both fu) ih x0 x1 h hF H locs cells slots ls hX (lv_sub hl [0, 1] rfl)
    · replace hF := it_f hF c_2
      refine X_aload_n hx hb dX11_sum_14 rfl (lv_at hl 0 rfl) ?_
      obtain ⟨h_3, hF⟩ := gd_ok hF
      refine gX_X11_46 hC hX h_3 dX11_sum_15 ?_
      refine lv_bipush (v := 45) hx hb dX11_sum_18 (by decide) ?_
      refine lv_icmp_ne (tgt := 50) hx hb dX11_sum_20 (by decide) (fun c_4 => ?_) (fun c_4 => ?_)
      · replace hF := it_f hF c_4
        refine X_aload_n hx hb dX11_sum_50 rfl (lv_at hl 1 rfl) ?_
        cases hF
        exact x_reta hC hX hr (Or.inl ⟨_, rfl⟩) rfl rfl dX11_sum_51
      · replace hF := it_t hF c_4
        exact w_X11_sum_b23_g hC hr hnh hin hfr hlo o_X11_unit ho_X11_unit o_X11_term ho_X11_term o_X11_sum ho_X11_sum o_X11_one ho_X11_one o_X11_all ho_X11_all o_X11_both ho_X11_both (B_X11_sum_L5 D.2.2.2 o_X11_unit o_X11_term o_X11_sum o_X11_one o_X11_all o_X11_both fu) ih x0 x1 h hF H locs cells slots ls hX (lv_sub hl [0, 1] rfl)
def B_X11_sum (K : Nat → Nat) (o_X11_unit : Nat → TH → Option ((Nat ⊕ Nat) × TH)) (o_X11_term : Nat → TH → Option ((Nat ⊕ Nat) × TH)) (o_X11_sum : Nat → TH → Option ((Nat ⊕ Nat) × TH)) (o_X11_one : Nat → TH → Option ((Nat ⊕ Nat) × TH)) (o_X11_all : Nat → TH → Option ((Nat ⊕ Nat) × TH)) (o_X11_both : Nat → TH → Option ((Nat ⊕ Nat) × TH)) (a0 : Nat) (h : TH) : Option ((Nat ⊕ Nat) × TH) :=
  gd (hT h a0 = 7) <|
  bt (o_X11_term a0 h) fun r_3 h_4 =>
  B_X11_sum_L5 K o_X11_unit o_X11_term o_X11_sum o_X11_one o_X11_all o_X11_both MN a0 r_3 h_4
set_option maxHeartbeats 4000000 in
theorem w_X11_sum_g {p : Program} {l : Launch} {e : Env} {s : State} {m : MethodId} {args : Array Value} {below : List Frame} {meth : Method} {c : Code} {D : XD} {h0 : TH} {fr lo : Nat} (hC : XCx D cX11_sum 3 RX11 h0 p (xRm (fr + 1) (lo + 22) h0) s m args meth c) (hr : meth.sig.returnType = some (.object "BlindCards$Node")) (hnh : c.exceptionTable.isEmpty = true) (hin : meth.name = "sum") (hfr : 8 ≤ fr) (hlo : 215 ≤ lo) (o_X11_unit : Nat → TH → Option ((Nat ⊕ Nat) × TH)) (ho_X11_unit : ∀ (a : Nat) (h : TH) (x : ((Nat ⊕ Nat) × TH)), o_X11_unit a h = some x → XMt l yX11_unit (ws_ yX11_unit cX11_unit 2 (some (.object "BlindCards$Node"))) fr lo D [rv a] h (ocR x.1) x.2) (o_X11_term : Nat → TH → Option ((Nat ⊕ Nat) × TH)) (ho_X11_term : ∀ (a : Nat) (h : TH) (x : ((Nat ⊕ Nat) × TH)), o_X11_term a h = some x → XMt l yX11_term (ws_ yX11_term cX11_term 2 (some (.object "BlindCards$Node"))) fr lo D [rv a] h (ocR x.1) x.2) (o_X11_sum : Nat → TH → Option ((Nat ⊕ Nat) × TH)) (ho_X11_sum : ∀ (a : Nat) (h : TH) (x : ((Nat ⊕ Nat) × TH)), o_X11_sum a h = some x → XMt l yX11_sum (ws_ yX11_sum cX11_sum 3 (some (.object "BlindCards$Node"))) fr lo D [rv a] h (ocR x.1) x.2) (o_X11_one : Nat → TH → Option ((Nat ⊕ Nat) × TH)) (ho_X11_one : ∀ (a : Nat) (h : TH) (x : ((Nat ⊕ Nat) × TH)), o_X11_one a h = some x → XMt l yX11_one (ws_ yX11_one cX11_one 3 (some (.object "BlindCards$Node"))) fr lo D [rv a] h (ocR x.1) x.2) (o_X11_all : Nat → TH → Option ((Nat ⊕ Nat) × TH)) (ho_X11_all : ∀ (a : Nat) (h : TH) (x : ((Nat ⊕ Nat) × TH)), o_X11_all a h = some x → XMt l yX11_all (ws_ yX11_all cX11_all 2 (some (.object "BlindCards$Node"))) fr lo D [rv a] h (ocR x.1) x.2) (o_X11_both : Nat → TH → Option ((Nat ⊕ Nat) × TH)) (ho_X11_both : ∀ (a : Nat) (h : TH) (x : ((Nat ⊕ Nat) × TH)), o_X11_both a h = some x → XMt l yX11_both (ws_ yX11_both cX11_both 2 (some (.object "BlindCards$Node"))) fr lo D [rv a] h (ocR x.1) x.2) {x : ((Nat ⊕ Nat) × TH)} :
    ∀ (a0 : Nat) (h : TH), B_X11_sum D.2.2.2 o_X11_unit o_X11_term o_X11_sum o_X11_one o_X11_all o_X11_both a0 h = some x → XJ p l e (xRm (fr + 1) (lo + 22) h0) s m args below meth c D 3 (ocR x.1) h0 x.2 0 [(0, rv a0)] [] h := by
  have hx := hC.1
  have hb := hC.2.1
  intro a0 h hF H locs cells slots ls hX hl
  rw [B_X11_sum] at hF
  refine X_aload_n hx hb dX11_sum_0 rfl (lv_at hl 0 rfl) ?_
  obtain ⟨h_1, hF⟩ := gd_ok hF
  rcases bt_ok hF with ⟨r_3, h_4, hc_2, hF⟩ | ⟨z_5, h_4, hc_2, hxx⟩
  rotate_left
  · subst hxx
    exact iXo_X11_345_t hC hX hnh h_1 (ho_X11_term a0 h _ hc_2) hl.1 (Nat.le_of_ble_eq_true rfl) (by show _ ≤ fr + 1; omega) (by show _ ≤ lo + 22; omega) dX11_sum_1
  refine iXo_X11_345 hC hX h_1 (ho_X11_term a0 h _ hc_2) hl.1 (Nat.le_of_ble_eq_true rfl) (by show _ ≤ fr + 1; omega) (by show _ ≤ lo + 22; omega) dX11_sum_1 (fun H locs cells slots hX => ?_)
  refine X_astore_n (i := 1) hx hb dX11_sum_4 rfl hl (by decide) rfl (fun ls hl => ?_)
  replace hl : lv_has ls 3 [(1, rv r_3), (0, rv a0)] := lv_subS hl (List.forall_mem_cons.mpr ⟨Or.inl rfl, (List.forall_mem_cons.mpr ⟨Or.inr ⟨List.mem_of_getElem? (i := 0) rfl, by simp [rv_cat]⟩, (fun _ h => nomatch h)⟩)⟩)
  exact w_X11_sum_L5_g hC hr hnh hin hfr hlo o_X11_unit ho_X11_unit o_X11_term ho_X11_term o_X11_sum ho_X11_sum o_X11_one ho_X11_one o_X11_all ho_X11_all o_X11_both ho_X11_both MN a0 r_3 h_4 hF H locs cells slots ls hX (lv_sub hl [1, 0] rfl)
theorem mb_X11_sum (l : Launch) (D : XD) {fr lo : Nat} (hfr : 8 ≤ fr) (hlo : 215 ≤ lo) (o_X11_unit : Nat → TH → Option ((Nat ⊕ Nat) × TH)) (ho_X11_unit : ∀ (a : Nat) (h : TH) (x : ((Nat ⊕ Nat) × TH)), o_X11_unit a h = some x → XMt l yX11_unit (ws_ yX11_unit cX11_unit 2 (some (.object "BlindCards$Node"))) fr lo D [rv a] h (ocR x.1) x.2) (o_X11_term : Nat → TH → Option ((Nat ⊕ Nat) × TH)) (ho_X11_term : ∀ (a : Nat) (h : TH) (x : ((Nat ⊕ Nat) × TH)), o_X11_term a h = some x → XMt l yX11_term (ws_ yX11_term cX11_term 2 (some (.object "BlindCards$Node"))) fr lo D [rv a] h (ocR x.1) x.2) (o_X11_sum : Nat → TH → Option ((Nat ⊕ Nat) × TH)) (ho_X11_sum : ∀ (a : Nat) (h : TH) (x : ((Nat ⊕ Nat) × TH)), o_X11_sum a h = some x → XMt l yX11_sum (ws_ yX11_sum cX11_sum 3 (some (.object "BlindCards$Node"))) fr lo D [rv a] h (ocR x.1) x.2) (o_X11_one : Nat → TH → Option ((Nat ⊕ Nat) × TH)) (ho_X11_one : ∀ (a : Nat) (h : TH) (x : ((Nat ⊕ Nat) × TH)), o_X11_one a h = some x → XMt l yX11_one (ws_ yX11_one cX11_one 3 (some (.object "BlindCards$Node"))) fr lo D [rv a] h (ocR x.1) x.2) (o_X11_all : Nat → TH → Option ((Nat ⊕ Nat) × TH)) (ho_X11_all : ∀ (a : Nat) (h : TH) (x : ((Nat ⊕ Nat) × TH)), o_X11_all a h = some x → XMt l yX11_all (ws_ yX11_all cX11_all 2 (some (.object "BlindCards$Node"))) fr lo D [rv a] h (ocR x.1) x.2) (o_X11_both : Nat → TH → Option ((Nat ⊕ Nat) × TH)) (ho_X11_both : ∀ (a : Nat) (h : TH) (x : ((Nat ⊕ Nat) × TH)), o_X11_both a h = some x → XMt l yX11_both (ws_ yX11_both cX11_both 2 (some (.object "BlindCards$Node"))) fr lo D [rv a] h (ocR x.1) x.2) (a0 : Nat) (h : TH) (x : ((Nat ⊕ Nat) × TH)) (hF : B_X11_sum D.2.2.2 o_X11_unit o_X11_term o_X11_sum o_X11_one o_X11_all o_X11_both a0 h = some x) : XMt l yX11_sum (ws_ yX11_sum cX11_sum 3 (some (.object "BlindCards$Node"))) (fr + 1) (lo + 22) D [rv a0] h (ocR x.1) x.2 := by
  refine x_met (by decide +kernel) ?_ ?_
  · simp [lg_sl, rv_cat, cat_i, cat_l]
  intro p e s m below meth c hC hr hnh hin ls hl hX
  replace hl : lv_has ls 3 [(0, rv a0)] := by simpa [lv_args, rv_cat, cat_i, cat_l] using hl
  exact w_X11_sum_g hC hr hnh hin hfr hlo o_X11_unit ho_X11_unit o_X11_term ho_X11_term o_X11_sum ho_X11_sum o_X11_one ho_X11_one o_X11_all ho_X11_all o_X11_both ho_X11_both a0 h hF s.heap [] 0 0 ls hX hl
def B_X11_one_b95 (K : Nat → Nat) (o_X11_unit : Nat → TH → Option ((Nat ⊕ Nat) × TH)) (o_X11_term : Nat → TH → Option ((Nat ⊕ Nat) × TH)) (o_X11_sum : Nat → TH → Option ((Nat ⊕ Nat) × TH)) (o_X11_one : Nat → TH → Option ((Nat ⊕ Nat) × TH)) (o_X11_all : Nat → TH → Option ((Nat ⊕ Nat) × TH)) (o_X11_both : Nat → TH → Option ((Nat ⊕ Nat) × TH)) (x0 : Nat) (x1 : Nat) (h : TH) : Option ((Nat ⊕ Nat) × TH) :=
  gd (hasF (hT h x0) 68 = true) <|
  lt ((UInt32.toInt32 (Int32.toUInt32 (hI h 68 x0) % 65536))) fun x_2 =>
  gd (hT h x0 = 7) <|
  bd (F_X11_go K x0 h) fun h_5 =>
  gd (hc h_5 + 1 ≤ XC ∧ hs h_5 + 3 ≤ XS) <|
  lt (hz h_5 + 1) fun r_7 =>
  lt (nO h_5 13 3) fun h_8 =>
  gd (hT h_8 x0 = 7) <|
  bt (o_X11_sum x0 h_8) fun r_11 h_12 =>
  gd (r_7 ≠ 0) <|
  bd (F_X15_init K r_7 x1 r_11 x_2 h_12) fun h_16 =>
  some (.inl r_7, h_16)
set_option maxHeartbeats 4000000 in
theorem w_X11_one_b95_g {p : Program} {l : Launch} {e : Env} {s : State} {m : MethodId} {args : Array Value} {below : List Frame} {meth : Method} {c : Code} {D : XD} {h0 : TH} {fr lo : Nat} (hC : XCx D cX11_one 3 RX11 h0 p (xRm (fr + 1) (lo + 22) h0) s m args meth c) (hr : meth.sig.returnType = some (.object "BlindCards$Node")) (hnh : c.exceptionTable.isEmpty = true) (hin : meth.name = "one") (hfr : 8 ≤ fr) (hlo : 215 ≤ lo) (o_X11_unit : Nat → TH → Option ((Nat ⊕ Nat) × TH)) (ho_X11_unit : ∀ (a : Nat) (h : TH) (x : ((Nat ⊕ Nat) × TH)), o_X11_unit a h = some x → XMt l yX11_unit (ws_ yX11_unit cX11_unit 2 (some (.object "BlindCards$Node"))) fr lo D [rv a] h (ocR x.1) x.2) (o_X11_term : Nat → TH → Option ((Nat ⊕ Nat) × TH)) (ho_X11_term : ∀ (a : Nat) (h : TH) (x : ((Nat ⊕ Nat) × TH)), o_X11_term a h = some x → XMt l yX11_term (ws_ yX11_term cX11_term 2 (some (.object "BlindCards$Node"))) fr lo D [rv a] h (ocR x.1) x.2) (o_X11_sum : Nat → TH → Option ((Nat ⊕ Nat) × TH)) (ho_X11_sum : ∀ (a : Nat) (h : TH) (x : ((Nat ⊕ Nat) × TH)), o_X11_sum a h = some x → XMt l yX11_sum (ws_ yX11_sum cX11_sum 3 (some (.object "BlindCards$Node"))) fr lo D [rv a] h (ocR x.1) x.2) (o_X11_one : Nat → TH → Option ((Nat ⊕ Nat) × TH)) (ho_X11_one : ∀ (a : Nat) (h : TH) (x : ((Nat ⊕ Nat) × TH)), o_X11_one a h = some x → XMt l yX11_one (ws_ yX11_one cX11_one 3 (some (.object "BlindCards$Node"))) fr lo D [rv a] h (ocR x.1) x.2) (o_X11_all : Nat → TH → Option ((Nat ⊕ Nat) × TH)) (ho_X11_all : ∀ (a : Nat) (h : TH) (x : ((Nat ⊕ Nat) × TH)), o_X11_all a h = some x → XMt l yX11_all (ws_ yX11_all cX11_all 2 (some (.object "BlindCards$Node"))) fr lo D [rv a] h (ocR x.1) x.2) (o_X11_both : Nat → TH → Option ((Nat ⊕ Nat) × TH)) (ho_X11_both : ∀ (a : Nat) (h : TH) (x : ((Nat ⊕ Nat) × TH)), o_X11_both a h = some x → XMt l yX11_both (ws_ yX11_both cX11_both 2 (some (.object "BlindCards$Node"))) fr lo D [rv a] h (ocR x.1) x.2) {x : ((Nat ⊕ Nat) × TH)} :
    ∀ (x0 : Nat) (x1 : Nat) (h : TH), B_X11_one_b95 D.2.2.2 o_X11_unit o_X11_term o_X11_sum o_X11_one o_X11_all o_X11_both x0 x1 h = some x → XJ p l e (xRm (fr + 1) (lo + 22) h0) s m args below meth c D 3 (ocR x.1) h0 x.2 95 [(0, rv x0), (1, rv x1)] [] h := by
  have hx := hC.1
  have hb := hC.2.1
  intro x0 x1 h hF H locs cells slots ls hX hl
  rw [B_X11_one_b95] at hF
  refine X_aload_n hx hb dX11_one_95 rfl (lv_at hl 0 rfl) ?_
  obtain ⟨h_1, hF⟩ := gd_ok hF
  refine gX_X11_46 hC hX h_1 dX11_one_96 ?_
  refine lv_i2c hx hb dX11_one_99 rfl ?_
  refine lv_topi (fun x_2 ex_2 => ?_)
  replace hF := lt_at hF ex_2
  refine lv_istore_n (i := 2) hx hb dX11_one_100 rfl hl (by decide) rfl (fun ls hl => ?_)
  replace hl : lv_has ls 3 [(2, .int x_2), (0, rv x0), (1, rv x1)] := lv_subS hl (List.forall_mem_cons.mpr ⟨Or.inl rfl, (List.forall_mem_cons.mpr ⟨Or.inr ⟨List.mem_of_getElem? (i := 0) rfl, rfl⟩, (List.forall_mem_cons.mpr ⟨Or.inr ⟨List.mem_of_getElem? (i := 1) rfl, by simp [rv_cat]⟩, (fun _ h => nomatch h)⟩)⟩)⟩)
  refine X_aload_n hx hb dX11_one_101 rfl (lv_at hl 1 rfl) ?_
  obtain ⟨h_3, hF⟩ := gd_ok hF
  obtain ⟨h_5, hc_4, hF⟩ := bd_ok hF
  refine iX_X11_94 hC hX h_3 hc_4 hl.1 (Nat.le_of_ble_eq_true rfl) (by show _ ≤ fr + 1; omega) (by show _ ≤ lo + 22; omega) dX11_one_102 (fun H locs cells slots hX => ?_)
  obtain ⟨h_6, hF⟩ := gd_ok hF
  refine nX_X11_326 hC hX h_6 dX11_one_105 (fun H cells slots hX => ?_)
  refine lv_topr (fun r_7 er_7 => ?_)
  replace hF := lt_at hF er_7
  obtain ⟨h_8, eh_8, hF⟩ := lt_ok hF
  rw [← eh_8] at hX
  refine lv_dup hx hb dX11_one_108 (rv_cat _) ?_
  refine X_aload_n hx hb dX11_one_109 rfl (lv_at hl 2 rfl) ?_
  refine X_aload_n hx hb dX11_one_110 rfl (lv_at hl 1 rfl) ?_
  obtain ⟨h_9, hF⟩ := gd_ok hF
  rcases bt_ok hF with ⟨r_11, h_12, hc_10, hF⟩ | ⟨z_13, h_12, hc_10, hxx⟩
  rotate_left
  · subst hxx
    exact iXo_X11_342_t hC hX hnh h_9 (ho_X11_sum x0 h_8 _ hc_10) hl.1 (cat4 (Nat.le_of_ble_eq_true rfl)) (by show _ ≤ fr + 1; omega) (by show _ ≤ lo + 22; omega) dX11_one_111
  refine iXo_X11_342 hC hX h_9 (ho_X11_sum x0 h_8 _ hc_10) hl.1 (cat4 (Nat.le_of_ble_eq_true rfl)) (by show _ ≤ fr + 1; omega) (by show _ ≤ lo + 22; omega) dX11_one_111 (fun H locs cells slots hX => ?_)
  refine lv_iload_n hx hb dX11_one_114 rfl (lv_at hl 0 rfl) ?_
  obtain ⟨h_14, hF⟩ := gd_ok hF
  obtain ⟨h_16, hc_15, hF⟩ := bd_ok hF
  refine iX_X11_328 hC hX h_14 hc_15 hl.1 (cat4 (Nat.le_of_ble_eq_true rfl)) (by show _ ≤ fr + 1; omega) (by show _ ≤ lo + 22; omega) dX11_one_115 (fun H locs cells slots hX => ?_)
  cases hF
  exact x_reta hC hX hr (Or.inl ⟨_, rfl⟩) rfl rfl dX11_one_118
def B_X11_one (K : Nat → Nat) (o_X11_unit : Nat → TH → Option ((Nat ⊕ Nat) × TH)) (o_X11_term : Nat → TH → Option ((Nat ⊕ Nat) × TH)) (o_X11_sum : Nat → TH → Option ((Nat ⊕ Nat) × TH)) (o_X11_one : Nat → TH → Option ((Nat ⊕ Nat) × TH)) (o_X11_all : Nat → TH → Option ((Nat ⊕ Nat) × TH)) (o_X11_both : Nat → TH → Option ((Nat ⊕ Nat) × TH)) (a0 : Nat) (h : TH) : Option ((Nat ⊕ Nat) × TH) :=
  lt ((K 3)) fun r_1 =>
  gd (hT h a0 = 7) <|
  bd (F_X11_is K h a0 r_1) fun r_4 =>
  if r_4 = 0 then
    gd (hT h a0 = 7) <|
    bt (o_X11_sum a0 h) fun r_8 h_9 =>
    gd (hasF (hT h_9 a0) 68 = true) <|
    if (hI h_9 68 a0) = (60 : Int32) then
      B_X11_one_b95 K o_X11_unit o_X11_term o_X11_sum o_X11_one o_X11_all o_X11_both a0 r_8 h_9
    else
      gd (hasF (hT h_9 a0) 68 = true) <|
      if (hI h_9 68 a0) = (62 : Int32) then
        B_X11_one_b95 K o_X11_unit o_X11_term o_X11_sum o_X11_one o_X11_all o_X11_both a0 r_8 h_9
      else
        gd (hasF (hT h_9 a0) 68 = true) <|
        if (hI h_9 68 a0) = (61 : Int32) then
          B_X11_one_b95 K o_X11_unit o_X11_term o_X11_sum o_X11_one o_X11_all o_X11_both a0 r_8 h_9
        else
          some (.inl r_8, h_9)
  else
    gd (hasF (hT h a0) 71 = true) <|
    if (hI h 71 a0) ≤ (6 : Int32) then
      gd (hasF (hT h a0) 71 = true) <|
      gd (hasF (hT h a0) 71 = true) <|
      gd (hT h a0 ≤ 24) <|
      lt (uI h 71 a0 ((hI h 71 a0) + (1 : Int32))) fun h_22 =>
      gd (hT h_22 a0 = 7) <|
      bd (F_X11_go K a0 h_22) fun h_25 =>
      gd (hc h_25 + 1 ≤ XC ∧ hs h_25 + 1 ≤ XS) <|
      lt (hz h_25 + 1) fun r_27 =>
      lt (nO h_25 11 1) fun h_28 =>
      gd (hT h_28 a0 = 7) <|
      bt (o_X11_one a0 h_28) fun r_31 h_32 =>
      gd (r_27 ≠ 0) <|
      bd (F_X13_init K r_27 r_31 h_32) fun h_36 =>
      gd (hasF (hT h_36 a0) 71 = true) <|
      gd (hasF (hT h_36 a0) 71 = true) <|
      gd (hT h_36 a0 ≤ 24) <|
      lt (uI h_36 71 a0 ((hI h_36 71 a0) - (1 : Int32))) fun h_40 =>
      some (.inl r_27, h_40)
    else
      gd (hT h a0 = 7) <|
      bd2 (F_X11_wrong K a0 h) fun r_44 h_43 =>
      gd (r_44 ≠ 0) <|
      some (.inr r_44, h_43)
set_option maxHeartbeats 4000000 in
theorem w_X11_one_g {p : Program} {l : Launch} {e : Env} {s : State} {m : MethodId} {args : Array Value} {below : List Frame} {meth : Method} {c : Code} {D : XD} {h0 : TH} {fr lo : Nat} (hC : XCx D cX11_one 3 RX11 h0 p (xRm (fr + 1) (lo + 22) h0) s m args meth c) (hr : meth.sig.returnType = some (.object "BlindCards$Node")) (hnh : c.exceptionTable.isEmpty = true) (hin : meth.name = "one") (hfr : 8 ≤ fr) (hlo : 215 ≤ lo) (o_X11_unit : Nat → TH → Option ((Nat ⊕ Nat) × TH)) (ho_X11_unit : ∀ (a : Nat) (h : TH) (x : ((Nat ⊕ Nat) × TH)), o_X11_unit a h = some x → XMt l yX11_unit (ws_ yX11_unit cX11_unit 2 (some (.object "BlindCards$Node"))) fr lo D [rv a] h (ocR x.1) x.2) (o_X11_term : Nat → TH → Option ((Nat ⊕ Nat) × TH)) (ho_X11_term : ∀ (a : Nat) (h : TH) (x : ((Nat ⊕ Nat) × TH)), o_X11_term a h = some x → XMt l yX11_term (ws_ yX11_term cX11_term 2 (some (.object "BlindCards$Node"))) fr lo D [rv a] h (ocR x.1) x.2) (o_X11_sum : Nat → TH → Option ((Nat ⊕ Nat) × TH)) (ho_X11_sum : ∀ (a : Nat) (h : TH) (x : ((Nat ⊕ Nat) × TH)), o_X11_sum a h = some x → XMt l yX11_sum (ws_ yX11_sum cX11_sum 3 (some (.object "BlindCards$Node"))) fr lo D [rv a] h (ocR x.1) x.2) (o_X11_one : Nat → TH → Option ((Nat ⊕ Nat) × TH)) (ho_X11_one : ∀ (a : Nat) (h : TH) (x : ((Nat ⊕ Nat) × TH)), o_X11_one a h = some x → XMt l yX11_one (ws_ yX11_one cX11_one 3 (some (.object "BlindCards$Node"))) fr lo D [rv a] h (ocR x.1) x.2) (o_X11_all : Nat → TH → Option ((Nat ⊕ Nat) × TH)) (ho_X11_all : ∀ (a : Nat) (h : TH) (x : ((Nat ⊕ Nat) × TH)), o_X11_all a h = some x → XMt l yX11_all (ws_ yX11_all cX11_all 2 (some (.object "BlindCards$Node"))) fr lo D [rv a] h (ocR x.1) x.2) (o_X11_both : Nat → TH → Option ((Nat ⊕ Nat) × TH)) (ho_X11_both : ∀ (a : Nat) (h : TH) (x : ((Nat ⊕ Nat) × TH)), o_X11_both a h = some x → XMt l yX11_both (ws_ yX11_both cX11_both 2 (some (.object "BlindCards$Node"))) fr lo D [rv a] h (ocR x.1) x.2) {x : ((Nat ⊕ Nat) × TH)} :
    ∀ (a0 : Nat) (h : TH), B_X11_one D.2.2.2 o_X11_unit o_X11_term o_X11_sum o_X11_one o_X11_all o_X11_both a0 h = some x → XJ p l e (xRm (fr + 1) (lo + 22) h0) s m args below meth c D 3 (ocR x.1) h0 x.2 0 [(0, rv a0)] [] h := by
  have hx := hC.1
  have hb := hC.2.1
  intro a0 h hF H locs cells slots ls hX hl
  rw [B_X11_one] at hF
  refine X_aload_n hx hb dX11_one_0 rfl (lv_at hl 0 rfl) ?_
  refine X_ldcS hC (i := 3) (List.mem_of_getElem? (i := 3) rfl) dX11_one_1 ?_
  refine lv_topr (fun r_1 er_1 => ?_)
  replace hF := lt_at hF er_1
  obtain ⟨h_2, hF⟩ := gd_ok hF
  obtain ⟨r_4, hc_3, hF⟩ := bd_ok hF
  refine iX_X11_86 hC hX h_2 hc_3 hl.1 (Nat.le_of_ble_eq_true rfl) (by show _ ≤ fr + 1; omega) (by show _ ≤ lo + 22; omega) dX11_one_3 (fun H locs cells slots hX => ?_)
  refine lv_if_eq (tgt := 61) hx hb dX11_one_6 (by decide) (fun c_5 => ?_) (fun c_5 => ?_)
  · replace hF := it_t hF c_5
    refine X_aload_n hx hb dX11_one_61 rfl (lv_at hl 0 rfl) ?_
    obtain ⟨h_6, hF⟩ := gd_ok hF
    rcases bt_ok hF with ⟨r_8, h_9, hc_7, hF⟩ | ⟨z_10, h_9, hc_7, hxx⟩
    rotate_left
    · subst hxx
      exact iXo_X11_342_t hC hX hnh h_6 (ho_X11_sum a0 h _ hc_7) hl.1 (Nat.le_of_ble_eq_true rfl) (by show _ ≤ fr + 1; omega) (by show _ ≤ lo + 22; omega) dX11_one_62
    refine iXo_X11_342 hC hX h_6 (ho_X11_sum a0 h _ hc_7) hl.1 (Nat.le_of_ble_eq_true rfl) (by show _ ≤ fr + 1; omega) (by show _ ≤ lo + 22; omega) dX11_one_62 (fun H locs cells slots hX => ?_)
    refine X_astore_n (i := 1) hx hb dX11_one_65 rfl hl (by decide) rfl (fun ls hl => ?_)
    replace hl : lv_has ls 3 [(1, rv r_8), (0, rv a0)] := lv_subS hl (List.forall_mem_cons.mpr ⟨Or.inl rfl, (List.forall_mem_cons.mpr ⟨Or.inr ⟨List.mem_of_getElem? (i := 0) rfl, by simp [rv_cat]⟩, (fun _ h => nomatch h)⟩)⟩)
    refine X_aload_n hx hb dX11_one_66 rfl (lv_at hl 1 rfl) ?_
    obtain ⟨h_11, hF⟩ := gd_ok hF
    refine gX_X11_46 hC hX h_11 dX11_one_67 ?_
    refine lv_bipush (v := 60) hx hb dX11_one_70 (by decide) ?_
    refine lv_icmp_eq (tgt := 95) hx hb dX11_one_72 (by decide) (fun c_12 => ?_) (fun c_12 => ?_)
    · replace hF := it_t hF c_12
      exact w_X11_one_b95_g hC hr hnh hin hfr hlo o_X11_unit ho_X11_unit o_X11_term ho_X11_term o_X11_sum ho_X11_sum o_X11_one ho_X11_one o_X11_all ho_X11_all o_X11_both ho_X11_both a0 r_8 h_9 hF H locs cells slots ls hX (lv_sub hl [1, 0] rfl)
    · replace hF := it_f hF c_12
      refine X_aload_n hx hb dX11_one_75 rfl (lv_at hl 1 rfl) ?_
      obtain ⟨h_13, hF⟩ := gd_ok hF
      refine gX_X11_46 hC hX h_13 dX11_one_76 ?_
      refine lv_bipush (v := 62) hx hb dX11_one_79 (by decide) ?_
      refine lv_icmp_eq (tgt := 95) hx hb dX11_one_81 (by decide) (fun c_14 => ?_) (fun c_14 => ?_)
      · replace hF := it_t hF c_14
        exact w_X11_one_b95_g hC hr hnh hin hfr hlo o_X11_unit ho_X11_unit o_X11_term ho_X11_term o_X11_sum ho_X11_sum o_X11_one ho_X11_one o_X11_all ho_X11_all o_X11_both ho_X11_both a0 r_8 h_9 hF H locs cells slots ls hX (lv_sub hl [1, 0] rfl)
      · replace hF := it_f hF c_14
        refine X_aload_n hx hb dX11_one_84 rfl (lv_at hl 1 rfl) ?_
        obtain ⟨h_15, hF⟩ := gd_ok hF
        refine gX_X11_46 hC hX h_15 dX11_one_85 ?_
        refine lv_bipush (v := 61) hx hb dX11_one_88 (by decide) ?_
        refine lv_icmp_eq (tgt := 95) hx hb dX11_one_90 (by decide) (fun c_16 => ?_) (fun c_16 => ?_)
        · replace hF := it_t hF c_16
          exact w_X11_one_b95_g hC hr hnh hin hfr hlo o_X11_unit ho_X11_unit o_X11_term ho_X11_term o_X11_sum ho_X11_sum o_X11_one ho_X11_one o_X11_all ho_X11_all o_X11_both ho_X11_both a0 r_8 h_9 hF H locs cells slots ls hX (lv_sub hl [1, 0] rfl)
        · replace hF := it_f hF c_16
          refine X_aload_n hx hb dX11_one_93 rfl (lv_at hl 0 rfl) ?_
          cases hF
          exact x_reta hC hX hr (Or.inl ⟨_, rfl⟩) rfl rfl dX11_one_94
  · replace hF := it_f hF c_5
    refine X_aload_n hx hb dX11_one_9 rfl (lv_at hl 0 rfl) ?_
    obtain ⟨h_17, hF⟩ := gd_ok hF
    refine gX_X11_334 hC hX h_17 dX11_one_10 ?_
    refine lv_bipush (v := 6) hx hb dX11_one_13 (by decide) ?_
    refine lv_icmp_le (tgt := 23) hx hb dX11_one_15 (by decide) (fun c_18 => ?_) (fun c_18 => ?_)
    · replace hF := it_t hF c_18
      refine X_aload_n hx hb dX11_one_23 rfl (lv_at hl 0 rfl) ?_
      refine lv_dup hx hb dX11_one_24 (rv_cat _) ?_
      obtain ⟨h_19, hF⟩ := gd_ok hF
      refine gX_X11_334 hC hX h_19 dX11_one_25 ?_
      refine lv_iconst (v := 1) hx hb dX11_one_28 (by decide) ?_
      refine lv_iadd hx hb dX11_one_29 ?_
      obtain ⟨h_20, hF⟩ := gd_ok hF
      obtain ⟨h_21, hF⟩ := gd_ok hF
      refine pX_X11_334 hC hX h_20 h_21 dX11_one_30 (fun H locs hX => ?_)
      obtain ⟨h_22, eh_22, hF⟩ := lt_ok hF
      rw [← eh_22] at hX
      refine X_aload_n hx hb dX11_one_33 rfl (lv_at hl 0 rfl) ?_
      obtain ⟨h_23, hF⟩ := gd_ok hF
      obtain ⟨h_25, hc_24, hF⟩ := bd_ok hF
      refine iX_X11_94 hC hX h_23 hc_24 hl.1 (Nat.le_of_ble_eq_true rfl) (by show _ ≤ fr + 1; omega) (by show _ ≤ lo + 22; omega) dX11_one_34 (fun H locs cells slots hX => ?_)
      obtain ⟨h_26, hF⟩ := gd_ok hF
      refine nX_X11_337 hC hX h_26 dX11_one_37 (fun H cells slots hX => ?_)
      refine lv_topr (fun r_27 er_27 => ?_)
      replace hF := lt_at hF er_27
      obtain ⟨h_28, eh_28, hF⟩ := lt_ok hF
      rw [← eh_28] at hX
      refine lv_dup hx hb dX11_one_40 (rv_cat _) ?_
      refine X_aload_n hx hb dX11_one_41 rfl (lv_at hl 0 rfl) ?_
      obtain ⟨h_29, hF⟩ := gd_ok hF
      rcases bt_ok hF with ⟨r_31, h_32, hc_30, hF⟩ | ⟨z_33, h_32, hc_30, hxx⟩
      rotate_left
      · subst hxx
        exact iXo_X11_331_t hC hX hnh h_29 (ho_X11_one a0 h_28 _ hc_30) hl.1 (cat4 (Nat.le_of_ble_eq_true rfl)) (by show _ ≤ fr + 1; omega) (by show _ ≤ lo + 22; omega) dX11_one_42
      refine iXo_X11_331 hC hX h_29 (ho_X11_one a0 h_28 _ hc_30) hl.1 (cat4 (Nat.le_of_ble_eq_true rfl)) (by show _ ≤ fr + 1; omega) (by show _ ≤ lo + 22; omega) dX11_one_42 (fun H locs cells slots hX => ?_)
      obtain ⟨h_34, hF⟩ := gd_ok hF
      obtain ⟨h_36, hc_35, hF⟩ := bd_ok hF
      refine iX_X11_339 hC hX h_34 hc_35 hl.1 (cat4 (Nat.le_of_ble_eq_true rfl)) (by show _ ≤ fr + 1; omega) (by show _ ≤ lo + 22; omega) dX11_one_45 (fun H locs cells slots hX => ?_)
      refine X_astore_n (i := 1) hx hb dX11_one_48 rfl hl (by decide) rfl (fun ls hl => ?_)
      replace hl : lv_has ls 3 [(1, rv r_27), (0, rv a0)] := lv_subS hl (List.forall_mem_cons.mpr ⟨Or.inl rfl, (List.forall_mem_cons.mpr ⟨Or.inr ⟨List.mem_of_getElem? (i := 0) rfl, by simp [rv_cat]⟩, (fun _ h => nomatch h)⟩)⟩)
      refine X_aload_n hx hb dX11_one_49 rfl (lv_at hl 1 rfl) ?_
      refine lv_dup hx hb dX11_one_50 (rv_cat _) ?_
      obtain ⟨h_37, hF⟩ := gd_ok hF
      refine gX_X11_334 hC hX h_37 dX11_one_51 ?_
      refine lv_iconst (v := 1) hx hb dX11_one_54 (by decide) ?_
      refine lv_isub hx hb dX11_one_55 ?_
      obtain ⟨h_38, hF⟩ := gd_ok hF
      obtain ⟨h_39, hF⟩ := gd_ok hF
      refine pX_X11_334 hC hX h_38 h_39 dX11_one_56 (fun H locs hX => ?_)
      obtain ⟨h_40, eh_40, hF⟩ := lt_ok hF
      rw [← eh_40] at hX
      refine X_aload_n hx hb dX11_one_59 rfl (lv_at hl 0 rfl) ?_
      cases hF
      exact x_reta hC hX hr (Or.inl ⟨_, rfl⟩) rfl rfl dX11_one_60
    · replace hF := it_f hF c_18
      refine X_aload_n hx hb dX11_one_18 rfl (lv_at hl 0 rfl) ?_
      obtain ⟨h_41, hF⟩ := gd_ok hF
      obtain ⟨r_44, h_43, hc_42, hF⟩ := bd2_ok hF
      refine iX_X11_90 hC hX h_41 hc_42 hl.1 (Nat.le_of_ble_eq_true rfl) (by show _ ≤ fr + 1; omega) (by show _ ≤ lo + 22; omega) dX11_one_19 (fun H locs cells slots hX => ?_)
      obtain ⟨h_45, hF⟩ := gd_ok hF
      cases hF
      exact x_throw hC hX hnh h_45 rfl rfl dX11_one_22
theorem mb_X11_one (l : Launch) (D : XD) {fr lo : Nat} (hfr : 8 ≤ fr) (hlo : 215 ≤ lo) (o_X11_unit : Nat → TH → Option ((Nat ⊕ Nat) × TH)) (ho_X11_unit : ∀ (a : Nat) (h : TH) (x : ((Nat ⊕ Nat) × TH)), o_X11_unit a h = some x → XMt l yX11_unit (ws_ yX11_unit cX11_unit 2 (some (.object "BlindCards$Node"))) fr lo D [rv a] h (ocR x.1) x.2) (o_X11_term : Nat → TH → Option ((Nat ⊕ Nat) × TH)) (ho_X11_term : ∀ (a : Nat) (h : TH) (x : ((Nat ⊕ Nat) × TH)), o_X11_term a h = some x → XMt l yX11_term (ws_ yX11_term cX11_term 2 (some (.object "BlindCards$Node"))) fr lo D [rv a] h (ocR x.1) x.2) (o_X11_sum : Nat → TH → Option ((Nat ⊕ Nat) × TH)) (ho_X11_sum : ∀ (a : Nat) (h : TH) (x : ((Nat ⊕ Nat) × TH)), o_X11_sum a h = some x → XMt l yX11_sum (ws_ yX11_sum cX11_sum 3 (some (.object "BlindCards$Node"))) fr lo D [rv a] h (ocR x.1) x.2) (o_X11_one : Nat → TH → Option ((Nat ⊕ Nat) × TH)) (ho_X11_one : ∀ (a : Nat) (h : TH) (x : ((Nat ⊕ Nat) × TH)), o_X11_one a h = some x → XMt l yX11_one (ws_ yX11_one cX11_one 3 (some (.object "BlindCards$Node"))) fr lo D [rv a] h (ocR x.1) x.2) (o_X11_all : Nat → TH → Option ((Nat ⊕ Nat) × TH)) (ho_X11_all : ∀ (a : Nat) (h : TH) (x : ((Nat ⊕ Nat) × TH)), o_X11_all a h = some x → XMt l yX11_all (ws_ yX11_all cX11_all 2 (some (.object "BlindCards$Node"))) fr lo D [rv a] h (ocR x.1) x.2) (o_X11_both : Nat → TH → Option ((Nat ⊕ Nat) × TH)) (ho_X11_both : ∀ (a : Nat) (h : TH) (x : ((Nat ⊕ Nat) × TH)), o_X11_both a h = some x → XMt l yX11_both (ws_ yX11_both cX11_both 2 (some (.object "BlindCards$Node"))) fr lo D [rv a] h (ocR x.1) x.2) (a0 : Nat) (h : TH) (x : ((Nat ⊕ Nat) × TH)) (hF : B_X11_one D.2.2.2 o_X11_unit o_X11_term o_X11_sum o_X11_one o_X11_all o_X11_both a0 h = some x) : XMt l yX11_one (ws_ yX11_one cX11_one 3 (some (.object "BlindCards$Node"))) (fr + 1) (lo + 22) D [rv a0] h (ocR x.1) x.2 := by
  refine x_met (by decide +kernel) ?_ ?_
  · simp [lg_sl, rv_cat, cat_i, cat_l]
  intro p e s m below meth c hC hr hnh hin ls hl hX
  replace hl : lv_has ls 3 [(0, rv a0)] := by simpa [lv_args, rv_cat, cat_i, cat_l] using hl
  exact w_X11_one_g hC hr hnh hin hfr hlo o_X11_unit ho_X11_unit o_X11_term ho_X11_term o_X11_sum ho_X11_sum o_X11_one ho_X11_one o_X11_all ho_X11_all o_X11_both ho_X11_both a0 h hF s.heap [] 0 0 ls hX hl
def B_X11_all_L5 (K : Nat → Nat) (o_X11_unit : Nat → TH → Option ((Nat ⊕ Nat) × TH)) (o_X11_term : Nat → TH → Option ((Nat ⊕ Nat) × TH)) (o_X11_sum : Nat → TH → Option ((Nat ⊕ Nat) × TH)) (o_X11_one : Nat → TH → Option ((Nat ⊕ Nat) × TH)) (o_X11_all : Nat → TH → Option ((Nat ⊕ Nat) × TH)) (o_X11_both : Nat → TH → Option ((Nat ⊕ Nat) × TH)) : Nat → Nat → Nat → TH → Option ((Nat ⊕ Nat) × TH)
  | 0, _, _, _ => none
  | fu + 1, x0, x1, h =>
    lt ((K 8)) fun r_1 =>
    gd (hT h x0 = 7) <|
    bd (F_X11_is K h x0 r_1) fun r_4 =>
    if r_4 = 0 then
      some (.inl x1, h)
    else
      gd (hT h x0 = 7) <|
      bd (F_X11_go K x0 h) fun h_8 =>
      gd (hc h_8 + 1 ≤ XC ∧ hs h_8 + 3 ≤ XS) <|
      lt (hz h_8 + 1) fun r_10 =>
      lt (nO h_8 13 3) fun h_11 =>
      gd (hT h_11 x0 = 7) <|
      bt (o_X11_one x0 h_11) fun r_14 h_15 =>
      gd (r_10 ≠ 0) <|
      bd (F_X15_init K r_10 x1 r_14 (38 : Int32) h_15) fun h_19 =>
      B_X11_all_L5 K o_X11_unit o_X11_term o_X11_sum o_X11_one o_X11_all o_X11_both fu x0 r_10 h_19
set_option maxHeartbeats 4000000 in
theorem w_X11_all_L5_g {p : Program} {l : Launch} {e : Env} {s : State} {m : MethodId} {args : Array Value} {below : List Frame} {meth : Method} {c : Code} {D : XD} {h0 : TH} {fr lo : Nat} (hC : XCx D cX11_all 2 RX11 h0 p (xRm (fr + 1) (lo + 22) h0) s m args meth c) (hr : meth.sig.returnType = some (.object "BlindCards$Node")) (hnh : c.exceptionTable.isEmpty = true) (hin : meth.name = "all") (hfr : 8 ≤ fr) (hlo : 215 ≤ lo) (o_X11_unit : Nat → TH → Option ((Nat ⊕ Nat) × TH)) (ho_X11_unit : ∀ (a : Nat) (h : TH) (x : ((Nat ⊕ Nat) × TH)), o_X11_unit a h = some x → XMt l yX11_unit (ws_ yX11_unit cX11_unit 2 (some (.object "BlindCards$Node"))) fr lo D [rv a] h (ocR x.1) x.2) (o_X11_term : Nat → TH → Option ((Nat ⊕ Nat) × TH)) (ho_X11_term : ∀ (a : Nat) (h : TH) (x : ((Nat ⊕ Nat) × TH)), o_X11_term a h = some x → XMt l yX11_term (ws_ yX11_term cX11_term 2 (some (.object "BlindCards$Node"))) fr lo D [rv a] h (ocR x.1) x.2) (o_X11_sum : Nat → TH → Option ((Nat ⊕ Nat) × TH)) (ho_X11_sum : ∀ (a : Nat) (h : TH) (x : ((Nat ⊕ Nat) × TH)), o_X11_sum a h = some x → XMt l yX11_sum (ws_ yX11_sum cX11_sum 3 (some (.object "BlindCards$Node"))) fr lo D [rv a] h (ocR x.1) x.2) (o_X11_one : Nat → TH → Option ((Nat ⊕ Nat) × TH)) (ho_X11_one : ∀ (a : Nat) (h : TH) (x : ((Nat ⊕ Nat) × TH)), o_X11_one a h = some x → XMt l yX11_one (ws_ yX11_one cX11_one 3 (some (.object "BlindCards$Node"))) fr lo D [rv a] h (ocR x.1) x.2) (o_X11_all : Nat → TH → Option ((Nat ⊕ Nat) × TH)) (ho_X11_all : ∀ (a : Nat) (h : TH) (x : ((Nat ⊕ Nat) × TH)), o_X11_all a h = some x → XMt l yX11_all (ws_ yX11_all cX11_all 2 (some (.object "BlindCards$Node"))) fr lo D [rv a] h (ocR x.1) x.2) (o_X11_both : Nat → TH → Option ((Nat ⊕ Nat) × TH)) (ho_X11_both : ∀ (a : Nat) (h : TH) (x : ((Nat ⊕ Nat) × TH)), o_X11_both a h = some x → XMt l yX11_both (ws_ yX11_both cX11_both 2 (some (.object "BlindCards$Node"))) fr lo D [rv a] h (ocR x.1) x.2) {x : ((Nat ⊕ Nat) × TH)} :
    ∀ (fu : Nat) (x0 : Nat) (x1 : Nat) (h : TH), B_X11_all_L5 D.2.2.2 o_X11_unit o_X11_term o_X11_sum o_X11_one o_X11_all o_X11_both fu x0 x1 h = some x → XJ p l e (xRm (fr + 1) (lo + 22) h0) s m args below meth c D 2 (ocR x.1) h0 x.2 5 [(0, rv x0), (1, rv x1)] [] h := by
  have hx := hC.1
  have hb := hC.2.1
  intro fu
  induction fu with
  | zero => intro x0 x1 h hF; exact nm_none hF
  | succ fu ih =>
    intro x0 x1 h hF H locs cells slots ls hX hl
    rw [B_X11_all_L5] at hF
    refine X_aload_n hx hb dX11_all_5 rfl (lv_at hl 0 rfl) ?_
    refine X_ldcS hC (i := 8) (List.mem_of_getElem? (i := 8) rfl) dX11_all_6 ?_
    refine lv_topr (fun r_1 er_1 => ?_)
    replace hF := lt_at hF er_1
    obtain ⟨h_2, hF⟩ := gd_ok hF
    obtain ⟨r_4, hc_3, hF⟩ := bd_ok hF
    refine iX_X11_86 hC hX h_2 hc_3 hl.1 (Nat.le_of_ble_eq_true rfl) (by show _ ≤ fr + 1; omega) (by show _ ≤ lo + 22; omega) dX11_all_8 (fun H locs cells slots hX => ?_)
    refine lv_if_eq (tgt := 36) hx hb dX11_all_11 (by decide) (fun c_5 => ?_) (fun c_5 => ?_)
    · replace hF := it_t hF c_5
      refine X_aload_n hx hb dX11_all_36 rfl (lv_at hl 1 rfl) ?_
      cases hF
      exact x_reta hC hX hr (Or.inl ⟨_, rfl⟩) rfl rfl dX11_all_37
    · replace hF := it_f hF c_5
      refine X_aload_n hx hb dX11_all_14 rfl (lv_at hl 0 rfl) ?_
      obtain ⟨h_6, hF⟩ := gd_ok hF
      obtain ⟨h_8, hc_7, hF⟩ := bd_ok hF
      refine iX_X11_94 hC hX h_6 hc_7 hl.1 (Nat.le_of_ble_eq_true rfl) (by show _ ≤ fr + 1; omega) (by show _ ≤ lo + 22; omega) dX11_all_15 (fun H locs cells slots hX => ?_)
      obtain ⟨h_9, hF⟩ := gd_ok hF
      refine nX_X11_326 hC hX h_9 dX11_all_18 (fun H cells slots hX => ?_)
      refine lv_topr (fun r_10 er_10 => ?_)
      replace hF := lt_at hF er_10
      obtain ⟨h_11, eh_11, hF⟩ := lt_ok hF
      rw [← eh_11] at hX
      refine lv_dup hx hb dX11_all_21 (rv_cat _) ?_
      refine X_aload_n hx hb dX11_all_22 rfl (lv_at hl 1 rfl) ?_
      refine X_aload_n hx hb dX11_all_23 rfl (lv_at hl 0 rfl) ?_
      obtain ⟨h_12, hF⟩ := gd_ok hF
      rcases bt_ok hF with ⟨r_14, h_15, hc_13, hF⟩ | ⟨z_16, h_15, hc_13, hxx⟩
      rotate_left
      · subst hxx
        exact iXo_X11_331_t hC hX hnh h_12 (ho_X11_one x0 h_11 _ hc_13) hl.1 (cat4 (Nat.le_of_ble_eq_true rfl)) (by show _ ≤ fr + 1; omega) (by show _ ≤ lo + 22; omega) dX11_all_24
      refine iXo_X11_331 hC hX h_12 (ho_X11_one x0 h_11 _ hc_13) hl.1 (cat4 (Nat.le_of_ble_eq_true rfl)) (by show _ ≤ fr + 1; omega) (by show _ ≤ lo + 22; omega) dX11_all_24 (fun H locs cells slots hX => ?_)
      refine lv_bipush (v := 38) hx hb dX11_all_27 (by decide) ?_
      obtain ⟨h_17, hF⟩ := gd_ok hF
      obtain ⟨h_19, hc_18, hF⟩ := bd_ok hF
      refine iX_X11_328 hC hX h_17 hc_18 hl.1 (cat4 (Nat.le_of_ble_eq_true rfl)) (by show _ ≤ fr + 1; omega) (by show _ ≤ lo + 22; omega) dX11_all_29 (fun H locs cells slots hX => ?_)
      refine X_astore_n (i := 1) hx hb dX11_all_32 rfl hl (by decide) rfl (fun ls hl => ?_)
      replace hl : lv_has ls 2 [(1, rv r_10), (0, rv x0)] := lv_subS hl (List.forall_mem_cons.mpr ⟨Or.inl rfl, (List.forall_mem_cons.mpr ⟨Or.inr ⟨List.mem_of_getElem? (i := 0) rfl, by simp [rv_cat]⟩, (fun _ h => nomatch h)⟩)⟩)
      refine lv_goto (tgt := 5) hx hb dX11_all_33 (by decide) ?_
      exact ih x0 r_10 h_19 hF H locs cells slots ls hX (lv_sub hl [1, 0] rfl)
def B_X11_all (K : Nat → Nat) (o_X11_unit : Nat → TH → Option ((Nat ⊕ Nat) × TH)) (o_X11_term : Nat → TH → Option ((Nat ⊕ Nat) × TH)) (o_X11_sum : Nat → TH → Option ((Nat ⊕ Nat) × TH)) (o_X11_one : Nat → TH → Option ((Nat ⊕ Nat) × TH)) (o_X11_all : Nat → TH → Option ((Nat ⊕ Nat) × TH)) (o_X11_both : Nat → TH → Option ((Nat ⊕ Nat) × TH)) (a0 : Nat) (h : TH) : Option ((Nat ⊕ Nat) × TH) :=
  gd (hT h a0 = 7) <|
  bt (o_X11_one a0 h) fun r_3 h_4 =>
  B_X11_all_L5 K o_X11_unit o_X11_term o_X11_sum o_X11_one o_X11_all o_X11_both MN a0 r_3 h_4
set_option maxHeartbeats 4000000 in
theorem w_X11_all_g {p : Program} {l : Launch} {e : Env} {s : State} {m : MethodId} {args : Array Value} {below : List Frame} {meth : Method} {c : Code} {D : XD} {h0 : TH} {fr lo : Nat} (hC : XCx D cX11_all 2 RX11 h0 p (xRm (fr + 1) (lo + 22) h0) s m args meth c) (hr : meth.sig.returnType = some (.object "BlindCards$Node")) (hnh : c.exceptionTable.isEmpty = true) (hin : meth.name = "all") (hfr : 8 ≤ fr) (hlo : 215 ≤ lo) (o_X11_unit : Nat → TH → Option ((Nat ⊕ Nat) × TH)) (ho_X11_unit : ∀ (a : Nat) (h : TH) (x : ((Nat ⊕ Nat) × TH)), o_X11_unit a h = some x → XMt l yX11_unit (ws_ yX11_unit cX11_unit 2 (some (.object "BlindCards$Node"))) fr lo D [rv a] h (ocR x.1) x.2) (o_X11_term : Nat → TH → Option ((Nat ⊕ Nat) × TH)) (ho_X11_term : ∀ (a : Nat) (h : TH) (x : ((Nat ⊕ Nat) × TH)), o_X11_term a h = some x → XMt l yX11_term (ws_ yX11_term cX11_term 2 (some (.object "BlindCards$Node"))) fr lo D [rv a] h (ocR x.1) x.2) (o_X11_sum : Nat → TH → Option ((Nat ⊕ Nat) × TH)) (ho_X11_sum : ∀ (a : Nat) (h : TH) (x : ((Nat ⊕ Nat) × TH)), o_X11_sum a h = some x → XMt l yX11_sum (ws_ yX11_sum cX11_sum 3 (some (.object "BlindCards$Node"))) fr lo D [rv a] h (ocR x.1) x.2) (o_X11_one : Nat → TH → Option ((Nat ⊕ Nat) × TH)) (ho_X11_one : ∀ (a : Nat) (h : TH) (x : ((Nat ⊕ Nat) × TH)), o_X11_one a h = some x → XMt l yX11_one (ws_ yX11_one cX11_one 3 (some (.object "BlindCards$Node"))) fr lo D [rv a] h (ocR x.1) x.2) (o_X11_all : Nat → TH → Option ((Nat ⊕ Nat) × TH)) (ho_X11_all : ∀ (a : Nat) (h : TH) (x : ((Nat ⊕ Nat) × TH)), o_X11_all a h = some x → XMt l yX11_all (ws_ yX11_all cX11_all 2 (some (.object "BlindCards$Node"))) fr lo D [rv a] h (ocR x.1) x.2) (o_X11_both : Nat → TH → Option ((Nat ⊕ Nat) × TH)) (ho_X11_both : ∀ (a : Nat) (h : TH) (x : ((Nat ⊕ Nat) × TH)), o_X11_both a h = some x → XMt l yX11_both (ws_ yX11_both cX11_both 2 (some (.object "BlindCards$Node"))) fr lo D [rv a] h (ocR x.1) x.2) {x : ((Nat ⊕ Nat) × TH)} :
    ∀ (a0 : Nat) (h : TH), B_X11_all D.2.2.2 o_X11_unit o_X11_term o_X11_sum o_X11_one o_X11_all o_X11_both a0 h = some x → XJ p l e (xRm (fr + 1) (lo + 22) h0) s m args below meth c D 2 (ocR x.1) h0 x.2 0 [(0, rv a0)] [] h := by
  have hx := hC.1
  have hb := hC.2.1
  intro a0 h hF H locs cells slots ls hX hl
  rw [B_X11_all] at hF
  refine X_aload_n hx hb dX11_all_0 rfl (lv_at hl 0 rfl) ?_
  obtain ⟨h_1, hF⟩ := gd_ok hF
  rcases bt_ok hF with ⟨r_3, h_4, hc_2, hF⟩ | ⟨z_5, h_4, hc_2, hxx⟩
  rotate_left
  · subst hxx
    exact iXo_X11_331_t hC hX hnh h_1 (ho_X11_one a0 h _ hc_2) hl.1 (Nat.le_of_ble_eq_true rfl) (by show _ ≤ fr + 1; omega) (by show _ ≤ lo + 22; omega) dX11_all_1
  refine iXo_X11_331 hC hX h_1 (ho_X11_one a0 h _ hc_2) hl.1 (Nat.le_of_ble_eq_true rfl) (by show _ ≤ fr + 1; omega) (by show _ ≤ lo + 22; omega) dX11_all_1 (fun H locs cells slots hX => ?_)
  refine X_astore_n (i := 1) hx hb dX11_all_4 rfl hl (by decide) rfl (fun ls hl => ?_)
  replace hl : lv_has ls 2 [(1, rv r_3), (0, rv a0)] := lv_subS hl (List.forall_mem_cons.mpr ⟨Or.inl rfl, (List.forall_mem_cons.mpr ⟨Or.inr ⟨List.mem_of_getElem? (i := 0) rfl, by simp [rv_cat]⟩, (fun _ h => nomatch h)⟩)⟩)
  exact w_X11_all_L5_g hC hr hnh hin hfr hlo o_X11_unit ho_X11_unit o_X11_term ho_X11_term o_X11_sum ho_X11_sum o_X11_one ho_X11_one o_X11_all ho_X11_all o_X11_both ho_X11_both MN a0 r_3 h_4 hF H locs cells slots ls hX (lv_sub hl [1, 0] rfl)
theorem mb_X11_all (l : Launch) (D : XD) {fr lo : Nat} (hfr : 8 ≤ fr) (hlo : 215 ≤ lo) (o_X11_unit : Nat → TH → Option ((Nat ⊕ Nat) × TH)) (ho_X11_unit : ∀ (a : Nat) (h : TH) (x : ((Nat ⊕ Nat) × TH)), o_X11_unit a h = some x → XMt l yX11_unit (ws_ yX11_unit cX11_unit 2 (some (.object "BlindCards$Node"))) fr lo D [rv a] h (ocR x.1) x.2) (o_X11_term : Nat → TH → Option ((Nat ⊕ Nat) × TH)) (ho_X11_term : ∀ (a : Nat) (h : TH) (x : ((Nat ⊕ Nat) × TH)), o_X11_term a h = some x → XMt l yX11_term (ws_ yX11_term cX11_term 2 (some (.object "BlindCards$Node"))) fr lo D [rv a] h (ocR x.1) x.2) (o_X11_sum : Nat → TH → Option ((Nat ⊕ Nat) × TH)) (ho_X11_sum : ∀ (a : Nat) (h : TH) (x : ((Nat ⊕ Nat) × TH)), o_X11_sum a h = some x → XMt l yX11_sum (ws_ yX11_sum cX11_sum 3 (some (.object "BlindCards$Node"))) fr lo D [rv a] h (ocR x.1) x.2) (o_X11_one : Nat → TH → Option ((Nat ⊕ Nat) × TH)) (ho_X11_one : ∀ (a : Nat) (h : TH) (x : ((Nat ⊕ Nat) × TH)), o_X11_one a h = some x → XMt l yX11_one (ws_ yX11_one cX11_one 3 (some (.object "BlindCards$Node"))) fr lo D [rv a] h (ocR x.1) x.2) (o_X11_all : Nat → TH → Option ((Nat ⊕ Nat) × TH)) (ho_X11_all : ∀ (a : Nat) (h : TH) (x : ((Nat ⊕ Nat) × TH)), o_X11_all a h = some x → XMt l yX11_all (ws_ yX11_all cX11_all 2 (some (.object "BlindCards$Node"))) fr lo D [rv a] h (ocR x.1) x.2) (o_X11_both : Nat → TH → Option ((Nat ⊕ Nat) × TH)) (ho_X11_both : ∀ (a : Nat) (h : TH) (x : ((Nat ⊕ Nat) × TH)), o_X11_both a h = some x → XMt l yX11_both (ws_ yX11_both cX11_both 2 (some (.object "BlindCards$Node"))) fr lo D [rv a] h (ocR x.1) x.2) (a0 : Nat) (h : TH) (x : ((Nat ⊕ Nat) × TH)) (hF : B_X11_all D.2.2.2 o_X11_unit o_X11_term o_X11_sum o_X11_one o_X11_all o_X11_both a0 h = some x) : XMt l yX11_all (ws_ yX11_all cX11_all 2 (some (.object "BlindCards$Node"))) (fr + 1) (lo + 22) D [rv a0] h (ocR x.1) x.2 := by
  refine x_met (by decide +kernel) ?_ ?_
  · simp [lg_sl, rv_cat, cat_i, cat_l]
  intro p e s m below meth c hC hr hnh hin ls hl hX
  replace hl : lv_has ls 2 [(0, rv a0)] := by simpa [lv_args, rv_cat, cat_i, cat_l] using hl
  exact w_X11_all_g hC hr hnh hin hfr hlo o_X11_unit ho_X11_unit o_X11_term ho_X11_term o_X11_sum ho_X11_sum o_X11_one ho_X11_one o_X11_all ho_X11_all o_X11_both ho_X11_both a0 h hF s.heap [] 0 0 ls hX hl
def B_X11_both_L5 (K : Nat → Nat) (o_X11_unit : Nat → TH → Option ((Nat ⊕ Nat) × TH)) (o_X11_term : Nat → TH → Option ((Nat ⊕ Nat) × TH)) (o_X11_sum : Nat → TH → Option ((Nat ⊕ Nat) × TH)) (o_X11_one : Nat → TH → Option ((Nat ⊕ Nat) × TH)) (o_X11_all : Nat → TH → Option ((Nat ⊕ Nat) × TH)) (o_X11_both : Nat → TH → Option ((Nat ⊕ Nat) × TH)) : Nat → Nat → Nat → TH → Option ((Nat ⊕ Nat) × TH)
  | 0, _, _, _ => none
  | fu + 1, x0, x1, h =>
    lt ((K 9)) fun r_1 =>
    gd (hT h x0 = 7) <|
    bd (F_X11_is K h x0 r_1) fun r_4 =>
    if r_4 = 0 then
      some (.inl x1, h)
    else
      gd (hT h x0 = 7) <|
      bd (F_X11_go K x0 h) fun h_8 =>
      gd (hc h_8 + 1 ≤ XC ∧ hs h_8 + 3 ≤ XS) <|
      lt (hz h_8 + 1) fun r_10 =>
      lt (nO h_8 13 3) fun h_11 =>
      gd (hT h_11 x0 = 7) <|
      bt (o_X11_all x0 h_11) fun r_14 h_15 =>
      gd (r_10 ≠ 0) <|
      bd (F_X15_init K r_10 x1 r_14 (124 : Int32) h_15) fun h_19 =>
      B_X11_both_L5 K o_X11_unit o_X11_term o_X11_sum o_X11_one o_X11_all o_X11_both fu x0 r_10 h_19
set_option maxHeartbeats 4000000 in
theorem w_X11_both_L5_g {p : Program} {l : Launch} {e : Env} {s : State} {m : MethodId} {args : Array Value} {below : List Frame} {meth : Method} {c : Code} {D : XD} {h0 : TH} {fr lo : Nat} (hC : XCx D cX11_both 2 RX11 h0 p (xRm (fr + 1) (lo + 22) h0) s m args meth c) (hr : meth.sig.returnType = some (.object "BlindCards$Node")) (hnh : c.exceptionTable.isEmpty = true) (hin : meth.name = "both") (hfr : 8 ≤ fr) (hlo : 215 ≤ lo) (o_X11_unit : Nat → TH → Option ((Nat ⊕ Nat) × TH)) (ho_X11_unit : ∀ (a : Nat) (h : TH) (x : ((Nat ⊕ Nat) × TH)), o_X11_unit a h = some x → XMt l yX11_unit (ws_ yX11_unit cX11_unit 2 (some (.object "BlindCards$Node"))) fr lo D [rv a] h (ocR x.1) x.2) (o_X11_term : Nat → TH → Option ((Nat ⊕ Nat) × TH)) (ho_X11_term : ∀ (a : Nat) (h : TH) (x : ((Nat ⊕ Nat) × TH)), o_X11_term a h = some x → XMt l yX11_term (ws_ yX11_term cX11_term 2 (some (.object "BlindCards$Node"))) fr lo D [rv a] h (ocR x.1) x.2) (o_X11_sum : Nat → TH → Option ((Nat ⊕ Nat) × TH)) (ho_X11_sum : ∀ (a : Nat) (h : TH) (x : ((Nat ⊕ Nat) × TH)), o_X11_sum a h = some x → XMt l yX11_sum (ws_ yX11_sum cX11_sum 3 (some (.object "BlindCards$Node"))) fr lo D [rv a] h (ocR x.1) x.2) (o_X11_one : Nat → TH → Option ((Nat ⊕ Nat) × TH)) (ho_X11_one : ∀ (a : Nat) (h : TH) (x : ((Nat ⊕ Nat) × TH)), o_X11_one a h = some x → XMt l yX11_one (ws_ yX11_one cX11_one 3 (some (.object "BlindCards$Node"))) fr lo D [rv a] h (ocR x.1) x.2) (o_X11_all : Nat → TH → Option ((Nat ⊕ Nat) × TH)) (ho_X11_all : ∀ (a : Nat) (h : TH) (x : ((Nat ⊕ Nat) × TH)), o_X11_all a h = some x → XMt l yX11_all (ws_ yX11_all cX11_all 2 (some (.object "BlindCards$Node"))) fr lo D [rv a] h (ocR x.1) x.2) (o_X11_both : Nat → TH → Option ((Nat ⊕ Nat) × TH)) (ho_X11_both : ∀ (a : Nat) (h : TH) (x : ((Nat ⊕ Nat) × TH)), o_X11_both a h = some x → XMt l yX11_both (ws_ yX11_both cX11_both 2 (some (.object "BlindCards$Node"))) fr lo D [rv a] h (ocR x.1) x.2) {x : ((Nat ⊕ Nat) × TH)} :
    ∀ (fu : Nat) (x0 : Nat) (x1 : Nat) (h : TH), B_X11_both_L5 D.2.2.2 o_X11_unit o_X11_term o_X11_sum o_X11_one o_X11_all o_X11_both fu x0 x1 h = some x → XJ p l e (xRm (fr + 1) (lo + 22) h0) s m args below meth c D 2 (ocR x.1) h0 x.2 5 [(0, rv x0), (1, rv x1)] [] h := by
  have hx := hC.1
  have hb := hC.2.1
  intro fu
  induction fu with
  | zero => intro x0 x1 h hF; exact nm_none hF
  | succ fu ih =>
    intro x0 x1 h hF H locs cells slots ls hX hl
    rw [B_X11_both_L5] at hF
    refine X_aload_n hx hb dX11_both_5 rfl (lv_at hl 0 rfl) ?_
    refine X_ldcS hC (i := 9) (List.mem_of_getElem? (i := 9) rfl) dX11_both_6 ?_
    refine lv_topr (fun r_1 er_1 => ?_)
    replace hF := lt_at hF er_1
    obtain ⟨h_2, hF⟩ := gd_ok hF
    obtain ⟨r_4, hc_3, hF⟩ := bd_ok hF
    refine iX_X11_86 hC hX h_2 hc_3 hl.1 (Nat.le_of_ble_eq_true rfl) (by show _ ≤ fr + 1; omega) (by show _ ≤ lo + 22; omega) dX11_both_8 (fun H locs cells slots hX => ?_)
    refine lv_if_eq (tgt := 36) hx hb dX11_both_11 (by decide) (fun c_5 => ?_) (fun c_5 => ?_)
    · replace hF := it_t hF c_5
      refine X_aload_n hx hb dX11_both_36 rfl (lv_at hl 1 rfl) ?_
      cases hF
      exact x_reta hC hX hr (Or.inl ⟨_, rfl⟩) rfl rfl dX11_both_37
    · replace hF := it_f hF c_5
      refine X_aload_n hx hb dX11_both_14 rfl (lv_at hl 0 rfl) ?_
      obtain ⟨h_6, hF⟩ := gd_ok hF
      obtain ⟨h_8, hc_7, hF⟩ := bd_ok hF
      refine iX_X11_94 hC hX h_6 hc_7 hl.1 (Nat.le_of_ble_eq_true rfl) (by show _ ≤ fr + 1; omega) (by show _ ≤ lo + 22; omega) dX11_both_15 (fun H locs cells slots hX => ?_)
      obtain ⟨h_9, hF⟩ := gd_ok hF
      refine nX_X11_326 hC hX h_9 dX11_both_18 (fun H cells slots hX => ?_)
      refine lv_topr (fun r_10 er_10 => ?_)
      replace hF := lt_at hF er_10
      obtain ⟨h_11, eh_11, hF⟩ := lt_ok hF
      rw [← eh_11] at hX
      refine lv_dup hx hb dX11_both_21 (rv_cat _) ?_
      refine X_aload_n hx hb dX11_both_22 rfl (lv_at hl 1 rfl) ?_
      refine X_aload_n hx hb dX11_both_23 rfl (lv_at hl 0 rfl) ?_
      obtain ⟨h_12, hF⟩ := gd_ok hF
      rcases bt_ok hF with ⟨r_14, h_15, hc_13, hF⟩ | ⟨z_16, h_15, hc_13, hxx⟩
      rotate_left
      · subst hxx
        exact iXo_X11_324_t hC hX hnh h_12 (ho_X11_all x0 h_11 _ hc_13) hl.1 (cat4 (Nat.le_of_ble_eq_true rfl)) (by show _ ≤ fr + 1; omega) (by show _ ≤ lo + 22; omega) dX11_both_24
      refine iXo_X11_324 hC hX h_12 (ho_X11_all x0 h_11 _ hc_13) hl.1 (cat4 (Nat.le_of_ble_eq_true rfl)) (by show _ ≤ fr + 1; omega) (by show _ ≤ lo + 22; omega) dX11_both_24 (fun H locs cells slots hX => ?_)
      refine lv_bipush (v := 124) hx hb dX11_both_27 (by decide) ?_
      obtain ⟨h_17, hF⟩ := gd_ok hF
      obtain ⟨h_19, hc_18, hF⟩ := bd_ok hF
      refine iX_X11_328 hC hX h_17 hc_18 hl.1 (cat4 (Nat.le_of_ble_eq_true rfl)) (by show _ ≤ fr + 1; omega) (by show _ ≤ lo + 22; omega) dX11_both_29 (fun H locs cells slots hX => ?_)
      refine X_astore_n (i := 1) hx hb dX11_both_32 rfl hl (by decide) rfl (fun ls hl => ?_)
      replace hl : lv_has ls 2 [(1, rv r_10), (0, rv x0)] := lv_subS hl (List.forall_mem_cons.mpr ⟨Or.inl rfl, (List.forall_mem_cons.mpr ⟨Or.inr ⟨List.mem_of_getElem? (i := 0) rfl, by simp [rv_cat]⟩, (fun _ h => nomatch h)⟩)⟩)
      refine lv_goto (tgt := 5) hx hb dX11_both_33 (by decide) ?_
      exact ih x0 r_10 h_19 hF H locs cells slots ls hX (lv_sub hl [1, 0] rfl)
def B_X11_both (K : Nat → Nat) (o_X11_unit : Nat → TH → Option ((Nat ⊕ Nat) × TH)) (o_X11_term : Nat → TH → Option ((Nat ⊕ Nat) × TH)) (o_X11_sum : Nat → TH → Option ((Nat ⊕ Nat) × TH)) (o_X11_one : Nat → TH → Option ((Nat ⊕ Nat) × TH)) (o_X11_all : Nat → TH → Option ((Nat ⊕ Nat) × TH)) (o_X11_both : Nat → TH → Option ((Nat ⊕ Nat) × TH)) (a0 : Nat) (h : TH) : Option ((Nat ⊕ Nat) × TH) :=
  gd (hT h a0 = 7) <|
  bt (o_X11_all a0 h) fun r_3 h_4 =>
  B_X11_both_L5 K o_X11_unit o_X11_term o_X11_sum o_X11_one o_X11_all o_X11_both MN a0 r_3 h_4
set_option maxHeartbeats 4000000 in
theorem w_X11_both_g {p : Program} {l : Launch} {e : Env} {s : State} {m : MethodId} {args : Array Value} {below : List Frame} {meth : Method} {c : Code} {D : XD} {h0 : TH} {fr lo : Nat} (hC : XCx D cX11_both 2 RX11 h0 p (xRm (fr + 1) (lo + 22) h0) s m args meth c) (hr : meth.sig.returnType = some (.object "BlindCards$Node")) (hnh : c.exceptionTable.isEmpty = true) (hin : meth.name = "both") (hfr : 8 ≤ fr) (hlo : 215 ≤ lo) (o_X11_unit : Nat → TH → Option ((Nat ⊕ Nat) × TH)) (ho_X11_unit : ∀ (a : Nat) (h : TH) (x : ((Nat ⊕ Nat) × TH)), o_X11_unit a h = some x → XMt l yX11_unit (ws_ yX11_unit cX11_unit 2 (some (.object "BlindCards$Node"))) fr lo D [rv a] h (ocR x.1) x.2) (o_X11_term : Nat → TH → Option ((Nat ⊕ Nat) × TH)) (ho_X11_term : ∀ (a : Nat) (h : TH) (x : ((Nat ⊕ Nat) × TH)), o_X11_term a h = some x → XMt l yX11_term (ws_ yX11_term cX11_term 2 (some (.object "BlindCards$Node"))) fr lo D [rv a] h (ocR x.1) x.2) (o_X11_sum : Nat → TH → Option ((Nat ⊕ Nat) × TH)) (ho_X11_sum : ∀ (a : Nat) (h : TH) (x : ((Nat ⊕ Nat) × TH)), o_X11_sum a h = some x → XMt l yX11_sum (ws_ yX11_sum cX11_sum 3 (some (.object "BlindCards$Node"))) fr lo D [rv a] h (ocR x.1) x.2) (o_X11_one : Nat → TH → Option ((Nat ⊕ Nat) × TH)) (ho_X11_one : ∀ (a : Nat) (h : TH) (x : ((Nat ⊕ Nat) × TH)), o_X11_one a h = some x → XMt l yX11_one (ws_ yX11_one cX11_one 3 (some (.object "BlindCards$Node"))) fr lo D [rv a] h (ocR x.1) x.2) (o_X11_all : Nat → TH → Option ((Nat ⊕ Nat) × TH)) (ho_X11_all : ∀ (a : Nat) (h : TH) (x : ((Nat ⊕ Nat) × TH)), o_X11_all a h = some x → XMt l yX11_all (ws_ yX11_all cX11_all 2 (some (.object "BlindCards$Node"))) fr lo D [rv a] h (ocR x.1) x.2) (o_X11_both : Nat → TH → Option ((Nat ⊕ Nat) × TH)) (ho_X11_both : ∀ (a : Nat) (h : TH) (x : ((Nat ⊕ Nat) × TH)), o_X11_both a h = some x → XMt l yX11_both (ws_ yX11_both cX11_both 2 (some (.object "BlindCards$Node"))) fr lo D [rv a] h (ocR x.1) x.2) {x : ((Nat ⊕ Nat) × TH)} :
    ∀ (a0 : Nat) (h : TH), B_X11_both D.2.2.2 o_X11_unit o_X11_term o_X11_sum o_X11_one o_X11_all o_X11_both a0 h = some x → XJ p l e (xRm (fr + 1) (lo + 22) h0) s m args below meth c D 2 (ocR x.1) h0 x.2 0 [(0, rv a0)] [] h := by
  have hx := hC.1
  have hb := hC.2.1
  intro a0 h hF H locs cells slots ls hX hl
  rw [B_X11_both] at hF
  refine X_aload_n hx hb dX11_both_0 rfl (lv_at hl 0 rfl) ?_
  obtain ⟨h_1, hF⟩ := gd_ok hF
  rcases bt_ok hF with ⟨r_3, h_4, hc_2, hF⟩ | ⟨z_5, h_4, hc_2, hxx⟩
  rotate_left
  · subst hxx
    exact iXo_X11_324_t hC hX hnh h_1 (ho_X11_all a0 h _ hc_2) hl.1 (Nat.le_of_ble_eq_true rfl) (by show _ ≤ fr + 1; omega) (by show _ ≤ lo + 22; omega) dX11_both_1
  refine iXo_X11_324 hC hX h_1 (ho_X11_all a0 h _ hc_2) hl.1 (Nat.le_of_ble_eq_true rfl) (by show _ ≤ fr + 1; omega) (by show _ ≤ lo + 22; omega) dX11_both_1 (fun H locs cells slots hX => ?_)
  refine X_astore_n (i := 1) hx hb dX11_both_4 rfl hl (by decide) rfl (fun ls hl => ?_)
  replace hl : lv_has ls 2 [(1, rv r_3), (0, rv a0)] := lv_subS hl (List.forall_mem_cons.mpr ⟨Or.inl rfl, (List.forall_mem_cons.mpr ⟨Or.inr ⟨List.mem_of_getElem? (i := 0) rfl, by simp [rv_cat]⟩, (fun _ h => nomatch h)⟩)⟩)
  exact w_X11_both_L5_g hC hr hnh hin hfr hlo o_X11_unit ho_X11_unit o_X11_term ho_X11_term o_X11_sum ho_X11_sum o_X11_one ho_X11_one o_X11_all ho_X11_all o_X11_both ho_X11_both MN a0 r_3 h_4 hF H locs cells slots ls hX (lv_sub hl [1, 0] rfl)
theorem mb_X11_both (l : Launch) (D : XD) {fr lo : Nat} (hfr : 8 ≤ fr) (hlo : 215 ≤ lo) (o_X11_unit : Nat → TH → Option ((Nat ⊕ Nat) × TH)) (ho_X11_unit : ∀ (a : Nat) (h : TH) (x : ((Nat ⊕ Nat) × TH)), o_X11_unit a h = some x → XMt l yX11_unit (ws_ yX11_unit cX11_unit 2 (some (.object "BlindCards$Node"))) fr lo D [rv a] h (ocR x.1) x.2) (o_X11_term : Nat → TH → Option ((Nat ⊕ Nat) × TH)) (ho_X11_term : ∀ (a : Nat) (h : TH) (x : ((Nat ⊕ Nat) × TH)), o_X11_term a h = some x → XMt l yX11_term (ws_ yX11_term cX11_term 2 (some (.object "BlindCards$Node"))) fr lo D [rv a] h (ocR x.1) x.2) (o_X11_sum : Nat → TH → Option ((Nat ⊕ Nat) × TH)) (ho_X11_sum : ∀ (a : Nat) (h : TH) (x : ((Nat ⊕ Nat) × TH)), o_X11_sum a h = some x → XMt l yX11_sum (ws_ yX11_sum cX11_sum 3 (some (.object "BlindCards$Node"))) fr lo D [rv a] h (ocR x.1) x.2) (o_X11_one : Nat → TH → Option ((Nat ⊕ Nat) × TH)) (ho_X11_one : ∀ (a : Nat) (h : TH) (x : ((Nat ⊕ Nat) × TH)), o_X11_one a h = some x → XMt l yX11_one (ws_ yX11_one cX11_one 3 (some (.object "BlindCards$Node"))) fr lo D [rv a] h (ocR x.1) x.2) (o_X11_all : Nat → TH → Option ((Nat ⊕ Nat) × TH)) (ho_X11_all : ∀ (a : Nat) (h : TH) (x : ((Nat ⊕ Nat) × TH)), o_X11_all a h = some x → XMt l yX11_all (ws_ yX11_all cX11_all 2 (some (.object "BlindCards$Node"))) fr lo D [rv a] h (ocR x.1) x.2) (o_X11_both : Nat → TH → Option ((Nat ⊕ Nat) × TH)) (ho_X11_both : ∀ (a : Nat) (h : TH) (x : ((Nat ⊕ Nat) × TH)), o_X11_both a h = some x → XMt l yX11_both (ws_ yX11_both cX11_both 2 (some (.object "BlindCards$Node"))) fr lo D [rv a] h (ocR x.1) x.2) (a0 : Nat) (h : TH) (x : ((Nat ⊕ Nat) × TH)) (hF : B_X11_both D.2.2.2 o_X11_unit o_X11_term o_X11_sum o_X11_one o_X11_all o_X11_both a0 h = some x) : XMt l yX11_both (ws_ yX11_both cX11_both 2 (some (.object "BlindCards$Node"))) (fr + 1) (lo + 22) D [rv a0] h (ocR x.1) x.2 := by
  refine x_met (by decide +kernel) ?_ ?_
  · simp [lg_sl, rv_cat, cat_i, cat_l]
  intro p e s m below meth c hC hr hnh hin ls hl hX
  replace hl : lv_has ls 2 [(0, rv a0)] := by simpa [lv_args, rv_cat, cat_i, cat_l] using hl
  exact w_X11_both_g hC hr hnh hin hfr hlo o_X11_unit ho_X11_unit o_X11_term ho_X11_term o_X11_sum ho_X11_sum o_X11_one ho_X11_one o_X11_all ho_X11_all o_X11_both ho_X11_both a0 h hF s.heap [] 0 0 ls hX hl
def G_X11_both (K : Nat → Nat) : Nat → (Nat → TH → Option ((Nat ⊕ Nat) × TH)) × (Nat → TH → Option ((Nat ⊕ Nat) × TH)) × (Nat → TH → Option ((Nat ⊕ Nat) × TH)) × (Nat → TH → Option ((Nat ⊕ Nat) × TH)) × (Nat → TH → Option ((Nat ⊕ Nat) × TH)) × (Nat → TH → Option ((Nat ⊕ Nat) × TH))
  | 0 => (fun _ _ => none, fun _ _ => none, fun _ _ => none, fun _ _ => none, fun _ _ => none, fun _ _ => none)
  | d + 1 => (B_X11_unit K (G_X11_both K d).1 (G_X11_both K d).2.1 (G_X11_both K d).2.2.1 (G_X11_both K d).2.2.2.1 (G_X11_both K d).2.2.2.2.1 (G_X11_both K d).2.2.2.2.2, B_X11_term K (G_X11_both K d).1 (G_X11_both K d).2.1 (G_X11_both K d).2.2.1 (G_X11_both K d).2.2.2.1 (G_X11_both K d).2.2.2.2.1 (G_X11_both K d).2.2.2.2.2, B_X11_sum K (G_X11_both K d).1 (G_X11_both K d).2.1 (G_X11_both K d).2.2.1 (G_X11_both K d).2.2.2.1 (G_X11_both K d).2.2.2.2.1 (G_X11_both K d).2.2.2.2.2, B_X11_one K (G_X11_both K d).1 (G_X11_both K d).2.1 (G_X11_both K d).2.2.1 (G_X11_both K d).2.2.2.1 (G_X11_both K d).2.2.2.2.1 (G_X11_both K d).2.2.2.2.2, B_X11_all K (G_X11_both K d).1 (G_X11_both K d).2.1 (G_X11_both K d).2.2.1 (G_X11_both K d).2.2.2.1 (G_X11_both K d).2.2.2.2.1 (G_X11_both K d).2.2.2.2.2, B_X11_both K (G_X11_both K d).1 (G_X11_both K d).2.1 (G_X11_both K d).2.2.1 (G_X11_both K d).2.2.2.1 (G_X11_both K d).2.2.2.2.1 (G_X11_both K d).2.2.2.2.2)
theorem pG_X11_both (l : Launch) (D : XD) : ∀ d : Nat, (∀ (a : Nat) (h : TH) (x : ((Nat ⊕ Nat) × TH)), (G_X11_both D.2.2.2 d).1 a h = some x → XMt l yX11_unit (ws_ yX11_unit cX11_unit 2 (some (.object "BlindCards$Node"))) (8 + d) (215 + 22 * d) D [rv a] h (ocR x.1) x.2) ∧ (∀ (a : Nat) (h : TH) (x : ((Nat ⊕ Nat) × TH)), (G_X11_both D.2.2.2 d).2.1 a h = some x → XMt l yX11_term (ws_ yX11_term cX11_term 2 (some (.object "BlindCards$Node"))) (8 + d) (215 + 22 * d) D [rv a] h (ocR x.1) x.2) ∧ (∀ (a : Nat) (h : TH) (x : ((Nat ⊕ Nat) × TH)), (G_X11_both D.2.2.2 d).2.2.1 a h = some x → XMt l yX11_sum (ws_ yX11_sum cX11_sum 3 (some (.object "BlindCards$Node"))) (8 + d) (215 + 22 * d) D [rv a] h (ocR x.1) x.2) ∧ (∀ (a : Nat) (h : TH) (x : ((Nat ⊕ Nat) × TH)), (G_X11_both D.2.2.2 d).2.2.2.1 a h = some x → XMt l yX11_one (ws_ yX11_one cX11_one 3 (some (.object "BlindCards$Node"))) (8 + d) (215 + 22 * d) D [rv a] h (ocR x.1) x.2) ∧ (∀ (a : Nat) (h : TH) (x : ((Nat ⊕ Nat) × TH)), (G_X11_both D.2.2.2 d).2.2.2.2.1 a h = some x → XMt l yX11_all (ws_ yX11_all cX11_all 2 (some (.object "BlindCards$Node"))) (8 + d) (215 + 22 * d) D [rv a] h (ocR x.1) x.2) ∧ (∀ (a : Nat) (h : TH) (x : ((Nat ⊕ Nat) × TH)), (G_X11_both D.2.2.2 d).2.2.2.2.2 a h = some x → XMt l yX11_both (ws_ yX11_both cX11_both 2 (some (.object "BlindCards$Node"))) (8 + d) (215 + 22 * d) D [rv a] h (ocR x.1) x.2) := by
  intro d
  induction d with
  | zero => exact ⟨fun _ _ _ h => nm_none h, fun _ _ _ h => nm_none h, fun _ _ _ h => nm_none h, fun _ _ _ h => nm_none h, fun _ _ _ h => nm_none h, fun _ _ _ h => nm_none h⟩
  | succ d ih =>
    have e : 215 + 22 * (d + 1) = 215 + 22 * d + 22 := by omega
    rw [e]
    exact ⟨mb_X11_unit l D (Nat.le_add_right _ _) (Nat.le_add_right _ _) _ ih.1 _ ih.2.1 _ ih.2.2.1 _ ih.2.2.2.1 _ ih.2.2.2.2.1 _ ih.2.2.2.2.2, mb_X11_term l D (Nat.le_add_right _ _) (Nat.le_add_right _ _) _ ih.1 _ ih.2.1 _ ih.2.2.1 _ ih.2.2.2.1 _ ih.2.2.2.2.1 _ ih.2.2.2.2.2, mb_X11_sum l D (Nat.le_add_right _ _) (Nat.le_add_right _ _) _ ih.1 _ ih.2.1 _ ih.2.2.1 _ ih.2.2.2.1 _ ih.2.2.2.2.1 _ ih.2.2.2.2.2, mb_X11_one l D (Nat.le_add_right _ _) (Nat.le_add_right _ _) _ ih.1 _ ih.2.1 _ ih.2.2.1 _ ih.2.2.2.1 _ ih.2.2.2.2.1 _ ih.2.2.2.2.2, mb_X11_all l D (Nat.le_add_right _ _) (Nat.le_add_right _ _) _ ih.1 _ ih.2.1 _ ih.2.2.1 _ ih.2.2.2.1 _ ih.2.2.2.2.1 _ ih.2.2.2.2.2, mb_X11_both l D (Nat.le_add_right _ _) (Nat.le_add_right _ _) _ ih.1 _ ih.2.1 _ ih.2.2.1 _ ih.2.2.2.1 _ ih.2.2.2.2.1 _ ih.2.2.2.2.2⟩
def F_X11_unit (K : Nat → Nat) (a : Nat) (h : TH) : Option ((Nat ⊕ Nat) × TH) := (G_X11_both K 80).1 a h
theorem m_X11_unit (l : Launch) (D : XD) (a : Nat) (h : TH) (x : ((Nat ⊕ Nat) × TH)) (hF : F_X11_unit D.2.2.2 a h = some x) : XMt l yX11_unit (ws_ yX11_unit cX11_unit 2 (some (.object "BlindCards$Node"))) 88 1975 D [rv a] h (ocR x.1) x.2 := (pG_X11_both l D 80).1 a h x hF
def F_X11_term (K : Nat → Nat) (a : Nat) (h : TH) : Option ((Nat ⊕ Nat) × TH) := (G_X11_both K 80).2.1 a h
theorem m_X11_term (l : Launch) (D : XD) (a : Nat) (h : TH) (x : ((Nat ⊕ Nat) × TH)) (hF : F_X11_term D.2.2.2 a h = some x) : XMt l yX11_term (ws_ yX11_term cX11_term 2 (some (.object "BlindCards$Node"))) 88 1975 D [rv a] h (ocR x.1) x.2 := (pG_X11_both l D 80).2.1 a h x hF
def F_X11_sum (K : Nat → Nat) (a : Nat) (h : TH) : Option ((Nat ⊕ Nat) × TH) := (G_X11_both K 80).2.2.1 a h
theorem m_X11_sum (l : Launch) (D : XD) (a : Nat) (h : TH) (x : ((Nat ⊕ Nat) × TH)) (hF : F_X11_sum D.2.2.2 a h = some x) : XMt l yX11_sum (ws_ yX11_sum cX11_sum 3 (some (.object "BlindCards$Node"))) 88 1975 D [rv a] h (ocR x.1) x.2 := (pG_X11_both l D 80).2.2.1 a h x hF
def F_X11_one (K : Nat → Nat) (a : Nat) (h : TH) : Option ((Nat ⊕ Nat) × TH) := (G_X11_both K 80).2.2.2.1 a h
theorem m_X11_one (l : Launch) (D : XD) (a : Nat) (h : TH) (x : ((Nat ⊕ Nat) × TH)) (hF : F_X11_one D.2.2.2 a h = some x) : XMt l yX11_one (ws_ yX11_one cX11_one 3 (some (.object "BlindCards$Node"))) 88 1975 D [rv a] h (ocR x.1) x.2 := (pG_X11_both l D 80).2.2.2.1 a h x hF
def F_X11_all (K : Nat → Nat) (a : Nat) (h : TH) : Option ((Nat ⊕ Nat) × TH) := (G_X11_both K 80).2.2.2.2.1 a h
theorem m_X11_all (l : Launch) (D : XD) (a : Nat) (h : TH) (x : ((Nat ⊕ Nat) × TH)) (hF : F_X11_all D.2.2.2 a h = some x) : XMt l yX11_all (ws_ yX11_all cX11_all 2 (some (.object "BlindCards$Node"))) 88 1975 D [rv a] h (ocR x.1) x.2 := (pG_X11_both l D 80).2.2.2.2.1 a h x hF
def F_X11_both (K : Nat → Nat) (a : Nat) (h : TH) : Option ((Nat ⊕ Nat) × TH) := (G_X11_both K 80).2.2.2.2.2 a h
theorem m_X11_both (l : Launch) (D : XD) (a : Nat) (h : TH) (x : ((Nat ⊕ Nat) × TH)) (hF : F_X11_both D.2.2.2 a h = some x) : XMt l yX11_both (ws_ yX11_both cX11_both 2 (some (.object "BlindCards$Node"))) 88 1975 D [rv a] h (ocR x.1) x.2 := (pG_X11_both l D 80).2.2.2.2.2 a h x hF
theorem iX_X11_214 {p : Program} {l : Launch} {e : Env} {R : Room} {s : State} {m : MethodId} {args : Array Value} {below : List Frame} {meth : Method} {c : Code} {H : Heap} {locs : List Loc} {cells slots nL : Nat} {Q : State → Prop} {D : XD} {h0 h : TH} {cc : ByteArray} {pc : Nat} {ls : Array Slot} {rest : List Value} (hC : XCx D cc nL RX11 h0 p R s m args meth c) (hX : XSt D s h0 h H locs cells slots) {a : Nat} {x : Int32} (ht : hT h a = 7) (hcF : F_X11_isMove D.2.2.2 h a = some x) (hl : ls.size = nL) (hW : (rest.map fun v => v.category).sum ≤ 8) (hRf : 4 + 1 ≤ R.frames) (hRl : 105 ≤ R.locals) (hdg : decode cc pc = .ok (.invokevirtual 214, 3)) (kk : ∀ (H1 : Heap) (locs1 : List Loc) (cells1 slots1 : Nat), XSt D s h0 h H1 locs1 cells1 slots1 → W p l e R s m args below meth c H1 locs1 cells1 slots1 Q (F0 m (pc + 3) ls (.int x :: rest))) : W p l e R s m args below meth c H locs cells slots Q (F0 m pc ls (rv a :: rest)) := by
  have q := ht
  exact X_callV hC hX (by rw [q]; decide) (by rw [q]; rfl) (As := []) (m_X11_isMove l D a h _ hcF) (cwV 0 hC.2.2.2.2.1 (lw_V q1265 q1267 qs24 q146 q1268) rfl rfl rfl (by decide +kernel) ⟨Nat.le_trans (Nat.le_of_ble_eq_true rfl) hRf, Nat.le_trans (Nat.le_of_ble_eq_true rfl) hRl⟩) rfl rfl hl hW hdg kk
theorem gX_X11_227 {p : Program} {l : Launch} {e : Env} {R : Room} {s : State} {m : MethodId} {args : Array Value} {below : List Frame} {meth : Method} {c : Code} {H : Heap} {locs : List Loc} {cells slots nL : Nat} {Q : State → Prop} {D : XD} {h0 h : TH} {cc : ByteArray} {pc : Nat} {ls : Array Slot} {rest : List Value} (hC : XCx D cc nL RX11 h0 p R s m args meth c) (hX : XSt D s h0 h H locs cells slots) {a : Nat} (hf : hasF (hT h a) 32 = true) (hdg : decode cc pc = .ok (.getfield 227, 3)) (kk : W p l e R s m args below meth c H locs cells slots Q (F0 m (pc + 3) ls (rv (hR h 32 a) :: rest))) : W p l e R s m args below meth c H locs cells slots Q (F0 m pc ls (rv a :: rest)) :=
  X_getr hC hX 32 hf rfl (fun q => absurd q (by decide)) q226 (fun _ h => h) hdg kk
theorem iX_X11_163 {p : Program} {l : Launch} {e : Env} {R : Room} {s : State} {m : MethodId} {args : Array Value} {below : List Frame} {meth : Method} {c : Code} {H : Heap} {locs : List Loc} {cells slots nL : Nat} {Q : State → Prop} {D : XD} {h0 h : TH} {cc : ByteArray} {pc : Nat} {ls : Array Slot} {rest : List Value} (hC : XCx D cc nL RX11 h0 p R s m args meth c) (hX : XSt D s h0 h H locs cells slots) {a : Nat} {x : Int32} (ht : hT h a = 3) (hcF : F_J2_size D.2.2.2 h a = some x) (hl : ls.size = nL) (hW : (rest.map fun v => v.category).sum ≤ 8) (hRf : 0 + 1 ≤ R.frames) (hRl : 20 ≤ R.locals) (hdg : decode cc pc = .ok (.invokevirtual 163, 3)) (kk : ∀ (H1 : Heap) (locs1 : List Loc) (cells1 slots1 : Nat), XSt D s h0 h H1 locs1 cells1 slots1 → W p l e R s m args below meth c H1 locs1 cells1 slots1 Q (F0 m (pc + 3) ls (.int x :: rest))) : W p l e R s m args below meth c H locs cells slots Q (F0 m pc ls (rv a :: rest)) := by
  have q := ht
  exact X_callV hC hX (by rw [q]; decide) (by rw [q]; rfl) (As := []) (m_J2_size l D a h _ hcF) (cwV 0 hC.2.2.2.2.1 (lw_V q1279 q488 q489 q129 q490) rfl rfl rfl (by decide +kernel) ⟨Nat.le_trans (Nat.le_of_ble_eq_true rfl) hRf, Nat.le_trans (Nat.le_of_ble_eq_true rfl) hRl⟩) rfl rfl hl hW hdg kk
theorem iX_X11_230 {p : Program} {l : Launch} {e : Env} {R : Room} {s : State} {m : MethodId} {args : Array Value} {below : List Frame} {meth : Method} {c : Code} {H : Heap} {locs : List Loc} {cells slots nL : Nat} {Q : State → Prop} {D : XD} {h0 h : TH} {cc : ByteArray} {pc : Nat} {ls : Array Slot} {rest : List Value} {h1 : TH} (hC : XCx D cc nL RX11 h0 p R s m args meth c) (hX : XSt D s h0 h H locs cells slots) {a : Nat} {x : Nat} (ht : hT h a = 7) (hcF : F_X11_open D.2.2.2 a h = some (.inl x, h1)) (hl : ls.size = nL) (hW : (rest.map fun v => v.category).sum ≤ 8) (hRf : 9 + 1 ≤ R.frames) (hRl : 261 ≤ R.locals) (hdg : decode cc pc = .ok (.invokevirtual 230, 3)) (kk : ∀ (H1 : Heap) (locs1 : List Loc) (cells1 slots1 : Nat), XSt D s h0 h1 H1 locs1 cells1 slots1 → W p l e R s m args below meth c H1 locs1 cells1 slots1 Q (F0 m (pc + 3) ls (rv x :: rest))) : W p l e R s m args below meth c H locs cells slots Q (F0 m pc ls (rv a :: rest)) := by
  have q := ht
  exact X_callV hC hX (by rw [q]; decide) (by rw [q]; rfl) (As := []) (m_X11_open l D a h _ hcF) (cwV 0 hC.2.2.2.2.1 (lw_V q1365 q1367 qs31 q146 q1368) rfl rfl rfl (by decide +kernel) ⟨Nat.le_trans (Nat.le_of_ble_eq_true rfl) hRf, Nat.le_trans (Nat.le_of_ble_eq_true rfl) hRl⟩) rfl rfl hl hW hdg kk
theorem iX_X11_230_t {p : Program} {l : Launch} {e : Env} {R : Room} {s : State} {m : MethodId} {args : Array Value} {below : List Frame} {meth : Method} {c : Code} {H : Heap} {locs : List Loc} {cells slots nL : Nat} {D : XD} {h0 h : TH} {cc : ByteArray} {pc : Nat} {ls : Array Slot} {rest : List Value} {h1 : TH} (hC : XCx D cc nL RX11 h0 p R s m args meth c) (hX : XSt D s h0 h H locs cells slots) (hnh : c.exceptionTable.isEmpty = true) {a : Nat} {x : Nat} (ht : hT h a = 7) (hcF : F_X11_open D.2.2.2 a h = some (.inr x, h1)) (hl : ls.size = nL) (hW : (rest.map fun v => v.category).sum ≤ 8) (hRf : 9 + 1 ≤ R.frames) (hRl : 261 ≤ R.locals) (hdg : decode cc pc = .ok (.invokevirtual 230, 3)) : W p l e R s m args below meth c H locs cells slots (XMQ below D (.threw (x - 1)) h0 h1 s) (F0 m pc ls (rv a :: rest)) := by
  have q := ht
  exact X_callVT hC hX hnh (by rw [q]; decide) (by rw [q]; rfl) (As := []) (m_X11_open l D a h _ hcF) (cwV 0 hC.2.2.2.2.1 (lw_V q1365 q1367 qs31 q146 q1368) rfl rfl rfl (by decide +kernel) ⟨Nat.le_trans (Nat.le_of_ble_eq_true rfl) hRf, Nat.le_trans (Nat.le_of_ble_eq_true rfl) hRl⟩) rfl rfl hl hW hdg rfl
theorem iX_X11_224 {p : Program} {l : Launch} {e : Env} {R : Room} {s : State} {m : MethodId} {args : Array Value} {below : List Frame} {meth : Method} {c : Code} {H : Heap} {locs : List Loc} {cells slots nL : Nat} {Q : State → Prop} {D : XD} {h0 h : TH} {cc : ByteArray} {pc : Nat} {ls : Array Slot} {rest : List Value} {h1 : TH} (hC : XCx D cc nL RX11 h0 p R s m args meth c) (hX : XSt D s h0 h H locs cells slots) {a : Nat} {b0 : Nat} {x : Int32} (ht : hT h a = 3) (hcF : F_J2_add D.2.2.2 a b0 h = some (x, h1)) (hl : ls.size = nL) (hW : (rest.map fun v => v.category).sum ≤ 8) (hRf : 6 + 1 ≤ R.frames) (hRl : 191 ≤ R.locals) (hdg : decode cc pc = .ok (.invokevirtual 224, 3)) (kk : ∀ (H1 : Heap) (locs1 : List Loc) (cells1 slots1 : Nat), XSt D s h0 h1 H1 locs1 cells1 slots1 → W p l e R s m args below meth c H1 locs1 cells1 slots1 Q (F0 m (pc + 3) ls (.int x :: rest))) : W p l e R s m args below meth c H locs cells slots Q (F0 m pc ls (rv b0 :: rv a :: rest)) := by
  have q := ht
  exact X_callV hC hX (by rw [q]; decide) (by rw [q]; rfl) (As := [rv b0]) (m_J2_add l D a b0 h _ hcF) (cwV 1 hC.2.2.2.2.1 (lw_V q1363 q393 q394 q129 q395) rfl rfl rfl (by decide +kernel) ⟨Nat.le_trans (Nat.le_of_ble_eq_true rfl) hRf, Nat.le_trans (Nat.le_of_ble_eq_true rfl) hRl⟩) rfl rfl hl hW hdg kk
theorem gX_X11_217 {p : Program} {l : Launch} {e : Env} {R : Room} {s : State} {m : MethodId} {args : Array Value} {below : List Frame} {meth : Method} {c : Code} {H : Heap} {locs : List Loc} {cells slots nL : Nat} {Q : State → Prop} {D : XD} {h0 h : TH} {cc : ByteArray} {pc : Nat} {ls : Array Slot} {rest : List Value} (hC : XCx D cc nL RX11 h0 p R s m args meth c) (hX : XSt D s h0 h H locs cells slots) {a : Nat} (hf : hasF (hT h a) 31 = true) (hdg : decode cc pc = .ok (.getfield 217, 3)) (kk : W p l e R s m args below meth c H locs cells slots Q (F0 m (pc + 3) ls (rv (hR h 31 a) :: rest))) : W p l e R s m args below meth c H locs cells slots Q (F0 m pc ls (rv a :: rest)) :=
  X_getr hC hX 31 hf rfl (fun q => absurd q (by decide)) q223 (fun _ h => h) hdg kk
theorem iX_X11_220 {p : Program} {l : Launch} {e : Env} {R : Room} {s : State} {m : MethodId} {args : Array Value} {below : List Frame} {meth : Method} {c : Code} {H : Heap} {locs : List Loc} {cells slots nL : Nat} {Q : State → Prop} {D : XD} {h0 h : TH} {cc : ByteArray} {pc : Nat} {ls : Array Slot} {rest : List Value} {h1 : TH} (hC : XCx D cc nL RX11 h0 p R s m args meth c) (hX : XSt D s h0 h H locs cells slots) {a : Nat} {x : Nat} (ht : hT h a = 7) (hcF : F_X11_move D.2.2.2 a h = some (.inl x, h1)) (hl : ls.size = nL) (hW : (rest.map fun v => v.category).sum ≤ 8) (hRf : 10 + 1 ≤ R.frames) (hRl : 291 ≤ R.locals) (hdg : decode cc pc = .ok (.invokevirtual 220, 3)) (kk : ∀ (H1 : Heap) (locs1 : List Loc) (cells1 slots1 : Nat), XSt D s h0 h1 H1 locs1 cells1 slots1 → W p l e R s m args below meth c H1 locs1 cells1 slots1 Q (F0 m (pc + 3) ls (rv x :: rest))) : W p l e R s m args below meth c H locs cells slots Q (F0 m pc ls (rv a :: rest)) := by
  have q := ht
  exact X_callV hC hX (by rw [q]; decide) (by rw [q]; rfl) (As := []) (m_X11_move l D a h _ hcF) (cwV 0 hC.2.2.2.2.1 (lw_V q1280 q1282 qs26 q146 q1283) rfl rfl rfl (by decide +kernel) ⟨Nat.le_trans (Nat.le_of_ble_eq_true rfl) hRf, Nat.le_trans (Nat.le_of_ble_eq_true rfl) hRl⟩) rfl rfl hl hW hdg kk
theorem iX_X11_220_t {p : Program} {l : Launch} {e : Env} {R : Room} {s : State} {m : MethodId} {args : Array Value} {below : List Frame} {meth : Method} {c : Code} {H : Heap} {locs : List Loc} {cells slots nL : Nat} {D : XD} {h0 h : TH} {cc : ByteArray} {pc : Nat} {ls : Array Slot} {rest : List Value} {h1 : TH} (hC : XCx D cc nL RX11 h0 p R s m args meth c) (hX : XSt D s h0 h H locs cells slots) (hnh : c.exceptionTable.isEmpty = true) {a : Nat} {x : Nat} (ht : hT h a = 7) (hcF : F_X11_move D.2.2.2 a h = some (.inr x, h1)) (hl : ls.size = nL) (hW : (rest.map fun v => v.category).sum ≤ 8) (hRf : 10 + 1 ≤ R.frames) (hRl : 291 ≤ R.locals) (hdg : decode cc pc = .ok (.invokevirtual 220, 3)) : W p l e R s m args below meth c H locs cells slots (XMQ below D (.threw (x - 1)) h0 h1 s) (F0 m pc ls (rv a :: rest)) := by
  have q := ht
  exact X_callVT hC hX hnh (by rw [q]; decide) (by rw [q]; rfl) (As := []) (m_X11_move l D a h _ hcF) (cwV 0 hC.2.2.2.2.1 (lw_V q1280 q1282 qs26 q146 q1283) rfl rfl rfl (by decide +kernel) ⟨Nat.le_trans (Nat.le_of_ble_eq_true rfl) hRf, Nat.le_trans (Nat.le_of_ble_eq_true rfl) hRl⟩) rfl rfl hl hW hdg rfl
/-! BlindCards$Reader.may -/
def F_X11_may (K : Nat → Nat) (a0 : Nat) (h : TH) : Option ((Unit ⊕ Nat) × TH) :=
  gd (hasF (hT h a0) 69 = true) <|
  lt ((hI h 69 a0)) fun x_2 =>
  gd (hT h a0 = 7) <|
  bd (F_X11_go K a0 h) fun h_5 =>
  gd (hT h_5 a0 = 7) <|
  bd (F_X11_isMove K h_5 a0) fun r_8 =>
  if r_8 = 0 then
    lt ((K 19)) fun r_10 =>
    gd (hT h_5 a0 = 7) <|
    bd (F_X11_is K h_5 a0 r_10) fun r_13 =>
    if r_13 = 0 then
      gd (hT h_5 a0 = 7) <|
      bd2 (F_X11_wrong K a0 h_5) fun r_18 h_17 =>
      gd (r_18 ≠ 0) <|
      some (.inr r_18, h_17)
    else
      gd (hasF (hT h_5 a0) 73 = true) <|
      lt (hR h_5 73 a0) fun r_21 =>
      gd (hasF (hT h_5 r_21) 32 = true) <|
      lt (hR h_5 32 r_21) fun r_23 =>
      gd (hT h_5 r_23 = 3) <|
      bd (F_J2_size K h_5 r_23) fun r_26 =>
      if r_26 = (4 : Int32) then
        gd (hc h_5 + 1 ≤ XC ∧ hs h_5 + 8 ≤ XS) <|
        lt (hz h_5 + 1) fun r_42 =>
        lt (nO h_5 10 8) fun h_43 =>
        gd (r_42 ≠ 0) <|
        bd (F_X12_init K r_42 (2 : Int32) x_2 h_43) fun h_46 =>
        gd (r_42 ≠ 0) <|
        some (.inr r_42, h_46)
      else
        gd (hasF (hT h_5 a0) 73 = true) <|
        lt (hR h_5 73 a0) fun r_29 =>
        gd (hasF (hT h_5 r_29) 32 = true) <|
        lt (hR h_5 32 r_29) fun r_31 =>
        gd (hT h_5 a0 = 7) <|
        bt (F_X11_open K a0 h_5) fun r_34 h_35 =>
        gd (hT h_35 r_31 = 3) <|
        bd2 (F_J2_add K r_31 r_34 h_35) fun r_40 h_39 =>
        some (.inl (), h_39)
  else
    gd (hasF (hT h_5 a0) 73 = true) <|
    lt (hR h_5 73 a0) fun r_49 =>
    gd (hasF (hT h_5 r_49) 31 = true) <|
    lt (hR h_5 31 r_49) fun r_51 =>
    gd (hT h_5 r_51 = 3) <|
    bd (F_J2_size K h_5 r_51) fun r_54 =>
    if r_54 = (8 : Int32) then
      gd (hc h_5 + 1 ≤ XC ∧ hs h_5 + 8 ≤ XS) <|
      lt (hz h_5 + 1) fun r_70 =>
      lt (nO h_5 10 8) fun h_71 =>
      gd (r_70 ≠ 0) <|
      bd (F_X12_init K r_70 (2 : Int32) x_2 h_71) fun h_74 =>
      gd (r_70 ≠ 0) <|
      some (.inr r_70, h_74)
    else
      gd (hasF (hT h_5 a0) 73 = true) <|
      lt (hR h_5 73 a0) fun r_57 =>
      gd (hasF (hT h_5 r_57) 31 = true) <|
      lt (hR h_5 31 r_57) fun r_59 =>
      gd (hT h_5 a0 = 7) <|
      bt (F_X11_move K a0 h_5) fun r_62 h_63 =>
      gd (hT h_63 r_59 = 3) <|
      bd2 (F_J2_add K r_59 r_62 h_63) fun r_68 h_67 =>
      some (.inl (), h_67)
set_option maxHeartbeats 4000000 in
theorem w_X11_may {p : Program} {l : Launch} {e : Env} {s : State} {m : MethodId} {args : Array Value} {below : List Frame} {meth : Method} {c : Code} {D : XD} {h0 : TH} (hC : XCx D cX11_may 2 RX11 h0 p (xRm 11 291 h0) s m args meth c) (hr : meth.sig.returnType = none) (hnh : c.exceptionTable.isEmpty = true) (hin : meth.name = "may") {x : ((Unit ⊕ Nat) × TH)} :
    ∀ (a0 : Nat) (h : TH), F_X11_may D.2.2.2 a0 h = some x → XJ p l e (xRm 11 291 h0) s m args below meth c D 2 (ocV x.1) h0 x.2 0 [(0, rv a0)] [] h := by
  have hx := hC.1
  have hb := hC.2.1
  intro a0 h hF H locs cells slots ls hX hl
  rw [F_X11_may] at hF
  refine X_aload_n hx hb dX11_may_0 rfl (lv_at hl 0 rfl) ?_
  obtain ⟨h_1, hF⟩ := gd_ok hF
  refine gX_X11_43 hC hX h_1 dX11_may_1 ?_
  refine lv_topi (fun x_2 ex_2 => ?_)
  replace hF := lt_at hF ex_2
  refine lv_istore_n (i := 1) hx hb dX11_may_4 rfl hl (by decide) rfl (fun ls hl => ?_)
  replace hl : lv_has ls 2 [(1, .int x_2), (0, rv a0)] := lv_subS hl (List.forall_mem_cons.mpr ⟨Or.inl rfl, (List.forall_mem_cons.mpr ⟨Or.inr ⟨List.mem_of_getElem? (i := 0) rfl, by simp [rv_cat]⟩, (fun _ h => nomatch h)⟩)⟩)
  refine X_aload_n hx hb dX11_may_5 rfl (lv_at hl 1 rfl) ?_
  obtain ⟨h_3, hF⟩ := gd_ok hF
  obtain ⟨h_5, hc_4, hF⟩ := bd_ok hF
  refine iX_X11_94 hC hX h_3 hc_4 hl.1 (Nat.le_of_ble_eq_true rfl) (Nat.le_of_ble_eq_true rfl) (Nat.le_of_ble_eq_true rfl) dX11_may_6 (fun H locs cells slots hX => ?_)
  refine X_aload_n hx hb dX11_may_9 rfl (lv_at hl 1 rfl) ?_
  obtain ⟨h_6, hF⟩ := gd_ok hF
  obtain ⟨r_8, hc_7, hF⟩ := bd_ok hF
  refine iX_X11_214 hC hX h_6 hc_7 hl.1 (Nat.le_of_ble_eq_true rfl) (Nat.le_of_ble_eq_true rfl) (Nat.le_of_ble_eq_true rfl) dX11_may_10 (fun H locs cells slots hX => ?_)
  refine lv_if_eq (tgt := 59) hx hb dX11_may_13 (by decide) (fun c_9 => ?_) (fun c_9 => ?_)
  · replace hF := it_t hF c_9
    refine X_aload_n hx hb dX11_may_59 rfl (lv_at hl 1 rfl) ?_
    refine X_ldcS hC (i := 19) (List.mem_of_getElem? (i := 19) rfl) dX11_may_60 ?_
    refine lv_topr (fun r_10 er_10 => ?_)
    replace hF := lt_at hF er_10
    obtain ⟨h_11, hF⟩ := gd_ok hF
    obtain ⟨r_13, hc_12, hF⟩ := bd_ok hF
    refine iX_X11_86 hC hX h_11 hc_12 hl.1 (Nat.le_of_ble_eq_true rfl) (Nat.le_of_ble_eq_true rfl) (Nat.le_of_ble_eq_true rfl) dX11_may_62 (fun H locs cells slots hX => ?_)
    refine lv_if_eq (tgt := 110) hx hb dX11_may_65 (by decide) (fun c_14 => ?_) (fun c_14 => ?_)
    · replace hF := it_t hF c_14
      refine X_aload_n hx hb dX11_may_110 rfl (lv_at hl 1 rfl) ?_
      obtain ⟨h_15, hF⟩ := gd_ok hF
      obtain ⟨r_18, h_17, hc_16, hF⟩ := bd2_ok hF
      refine iX_X11_90 hC hX h_15 hc_16 hl.1 (Nat.le_of_ble_eq_true rfl) (Nat.le_of_ble_eq_true rfl) (Nat.le_of_ble_eq_true rfl) dX11_may_111 (fun H locs cells slots hX => ?_)
      obtain ⟨h_19, hF⟩ := gd_ok hF
      cases hF
      exact x_throw hC hX hnh h_19 rfl rfl dX11_may_114
    · replace hF := it_f hF c_14
      refine X_aload_n hx hb dX11_may_68 rfl (lv_at hl 1 rfl) ?_
      obtain ⟨h_20, hF⟩ := gd_ok hF
      refine gX_X11_24 hC hX h_20 dX11_may_69 ?_
      refine lv_topr (fun r_21 er_21 => ?_)
      replace hF := lt_at hF er_21
      obtain ⟨h_22, hF⟩ := gd_ok hF
      refine gX_X11_227 hC hX h_22 dX11_may_72 ?_
      refine lv_topr (fun r_23 er_23 => ?_)
      replace hF := lt_at hF er_23
      obtain ⟨h_24, hF⟩ := gd_ok hF
      obtain ⟨r_26, hc_25, hF⟩ := bd_ok hF
      refine iX_X11_163 hC hX h_24 hc_25 hl.1 (Nat.le_of_ble_eq_true rfl) (Nat.le_of_ble_eq_true rfl) (Nat.le_of_ble_eq_true rfl) dX11_may_75 (fun H locs cells slots hX => ?_)
      refine lv_iconst (v := 4) hx hb dX11_may_78 (by decide) ?_
      refine lv_icmp_ne (tgt := 92) hx hb dX11_may_79 (by decide) (fun c_27 => ?_) (fun c_27 => ?_)
      · replace hF := it_f hF c_27
        refine X_aload_n hx hb dX11_may_92 rfl (lv_at hl 1 rfl) ?_
        obtain ⟨h_28, hF⟩ := gd_ok hF
        refine gX_X11_24 hC hX h_28 dX11_may_93 ?_
        refine lv_topr (fun r_29 er_29 => ?_)
        replace hF := lt_at hF er_29
        obtain ⟨h_30, hF⟩ := gd_ok hF
        refine gX_X11_227 hC hX h_30 dX11_may_96 ?_
        refine lv_topr (fun r_31 er_31 => ?_)
        replace hF := lt_at hF er_31
        refine X_aload_n hx hb dX11_may_99 rfl (lv_at hl 1 rfl) ?_
        obtain ⟨h_32, hF⟩ := gd_ok hF
        rcases bt_ok hF with ⟨r_34, h_35, hc_33, hF⟩ | ⟨z_36, h_35, hc_33, hxx⟩
        rotate_left
        · subst hxx
          exact iX_X11_230_t hC hX hnh h_32 hc_33 hl.1 (cat4 (Nat.le_of_ble_eq_true rfl)) (Nat.le_of_ble_eq_true rfl) (Nat.le_of_ble_eq_true rfl) dX11_may_100
        refine iX_X11_230 hC hX h_32 hc_33 hl.1 (cat4 (Nat.le_of_ble_eq_true rfl)) (Nat.le_of_ble_eq_true rfl) (Nat.le_of_ble_eq_true rfl) dX11_may_100 (fun H locs cells slots hX => ?_)
        obtain ⟨h_37, hF⟩ := gd_ok hF
        obtain ⟨r_40, h_39, hc_38, hF⟩ := bd2_ok hF
        refine iX_X11_224 hC hX h_37 hc_38 hl.1 (Nat.le_of_ble_eq_true rfl) (Nat.le_of_ble_eq_true rfl) (Nat.le_of_ble_eq_true rfl) dX11_may_103 (fun H locs cells slots hX => ?_)
        refine lv_pop hx hb dX11_may_106 rfl ?_
        refine lv_goto (tgt := 115) hx hb dX11_may_107 (by decide) ?_
        cases hF
        exact x_retv hC hX hr rfl dX11_may_115
      · replace hF := it_t hF c_27
        obtain ⟨h_41, hF⟩ := gd_ok hF
        refine nX_X11_75 hC hX h_41 dX11_may_82 (fun H cells slots hX => ?_)
        refine lv_topr (fun r_42 er_42 => ?_)
        replace hF := lt_at hF er_42
        obtain ⟨h_43, eh_43, hF⟩ := lt_ok hF
        rw [← eh_43] at hX
        refine lv_dup hx hb dX11_may_85 (rv_cat _) ?_
        refine lv_iconst (v := 2) hx hb dX11_may_86 (by decide) ?_
        refine lv_iload_n hx hb dX11_may_87 rfl (lv_at hl 0 rfl) ?_
        obtain ⟨h_44, hF⟩ := gd_ok hF
        obtain ⟨h_46, hc_45, hF⟩ := bd_ok hF
        refine iX_X11_77 hC hX h_44 hc_45 hl.1 (cat4 (Nat.le_of_ble_eq_true rfl)) (Nat.le_of_ble_eq_true rfl) (Nat.le_of_ble_eq_true rfl) dX11_may_88 (fun H locs cells slots hX => ?_)
        obtain ⟨h_47, hF⟩ := gd_ok hF
        cases hF
        exact x_throw hC hX hnh h_47 rfl rfl dX11_may_91
  · replace hF := it_f hF c_9
    refine X_aload_n hx hb dX11_may_16 rfl (lv_at hl 1 rfl) ?_
    obtain ⟨h_48, hF⟩ := gd_ok hF
    refine gX_X11_24 hC hX h_48 dX11_may_17 ?_
    refine lv_topr (fun r_49 er_49 => ?_)
    replace hF := lt_at hF er_49
    obtain ⟨h_50, hF⟩ := gd_ok hF
    refine gX_X11_217 hC hX h_50 dX11_may_20 ?_
    refine lv_topr (fun r_51 er_51 => ?_)
    replace hF := lt_at hF er_51
    obtain ⟨h_52, hF⟩ := gd_ok hF
    obtain ⟨r_54, hc_53, hF⟩ := bd_ok hF
    refine iX_X11_163 hC hX h_52 hc_53 hl.1 (Nat.le_of_ble_eq_true rfl) (Nat.le_of_ble_eq_true rfl) (Nat.le_of_ble_eq_true rfl) dX11_may_23 (fun H locs cells slots hX => ?_)
    refine lv_bipush (v := 8) hx hb dX11_may_26 (by decide) ?_
    refine lv_icmp_ne (tgt := 41) hx hb dX11_may_28 (by decide) (fun c_55 => ?_) (fun c_55 => ?_)
    · replace hF := it_f hF c_55
      refine X_aload_n hx hb dX11_may_41 rfl (lv_at hl 1 rfl) ?_
      obtain ⟨h_56, hF⟩ := gd_ok hF
      refine gX_X11_24 hC hX h_56 dX11_may_42 ?_
      refine lv_topr (fun r_57 er_57 => ?_)
      replace hF := lt_at hF er_57
      obtain ⟨h_58, hF⟩ := gd_ok hF
      refine gX_X11_217 hC hX h_58 dX11_may_45 ?_
      refine lv_topr (fun r_59 er_59 => ?_)
      replace hF := lt_at hF er_59
      refine X_aload_n hx hb dX11_may_48 rfl (lv_at hl 1 rfl) ?_
      obtain ⟨h_60, hF⟩ := gd_ok hF
      rcases bt_ok hF with ⟨r_62, h_63, hc_61, hF⟩ | ⟨z_64, h_63, hc_61, hxx⟩
      rotate_left
      · subst hxx
        exact iX_X11_220_t hC hX hnh h_60 hc_61 hl.1 (cat4 (Nat.le_of_ble_eq_true rfl)) (Nat.le_of_ble_eq_true rfl) (Nat.le_of_ble_eq_true rfl) dX11_may_49
      refine iX_X11_220 hC hX h_60 hc_61 hl.1 (cat4 (Nat.le_of_ble_eq_true rfl)) (Nat.le_of_ble_eq_true rfl) (Nat.le_of_ble_eq_true rfl) dX11_may_49 (fun H locs cells slots hX => ?_)
      obtain ⟨h_65, hF⟩ := gd_ok hF
      obtain ⟨r_68, h_67, hc_66, hF⟩ := bd2_ok hF
      refine iX_X11_224 hC hX h_65 hc_66 hl.1 (Nat.le_of_ble_eq_true rfl) (Nat.le_of_ble_eq_true rfl) (Nat.le_of_ble_eq_true rfl) dX11_may_52 (fun H locs cells slots hX => ?_)
      refine lv_pop hx hb dX11_may_55 rfl ?_
      refine lv_goto (tgt := 115) hx hb dX11_may_56 (by decide) ?_
      cases hF
      exact x_retv hC hX hr rfl dX11_may_115
    · replace hF := it_t hF c_55
      obtain ⟨h_69, hF⟩ := gd_ok hF
      refine nX_X11_75 hC hX h_69 dX11_may_31 (fun H cells slots hX => ?_)
      refine lv_topr (fun r_70 er_70 => ?_)
      replace hF := lt_at hF er_70
      obtain ⟨h_71, eh_71, hF⟩ := lt_ok hF
      rw [← eh_71] at hX
      refine lv_dup hx hb dX11_may_34 (rv_cat _) ?_
      refine lv_iconst (v := 2) hx hb dX11_may_35 (by decide) ?_
      refine lv_iload_n hx hb dX11_may_36 rfl (lv_at hl 0 rfl) ?_
      obtain ⟨h_72, hF⟩ := gd_ok hF
      obtain ⟨h_74, hc_73, hF⟩ := bd_ok hF
      refine iX_X11_77 hC hX h_72 hc_73 hl.1 (cat4 (Nat.le_of_ble_eq_true rfl)) (Nat.le_of_ble_eq_true rfl) (Nat.le_of_ble_eq_true rfl) dX11_may_37 (fun H locs cells slots hX => ?_)
      obtain ⟨h_75, hF⟩ := gd_ok hF
      cases hF
      exact x_throw hC hX hnh h_75 rfl rfl dX11_may_40
theorem m_X11_may (l : Launch) (D : XD) (a0 : Nat) (h : TH) (x : ((Unit ⊕ Nat) × TH)) (hF : F_X11_may D.2.2.2 a0 h = some x) : XMt l yX11_may (ws_ yX11_may cX11_may 2 (none)) 11 291 D [rv a0] h (ocV x.1) x.2 := by
  refine x_met (by decide +kernel) ?_ ?_
  · simp [lg_sl, rv_cat, cat_i, cat_l]
  intro p e s m below meth c hC hr hnh hin ls hl hX
  replace hl : lv_has ls 2 [(0, rv a0)] := by simpa [lv_args, rv_cat, cat_i, cat_l] using hl
  exact w_X11_may hC hr hnh hin a0 h hF s.heap [] 0 0 ls hX hl
theorem gX_X11_159 {p : Program} {l : Launch} {e : Env} {R : Room} {s : State} {m : MethodId} {args : Array Value} {below : List Frame} {meth : Method} {c : Code} {H : Heap} {locs : List Loc} {cells slots nL : Nat} {Q : State → Prop} {D : XD} {h0 h : TH} {cc : ByteArray} {pc : Nat} {ls : Array Slot} {rest : List Value} (hC : XCx D cc nL RX11 h0 p R s m args meth c) (hX : XSt D s h0 h H locs cells slots) {a : Nat} (hf : hasF (hT h a) 30 = true) (hdg : decode cc pc = .ok (.getfield 159, 3)) (kk : W p l e R s m args below meth c H locs cells slots Q (F0 m (pc + 3) ls (rv (hR h 30 a) :: rest))) : W p l e R s m args below meth c H locs cells slots Q (F0 m pc ls (rv a :: rest)) :=
  X_getr hC hX 30 hf rfl (fun q => absurd q (by decide)) q221 (fun _ h => h) hdg kk
theorem gX_X11_233 {p : Program} {l : Launch} {e : Env} {R : Room} {s : State} {m : MethodId} {args : Array Value} {below : List Frame} {meth : Method} {c : Code} {H : Heap} {locs : List Loc} {cells slots nL : Nat} {Q : State → Prop} {D : XD} {h0 h : TH} {cc : ByteArray} {pc : Nat} {ls : Array Slot} {rest : List Value} (hC : XCx D cc nL RX11 h0 p R s m args meth c) (hX : XSt D s h0 h H locs cells slots) {a : Nat} (hf : hasF (hT h a) 35 = true) (hdg : decode cc pc = .ok (.getfield 233, 3)) (kk : W p l e R s m args below meth c H locs cells slots Q (F0 m (pc + 3) ls (.int (hI h 35 a) :: rest))) : W p l e R s m args below meth c H locs cells slots Q (F0 m pc ls (rv a :: rest)) :=
  X_geti hC hX 35 hf rfl q233 (fun _ h => h) hdg kk
theorem gX_X11_236 {p : Program} {l : Launch} {e : Env} {R : Room} {s : State} {m : MethodId} {args : Array Value} {below : List Frame} {meth : Method} {c : Code} {H : Heap} {locs : List Loc} {cells slots nL : Nat} {Q : State → Prop} {D : XD} {h0 h : TH} {cc : ByteArray} {pc : Nat} {ls : Array Slot} {rest : List Value} (hC : XCx D cc nL RX11 h0 p R s m args meth c) (hX : XSt D s h0 h H locs cells slots) {a : Nat} (hf : hasF (hT h a) 36 = true) (hdg : decode cc pc = .ok (.getfield 236, 3)) (kk : W p l e R s m args below meth c H locs cells slots Q (F0 m (pc + 3) ls (.int (hI h 36 a) :: rest))) : W p l e R s m args below meth c H locs cells slots Q (F0 m pc ls (rv a :: rest)) :=
  X_geti hC hX 36 hf rfl q234 (fun _ h => h) hdg kk
theorem pX_X11_233 {p : Program} {l : Launch} {e : Env} {R : Room} {s : State} {m : MethodId} {args : Array Value} {below : List Frame} {meth : Method} {c : Code} {H : Heap} {locs : List Loc} {cells slots nL : Nat} {Q : State → Prop} {D : XD} {h0 h : TH} {cc : ByteArray} {pc : Nat} {ls : Array Slot} {rest : List Value} (hC : XCx D cc nL RX11 h0 p R s m args meth c) (hX : XSt D s h0 h H locs cells slots) {a : Nat} {v : Int32} (hf : hasF (hT h a) 35 = true) (hw : hT h a ≤ 24) (hdg : decode cc pc = .ok (.putfield 233, 3)) (kk : ∀ (H1 : Heap) (locs1 : List Loc), XSt D s h0 (uI h 35 a v) H1 locs1 cells slots → W p l e R s m args below meth c H1 locs1 cells slots Q (F0 m (pc + 3) ls rest)) : W p l e R s m args below meth c H locs cells slots Q (F0 m pc ls (.int v :: rv a :: rest)) :=
  X_puti hC hX 35 hf hw rfl rfl q233 (fun _ h => h) ⟨rfl, rfl⟩ hdg kk
theorem pX_X11_236 {p : Program} {l : Launch} {e : Env} {R : Room} {s : State} {m : MethodId} {args : Array Value} {below : List Frame} {meth : Method} {c : Code} {H : Heap} {locs : List Loc} {cells slots nL : Nat} {Q : State → Prop} {D : XD} {h0 h : TH} {cc : ByteArray} {pc : Nat} {ls : Array Slot} {rest : List Value} (hC : XCx D cc nL RX11 h0 p R s m args meth c) (hX : XSt D s h0 h H locs cells slots) {a : Nat} {v : Int32} (hf : hasF (hT h a) 36 = true) (hw : hT h a ≤ 24) (hdg : decode cc pc = .ok (.putfield 236, 3)) (kk : ∀ (H1 : Heap) (locs1 : List Loc), XSt D s h0 (uI h 36 a v) H1 locs1 cells slots → W p l e R s m args below meth c H1 locs1 cells slots Q (F0 m (pc + 3) ls rest)) : W p l e R s m args below meth c H locs cells slots Q (F0 m pc ls (.int v :: rv a :: rest)) :=
  X_puti hC hX 36 hf hw rfl rfl q234 (fun _ h => h) ⟨rfl, rfl⟩ hdg kk
theorem iX_X11_251 {p : Program} {l : Launch} {e : Env} {R : Room} {s : State} {m : MethodId} {args : Array Value} {below : List Frame} {meth : Method} {c : Code} {H : Heap} {locs : List Loc} {cells slots nL : Nat} {Q : State → Prop} {D : XD} {h0 h : TH} {cc : ByteArray} {pc : Nat} {ls : Array Slot} {rest : List Value} {h1 : TH} (hC : XCx D cc nL RX11 h0 p R s m args meth c) (hX : XSt D s h0 h H locs cells slots) {a : Nat} {x : Nat} (ht : hT h a = 7) (hcF : F_X11_says D.2.2.2 a h = some (.inl x, h1)) (hl : ls.size = nL) (hW : (rest.map fun v => v.category).sum ≤ 8) (hRf : 8 + 1 ≤ R.frames) (hRl : 237 ≤ R.locals) (hdg : decode cc pc = .ok (.invokevirtual 251, 3)) (kk : ∀ (H1 : Heap) (locs1 : List Loc) (cells1 slots1 : Nat), XSt D s h0 h1 H1 locs1 cells1 slots1 → W p l e R s m args below meth c H1 locs1 cells1 slots1 Q (F0 m (pc + 3) ls (rv x :: rest))) : W p l e R s m args below meth c H locs cells slots Q (F0 m pc ls (rv a :: rest)) := by
  have q := ht
  exact X_callV hC hX (by rw [q]; decide) (by rw [q]; rfl) (As := []) (m_X11_says l D a h _ hcF) (cwV 0 hC.2.2.2.2.1 (lw_V q1562 q1564 qs40 q146 q1565) rfl rfl rfl (by decide +kernel) ⟨Nat.le_trans (Nat.le_of_ble_eq_true rfl) hRf, Nat.le_trans (Nat.le_of_ble_eq_true rfl) hRl⟩) rfl rfl hl hW hdg kk
theorem iX_X11_251_t {p : Program} {l : Launch} {e : Env} {R : Room} {s : State} {m : MethodId} {args : Array Value} {below : List Frame} {meth : Method} {c : Code} {H : Heap} {locs : List Loc} {cells slots nL : Nat} {D : XD} {h0 h : TH} {cc : ByteArray} {pc : Nat} {ls : Array Slot} {rest : List Value} {h1 : TH} (hC : XCx D cc nL RX11 h0 p R s m args meth c) (hX : XSt D s h0 h H locs cells slots) (hnh : c.exceptionTable.isEmpty = true) {a : Nat} {x : Nat} (ht : hT h a = 7) (hcF : F_X11_says D.2.2.2 a h = some (.inr x, h1)) (hl : ls.size = nL) (hW : (rest.map fun v => v.category).sum ≤ 8) (hRf : 8 + 1 ≤ R.frames) (hRl : 237 ≤ R.locals) (hdg : decode cc pc = .ok (.invokevirtual 251, 3)) : W p l e R s m args below meth c H locs cells slots (XMQ below D (.threw (x - 1)) h0 h1 s) (F0 m pc ls (rv a :: rest)) := by
  have q := ht
  exact X_callVT hC hX hnh (by rw [q]; decide) (by rw [q]; rfl) (As := []) (m_X11_says l D a h _ hcF) (cwV 0 hC.2.2.2.2.1 (lw_V q1562 q1564 qs40 q146 q1565) rfl rfl rfl (by decide +kernel) ⟨Nat.le_trans (Nat.le_of_ble_eq_true rfl) hRf, Nat.le_trans (Nat.le_of_ble_eq_true rfl) hRl⟩) rfl rfl hl hW hdg rfl
theorem iX_X11_249 {p : Program} {l : Launch} {e : Env} {R : Room} {s : State} {m : MethodId} {args : Array Value} {below : List Frame} {meth : Method} {c : Code} {H : Heap} {locs : List Loc} {cells slots nL : Nat} {Q : State → Prop} {D : XD} {h0 h : TH} {cc : ByteArray} {pc : Nat} {ls : Array Slot} {rest : List Value} {h1 : TH} (hC : XCx D cc nL RX11 h0 p R s m args meth c) (hX : XSt D s h0 h H locs cells slots) {a : Nat} {x : Nat} (ht : hT h a = 7) (hcF : F_X11_end D.2.2.2 a h = some (.inl x, h1)) (hl : ls.size = nL) (hW : (rest.map fun v => v.category).sum ≤ 8) (hRf : 9 + 1 ≤ R.frames) (hRl : 260 ≤ R.locals) (hdg : decode cc pc = .ok (.invokevirtual 249, 3)) (kk : ∀ (H1 : Heap) (locs1 : List Loc) (cells1 slots1 : Nat), XSt D s h0 h1 H1 locs1 cells1 slots1 → W p l e R s m args below meth c H1 locs1 cells1 slots1 Q (F0 m (pc + 3) ls (rv x :: rest))) : W p l e R s m args below meth c H locs cells slots Q (F0 m pc ls (rv a :: rest)) := by
  have q := ht
  exact X_callV hC hX (by rw [q]; decide) (by rw [q]; rfl) (As := []) (m_X11_end l D a h _ hcF) (cwV 0 hC.2.2.2.2.1 (lw_V q1545 q1547 qs39 q146 q1548) rfl rfl rfl (by decide +kernel) ⟨Nat.le_trans (Nat.le_of_ble_eq_true rfl) hRf, Nat.le_trans (Nat.le_of_ble_eq_true rfl) hRl⟩) rfl rfl hl hW hdg kk
theorem iX_X11_249_t {p : Program} {l : Launch} {e : Env} {R : Room} {s : State} {m : MethodId} {args : Array Value} {below : List Frame} {meth : Method} {c : Code} {H : Heap} {locs : List Loc} {cells slots nL : Nat} {D : XD} {h0 h : TH} {cc : ByteArray} {pc : Nat} {ls : Array Slot} {rest : List Value} {h1 : TH} (hC : XCx D cc nL RX11 h0 p R s m args meth c) (hX : XSt D s h0 h H locs cells slots) (hnh : c.exceptionTable.isEmpty = true) {a : Nat} {x : Nat} (ht : hT h a = 7) (hcF : F_X11_end D.2.2.2 a h = some (.inr x, h1)) (hl : ls.size = nL) (hW : (rest.map fun v => v.category).sum ≤ 8) (hRf : 9 + 1 ≤ R.frames) (hRl : 260 ≤ R.locals) (hdg : decode cc pc = .ok (.invokevirtual 249, 3)) : W p l e R s m args below meth c H locs cells slots (XMQ below D (.threw (x - 1)) h0 h1 s) (F0 m pc ls (rv a :: rest)) := by
  have q := ht
  exact X_callVT hC hX hnh (by rw [q]; decide) (by rw [q]; rfl) (As := []) (m_X11_end l D a h _ hcF) (cwV 0 hC.2.2.2.2.1 (lw_V q1545 q1547 qs39 q146 q1548) rfl rfl rfl (by decide +kernel) ⟨Nat.le_trans (Nat.le_of_ble_eq_true rfl) hRf, Nat.le_trans (Nat.le_of_ble_eq_true rfl) hRl⟩) rfl rfl hl hW hdg rfl
theorem iX_X11_247 {p : Program} {l : Launch} {e : Env} {R : Room} {s : State} {m : MethodId} {args : Array Value} {below : List Frame} {meth : Method} {c : Code} {H : Heap} {locs : List Loc} {cells slots nL : Nat} {Q : State → Prop} {D : XD} {h0 h : TH} {cc : ByteArray} {pc : Nat} {ls : Array Slot} {rest : List Value} {h1 : TH} (hC : XCx D cc nL RX11 h0 p R s m args meth c) (hX : XSt D s h0 h H locs cells slots) {a : Nat} {x : Nat} (ht : hT h a = 7) (hcF : F_X11_mark D.2.2.2 a h = some (.inl x, h1)) (hl : ls.size = nL) (hW : (rest.map fun v => v.category).sum ≤ 8) (hRf : 7 + 1 ≤ R.frames) (hRl : 215 ≤ R.locals) (hdg : decode cc pc = .ok (.invokevirtual 247, 3)) (kk : ∀ (H1 : Heap) (locs1 : List Loc) (cells1 slots1 : Nat), XSt D s h0 h1 H1 locs1 cells1 slots1 → W p l e R s m args below meth c H1 locs1 cells1 slots1 Q (F0 m (pc + 3) ls (rv x :: rest))) : W p l e R s m args below meth c H locs cells slots Q (F0 m pc ls (rv a :: rest)) := by
  have q := ht
  exact X_callV hC hX (by rw [q]; decide) (by rw [q]; rfl) (As := []) (m_X11_mark l D a h _ hcF) (cwV 0 hC.2.2.2.2.1 (lw_V q1530 q1532 qs38 q146 q1533) rfl rfl rfl (by decide +kernel) ⟨Nat.le_trans (Nat.le_of_ble_eq_true rfl) hRf, Nat.le_trans (Nat.le_of_ble_eq_true rfl) hRl⟩) rfl rfl hl hW hdg kk
theorem iX_X11_247_t {p : Program} {l : Launch} {e : Env} {R : Room} {s : State} {m : MethodId} {args : Array Value} {below : List Frame} {meth : Method} {c : Code} {H : Heap} {locs : List Loc} {cells slots nL : Nat} {D : XD} {h0 h : TH} {cc : ByteArray} {pc : Nat} {ls : Array Slot} {rest : List Value} {h1 : TH} (hC : XCx D cc nL RX11 h0 p R s m args meth c) (hX : XSt D s h0 h H locs cells slots) (hnh : c.exceptionTable.isEmpty = true) {a : Nat} {x : Nat} (ht : hT h a = 7) (hcF : F_X11_mark D.2.2.2 a h = some (.inr x, h1)) (hl : ls.size = nL) (hW : (rest.map fun v => v.category).sum ≤ 8) (hRf : 7 + 1 ≤ R.frames) (hRl : 215 ≤ R.locals) (hdg : decode cc pc = .ok (.invokevirtual 247, 3)) : W p l e R s m args below meth c H locs cells slots (XMQ below D (.threw (x - 1)) h0 h1 s) (F0 m pc ls (rv a :: rest)) := by
  have q := ht
  exact X_callVT hC hX hnh (by rw [q]; decide) (by rw [q]; rfl) (As := []) (m_X11_mark l D a h _ hcF) (cwV 0 hC.2.2.2.2.1 (lw_V q1530 q1532 qs38 q146 q1533) rfl rfl rfl (by decide +kernel) ⟨Nat.le_trans (Nat.le_of_ble_eq_true rfl) hRf, Nat.le_trans (Nat.le_of_ble_eq_true rfl) hRl⟩) rfl rfl hl hW hdg rfl
theorem iX_X11_244 {p : Program} {l : Launch} {e : Env} {R : Room} {s : State} {m : MethodId} {args : Array Value} {below : List Frame} {meth : Method} {c : Code} {H : Heap} {locs : List Loc} {cells slots nL : Nat} {Q : State → Prop} {D : XD} {h0 h : TH} {cc : ByteArray} {pc : Nat} {ls : Array Slot} {rest : List Value} {h1 : TH} (hC : XCx D cc nL RX11 h0 p R s m args meth c) (hX : XSt D s h0 h H locs cells slots) {a : Nat} {x : Nat} (ht : hT h a = 7) (hcF : F_X11_branch D.2.2.2 a h = some (.inl x, h1)) (hl : ls.size = nL) (hW : (rest.map fun v => v.category).sum ≤ 8) (hRf : 9 + 1 ≤ R.frames) (hRl : 260 ≤ R.locals) (hdg : decode cc pc = .ok (.invokevirtual 244, 3)) (kk : ∀ (H1 : Heap) (locs1 : List Loc) (cells1 slots1 : Nat), XSt D s h0 h1 H1 locs1 cells1 slots1 → W p l e R s m args below meth c H1 locs1 cells1 slots1 Q (F0 m (pc + 3) ls (rv x :: rest))) : W p l e R s m args below meth c H locs cells slots Q (F0 m pc ls (rv a :: rest)) := by
  have q := ht
  exact X_callV hC hX (by rw [q]; decide) (by rw [q]; rfl) (As := []) (m_X11_branch l D a h _ hcF) (cwV 0 hC.2.2.2.2.1 (lw_V q1429 q1431 qs36 q146 q1432) rfl rfl rfl (by decide +kernel) ⟨Nat.le_trans (Nat.le_of_ble_eq_true rfl) hRf, Nat.le_trans (Nat.le_of_ble_eq_true rfl) hRl⟩) rfl rfl hl hW hdg kk
theorem iX_X11_244_t {p : Program} {l : Launch} {e : Env} {R : Room} {s : State} {m : MethodId} {args : Array Value} {below : List Frame} {meth : Method} {c : Code} {H : Heap} {locs : List Loc} {cells slots nL : Nat} {D : XD} {h0 h : TH} {cc : ByteArray} {pc : Nat} {ls : Array Slot} {rest : List Value} {h1 : TH} (hC : XCx D cc nL RX11 h0 p R s m args meth c) (hX : XSt D s h0 h H locs cells slots) (hnh : c.exceptionTable.isEmpty = true) {a : Nat} {x : Nat} (ht : hT h a = 7) (hcF : F_X11_branch D.2.2.2 a h = some (.inr x, h1)) (hl : ls.size = nL) (hW : (rest.map fun v => v.category).sum ≤ 8) (hRf : 9 + 1 ≤ R.frames) (hRl : 260 ≤ R.locals) (hdg : decode cc pc = .ok (.invokevirtual 244, 3)) : W p l e R s m args below meth c H locs cells slots (XMQ below D (.threw (x - 1)) h0 h1 s) (F0 m pc ls (rv a :: rest)) := by
  have q := ht
  exact X_callVT hC hX hnh (by rw [q]; decide) (by rw [q]; rfl) (As := []) (m_X11_branch l D a h _ hcF) (cwV 0 hC.2.2.2.2.1 (lw_V q1429 q1431 qs36 q146 q1432) rfl rfl rfl (by decide +kernel) ⟨Nat.le_trans (Nat.le_of_ble_eq_true rfl) hRf, Nat.le_trans (Nat.le_of_ble_eq_true rfl) hRl⟩) rfl rfl hl hW hdg rfl
theorem iX_X11_242 {p : Program} {l : Launch} {e : Env} {R : Room} {s : State} {m : MethodId} {args : Array Value} {below : List Frame} {meth : Method} {c : Code} {H : Heap} {locs : List Loc} {cells slots nL : Nat} {Q : State → Prop} {D : XD} {h0 h : TH} {cc : ByteArray} {pc : Nat} {ls : Array Slot} {rest : List Value} {h1 : TH} (hC : XCx D cc nL RX11 h0 p R s m args meth c) (hX : XSt D s h0 h H locs cells slots) {a : Nat} {x : Nat} (ht : hT h a = 7) (hcF : F_X11_put D.2.2.2 a h = some (.inl x, h1)) (hl : ls.size = nL) (hW : (rest.map fun v => v.category).sum ≤ 8) (hRf : 8 + 1 ≤ R.frames) (hRl : 235 ≤ R.locals) (hdg : decode cc pc = .ok (.invokevirtual 242, 3)) (kk : ∀ (H1 : Heap) (locs1 : List Loc) (cells1 slots1 : Nat), XSt D s h0 h1 H1 locs1 cells1 slots1 → W p l e R s m args below meth c H1 locs1 cells1 slots1 Q (F0 m (pc + 3) ls (rv x :: rest))) : W p l e R s m args below meth c H locs cells slots Q (F0 m pc ls (rv a :: rest)) := by
  have q := ht
  exact X_callV hC hX (by rw [q]; decide) (by rw [q]; rfl) (As := []) (m_X11_put l D a h _ hcF) (cwV 0 hC.2.2.2.2.1 (lw_V q1419 q1421 qs34 q146 q1422) rfl rfl rfl (by decide +kernel) ⟨Nat.le_trans (Nat.le_of_ble_eq_true rfl) hRf, Nat.le_trans (Nat.le_of_ble_eq_true rfl) hRl⟩) rfl rfl hl hW hdg kk
theorem iX_X11_242_t {p : Program} {l : Launch} {e : Env} {R : Room} {s : State} {m : MethodId} {args : Array Value} {below : List Frame} {meth : Method} {c : Code} {H : Heap} {locs : List Loc} {cells slots nL : Nat} {D : XD} {h0 h : TH} {cc : ByteArray} {pc : Nat} {ls : Array Slot} {rest : List Value} {h1 : TH} (hC : XCx D cc nL RX11 h0 p R s m args meth c) (hX : XSt D s h0 h H locs cells slots) (hnh : c.exceptionTable.isEmpty = true) {a : Nat} {x : Nat} (ht : hT h a = 7) (hcF : F_X11_put D.2.2.2 a h = some (.inr x, h1)) (hl : ls.size = nL) (hW : (rest.map fun v => v.category).sum ≤ 8) (hRf : 8 + 1 ≤ R.frames) (hRl : 235 ≤ R.locals) (hdg : decode cc pc = .ok (.invokevirtual 242, 3)) : W p l e R s m args below meth c H locs cells slots (XMQ below D (.threw (x - 1)) h0 h1 s) (F0 m pc ls (rv a :: rest)) := by
  have q := ht
  exact X_callVT hC hX hnh (by rw [q]; decide) (by rw [q]; rfl) (As := []) (m_X11_put l D a h _ hcF) (cwV 0 hC.2.2.2.2.1 (lw_V q1419 q1421 qs34 q146 q1422) rfl rfl rfl (by decide +kernel) ⟨Nat.le_trans (Nat.le_of_ble_eq_true rfl) hRf, Nat.le_trans (Nat.le_of_ble_eq_true rfl) hRl⟩) rfl rfl hl hW hdg rfl
theorem iX_X11_239 {p : Program} {l : Launch} {e : Env} {R : Room} {s : State} {m : MethodId} {args : Array Value} {below : List Frame} {meth : Method} {c : Code} {H : Heap} {locs : List Loc} {cells slots nL : Nat} {Q : State → Prop} {D : XD} {h0 h : TH} {cc : ByteArray} {pc : Nat} {ls : Array Slot} {rest : List Value} {h1 : TH} (hC : XCx D cc nL RX11 h0 p R s m args meth c) (hX : XSt D s h0 h H locs cells slots) {a : Nat} {x : Nat} (ht : hT h a = 7) (hcF : F_X11_lay D.2.2.2 a h = some (.inl x, h1)) (hl : ls.size = nL) (hW : (rest.map fun v => v.category).sum ≤ 8) (hRf : 8 + 1 ≤ R.frames) (hRl : 235 ≤ R.locals) (hdg : decode cc pc = .ok (.invokevirtual 239, 3)) (kk : ∀ (H1 : Heap) (locs1 : List Loc) (cells1 slots1 : Nat), XSt D s h0 h1 H1 locs1 cells1 slots1 → W p l e R s m args below meth c H1 locs1 cells1 slots1 Q (F0 m (pc + 3) ls (rv x :: rest))) : W p l e R s m args below meth c H locs cells slots Q (F0 m pc ls (rv a :: rest)) := by
  have q := ht
  exact X_callV hC hX (by rw [q]; decide) (by rw [q]; rfl) (As := []) (m_X11_lay l D a h _ hcF) (cwV 0 hC.2.2.2.2.1 (lw_V q1402 q1404 qs33 q146 q1405) rfl rfl rfl (by decide +kernel) ⟨Nat.le_trans (Nat.le_of_ble_eq_true rfl) hRf, Nat.le_trans (Nat.le_of_ble_eq_true rfl) hRl⟩) rfl rfl hl hW hdg kk
theorem iX_X11_239_t {p : Program} {l : Launch} {e : Env} {R : Room} {s : State} {m : MethodId} {args : Array Value} {below : List Frame} {meth : Method} {c : Code} {H : Heap} {locs : List Loc} {cells slots nL : Nat} {D : XD} {h0 h : TH} {cc : ByteArray} {pc : Nat} {ls : Array Slot} {rest : List Value} {h1 : TH} (hC : XCx D cc nL RX11 h0 p R s m args meth c) (hX : XSt D s h0 h H locs cells slots) (hnh : c.exceptionTable.isEmpty = true) {a : Nat} {x : Nat} (ht : hT h a = 7) (hcF : F_X11_lay D.2.2.2 a h = some (.inr x, h1)) (hl : ls.size = nL) (hW : (rest.map fun v => v.category).sum ≤ 8) (hRf : 8 + 1 ≤ R.frames) (hRl : 235 ≤ R.locals) (hdg : decode cc pc = .ok (.invokevirtual 239, 3)) : W p l e R s m args below meth c H locs cells slots (XMQ below D (.threw (x - 1)) h0 h1 s) (F0 m pc ls (rv a :: rest)) := by
  have q := ht
  exact X_callVT hC hX hnh (by rw [q]; decide) (by rw [q]; rfl) (As := []) (m_X11_lay l D a h _ hcF) (cwV 0 hC.2.2.2.2.1 (lw_V q1402 q1404 qs33 q146 q1405) rfl rfl rfl (by decide +kernel) ⟨Nat.le_trans (Nat.le_of_ble_eq_true rfl) hRf, Nat.le_trans (Nat.le_of_ble_eq_true rfl) hRl⟩) rfl rfl hl hW hdg rfl
/-! BlindCards$Reader.step -/
def F_X11_step_b135 (K : Nat → Nat) (x0 : Nat) (h : TH) : Option ((Unit ⊕ Nat) × TH) :=
  gd (hT h x0 = 7) <|
  bd2 (F_X11_wrong K x0 h) fun r_4 h_3 =>
  gd (r_4 ≠ 0) <|
  some (.inr r_4, h_3)
set_option maxHeartbeats 4000000 in
theorem w_X11_step_b135 {p : Program} {l : Launch} {e : Env} {s : State} {m : MethodId} {args : Array Value} {below : List Frame} {meth : Method} {c : Code} {D : XD} {h0 : TH} (hC : XCx D cX11_step 2 RX11 h0 p (xRm 11 291 h0) s m args meth c) (hr : meth.sig.returnType = none) (hnh : c.exceptionTable.isEmpty = true) (hin : meth.name = "step") {x : ((Unit ⊕ Nat) × TH)} :
    ∀ (x0 : Nat) (h : TH), F_X11_step_b135 D.2.2.2 x0 h = some x → XJ p l e (xRm 11 291 h0) s m args below meth c D 2 (ocV x.1) h0 x.2 135 [(0, rv x0)] [] h := by
  have hx := hC.1
  have hb := hC.2.1
  intro x0 h hF H locs cells slots ls hX hl
  rw [F_X11_step_b135] at hF
  refine X_aload_n hx hb dX11_step_135 rfl (lv_at hl 0 rfl) ?_
  obtain ⟨h_1, hF⟩ := gd_ok hF
  obtain ⟨r_4, h_3, hc_2, hF⟩ := bd2_ok hF
  refine iX_X11_90 hC hX h_1 hc_2 hl.1 (Nat.le_of_ble_eq_true rfl) (Nat.le_of_ble_eq_true rfl) (Nat.le_of_ble_eq_true rfl) dX11_step_136 (fun H locs cells slots hX => ?_)
  obtain ⟨h_5, hF⟩ := gd_ok hF
  cases hF
  exact x_throw hC hX hnh h_5 rfl rfl dX11_step_139
def F_X11_step_b311 (K : Nat → Nat) (y0 : Nat) (y1 : Nat) (h : TH) : Option ((Unit ⊕ Nat) × TH) :=
  gd (hT h y1 = 3) <|
  bd2 (F_J2_add K y1 y0 h) fun r_4 h_3 =>
  some (.inl (), h_3)
set_option maxHeartbeats 4000000 in
theorem w_X11_step_b311 {p : Program} {l : Launch} {e : Env} {s : State} {m : MethodId} {args : Array Value} {below : List Frame} {meth : Method} {c : Code} {D : XD} {h0 : TH} (hC : XCx D cX11_step 2 RX11 h0 p (xRm 11 291 h0) s m args meth c) (hr : meth.sig.returnType = none) (hnh : c.exceptionTable.isEmpty = true) (hin : meth.name = "step") {x : ((Unit ⊕ Nat) × TH)} :
    ∀ (y0 : Nat) (y1 : Nat) (h : TH), F_X11_step_b311 D.2.2.2 y0 y1 h = some x → XJ p l e (xRm 11 291 h0) s m args below meth c D 2 (ocV x.1) h0 x.2 311 [] [rv y0, rv y1] h := by
  have hx := hC.1
  have hb := hC.2.1
  intro y0 y1 h hF H locs cells slots ls hX hl
  rw [F_X11_step_b311] at hF
  obtain ⟨h_1, hF⟩ := gd_ok hF
  obtain ⟨r_4, h_3, hc_2, hF⟩ := bd2_ok hF
  refine iX_X11_224 hC hX h_1 hc_2 hl.1 (Nat.le_of_ble_eq_true rfl) (Nat.le_of_ble_eq_true rfl) (Nat.le_of_ble_eq_true rfl) dX11_step_311 (fun H locs cells slots hX => ?_)
  refine lv_pop hx hb dX11_step_314 rfl ?_
  cases hF
  exact x_retv hC hX hr rfl dX11_step_315
def F_X11_step_b186 (K : Nat → Nat) (x0 : Nat) (y0 : Int32) (y1 : Int32) (y2 : Nat) (h : TH) : Option ((Unit ⊕ Nat) × TH) :=
  gd (hasF (hT h y2) 36 = true) <|
  gd (hT h y2 ≤ 24) <|
  lt (uI h 36 y2 (y1 + y0)) fun h_3 =>
  gd (hasF (hT h_3 x0) 73 = true) <|
  lt (hR h_3 73 x0) fun r_5 =>
  gd (hasF (hT h_3 r_5) 30 = true) <|
  lt (hR h_3 30 r_5) fun r_7 =>
  gd (hT h_3 x0 = 7) <|
  bd (F_X11_isMove K h_3 x0) fun r_10 =>
  if r_10 = 0 then
    lt ((K 20)) fun r_12 =>
    gd (hT h_3 x0 = 7) <|
    bd (F_X11_is K h_3 x0 r_12) fun r_15 =>
    if r_15 = 0 then
      lt ((K 21)) fun r_17 =>
      gd (hT h_3 x0 = 7) <|
      bd (F_X11_is K h_3 x0 r_17) fun r_20 =>
      if r_20 = 0 then
        lt ((K 19)) fun r_22 =>
        gd (hT h_3 x0 = 7) <|
        bd (F_X11_is K h_3 x0 r_22) fun r_25 =>
        if r_25 = 0 then
          lt ((K 22)) fun r_27 =>
          gd (hT h_3 x0 = 7) <|
          bd (F_X11_is K h_3 x0 r_27) fun r_30 =>
          if r_30 = 0 then
            lt ((K 23)) fun r_32 =>
            gd (hT h_3 x0 = 7) <|
            bd (F_X11_is K h_3 x0 r_32) fun r_35 =>
            if r_35 = 0 then
              lt ((K 24)) fun r_37 =>
              gd (hT h_3 x0 = 7) <|
              bd (F_X11_is K h_3 x0 r_37) fun r_40 =>
              if r_40 = 0 then
                gd (hT h_3 x0 = 7) <|
                bt (F_X11_says K x0 h_3) fun r_44 h_45 =>
                F_X11_step_b311 K r_44 r_7 h_45
              else
                gd (hT h_3 x0 = 7) <|
                bt (F_X11_end K x0 h_3) fun r_49 h_50 =>
                F_X11_step_b311 K r_49 r_7 h_50
            else
              gd (hT h_3 x0 = 7) <|
              bt (F_X11_mark K x0 h_3) fun r_54 h_55 =>
              F_X11_step_b311 K r_54 r_7 h_55
          else
            gd (hT h_3 x0 = 7) <|
            bt (F_X11_branch K x0 h_3) fun r_59 h_60 =>
            F_X11_step_b311 K r_59 r_7 h_60
        else
          gd (hT h_3 x0 = 7) <|
          bt (F_X11_open K x0 h_3) fun r_64 h_65 =>
          F_X11_step_b311 K r_64 r_7 h_65
      else
        gd (hT h_3 x0 = 7) <|
        bt (F_X11_put K x0 h_3) fun r_69 h_70 =>
        F_X11_step_b311 K r_69 r_7 h_70
    else
      gd (hT h_3 x0 = 7) <|
      bt (F_X11_lay K x0 h_3) fun r_74 h_75 =>
      F_X11_step_b311 K r_74 r_7 h_75
  else
    gd (hT h_3 x0 = 7) <|
    bt (F_X11_move K x0 h_3) fun r_79 h_80 =>
    F_X11_step_b311 K r_79 r_7 h_80
set_option maxHeartbeats 4000000 in
theorem w_X11_step_b186 {p : Program} {l : Launch} {e : Env} {s : State} {m : MethodId} {args : Array Value} {below : List Frame} {meth : Method} {c : Code} {D : XD} {h0 : TH} (hC : XCx D cX11_step 2 RX11 h0 p (xRm 11 291 h0) s m args meth c) (hr : meth.sig.returnType = none) (hnh : c.exceptionTable.isEmpty = true) (hin : meth.name = "step") {x : ((Unit ⊕ Nat) × TH)} :
    ∀ (x0 : Nat) (y0 : Int32) (y1 : Int32) (y2 : Nat) (h : TH), F_X11_step_b186 D.2.2.2 x0 y0 y1 y2 h = some x → XJ p l e (xRm 11 291 h0) s m args below meth c D 2 (ocV x.1) h0 x.2 186 [(0, rv x0)] [.int y0, .int y1, rv y2] h := by
  have hx := hC.1
  have hb := hC.2.1
  intro x0 y0 y1 y2 h hF H locs cells slots ls hX hl
  rw [F_X11_step_b186] at hF
  refine lv_iadd hx hb dX11_step_186 ?_
  obtain ⟨h_1, hF⟩ := gd_ok hF
  obtain ⟨h_2, hF⟩ := gd_ok hF
  refine pX_X11_236 hC hX h_1 h_2 dX11_step_187 (fun H locs hX => ?_)
  obtain ⟨h_3, eh_3, hF⟩ := lt_ok hF
  rw [← eh_3] at hX
  refine X_aload_n hx hb dX11_step_190 rfl (lv_at hl 0 rfl) ?_
  obtain ⟨h_4, hF⟩ := gd_ok hF
  refine gX_X11_24 hC hX h_4 dX11_step_191 ?_
  refine lv_topr (fun r_5 er_5 => ?_)
  replace hF := lt_at hF er_5
  obtain ⟨h_6, hF⟩ := gd_ok hF
  refine gX_X11_159 hC hX h_6 dX11_step_194 ?_
  refine lv_topr (fun r_7 er_7 => ?_)
  replace hF := lt_at hF er_7
  refine X_aload_n hx hb dX11_step_197 rfl (lv_at hl 0 rfl) ?_
  obtain ⟨h_8, hF⟩ := gd_ok hF
  obtain ⟨r_10, hc_9, hF⟩ := bd_ok hF
  refine iX_X11_214 hC hX h_8 hc_9 hl.1 (cat4 (Nat.le_of_ble_eq_true rfl)) (Nat.le_of_ble_eq_true rfl) (Nat.le_of_ble_eq_true rfl) dX11_step_198 (fun H locs cells slots hX => ?_)
  refine lv_if_eq (tgt := 211) hx hb dX11_step_201 (by decide) (fun c_11 => ?_) (fun c_11 => ?_)
  · replace hF := it_t hF c_11
    refine X_aload_n hx hb dX11_step_211 rfl (lv_at hl 0 rfl) ?_
    refine X_ldcS hC (i := 20) (List.mem_of_getElem? (i := 20) rfl) dX11_step_212 ?_
    refine lv_topr (fun r_12 er_12 => ?_)
    replace hF := lt_at hF er_12
    obtain ⟨h_13, hF⟩ := gd_ok hF
    obtain ⟨r_15, hc_14, hF⟩ := bd_ok hF
    refine iX_X11_86 hC hX h_13 hc_14 hl.1 (cat4 (Nat.le_of_ble_eq_true rfl)) (Nat.le_of_ble_eq_true rfl) (Nat.le_of_ble_eq_true rfl) dX11_step_214 (fun H locs cells slots hX => ?_)
    refine lv_if_eq (tgt := 227) hx hb dX11_step_217 (by decide) (fun c_16 => ?_) (fun c_16 => ?_)
    · replace hF := it_t hF c_16
      refine X_aload_n hx hb dX11_step_227 rfl (lv_at hl 0 rfl) ?_
      refine X_ldcS hC (i := 21) (List.mem_of_getElem? (i := 21) rfl) dX11_step_228 ?_
      refine lv_topr (fun r_17 er_17 => ?_)
      replace hF := lt_at hF er_17
      obtain ⟨h_18, hF⟩ := gd_ok hF
      obtain ⟨r_20, hc_19, hF⟩ := bd_ok hF
      refine iX_X11_86 hC hX h_18 hc_19 hl.1 (cat4 (Nat.le_of_ble_eq_true rfl)) (Nat.le_of_ble_eq_true rfl) (Nat.le_of_ble_eq_true rfl) dX11_step_230 (fun H locs cells slots hX => ?_)
      refine lv_if_eq (tgt := 243) hx hb dX11_step_233 (by decide) (fun c_21 => ?_) (fun c_21 => ?_)
      · replace hF := it_t hF c_21
        refine X_aload_n hx hb dX11_step_243 rfl (lv_at hl 0 rfl) ?_
        refine X_ldcS hC (i := 19) (List.mem_of_getElem? (i := 19) rfl) dX11_step_244 ?_
        refine lv_topr (fun r_22 er_22 => ?_)
        replace hF := lt_at hF er_22
        obtain ⟨h_23, hF⟩ := gd_ok hF
        obtain ⟨r_25, hc_24, hF⟩ := bd_ok hF
        refine iX_X11_86 hC hX h_23 hc_24 hl.1 (cat4 (Nat.le_of_ble_eq_true rfl)) (Nat.le_of_ble_eq_true rfl) (Nat.le_of_ble_eq_true rfl) dX11_step_246 (fun H locs cells slots hX => ?_)
        refine lv_if_eq (tgt := 259) hx hb dX11_step_249 (by decide) (fun c_26 => ?_) (fun c_26 => ?_)
        · replace hF := it_t hF c_26
          refine X_aload_n hx hb dX11_step_259 rfl (lv_at hl 0 rfl) ?_
          refine X_ldcS hC (i := 22) (List.mem_of_getElem? (i := 22) rfl) dX11_step_260 ?_
          refine lv_topr (fun r_27 er_27 => ?_)
          replace hF := lt_at hF er_27
          obtain ⟨h_28, hF⟩ := gd_ok hF
          obtain ⟨r_30, hc_29, hF⟩ := bd_ok hF
          refine iX_X11_86 hC hX h_28 hc_29 hl.1 (cat4 (Nat.le_of_ble_eq_true rfl)) (Nat.le_of_ble_eq_true rfl) (Nat.le_of_ble_eq_true rfl) dX11_step_262 (fun H locs cells slots hX => ?_)
          refine lv_if_eq (tgt := 275) hx hb dX11_step_265 (by decide) (fun c_31 => ?_) (fun c_31 => ?_)
          · replace hF := it_t hF c_31
            refine X_aload_n hx hb dX11_step_275 rfl (lv_at hl 0 rfl) ?_
            refine X_ldcS hC (i := 23) (List.mem_of_getElem? (i := 23) rfl) dX11_step_276 ?_
            refine lv_topr (fun r_32 er_32 => ?_)
            replace hF := lt_at hF er_32
            obtain ⟨h_33, hF⟩ := gd_ok hF
            obtain ⟨r_35, hc_34, hF⟩ := bd_ok hF
            refine iX_X11_86 hC hX h_33 hc_34 hl.1 (cat4 (Nat.le_of_ble_eq_true rfl)) (Nat.le_of_ble_eq_true rfl) (Nat.le_of_ble_eq_true rfl) dX11_step_278 (fun H locs cells slots hX => ?_)
            refine lv_if_eq (tgt := 291) hx hb dX11_step_281 (by decide) (fun c_36 => ?_) (fun c_36 => ?_)
            · replace hF := it_t hF c_36
              refine X_aload_n hx hb dX11_step_291 rfl (lv_at hl 0 rfl) ?_
              refine X_ldcS hC (i := 24) (List.mem_of_getElem? (i := 24) rfl) dX11_step_292 ?_
              refine lv_topr (fun r_37 er_37 => ?_)
              replace hF := lt_at hF er_37
              obtain ⟨h_38, hF⟩ := gd_ok hF
              obtain ⟨r_40, hc_39, hF⟩ := bd_ok hF
              refine iX_X11_86 hC hX h_38 hc_39 hl.1 (cat4 (Nat.le_of_ble_eq_true rfl)) (Nat.le_of_ble_eq_true rfl) (Nat.le_of_ble_eq_true rfl) dX11_step_294 (fun H locs cells slots hX => ?_)
              refine lv_if_eq (tgt := 307) hx hb dX11_step_297 (by decide) (fun c_41 => ?_) (fun c_41 => ?_)
              · replace hF := it_t hF c_41
                refine X_aload_n hx hb dX11_step_307 rfl (lv_at hl 0 rfl) ?_
                obtain ⟨h_42, hF⟩ := gd_ok hF
                rcases bt_ok hF with ⟨r_44, h_45, hc_43, hF⟩ | ⟨z_46, h_45, hc_43, hxx⟩
                rotate_left
                · subst hxx
                  exact iX_X11_251_t hC hX hnh h_42 hc_43 hl.1 (cat4 (Nat.le_of_ble_eq_true rfl)) (Nat.le_of_ble_eq_true rfl) (Nat.le_of_ble_eq_true rfl) dX11_step_308
                refine iX_X11_251 hC hX h_42 hc_43 hl.1 (cat4 (Nat.le_of_ble_eq_true rfl)) (Nat.le_of_ble_eq_true rfl) (Nat.le_of_ble_eq_true rfl) dX11_step_308 (fun H locs cells slots hX => ?_)
                exact w_X11_step_b311 hC hr hnh hin r_44 r_7 h_45 hF H locs cells slots ls hX (lv_sub hl [] rfl)
              · replace hF := it_f hF c_41
                refine X_aload_n hx hb dX11_step_300 rfl (lv_at hl 0 rfl) ?_
                obtain ⟨h_47, hF⟩ := gd_ok hF
                rcases bt_ok hF with ⟨r_49, h_50, hc_48, hF⟩ | ⟨z_51, h_50, hc_48, hxx⟩
                rotate_left
                · subst hxx
                  exact iX_X11_249_t hC hX hnh h_47 hc_48 hl.1 (cat4 (Nat.le_of_ble_eq_true rfl)) (Nat.le_of_ble_eq_true rfl) (Nat.le_of_ble_eq_true rfl) dX11_step_301
                refine iX_X11_249 hC hX h_47 hc_48 hl.1 (cat4 (Nat.le_of_ble_eq_true rfl)) (Nat.le_of_ble_eq_true rfl) (Nat.le_of_ble_eq_true rfl) dX11_step_301 (fun H locs cells slots hX => ?_)
                refine lv_goto (tgt := 311) hx hb dX11_step_304 (by decide) ?_
                exact w_X11_step_b311 hC hr hnh hin r_49 r_7 h_50 hF H locs cells slots ls hX (lv_sub hl [] rfl)
            · replace hF := it_f hF c_36
              refine X_aload_n hx hb dX11_step_284 rfl (lv_at hl 0 rfl) ?_
              obtain ⟨h_52, hF⟩ := gd_ok hF
              rcases bt_ok hF with ⟨r_54, h_55, hc_53, hF⟩ | ⟨z_56, h_55, hc_53, hxx⟩
              rotate_left
              · subst hxx
                exact iX_X11_247_t hC hX hnh h_52 hc_53 hl.1 (cat4 (Nat.le_of_ble_eq_true rfl)) (Nat.le_of_ble_eq_true rfl) (Nat.le_of_ble_eq_true rfl) dX11_step_285
              refine iX_X11_247 hC hX h_52 hc_53 hl.1 (cat4 (Nat.le_of_ble_eq_true rfl)) (Nat.le_of_ble_eq_true rfl) (Nat.le_of_ble_eq_true rfl) dX11_step_285 (fun H locs cells slots hX => ?_)
              refine lv_goto (tgt := 311) hx hb dX11_step_288 (by decide) ?_
              exact w_X11_step_b311 hC hr hnh hin r_54 r_7 h_55 hF H locs cells slots ls hX (lv_sub hl [] rfl)
          · replace hF := it_f hF c_31
            refine X_aload_n hx hb dX11_step_268 rfl (lv_at hl 0 rfl) ?_
            obtain ⟨h_57, hF⟩ := gd_ok hF
            rcases bt_ok hF with ⟨r_59, h_60, hc_58, hF⟩ | ⟨z_61, h_60, hc_58, hxx⟩
            rotate_left
            · subst hxx
              exact iX_X11_244_t hC hX hnh h_57 hc_58 hl.1 (cat4 (Nat.le_of_ble_eq_true rfl)) (Nat.le_of_ble_eq_true rfl) (Nat.le_of_ble_eq_true rfl) dX11_step_269
            refine iX_X11_244 hC hX h_57 hc_58 hl.1 (cat4 (Nat.le_of_ble_eq_true rfl)) (Nat.le_of_ble_eq_true rfl) (Nat.le_of_ble_eq_true rfl) dX11_step_269 (fun H locs cells slots hX => ?_)
            refine lv_goto (tgt := 311) hx hb dX11_step_272 (by decide) ?_
            exact w_X11_step_b311 hC hr hnh hin r_59 r_7 h_60 hF H locs cells slots ls hX (lv_sub hl [] rfl)
        · replace hF := it_f hF c_26
          refine X_aload_n hx hb dX11_step_252 rfl (lv_at hl 0 rfl) ?_
          obtain ⟨h_62, hF⟩ := gd_ok hF
          rcases bt_ok hF with ⟨r_64, h_65, hc_63, hF⟩ | ⟨z_66, h_65, hc_63, hxx⟩
          rotate_left
          · subst hxx
            exact iX_X11_230_t hC hX hnh h_62 hc_63 hl.1 (cat4 (Nat.le_of_ble_eq_true rfl)) (Nat.le_of_ble_eq_true rfl) (Nat.le_of_ble_eq_true rfl) dX11_step_253
          refine iX_X11_230 hC hX h_62 hc_63 hl.1 (cat4 (Nat.le_of_ble_eq_true rfl)) (Nat.le_of_ble_eq_true rfl) (Nat.le_of_ble_eq_true rfl) dX11_step_253 (fun H locs cells slots hX => ?_)
          refine lv_goto (tgt := 311) hx hb dX11_step_256 (by decide) ?_
          exact w_X11_step_b311 hC hr hnh hin r_64 r_7 h_65 hF H locs cells slots ls hX (lv_sub hl [] rfl)
      · replace hF := it_f hF c_21
        refine X_aload_n hx hb dX11_step_236 rfl (lv_at hl 0 rfl) ?_
        obtain ⟨h_67, hF⟩ := gd_ok hF
        rcases bt_ok hF with ⟨r_69, h_70, hc_68, hF⟩ | ⟨z_71, h_70, hc_68, hxx⟩
        rotate_left
        · subst hxx
          exact iX_X11_242_t hC hX hnh h_67 hc_68 hl.1 (cat4 (Nat.le_of_ble_eq_true rfl)) (Nat.le_of_ble_eq_true rfl) (Nat.le_of_ble_eq_true rfl) dX11_step_237
        refine iX_X11_242 hC hX h_67 hc_68 hl.1 (cat4 (Nat.le_of_ble_eq_true rfl)) (Nat.le_of_ble_eq_true rfl) (Nat.le_of_ble_eq_true rfl) dX11_step_237 (fun H locs cells slots hX => ?_)
        refine lv_goto (tgt := 311) hx hb dX11_step_240 (by decide) ?_
        exact w_X11_step_b311 hC hr hnh hin r_69 r_7 h_70 hF H locs cells slots ls hX (lv_sub hl [] rfl)
    · replace hF := it_f hF c_16
      refine X_aload_n hx hb dX11_step_220 rfl (lv_at hl 0 rfl) ?_
      obtain ⟨h_72, hF⟩ := gd_ok hF
      rcases bt_ok hF with ⟨r_74, h_75, hc_73, hF⟩ | ⟨z_76, h_75, hc_73, hxx⟩
      rotate_left
      · subst hxx
        exact iX_X11_239_t hC hX hnh h_72 hc_73 hl.1 (cat4 (Nat.le_of_ble_eq_true rfl)) (Nat.le_of_ble_eq_true rfl) (Nat.le_of_ble_eq_true rfl) dX11_step_221
      refine iX_X11_239 hC hX h_72 hc_73 hl.1 (cat4 (Nat.le_of_ble_eq_true rfl)) (Nat.le_of_ble_eq_true rfl) (Nat.le_of_ble_eq_true rfl) dX11_step_221 (fun H locs cells slots hX => ?_)
      refine lv_goto (tgt := 311) hx hb dX11_step_224 (by decide) ?_
      exact w_X11_step_b311 hC hr hnh hin r_74 r_7 h_75 hF H locs cells slots ls hX (lv_sub hl [] rfl)
  · replace hF := it_f hF c_11
    refine X_aload_n hx hb dX11_step_204 rfl (lv_at hl 0 rfl) ?_
    obtain ⟨h_77, hF⟩ := gd_ok hF
    rcases bt_ok hF with ⟨r_79, h_80, hc_78, hF⟩ | ⟨z_81, h_80, hc_78, hxx⟩
    rotate_left
    · subst hxx
      exact iX_X11_220_t hC hX hnh h_77 hc_78 hl.1 (cat4 (Nat.le_of_ble_eq_true rfl)) (Nat.le_of_ble_eq_true rfl) (Nat.le_of_ble_eq_true rfl) dX11_step_205
    refine iX_X11_220 hC hX h_77 hc_78 hl.1 (cat4 (Nat.le_of_ble_eq_true rfl)) (Nat.le_of_ble_eq_true rfl) (Nat.le_of_ble_eq_true rfl) dX11_step_205 (fun H locs cells slots hX => ?_)
    refine lv_goto (tgt := 311) hx hb dX11_step_208 (by decide) ?_
    exact w_X11_step_b311 hC hr hnh hin r_79 r_7 h_80 hF H locs cells slots ls hX (lv_sub hl [] rfl)
def F_X11_step_b162 (K : Nat → Nat) (x0 : Nat) (y0 : Int32) (y1 : Int32) (y2 : Nat) (h : TH) : Option ((Unit ⊕ Nat) × TH) :=
  gd (hasF (hT h y2) 35 = true) <|
  gd (hT h y2 ≤ 24) <|
  lt (uI h 35 y2 (y1 + y0)) fun h_3 =>
  gd (hasF (hT h_3 x0) 73 = true) <|
  lt (hR h_3 73 x0) fun r_5 =>
  gd (hasF (hT h_3 r_5) 36 = true) <|
  gd (hT h_3 x0 = 7) <|
  bd (F_X11_isShuffle K h_3 x0) fun r_9 =>
  if r_9 = 0 then
    F_X11_step_b186 K x0 (0 : Int32) (hI h_3 36 r_5) r_5 h_3
  else
    F_X11_step_b186 K x0 (1 : Int32) (hI h_3 36 r_5) r_5 h_3
set_option maxHeartbeats 4000000 in
theorem w_X11_step_b162 {p : Program} {l : Launch} {e : Env} {s : State} {m : MethodId} {args : Array Value} {below : List Frame} {meth : Method} {c : Code} {D : XD} {h0 : TH} (hC : XCx D cX11_step 2 RX11 h0 p (xRm 11 291 h0) s m args meth c) (hr : meth.sig.returnType = none) (hnh : c.exceptionTable.isEmpty = true) (hin : meth.name = "step") {x : ((Unit ⊕ Nat) × TH)} :
    ∀ (x0 : Nat) (y0 : Int32) (y1 : Int32) (y2 : Nat) (h : TH), F_X11_step_b162 D.2.2.2 x0 y0 y1 y2 h = some x → XJ p l e (xRm 11 291 h0) s m args below meth c D 2 (ocV x.1) h0 x.2 162 [(0, rv x0)] [.int y0, .int y1, rv y2] h := by
  have hx := hC.1
  have hb := hC.2.1
  intro x0 y0 y1 y2 h hF H locs cells slots ls hX hl
  rw [F_X11_step_b162] at hF
  refine lv_iadd hx hb dX11_step_162 ?_
  obtain ⟨h_1, hF⟩ := gd_ok hF
  obtain ⟨h_2, hF⟩ := gd_ok hF
  refine pX_X11_233 hC hX h_1 h_2 dX11_step_163 (fun H locs hX => ?_)
  obtain ⟨h_3, eh_3, hF⟩ := lt_ok hF
  rw [← eh_3] at hX
  refine X_aload_n hx hb dX11_step_166 rfl (lv_at hl 0 rfl) ?_
  obtain ⟨h_4, hF⟩ := gd_ok hF
  refine gX_X11_24 hC hX h_4 dX11_step_167 ?_
  refine lv_topr (fun r_5 er_5 => ?_)
  replace hF := lt_at hF er_5
  refine lv_dup hx hb dX11_step_170 (rv_cat _) ?_
  obtain ⟨h_6, hF⟩ := gd_ok hF
  refine gX_X11_236 hC hX h_6 dX11_step_171 ?_
  refine X_aload_n hx hb dX11_step_174 rfl (lv_at hl 0 rfl) ?_
  obtain ⟨h_7, hF⟩ := gd_ok hF
  obtain ⟨r_9, hc_8, hF⟩ := bd_ok hF
  refine iX_X11_210 hC hX h_7 hc_8 hl.1 (cat4 (Nat.le_of_ble_eq_true rfl)) (Nat.le_of_ble_eq_true rfl) (Nat.le_of_ble_eq_true rfl) dX11_step_175 (fun H locs cells slots hX => ?_)
  refine lv_if_eq (tgt := 185) hx hb dX11_step_178 (by decide) (fun c_10 => ?_) (fun c_10 => ?_)
  · replace hF := it_t hF c_10
    refine lv_iconst (v := 0) hx hb dX11_step_185 (by decide) ?_
    exact w_X11_step_b186 hC hr hnh hin x0 (0 : Int32) (hI h_3 36 r_5) r_5 h_3 hF H locs cells slots ls hX (lv_sub hl [0] rfl)
  · replace hF := it_f hF c_10
    refine lv_iconst (v := 1) hx hb dX11_step_181 (by decide) ?_
    refine lv_goto (tgt := 186) hx hb dX11_step_182 (by decide) ?_
    exact w_X11_step_b186 hC hr hnh hin x0 (1 : Int32) (hI h_3 36 r_5) r_5 h_3 hF H locs cells slots ls hX (lv_sub hl [0] rfl)
def F_X11_step_b140 (K : Nat → Nat) (x0 : Nat) (h : TH) : Option ((Unit ⊕ Nat) × TH) :=
  gd (hasF (hT h x0) 73 = true) <|
  lt (hR h 73 x0) fun r_2 =>
  gd (hasF (hT h r_2) 35 = true) <|
  lt ((K 19)) fun r_4 =>
  gd (hT h x0 = 7) <|
  bd (F_X11_is K h x0 r_4) fun r_7 =>
  if r_7 = 0 then
    F_X11_step_b162 K x0 (0 : Int32) (hI h 35 r_2) r_2 h
  else
    F_X11_step_b162 K x0 (1 : Int32) (hI h 35 r_2) r_2 h
set_option maxHeartbeats 4000000 in
theorem w_X11_step_b140 {p : Program} {l : Launch} {e : Env} {s : State} {m : MethodId} {args : Array Value} {below : List Frame} {meth : Method} {c : Code} {D : XD} {h0 : TH} (hC : XCx D cX11_step 2 RX11 h0 p (xRm 11 291 h0) s m args meth c) (hr : meth.sig.returnType = none) (hnh : c.exceptionTable.isEmpty = true) (hin : meth.name = "step") {x : ((Unit ⊕ Nat) × TH)} :
    ∀ (x0 : Nat) (h : TH), F_X11_step_b140 D.2.2.2 x0 h = some x → XJ p l e (xRm 11 291 h0) s m args below meth c D 2 (ocV x.1) h0 x.2 140 [(0, rv x0)] [] h := by
  have hx := hC.1
  have hb := hC.2.1
  intro x0 h hF H locs cells slots ls hX hl
  rw [F_X11_step_b140] at hF
  refine X_aload_n hx hb dX11_step_140 rfl (lv_at hl 0 rfl) ?_
  obtain ⟨h_1, hF⟩ := gd_ok hF
  refine gX_X11_24 hC hX h_1 dX11_step_141 ?_
  refine lv_topr (fun r_2 er_2 => ?_)
  replace hF := lt_at hF er_2
  refine lv_dup hx hb dX11_step_144 (rv_cat _) ?_
  obtain ⟨h_3, hF⟩ := gd_ok hF
  refine gX_X11_233 hC hX h_3 dX11_step_145 ?_
  refine X_aload_n hx hb dX11_step_148 rfl (lv_at hl 0 rfl) ?_
  refine X_ldcS hC (i := 19) (List.mem_of_getElem? (i := 19) rfl) dX11_step_149 ?_
  refine lv_topr (fun r_4 er_4 => ?_)
  replace hF := lt_at hF er_4
  obtain ⟨h_5, hF⟩ := gd_ok hF
  obtain ⟨r_7, hc_6, hF⟩ := bd_ok hF
  refine iX_X11_86 hC hX h_5 hc_6 hl.1 (cat4 (Nat.le_of_ble_eq_true rfl)) (Nat.le_of_ble_eq_true rfl) (Nat.le_of_ble_eq_true rfl) dX11_step_151 (fun H locs cells slots hX => ?_)
  refine lv_if_eq (tgt := 161) hx hb dX11_step_154 (by decide) (fun c_8 => ?_) (fun c_8 => ?_)
  · replace hF := it_t hF c_8
    refine lv_iconst (v := 0) hx hb dX11_step_161 (by decide) ?_
    exact w_X11_step_b162 hC hr hnh hin x0 (0 : Int32) (hI h 35 r_2) r_2 h hF H locs cells slots ls hX (lv_sub hl [0] rfl)
  · replace hF := it_f hF c_8
    refine lv_iconst (v := 1) hx hb dX11_step_157 (by decide) ?_
    refine lv_goto (tgt := 162) hx hb dX11_step_158 (by decide) ?_
    exact w_X11_step_b162 hC hr hnh hin x0 (1 : Int32) (hI h 35 r_2) r_2 h hF H locs cells slots ls hX (lv_sub hl [0] rfl)
def F_X11_step_b116 (K : Nat → Nat) (k135 : Nat → TH → Option ((Unit ⊕ Nat) × TH)) (x0 : Nat) (h : TH) : Option ((Unit ⊕ Nat) × TH) :=
  gd (hT h x0 = 7) <|
  bd (F_X11_isShuffle K h x0) fun r_3 =>
  if r_3 = 0 then
    F_X11_step_b140 K x0 h
  else
    gd (hasF (hT h x0) 73 = true) <|
    lt (hR h 73 x0) fun r_6 =>
    gd (hasF (hT h r_6) 36 = true) <|
    if (hI h 36 r_6) = (8 : Int32) then
      k135 x0 h
    else
      F_X11_step_b140 K x0 h
set_option maxHeartbeats 4000000 in
theorem w_X11_step_b116 {p : Program} {l : Launch} {e : Env} {s : State} {m : MethodId} {args : Array Value} {below : List Frame} {meth : Method} {c : Code} {D : XD} {h0 : TH} (hC : XCx D cX11_step 2 RX11 h0 p (xRm 11 291 h0) s m args meth c) (hr : meth.sig.returnType = none) (hnh : c.exceptionTable.isEmpty = true) (hin : meth.name = "step") {x : ((Unit ⊕ Nat) × TH)} (k135 : Nat → TH → Option ((Unit ⊕ Nat) × TH)) (hk135 : ∀ (x0 : Nat) (h : TH), k135 x0 h = some x → XJ p l e (xRm 11 291 h0) s m args below meth c D 2 (ocV x.1) h0 x.2 135 [(0, rv x0)] [] h) :
    ∀ (x0 : Nat) (h : TH), F_X11_step_b116 D.2.2.2 k135 x0 h = some x → XJ p l e (xRm 11 291 h0) s m args below meth c D 2 (ocV x.1) h0 x.2 116 [(0, rv x0)] [] h := by
  have hx := hC.1
  have hb := hC.2.1
  intro x0 h hF H locs cells slots ls hX hl
  rw [F_X11_step_b116] at hF
  refine X_aload_n hx hb dX11_step_116 rfl (lv_at hl 0 rfl) ?_
  obtain ⟨h_1, hF⟩ := gd_ok hF
  obtain ⟨r_3, hc_2, hF⟩ := bd_ok hF
  refine iX_X11_210 hC hX h_1 hc_2 hl.1 (Nat.le_of_ble_eq_true rfl) (Nat.le_of_ble_eq_true rfl) (Nat.le_of_ble_eq_true rfl) dX11_step_117 (fun H locs cells slots hX => ?_)
  refine lv_if_eq (tgt := 140) hx hb dX11_step_120 (by decide) (fun c_4 => ?_) (fun c_4 => ?_)
  · replace hF := it_t hF c_4
    exact w_X11_step_b140 hC hr hnh hin x0 h hF H locs cells slots ls hX (lv_sub hl [0] rfl)
  · replace hF := it_f hF c_4
    refine X_aload_n hx hb dX11_step_123 rfl (lv_at hl 0 rfl) ?_
    obtain ⟨h_5, hF⟩ := gd_ok hF
    refine gX_X11_24 hC hX h_5 dX11_step_124 ?_
    refine lv_topr (fun r_6 er_6 => ?_)
    replace hF := lt_at hF er_6
    obtain ⟨h_7, hF⟩ := gd_ok hF
    refine gX_X11_236 hC hX h_7 dX11_step_127 ?_
    refine lv_bipush (v := 8) hx hb dX11_step_130 (by decide) ?_
    refine lv_icmp_ne (tgt := 140) hx hb dX11_step_132 (by decide) (fun c_8 => ?_) (fun c_8 => ?_)
    · replace hF := it_f hF c_8
      exact w_X11_step_b140 hC hr hnh hin x0 h hF H locs cells slots ls hX (lv_sub hl [0] rfl)
    · replace hF := it_t hF c_8
      exact hk135 x0 h hF H locs cells slots ls hX (lv_sub hl [0] rfl)
def F_X11_step_b75 (K : Nat → Nat) (x0 : Nat) (y0 : Int32) (h : TH) : Option ((Unit ⊕ Nat) × TH) :=
  if y0 = 0 then
    F_X11_step_b135 K x0 h
  else
    gd (hasF (hT h x0) 73 = true) <|
    lt (hR h 73 x0) fun r_3 =>
    gd (hasF (hT h r_3) 30 = true) <|
    lt (hR h 30 r_3) fun r_5 =>
    gd (hT h r_5 = 3) <|
    bd (F_J2_size K h r_5) fun r_8 =>
    if r_8 = (40 : Int32) then
      F_X11_step_b135 K x0 h
    else
      lt ((K 19)) fun r_10 =>
      gd (hT h x0 = 7) <|
      bd (F_X11_is K h x0 r_10) fun r_13 =>
      if r_13 = 0 then
        F_X11_step_b116 K (F_X11_step_b135 K) x0 h
      else
        gd (hasF (hT h x0) 73 = true) <|
        lt (hR h 73 x0) fun r_16 =>
        gd (hasF (hT h r_16) 35 = true) <|
        if (hI h 35 r_16) = (6 : Int32) then
          F_X11_step_b135 K x0 h
        else
          F_X11_step_b116 K (F_X11_step_b135 K) x0 h
set_option maxHeartbeats 4000000 in
theorem w_X11_step_b75 {p : Program} {l : Launch} {e : Env} {s : State} {m : MethodId} {args : Array Value} {below : List Frame} {meth : Method} {c : Code} {D : XD} {h0 : TH} (hC : XCx D cX11_step 2 RX11 h0 p (xRm 11 291 h0) s m args meth c) (hr : meth.sig.returnType = none) (hnh : c.exceptionTable.isEmpty = true) (hin : meth.name = "step") {x : ((Unit ⊕ Nat) × TH)} :
    ∀ (x0 : Nat) (y0 : Int32) (h : TH), F_X11_step_b75 D.2.2.2 x0 y0 h = some x → XJ p l e (xRm 11 291 h0) s m args below meth c D 2 (ocV x.1) h0 x.2 75 [(0, rv x0)] [.int y0] h := by
  have hx := hC.1
  have hb := hC.2.1
  intro x0 y0 h hF H locs cells slots ls hX hl
  rw [F_X11_step_b75] at hF
  refine lv_istore_n (i := 1) hx hb dX11_step_75 rfl hl (by decide) rfl (fun ls hl => ?_)
  replace hl : lv_has ls 2 [(1, .int y0), (0, rv x0)] := lv_subS hl (List.forall_mem_cons.mpr ⟨Or.inl rfl, (List.forall_mem_cons.mpr ⟨Or.inr ⟨List.mem_of_getElem? (i := 0) rfl, by simp [rv_cat]⟩, (fun _ h => nomatch h)⟩)⟩)
  refine lv_iload_n hx hb dX11_step_76 rfl (lv_at hl 0 rfl) ?_
  refine lv_if_eq (tgt := 135) hx hb dX11_step_77 (by decide) (fun c_1 => ?_) (fun c_1 => ?_)
  · replace hF := it_t hF c_1
    exact w_X11_step_b135 hC hr hnh hin x0 h hF H locs cells slots ls hX (lv_sub hl [1] rfl)
  · replace hF := it_f hF c_1
    refine X_aload_n hx hb dX11_step_80 rfl (lv_at hl 1 rfl) ?_
    obtain ⟨h_2, hF⟩ := gd_ok hF
    refine gX_X11_24 hC hX h_2 dX11_step_81 ?_
    refine lv_topr (fun r_3 er_3 => ?_)
    replace hF := lt_at hF er_3
    obtain ⟨h_4, hF⟩ := gd_ok hF
    refine gX_X11_159 hC hX h_4 dX11_step_84 ?_
    refine lv_topr (fun r_5 er_5 => ?_)
    replace hF := lt_at hF er_5
    obtain ⟨h_6, hF⟩ := gd_ok hF
    obtain ⟨r_8, hc_7, hF⟩ := bd_ok hF
    refine iX_X11_163 hC hX h_6 hc_7 hl.1 (Nat.le_of_ble_eq_true rfl) (Nat.le_of_ble_eq_true rfl) (Nat.le_of_ble_eq_true rfl) dX11_step_87 (fun H locs cells slots hX => ?_)
    refine lv_bipush (v := 40) hx hb dX11_step_90 (by decide) ?_
    refine lv_icmp_eq (tgt := 135) hx hb dX11_step_92 (by decide) (fun c_9 => ?_) (fun c_9 => ?_)
    · replace hF := it_t hF c_9
      exact w_X11_step_b135 hC hr hnh hin x0 h hF H locs cells slots ls hX (lv_sub hl [1] rfl)
    · replace hF := it_f hF c_9
      refine X_aload_n hx hb dX11_step_95 rfl (lv_at hl 1 rfl) ?_
      refine X_ldcS hC (i := 19) (List.mem_of_getElem? (i := 19) rfl) dX11_step_96 ?_
      refine lv_topr (fun r_10 er_10 => ?_)
      replace hF := lt_at hF er_10
      obtain ⟨h_11, hF⟩ := gd_ok hF
      obtain ⟨r_13, hc_12, hF⟩ := bd_ok hF
      refine iX_X11_86 hC hX h_11 hc_12 hl.1 (Nat.le_of_ble_eq_true rfl) (Nat.le_of_ble_eq_true rfl) (Nat.le_of_ble_eq_true rfl) dX11_step_98 (fun H locs cells slots hX => ?_)
      refine lv_if_eq (tgt := 116) hx hb dX11_step_101 (by decide) (fun c_14 => ?_) (fun c_14 => ?_)
      · replace hF := it_t hF c_14
        exact w_X11_step_b116 hC hr hnh hin (F_X11_step_b135 D.2.2.2) (w_X11_step_b135 hC hr hnh hin) x0 h hF H locs cells slots ls hX (lv_sub hl [1] rfl)
      · replace hF := it_f hF c_14
        refine X_aload_n hx hb dX11_step_104 rfl (lv_at hl 1 rfl) ?_
        obtain ⟨h_15, hF⟩ := gd_ok hF
        refine gX_X11_24 hC hX h_15 dX11_step_105 ?_
        refine lv_topr (fun r_16 er_16 => ?_)
        replace hF := lt_at hF er_16
        obtain ⟨h_17, hF⟩ := gd_ok hF
        refine gX_X11_233 hC hX h_17 dX11_step_108 ?_
        refine lv_bipush (v := 6) hx hb dX11_step_111 (by decide) ?_
        refine lv_icmp_eq (tgt := 135) hx hb dX11_step_113 (by decide) (fun c_18 => ?_) (fun c_18 => ?_)
        · replace hF := it_t hF c_18
          exact w_X11_step_b135 hC hr hnh hin x0 h hF H locs cells slots ls hX (lv_sub hl [1] rfl)
        · replace hF := it_f hF c_18
          exact w_X11_step_b116 hC hr hnh hin (F_X11_step_b135 D.2.2.2) (w_X11_step_b135 hC hr hnh hin) x0 h hF H locs cells slots ls hX (lv_sub hl [1] rfl)
def F_X11_step_b70 (K : Nat → Nat) (k75 : Nat → Int32 → TH → Option ((Unit ⊕ Nat) × TH)) (x0 : Nat) (h : TH) : Option ((Unit ⊕ Nat) × TH) :=
  k75 x0 (1 : Int32) h
set_option maxHeartbeats 4000000 in
theorem w_X11_step_b70 {p : Program} {l : Launch} {e : Env} {s : State} {m : MethodId} {args : Array Value} {below : List Frame} {meth : Method} {c : Code} {D : XD} {h0 : TH} (hC : XCx D cX11_step 2 RX11 h0 p (xRm 11 291 h0) s m args meth c) (hr : meth.sig.returnType = none) (hnh : c.exceptionTable.isEmpty = true) (hin : meth.name = "step") {x : ((Unit ⊕ Nat) × TH)} (k75 : Nat → Int32 → TH → Option ((Unit ⊕ Nat) × TH)) (hk75 : ∀ (x0 : Nat) (y0 : Int32) (h : TH), k75 x0 y0 h = some x → XJ p l e (xRm 11 291 h0) s m args below meth c D 2 (ocV x.1) h0 x.2 75 [(0, rv x0)] [.int y0] h) :
    ∀ (x0 : Nat) (h : TH), F_X11_step_b70 D.2.2.2 k75 x0 h = some x → XJ p l e (xRm 11 291 h0) s m args below meth c D 2 (ocV x.1) h0 x.2 70 [(0, rv x0)] [] h := by
  have hx := hC.1
  have hb := hC.2.1
  intro x0 h hF H locs cells slots ls hX hl
  rw [F_X11_step_b70] at hF
  refine lv_iconst (v := 1) hx hb dX11_step_70 (by decide) ?_
  refine lv_goto (tgt := 75) hx hb dX11_step_71 (by decide) ?_
  exact hk75 x0 (1 : Int32) h hF H locs cells slots ls hX (lv_sub hl [0] rfl)
def F_X11_step (K : Nat → Nat) (a0 : Nat) (h : TH) : Option ((Unit ⊕ Nat) × TH) :=
  gd (hT h a0 = 7) <|
  bd (F_X11_isMove K h a0) fun r_3 =>
  if r_3 = 0 then
    lt ((K 20)) fun r_5 =>
    gd (hT h a0 = 7) <|
    bd (F_X11_is K h a0 r_5) fun r_8 =>
    if r_8 = 0 then
      lt ((K 21)) fun r_10 =>
      gd (hT h a0 = 7) <|
      bd (F_X11_is K h a0 r_10) fun r_13 =>
      if r_13 = 0 then
        lt ((K 19)) fun r_15 =>
        gd (hT h a0 = 7) <|
        bd (F_X11_is K h a0 r_15) fun r_18 =>
        if r_18 = 0 then
          lt ((K 22)) fun r_20 =>
          gd (hT h a0 = 7) <|
          bd (F_X11_is K h a0 r_20) fun r_23 =>
          if r_23 = 0 then
            lt ((K 23)) fun r_25 =>
            gd (hT h a0 = 7) <|
            bd (F_X11_is K h a0 r_25) fun r_28 =>
            if r_28 = 0 then
              lt ((K 24)) fun r_30 =>
              gd (hT h a0 = 7) <|
              bd (F_X11_is K h a0 r_30) fun r_33 =>
              if r_33 = 0 then
                lt ((K 25)) fun r_35 =>
                gd (hT h a0 = 7) <|
                bd (F_X11_is K h a0 r_35) fun r_38 =>
                if r_38 = 0 then
                  F_X11_step_b75 K a0 (0 : Int32) h
                else
                  F_X11_step_b70 K (F_X11_step_b75 K) a0 h
              else
                F_X11_step_b70 K (F_X11_step_b75 K) a0 h
            else
              F_X11_step_b70 K (F_X11_step_b75 K) a0 h
          else
            F_X11_step_b70 K (F_X11_step_b75 K) a0 h
        else
          F_X11_step_b70 K (F_X11_step_b75 K) a0 h
      else
        F_X11_step_b70 K (F_X11_step_b75 K) a0 h
    else
      F_X11_step_b70 K (F_X11_step_b75 K) a0 h
  else
    F_X11_step_b70 K (F_X11_step_b75 K) a0 h
set_option maxHeartbeats 4000000 in
theorem w_X11_step {p : Program} {l : Launch} {e : Env} {s : State} {m : MethodId} {args : Array Value} {below : List Frame} {meth : Method} {c : Code} {D : XD} {h0 : TH} (hC : XCx D cX11_step 2 RX11 h0 p (xRm 11 291 h0) s m args meth c) (hr : meth.sig.returnType = none) (hnh : c.exceptionTable.isEmpty = true) (hin : meth.name = "step") {x : ((Unit ⊕ Nat) × TH)} :
    ∀ (a0 : Nat) (h : TH), F_X11_step D.2.2.2 a0 h = some x → XJ p l e (xRm 11 291 h0) s m args below meth c D 2 (ocV x.1) h0 x.2 0 [(0, rv a0)] [] h := by
  have hx := hC.1
  have hb := hC.2.1
  intro a0 h hF H locs cells slots ls hX hl
  rw [F_X11_step] at hF
  refine X_aload_n hx hb dX11_step_0 rfl (lv_at hl 0 rfl) ?_
  obtain ⟨h_1, hF⟩ := gd_ok hF
  obtain ⟨r_3, hc_2, hF⟩ := bd_ok hF
  refine iX_X11_214 hC hX h_1 hc_2 hl.1 (Nat.le_of_ble_eq_true rfl) (Nat.le_of_ble_eq_true rfl) (Nat.le_of_ble_eq_true rfl) dX11_step_1 (fun H locs cells slots hX => ?_)
  refine lv_if_ne (tgt := 70) hx hb dX11_step_4 (by decide) (fun c_4 => ?_) (fun c_4 => ?_)
  · replace hF := it_f hF c_4
    exact w_X11_step_b70 hC hr hnh hin (F_X11_step_b75 D.2.2.2) (w_X11_step_b75 hC hr hnh hin) a0 h hF H locs cells slots ls hX (lv_sub hl [0] rfl)
  · replace hF := it_t hF c_4
    refine X_aload_n hx hb dX11_step_7 rfl (lv_at hl 0 rfl) ?_
    refine X_ldcS hC (i := 20) (List.mem_of_getElem? (i := 20) rfl) dX11_step_8 ?_
    refine lv_topr (fun r_5 er_5 => ?_)
    replace hF := lt_at hF er_5
    obtain ⟨h_6, hF⟩ := gd_ok hF
    obtain ⟨r_8, hc_7, hF⟩ := bd_ok hF
    refine iX_X11_86 hC hX h_6 hc_7 hl.1 (Nat.le_of_ble_eq_true rfl) (Nat.le_of_ble_eq_true rfl) (Nat.le_of_ble_eq_true rfl) dX11_step_10 (fun H locs cells slots hX => ?_)
    refine lv_if_ne (tgt := 70) hx hb dX11_step_13 (by decide) (fun c_9 => ?_) (fun c_9 => ?_)
    · replace hF := it_f hF c_9
      exact w_X11_step_b70 hC hr hnh hin (F_X11_step_b75 D.2.2.2) (w_X11_step_b75 hC hr hnh hin) a0 h hF H locs cells slots ls hX (lv_sub hl [0] rfl)
    · replace hF := it_t hF c_9
      refine X_aload_n hx hb dX11_step_16 rfl (lv_at hl 0 rfl) ?_
      refine X_ldcS hC (i := 21) (List.mem_of_getElem? (i := 21) rfl) dX11_step_17 ?_
      refine lv_topr (fun r_10 er_10 => ?_)
      replace hF := lt_at hF er_10
      obtain ⟨h_11, hF⟩ := gd_ok hF
      obtain ⟨r_13, hc_12, hF⟩ := bd_ok hF
      refine iX_X11_86 hC hX h_11 hc_12 hl.1 (Nat.le_of_ble_eq_true rfl) (Nat.le_of_ble_eq_true rfl) (Nat.le_of_ble_eq_true rfl) dX11_step_19 (fun H locs cells slots hX => ?_)
      refine lv_if_ne (tgt := 70) hx hb dX11_step_22 (by decide) (fun c_14 => ?_) (fun c_14 => ?_)
      · replace hF := it_f hF c_14
        exact w_X11_step_b70 hC hr hnh hin (F_X11_step_b75 D.2.2.2) (w_X11_step_b75 hC hr hnh hin) a0 h hF H locs cells slots ls hX (lv_sub hl [0] rfl)
      · replace hF := it_t hF c_14
        refine X_aload_n hx hb dX11_step_25 rfl (lv_at hl 0 rfl) ?_
        refine X_ldcS hC (i := 19) (List.mem_of_getElem? (i := 19) rfl) dX11_step_26 ?_
        refine lv_topr (fun r_15 er_15 => ?_)
        replace hF := lt_at hF er_15
        obtain ⟨h_16, hF⟩ := gd_ok hF
        obtain ⟨r_18, hc_17, hF⟩ := bd_ok hF
        refine iX_X11_86 hC hX h_16 hc_17 hl.1 (Nat.le_of_ble_eq_true rfl) (Nat.le_of_ble_eq_true rfl) (Nat.le_of_ble_eq_true rfl) dX11_step_28 (fun H locs cells slots hX => ?_)
        refine lv_if_ne (tgt := 70) hx hb dX11_step_31 (by decide) (fun c_19 => ?_) (fun c_19 => ?_)
        · replace hF := it_f hF c_19
          exact w_X11_step_b70 hC hr hnh hin (F_X11_step_b75 D.2.2.2) (w_X11_step_b75 hC hr hnh hin) a0 h hF H locs cells slots ls hX (lv_sub hl [0] rfl)
        · replace hF := it_t hF c_19
          refine X_aload_n hx hb dX11_step_34 rfl (lv_at hl 0 rfl) ?_
          refine X_ldcS hC (i := 22) (List.mem_of_getElem? (i := 22) rfl) dX11_step_35 ?_
          refine lv_topr (fun r_20 er_20 => ?_)
          replace hF := lt_at hF er_20
          obtain ⟨h_21, hF⟩ := gd_ok hF
          obtain ⟨r_23, hc_22, hF⟩ := bd_ok hF
          refine iX_X11_86 hC hX h_21 hc_22 hl.1 (Nat.le_of_ble_eq_true rfl) (Nat.le_of_ble_eq_true rfl) (Nat.le_of_ble_eq_true rfl) dX11_step_37 (fun H locs cells slots hX => ?_)
          refine lv_if_ne (tgt := 70) hx hb dX11_step_40 (by decide) (fun c_24 => ?_) (fun c_24 => ?_)
          · replace hF := it_f hF c_24
            exact w_X11_step_b70 hC hr hnh hin (F_X11_step_b75 D.2.2.2) (w_X11_step_b75 hC hr hnh hin) a0 h hF H locs cells slots ls hX (lv_sub hl [0] rfl)
          · replace hF := it_t hF c_24
            refine X_aload_n hx hb dX11_step_43 rfl (lv_at hl 0 rfl) ?_
            refine X_ldcS hC (i := 23) (List.mem_of_getElem? (i := 23) rfl) dX11_step_44 ?_
            refine lv_topr (fun r_25 er_25 => ?_)
            replace hF := lt_at hF er_25
            obtain ⟨h_26, hF⟩ := gd_ok hF
            obtain ⟨r_28, hc_27, hF⟩ := bd_ok hF
            refine iX_X11_86 hC hX h_26 hc_27 hl.1 (Nat.le_of_ble_eq_true rfl) (Nat.le_of_ble_eq_true rfl) (Nat.le_of_ble_eq_true rfl) dX11_step_46 (fun H locs cells slots hX => ?_)
            refine lv_if_ne (tgt := 70) hx hb dX11_step_49 (by decide) (fun c_29 => ?_) (fun c_29 => ?_)
            · replace hF := it_f hF c_29
              exact w_X11_step_b70 hC hr hnh hin (F_X11_step_b75 D.2.2.2) (w_X11_step_b75 hC hr hnh hin) a0 h hF H locs cells slots ls hX (lv_sub hl [0] rfl)
            · replace hF := it_t hF c_29
              refine X_aload_n hx hb dX11_step_52 rfl (lv_at hl 0 rfl) ?_
              refine X_ldcS hC (i := 24) (List.mem_of_getElem? (i := 24) rfl) dX11_step_53 ?_
              refine lv_topr (fun r_30 er_30 => ?_)
              replace hF := lt_at hF er_30
              obtain ⟨h_31, hF⟩ := gd_ok hF
              obtain ⟨r_33, hc_32, hF⟩ := bd_ok hF
              refine iX_X11_86 hC hX h_31 hc_32 hl.1 (Nat.le_of_ble_eq_true rfl) (Nat.le_of_ble_eq_true rfl) (Nat.le_of_ble_eq_true rfl) dX11_step_55 (fun H locs cells slots hX => ?_)
              refine lv_if_ne (tgt := 70) hx hb dX11_step_58 (by decide) (fun c_34 => ?_) (fun c_34 => ?_)
              · replace hF := it_f hF c_34
                exact w_X11_step_b70 hC hr hnh hin (F_X11_step_b75 D.2.2.2) (w_X11_step_b75 hC hr hnh hin) a0 h hF H locs cells slots ls hX (lv_sub hl [0] rfl)
              · replace hF := it_t hF c_34
                refine X_aload_n hx hb dX11_step_61 rfl (lv_at hl 0 rfl) ?_
                refine X_ldcS hC (i := 25) (List.mem_of_getElem? (i := 25) rfl) dX11_step_62 ?_
                refine lv_topr (fun r_35 er_35 => ?_)
                replace hF := lt_at hF er_35
                obtain ⟨h_36, hF⟩ := gd_ok hF
                obtain ⟨r_38, hc_37, hF⟩ := bd_ok hF
                refine iX_X11_86 hC hX h_36 hc_37 hl.1 (Nat.le_of_ble_eq_true rfl) (Nat.le_of_ble_eq_true rfl) (Nat.le_of_ble_eq_true rfl) dX11_step_64 (fun H locs cells slots hX => ?_)
                refine lv_if_eq (tgt := 74) hx hb dX11_step_67 (by decide) (fun c_39 => ?_) (fun c_39 => ?_)
                · replace hF := it_t hF c_39
                  refine lv_iconst (v := 0) hx hb dX11_step_74 (by decide) ?_
                  exact w_X11_step_b75 hC hr hnh hin a0 (0 : Int32) h hF H locs cells slots ls hX (lv_sub hl [0] rfl)
                · replace hF := it_f hF c_39
                  exact w_X11_step_b70 hC hr hnh hin (F_X11_step_b75 D.2.2.2) (w_X11_step_b75 hC hr hnh hin) a0 h hF H locs cells slots ls hX (lv_sub hl [0] rfl)
theorem m_X11_step (l : Launch) (D : XD) (a0 : Nat) (h : TH) (x : ((Unit ⊕ Nat) × TH)) (hF : F_X11_step D.2.2.2 a0 h = some x) : XMt l yX11_step (ws_ yX11_step cX11_step 2 (none)) 11 291 D [rv a0] h (ocV x.1) x.2 := by
  refine x_met (by decide +kernel) ?_ ?_
  · simp [lg_sl, rv_cat, cat_i, cat_l]
  intro p e s m below meth c hC hr hnh hin ls hl hX
  replace hl : lv_has ls 2 [(0, rv a0)] := by simpa [lv_args, rv_cat, cat_i, cat_l] using hl
  exact w_X11_step hC hr hnh hin a0 h hF s.heap [] 0 0 ls hX hl
end
