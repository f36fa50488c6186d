set_option maxRecDepth 100000
noncomputable section
theorem gX_X3_32 {p : Program} {l : Launch} {e : Env} {R : Room} {s : State} {m : MethodId} {args : Array Value} {below : List Frame} {meth : Method} {c : Code} {H : Heap} {locs : List Loc} {cells slots nL : Nat} {Q : State → Prop} {D : XD} {h0 h : TH} {cc : ByteArray} {pc : Nat} {ls : Array Slot} {rest : List Value} (hC : XCx D cc nL RX3 h0 p R s m args meth c) (hX : XSt D s h0 h H locs cells slots) {a : Nat} (hf : hasF (hT h a) 55 = true) (hdg : decode cc pc = .ok (.getfield 32, 3)) (kk : W p l e R s m args below meth c H locs cells slots Q (F0 m (pc + 3) ls (.int (hI h 55 a) :: rest))) : W p l e R s m args below meth c H locs cells slots Q (F0 m pc ls (rv a :: rest)) :=
  X_geti hC hX 55 hf rfl q279 (fun _ h => h) hdg kk
theorem gX_X3_19 {p : Program} {l : Launch} {e : Env} {R : Room} {s : State} {m : MethodId} {args : Array Value} {below : List Frame} {meth : Method} {c : Code} {H : Heap} {locs : List Loc} {cells slots nL : Nat} {Q : State → Prop} {D : XD} {h0 h : TH} {cc : ByteArray} {pc : Nat} {ls : Array Slot} {rest : List Value} (hC : XCx D cc nL RX3 h0 p R s m args meth c) (hX : XSt D s h0 h H locs cells slots) {a : Nat} (hf : hasF (hT h a) 51 = true) (hdg : decode cc pc = .ok (.getfield 19, 3)) (kk : W p l e R s m args below meth c H locs cells slots Q (F0 m (pc + 3) ls (rv (hR h 51 a) :: rest))) : W p l e R s m args below meth c H locs cells slots Q (F0 m pc ls (rv a :: rest)) :=
  X_getr hC hX 51 hf rfl (fun q => absurd q (by decide)) q271 (fun _ h => h) hdg kk
theorem gX_X3_15 {p : Program} {l : Launch} {e : Env} {R : Room} {s : State} {m : MethodId} {args : Array Value} {below : List Frame} {meth : Method} {c : Code} {H : Heap} {locs : List Loc} {cells slots nL : Nat} {Q : State → Prop} {D : XD} {h0 h : TH} {cc : ByteArray} {pc : Nat} {ls : Array Slot} {rest : List Value} (hC : XCx D cc nL RX3 h0 p R s m args meth c) (hX : XSt D s h0 h H locs cells slots) {a : Nat} (hf : hasF (hT h a) 50 = true) (hdg : decode cc pc = .ok (.getfield 15, 3)) (kk : W p l e R s m args below meth c H locs cells slots Q (F0 m (pc + 3) ls (rv (hR h 50 a) :: rest))) : W p l e R s m args below meth c H locs cells slots Q (F0 m pc ls (rv a :: rest)) :=
  X_getr hC hX 50 hf rfl (fun q => absurd q (by decide)) q269 (fun _ h => h) hdg kk
/-! BlindCards$Keeper.path -/
def F_X3_path_b73 (K : Nat → Nat) (h : TH) (k2 : Nat → Nat → Int32 → Int32 → Option Int32) (x0 : Nat) (x1 : Nat) (x2 : Int32) (x3 : Int32) (x4 : Int32) : Option Int32 :=
  if x4 = 0 then
    lt (x3 + (1 : Int32)) fun x3_2 =>
    k2 x0 x1 x2 x3_2
  else
    some x3
set_option maxHeartbeats 4000000 in
theorem w_X3_path_b73 {p : Program} {l : Launch} {e : Env} {s : State} {m : MethodId} {args : Array Value} {below : List Frame} {meth : Method} {c : Code} {D : XD} {h : TH} (hC : XCx D cX3_path 6 RX3 h p (xRm 0 0 h) s m args meth c) (hr : meth.sig.returnType = some .int) (hnh : c.exceptionTable.isEmpty = true) (hin : meth.name = "path") {x : Int32} (k2 : Nat → Nat → Int32 → Int32 → Option Int32) (hk2 : ∀ (x0 : Nat) (x1 : Nat) (x2 : Int32) (x3 : Int32), k2 x0 x1 x2 x3 = some x → XJ p l e (xRm 0 0 h) s m args below meth c D 6 (.returned (some (.int x))) h h 2 [(0, rv x0), (1, rv x1), (2, .int x2), (3, .int x3)] [] h) :
    ∀ (x0 : Nat) (x1 : Nat) (x2 : Int32) (x3 : Int32) (x4 : Int32), F_X3_path_b73 D.2.2.2 h k2 x0 x1 x2 x3 x4 = some x → XJ p l e (xRm 0 0 h) s m args below meth c D 6 (.returned (some (.int x))) h h 73 [(0, rv x0), (1, rv x1), (2, .int x2), (3, .int x3), (4, .int x4)] [] h := by
  have hx := hC.1
  have hb := hC.2.1
  intro x0 x1 x2 x3 x4 hF H locs cells slots ls hX hl
  rw [F_X3_path_b73] at hF
  refine lv_iload hx hb dX3_path_73 (lv_at hl 4 rfl) ?_
  refine lv_if_eq (tgt := 80) hx hb dX3_path_75 (by decide) (fun c_1 => ?_) (fun c_1 => ?_)
  · replace hF := it_t hF c_1
    obtain ⟨x3_2, ex3_2, hF⟩ := lt_ok hF
    refine lv_iinc (v := x3_2) (lv' := [(3, .int x3_2), (0, rv x0), (1, rv x1), (2, .int x2), (4, .int x4)]) hx hb dX3_path_80 hl (k := 3) rfl (by rw [ex3_2]; rfl) (by decide) rfl (fun ls hl => ?_)
    refine lv_goto (tgt := 2) hx hb dX3_path_83 (by decide) ?_
    exact hk2 x0 x1 x2 x3_2 hF H locs cells slots ls hX (lv_sub hl [1, 2, 3, 0] rfl)
  · replace hF := it_f hF c_1
    refine lv_iload_n hx hb dX3_path_78 rfl (lv_at hl 3 rfl) ?_
    exact x_reti hC hX hr rfl (Option.some.inj hF) rfl dX3_path_79
def F_X3_path_b65 (K : Nat → Nat) (h : TH) (k30 : Nat → Nat → Int32 → Int32 → Int32 → Int32 → Option Int32) (x0 : Nat) (x1 : Nat) (x2 : Int32) (x3 : Int32) (x5 : Int32) (y0 : Int32) : Option Int32 :=
  lt (x5 + (1 : Int32)) fun x5_1 =>
  k30 x0 x1 x2 x3 y0 x5_1
set_option maxHeartbeats 4000000 in
theorem w_X3_path_b65 {p : Program} {l : Launch} {e : Env} {s : State} {m : MethodId} {args : Array Value} {below : List Frame} {meth : Method} {c : Code} {D : XD} {h : TH} (hC : XCx D cX3_path 6 RX3 h p (xRm 0 0 h) s m args meth c) (hr : meth.sig.returnType = some .int) (hnh : c.exceptionTable.isEmpty = true) (hin : meth.name = "path") {x : Int32} (k30 : Nat → Nat → Int32 → Int32 → Int32 → Int32 → Option Int32) (hk30 : ∀ (x0 : Nat) (x1 : Nat) (x2 : Int32) (x3 : Int32) (x4 : Int32) (x5 : Int32), k30 x0 x1 x2 x3 x4 x5 = some x → XJ p l e (xRm 0 0 h) s m args below meth c D 6 (.returned (some (.int x))) h h 30 [(0, rv x0), (1, rv x1), (2, .int x2), (3, .int x3), (4, .int x4), (5, .int x5)] [] h) :
    ∀ (x0 : Nat) (x1 : Nat) (x2 : Int32) (x3 : Int32) (x5 : Int32) (y0 : Int32), F_X3_path_b65 D.2.2.2 h k30 x0 x1 x2 x3 x5 y0 = some x → XJ p l e (xRm 0 0 h) s m args below meth c D 6 (.returned (some (.int x))) h h 65 [(0, rv x0), (1, rv x1), (2, .int x2), (3, .int x3), (5, .int x5)] [.int y0] h := by
  have hx := hC.1
  have hb := hC.2.1
  intro x0 x1 x2 x3 x5 y0 hF H locs cells slots ls hX hl
  rw [F_X3_path_b65] at hF
  refine lv_istore (lv' := [(4, .int y0), (0, rv x0), (1, rv x1), (2, .int x2), (3, .int x3), (5, .int x5)]) hx hb dX3_path_65 hl (by decide) rfl (fun ls hl => ?_)
  obtain ⟨x5_1, ex5_1, hF⟩ := lt_ok hF
  refine lv_iinc (v := x5_1) (lv' := [(5, .int x5_1), (4, .int y0), (0, rv x0), (1, rv x1), (2, .int x2), (3, .int x3)]) hx hb dX3_path_67 hl (k := 5) rfl (by rw [ex5_1]; rfl) (by decide) rfl (fun ls hl => ?_)
  refine lv_goto (tgt := 30) hx hb dX3_path_70 (by decide) ?_
  exact hk30 x0 x1 x2 x3 y0 x5_1 hF H locs cells slots ls hX (lv_sub hl [2, 3, 4, 5, 1, 0] rfl)
def F_X3_path_b64 (K : Nat → Nat) (h : TH) (k65 : Nat → Nat → Int32 → Int32 → Int32 → Int32 → Option Int32) (x0 : Nat) (x1 : Nat) (x2 : Int32) (x3 : Int32) (x5 : Int32) : Option Int32 :=
  k65 x0 x1 x2 x3 x5 (0 : Int32)
set_option maxHeartbeats 4000000 in
theorem w_X3_path_b64 {p : Program} {l : Launch} {e : Env} {s : State} {m : MethodId} {args : Array Value} {below : List Frame} {meth : Method} {c : Code} {D : XD} {h : TH} (hC : XCx D cX3_path 6 RX3 h p (xRm 0 0 h) s m args meth c) (hr : meth.sig.returnType = some .int) (hnh : c.exceptionTable.isEmpty = true) (hin : meth.name = "path") {x : Int32} (k65 : Nat → Nat → Int32 → Int32 → Int32 → Int32 → Option Int32) (hk65 : ∀ (x0 : Nat) (x1 : Nat) (x2 : Int32) (x3 : Int32) (x5 : Int32) (y0 : Int32), k65 x0 x1 x2 x3 x5 y0 = some x → XJ p l e (xRm 0 0 h) s m args below meth c D 6 (.returned (some (.int x))) h h 65 [(0, rv x0), (1, rv x1), (2, .int x2), (3, .int x3), (5, .int x5)] [.int y0] h) :
    ∀ (x0 : Nat) (x1 : Nat) (x2 : Int32) (x3 : Int32) (x5 : Int32), F_X3_path_b64 D.2.2.2 h k65 x0 x1 x2 x3 x5 = some x → XJ p l e (xRm 0 0 h) s m args below meth c D 6 (.returned (some (.int x))) h h 64 [(0, rv x0), (1, rv x1), (2, .int x2), (3, .int x3), (5, .int x5)] [] h := by
  have hx := hC.1
  have hb := hC.2.1
  intro x0 x1 x2 x3 x5 hF H locs cells slots ls hX hl
  rw [F_X3_path_b64] at hF
  refine lv_iconst (v := 0) hx hb dX3_path_64 (by decide) ?_
  exact hk65 x0 x1 x2 x3 x5 (0 : Int32) hF H locs cells slots ls hX (lv_sub hl [0, 1, 2, 3, 4] rfl)
def F_X3_path_L30 (K : Nat → Nat) (h : TH) (k2 : Nat → Nat → Int32 → Int32 → Option Int32) : Nat → Nat → Nat → Int32 → Int32 → Int32 → Int32 → Option Int32
  | 0, _, _, _, _, _, _ => none
  | fu + 1, x0, x1, x2, x3, x4, x5 =>
    if x2 ≤ x5 then
      F_X3_path_b73 K h k2 x0 x1 x2 x3 x4
    else
      if x4 = 0 then
        F_X3_path_b64 K h (F_X3_path_b65 K h (F_X3_path_L30 K h k2 fu)) x0 x1 x2 x3 x5
      else
        gd (hasF (hT h x0) 50 = true) <|
        lt (hR h 50 x0) fun r_4 =>
        gd (hT h r_4 = 31 ∨ hT h r_4 = 43) <|
        gd (inb (((6 : Int32) * x3) + x5) (hN h r_4)) <|
        gd (hT h x1 = 31 ∨ hT h x1 = 43) <|
        gd (inb x5 (hN h x1)) <|
        if (hA h r_4 (Int32.toNatClampNeg (((6 : Int32) * x3) + x5))) = (hA h x1 (Int32.toNatClampNeg x5)) then
          F_X3_path_b65 K h (F_X3_path_L30 K h k2 fu) x0 x1 x2 x3 x5 (1 : Int32)
        else
          F_X3_path_b64 K h (F_X3_path_b65 K h (F_X3_path_L30 K h k2 fu)) x0 x1 x2 x3 x5
set_option maxHeartbeats 4000000 in
theorem w_X3_path_L30 {p : Program} {l : Launch} {e : Env} {s : State} {m : MethodId} {args : Array Value} {below : List Frame} {meth : Method} {c : Code} {D : XD} {h : TH} (hC : XCx D cX3_path 6 RX3 h p (xRm 0 0 h) s m args meth c) (hr : meth.sig.returnType = some .int) (hnh : c.exceptionTable.isEmpty = true) (hin : meth.name = "path") {x : Int32} (k2 : Nat → Nat → Int32 → Int32 → Option Int32) (hk2 : ∀ (x0 : Nat) (x1 : Nat) (x2 : Int32) (x3 : Int32), k2 x0 x1 x2 x3 = some x → XJ p l e (xRm 0 0 h) s m args below meth c D 6 (.returned (some (.int x))) h h 2 [(0, rv x0), (1, rv x1), (2, .int x2), (3, .int x3)] [] h) :
    ∀ (fu : Nat) (x0 : Nat) (x1 : Nat) (x2 : Int32) (x3 : Int32) (x4 : Int32) (x5 : Int32), F_X3_path_L30 D.2.2.2 h k2 fu x0 x1 x2 x3 x4 x5 = some x → XJ p l e (xRm 0 0 h) s m args below meth c D 6 (.returned (some (.int x))) h h 30 [(0, rv x0), (1, rv x1), (2, .int x2), (3, .int x3), (4, .int x4), (5, .int x5)] [] h := by
  have hx := hC.1
  have hb := hC.2.1
  intro fu
  induction fu with
  | zero => intro x0 x1 x2 x3 x4 x5 hF; exact nm_none hF
  | succ fu ih =>
    intro x0 x1 x2 x3 x4 x5 hF H locs cells slots ls hX hl
    rw [F_X3_path_L30] at hF
    refine lv_iload hx hb dX3_path_30 (lv_at hl 5 rfl) ?_
    refine lv_iload_n hx hb dX3_path_32 rfl (lv_at hl 2 rfl) ?_
    refine lv_icmp_ge (tgt := 73) hx hb dX3_path_33 (by decide) (fun c_1 => ?_) (fun c_1 => ?_)
    · replace hF := it_t hF c_1
      exact w_X3_path_b73 hC hr hnh hin k2 hk2 x0 x1 x2 x3 x4 hF H locs cells slots ls hX (lv_sub hl [0, 1, 2, 3, 4] rfl)
    · replace hF := it_f hF c_1
      refine lv_iload hx hb dX3_path_36 (lv_at hl 4 rfl) ?_
      refine lv_if_eq (tgt := 64) hx hb dX3_path_38 (by decide) (fun c_2 => ?_) (fun c_2 => ?_)
      · replace hF := it_t hF c_2
        exact w_X3_path_b64 hC hr hnh hin (F_X3_path_b65 D.2.2.2 h (F_X3_path_L30 D.2.2.2 h k2 fu)) (w_X3_path_b65 hC hr hnh hin (F_X3_path_L30 D.2.2.2 h k2 fu) ih) x0 x1 x2 x3 x5 hF H locs cells slots ls hX (lv_sub hl [0, 1, 2, 3, 5] rfl)
      · replace hF := it_f hF c_2
        refine X_aload_n hx hb dX3_path_41 rfl (lv_at hl 0 rfl) ?_
        obtain ⟨h_3, hF⟩ := gd_ok hF
        refine gX_X3_15 hC hX h_3 dX3_path_42 ?_
        refine lv_topr (fun r_4 er_4 => ?_)
        replace hF := lt_at hF er_4
        refine lv_bipush (v := 6) hx hb dX3_path_45 (by decide) ?_
        refine lv_iload_n hx hb dX3_path_47 rfl (lv_at hl 3 rfl) ?_
        refine lv_imul hx hb dX3_path_48 ?_
        refine lv_iload hx hb dX3_path_49 (lv_at hl 5 rfl) ?_
        refine lv_iadd hx hb dX3_path_51 ?_
        obtain ⟨h_5, hF⟩ := gd_ok hF
        obtain ⟨h_6, hF⟩ := gd_ok hF
        refine X_iald hC hX h_5 h_6 dX3_path_52 ?_
        refine X_aload_n hx hb dX3_path_53 rfl (lv_at hl 1 rfl) ?_
        refine lv_iload hx hb dX3_path_54 (lv_at hl 5 rfl) ?_
        obtain ⟨h_7, hF⟩ := gd_ok hF
        obtain ⟨h_8, hF⟩ := gd_ok hF
        refine X_iald hC hX h_7 h_8 dX3_path_56 ?_
        refine lv_icmp_ne (tgt := 64) hx hb dX3_path_57 (by decide) (fun c_9 => ?_) (fun c_9 => ?_)
        · replace hF := it_f hF c_9
          exact w_X3_path_b64 hC hr hnh hin (F_X3_path_b65 D.2.2.2 h (F_X3_path_L30 D.2.2.2 h k2 fu)) (w_X3_path_b65 hC hr hnh hin (F_X3_path_L30 D.2.2.2 h k2 fu) ih) x0 x1 x2 x3 x5 hF H locs cells slots ls hX (lv_sub hl [0, 1, 2, 3, 5] rfl)
        · replace hF := it_t hF c_9
          refine lv_iconst (v := 1) hx hb dX3_path_60 (by decide) ?_
          refine lv_goto (tgt := 65) hx hb dX3_path_61 (by decide) ?_
          exact w_X3_path_b65 hC hr hnh hin (F_X3_path_L30 D.2.2.2 h k2 fu) ih x0 x1 x2 x3 x5 (1 : Int32) hF H locs cells slots ls hX (lv_sub hl [0, 1, 2, 3, 5] rfl)
def F_X3_path_b25 (K : Nat → Nat) (h : TH) (k2 : Nat → Nat → Int32 → Int32 → Option Int32) (x0 : Nat) (x1 : Nat) (x2 : Int32) (x3 : Int32) (y0 : Int32) : Option Int32 :=
  F_X3_path_L30 K h k2 MN x0 x1 x2 x3 y0 (0 : Int32)
set_option maxHeartbeats 4000000 in
theorem w_X3_path_b25 {p : Program} {l : Launch} {e : Env} {s : State} {m : MethodId} {args : Array Value} {below : List Frame} {meth : Method} {c : Code} {D : XD} {h : TH} (hC : XCx D cX3_path 6 RX3 h p (xRm 0 0 h) s m args meth c) (hr : meth.sig.returnType = some .int) (hnh : c.exceptionTable.isEmpty = true) (hin : meth.name = "path") {x : Int32} (k2 : Nat → Nat → Int32 → Int32 → Option Int32) (hk2 : ∀ (x0 : Nat) (x1 : Nat) (x2 : Int32) (x3 : Int32), k2 x0 x1 x2 x3 = some x → XJ p l e (xRm 0 0 h) s m args below meth c D 6 (.returned (some (.int x))) h h 2 [(0, rv x0), (1, rv x1), (2, .int x2), (3, .int x3)] [] h) :
    ∀ (x0 : Nat) (x1 : Nat) (x2 : Int32) (x3 : Int32) (y0 : Int32), F_X3_path_b25 D.2.2.2 h k2 x0 x1 x2 x3 y0 = some x → XJ p l e (xRm 0 0 h) s m args below meth c D 6 (.returned (some (.int x))) h h 25 [(0, rv x0), (1, rv x1), (2, .int x2), (3, .int x3)] [.int y0] h := by
  have hx := hC.1
  have hb := hC.2.1
  intro x0 x1 x2 x3 y0 hF H locs cells slots ls hX hl
  rw [F_X3_path_b25] at hF
  refine lv_istore (lv' := [(4, .int y0), (0, rv x0), (1, rv x1), (2, .int x2), (3, .int x3)]) hx hb dX3_path_25 hl (by decide) rfl (fun ls hl => ?_)
  refine lv_iconst (v := 0) hx hb dX3_path_27 (by decide) ?_
  refine lv_istore (lv' := [(5, .int (0 : Int32)), (4, .int y0), (0, rv x0), (1, rv x1), (2, .int x2), (3, .int x3)]) hx hb dX3_path_28 hl (by decide) rfl (fun ls hl => ?_)
  exact w_X3_path_L30 hC hr hnh hin k2 hk2 MN x0 x1 x2 x3 y0 (0 : Int32) hF H locs cells slots ls hX (lv_sub hl [2, 3, 4, 5, 1, 0] rfl)
def F_X3_path_L2 (K : Nat → Nat) (h : TH) : Nat → Nat → Nat → Int32 → Int32 → Option Int32
  | 0, _, _, _, _ => none
  | fu + 1, x0, x1, x2, x3 =>
    gd (hasF (hT h x0) 55 = true) <|
    if (hI h 55 x0) ≤ x3 then
      some (-1 : Int32)
    else
      gd (hasF (hT h x0) 51 = true) <|
      lt (hR h 51 x0) fun r_4 =>
      gd (hT h r_4 = 31 ∨ hT h r_4 = 43) <|
      gd (inb x3 (hN h r_4)) <|
      if (hA h r_4 (Int32.toNatClampNeg x3)) = x2 then
        F_X3_path_b25 K h (F_X3_path_L2 K h fu) x0 x1 x2 x3 (1 : Int32)
      else
        F_X3_path_b25 K h (F_X3_path_L2 K h fu) x0 x1 x2 x3 (0 : Int32)
set_option maxHeartbeats 4000000 in
theorem w_X3_path_L2 {p : Program} {l : Launch} {e : Env} {s : State} {m : MethodId} {args : Array Value} {below : List Frame} {meth : Method} {c : Code} {D : XD} {h : TH} (hC : XCx D cX3_path 6 RX3 h p (xRm 0 0 h) s m args meth c) (hr : meth.sig.returnType = some .int) (hnh : c.exceptionTable.isEmpty = true) (hin : meth.name = "path") {x : Int32} :
    ∀ (fu : Nat) (x0 : Nat) (x1 : Nat) (x2 : Int32) (x3 : Int32), F_X3_path_L2 D.2.2.2 h fu x0 x1 x2 x3 = some x → XJ p l e (xRm 0 0 h) s m args below meth c D 6 (.returned (some (.int x))) h h 2 [(0, rv x0), (1, rv x1), (2, .int x2), (3, .int x3)] [] h := by
  have hx := hC.1
  have hb := hC.2.1
  intro fu
  induction fu with
  | zero => intro x0 x1 x2 x3 hF; exact nm_none hF
  | succ fu ih =>
    intro x0 x1 x2 x3 hF H locs cells slots ls hX hl
    rw [F_X3_path_L2] at hF
    refine lv_iload_n hx hb dX3_path_2 rfl (lv_at hl 3 rfl) ?_
    refine X_aload_n hx hb dX3_path_3 rfl (lv_at hl 0 rfl) ?_
    obtain ⟨h_1, hF⟩ := gd_ok hF
    refine gX_X3_32 hC hX h_1 dX3_path_4 ?_
    refine lv_icmp_ge (tgt := 86) hx hb dX3_path_7 (by decide) (fun c_2 => ?_) (fun c_2 => ?_)
    · replace hF := it_t hF c_2
      refine lv_iconst (v := -1) hx hb dX3_path_86 (by decide) ?_
      exact x_reti hC hX hr rfl (Option.some.inj hF) rfl dX3_path_87
    · replace hF := it_f hF c_2
      refine X_aload_n hx hb dX3_path_10 rfl (lv_at hl 0 rfl) ?_
      obtain ⟨h_3, hF⟩ := gd_ok hF
      refine gX_X3_19 hC hX h_3 dX3_path_11 ?_
      refine lv_topr (fun r_4 er_4 => ?_)
      replace hF := lt_at hF er_4
      refine lv_iload_n hx hb dX3_path_14 rfl (lv_at hl 3 rfl) ?_
      obtain ⟨h_5, hF⟩ := gd_ok hF
      obtain ⟨h_6, hF⟩ := gd_ok hF
      refine X_iald hC hX h_5 h_6 dX3_path_15 ?_
      refine lv_iload_n hx hb dX3_path_16 rfl (lv_at hl 2 rfl) ?_
      refine lv_icmp_ne (tgt := 24) hx hb dX3_path_17 (by decide) (fun c_7 => ?_) (fun c_7 => ?_)
      · replace hF := it_f hF c_7
        refine lv_iconst (v := 0) hx hb dX3_path_24 (by decide) ?_
        exact w_X3_path_b25 hC hr hnh hin (F_X3_path_L2 D.2.2.2 h fu) ih x0 x1 x2 x3 (0 : Int32) hF H locs cells slots ls hX (lv_sub hl [0, 1, 2, 3] rfl)
      · replace hF := it_t hF c_7
        refine lv_iconst (v := 1) hx hb dX3_path_20 (by decide) ?_
        refine lv_goto (tgt := 25) hx hb dX3_path_21 (by decide) ?_
        exact w_X3_path_b25 hC hr hnh hin (F_X3_path_L2 D.2.2.2 h fu) ih x0 x1 x2 x3 (1 : Int32) hF H locs cells slots ls hX (lv_sub hl [0, 1, 2, 3] rfl)
def F_X3_path (K : Nat → Nat) (h : TH) (a0 : Nat) (b0 : Nat) (b1 : Int32) : Option Int32 :=
  F_X3_path_L2 K h MN a0 b0 b1 (0 : Int32)
set_option maxHeartbeats 4000000 in
theorem w_X3_path {p : Program} {l : Launch} {e : Env} {s : State} {m : MethodId} {args : Array Value} {below : List Frame} {meth : Method} {c : Code} {D : XD} {h : TH} (hC : XCx D cX3_path 6 RX3 h p (xRm 0 0 h) s m args meth c) (hr : meth.sig.returnType = some .int) (hnh : c.exceptionTable.isEmpty = true) (hin : meth.name = "path") {x : Int32} :
    ∀ (a0 : Nat) (b0 : Nat) (b1 : Int32), F_X3_path D.2.2.2 h a0 b0 b1 = some x → XJ p l e (xRm 0 0 h) s m args below meth c D 6 (.returned (some (.int x))) h h 0 [(0, rv a0), (1, rv b0), (2, .int b1)] [] h := by
  have hx := hC.1
  have hb := hC.2.1
  intro a0 b0 b1 hF H locs cells slots ls hX hl
  rw [F_X3_path] at hF
  refine lv_iconst (v := 0) hx hb dX3_path_0 (by decide) ?_
  refine lv_istore_n (lv' := [(3, .int (0 : Int32)), (0, rv a0), (1, rv b0), (2, .int b1)]) hx hb dX3_path_1 rfl hl (by decide) rfl (fun ls hl => ?_)
  exact w_X3_path_L2 hC hr hnh hin MN a0 b0 b1 (0 : Int32) hF H locs cells slots ls hX (lv_sub hl [1, 2, 3, 0] rfl)
theorem m_X3_path (l : Launch) (D : XD) (a0 : Nat) (b0 : Nat) (b1 : Int32) (h : TH) (x : Int32) (hF : F_X3_path D.2.2.2 h a0 b0 b1 = some x) : XMt l yX3_path (ws_ yX3_path cX3_path 6 (some .int)) 0 0 D [rv a0, rv b0, .int b1] h (.returned (some (.int x))) h := by
  refine x_met (by decide +kernel) ?_ ?_
  · simp [lg_sl, rv_cat, cat_i, cat_l]
  intro p e s m below meth c hC hr hnh hin ls hl hX
  replace hl : lv_has ls 6 [(0, rv a0), (1, rv b0), (2, .int b1)] := by simpa [lv_args, rv_cat, cat_i, cat_l] using hl
  exact w_X3_path hC hr hnh hin a0 b0 b1 hF s.heap [] 0 0 ls hX hl
theorem pX_X0_130 {p : Program} {l : Launch} {e : Env} {R : Room} {s : State} {m : MethodId} {args : Array Value} {below : List Frame} {meth : Method} {c : Code} {H : Heap} {locs : List Loc} {cells slots nL : Nat} {Q : State → Prop} {D : XD} {h0 h : TH} {cc : ByteArray} {pc : Nat} {ls : Array Slot} {rest : List Value} (hC : XCx D cc nL RX0 h0 p R s m args meth c) (hX : XSt D s h0 h H locs cells slots) {a : Nat} {v : Int32} (hf : hasF (hT h a) 21 = true) (hw : hT h a ≤ 24) (hg : v = 0 ∨ v = 1) (hdg : decode cc pc = .ok (.putfield 130, 3)) (kk : ∀ (H1 : Heap) (locs1 : List Loc), XSt D s h0 (uI h 21 a v) H1 locs1 cells slots → W p l e R s m args below meth c H1 locs1 cells slots Q (F0 m (pc + 3) ls rest)) : W p l e R s m args below meth c H locs cells slots Q (F0 m pc ls (.int v :: rv a :: rest)) :=
  X_puti hC hX 21 hf hw rfl rfl q771 (fun _ h => h) (zb_nar hg) hdg kk
theorem iX_X0_293 {p : Program} {l : Launch} {e : Env} {R : Room} {s : State} {m : MethodId} {args : Array Value} {below : List Frame} {meth : Method} {c : Code} {H : Heap} {locs : List Loc} {cells slots nL : Nat} {Q : State → Prop} {D : XD} {h0 h : TH} {cc : ByteArray} {pc : Nat} {ls : Array Slot} {rest : List Value} {h1 : TH} (hC : XCx D cc nL RX0 h0 p R s m args meth c) (hX : XSt D s h0 h H locs cells slots) {a : Nat} {b0 : Int32} {x : Int32} (ht : hT h a = 1) (hcF : F_X0_playOn D.2.2.2 a b0 h = some (x, h1)) (hl : ls.size = nL) (hW : (rest.map fun v => v.category).sum ≤ 8) (hRf : 4 + 1 ≤ R.frames) (hRl : 122 ≤ R.locals) (hdg : decode cc pc = .ok (.invokevirtual 293, 3)) (kk : ∀ (H1 : Heap) (locs1 : List Loc) (cells1 slots1 : Nat), XSt D s h0 h1 H1 locs1 cells1 slots1 → W p l e R s m args below meth c H1 locs1 cells1 slots1 Q (F0 m (pc + 3) ls (.int x :: rest))) : W p l e R s m args below meth c H locs cells slots Q (F0 m pc ls (.int b0 :: rv a :: rest)) := by
  have q := ht
  exact X_callV hC hX (by rw [q]; decide) (by rw [q]; rfl) (As := [.int b0]) (m_X0_playOn l D a b0 h _ hcF) (cwV 1 hC.2.2.2.2.1 (lw_V q1712 q1714 qs46 q125 q1715) rfl rfl rfl (by decide +kernel) ⟨Nat.le_trans (Nat.le_of_ble_eq_true rfl) hRf, Nat.le_trans (Nat.le_of_ble_eq_true rfl) hRl⟩) rfl rfl hl hW hdg kk
theorem iX_X0_296 {p : Program} {l : Launch} {e : Env} {R : Room} {s : State} {m : MethodId} {args : Array Value} {below : List Frame} {meth : Method} {c : Code} {H : Heap} {locs : List Loc} {cells slots nL : Nat} {Q : State → Prop} {D : XD} {h0 h : TH} {cc : ByteArray} {pc : Nat} {ls : Array Slot} {rest : List Value} (hC : XCx D cc nL RX0 h0 p R s m args meth c) (hX : XSt D s h0 h H locs cells slots) {a : Nat} {b0 : Nat} {b1 : Int32} {x : Int32} (ht : hT h a = 4) (hcF : F_X3_path D.2.2.2 h a b0 b1 = some x) (hl : ls.size = nL) (hW : (rest.map fun v => v.category).sum ≤ 8) (hRf : 0 + 1 ≤ R.frames) (hRl : 25 ≤ R.locals) (hdg : decode cc pc = .ok (.invokevirtual 296, 3)) (kk : ∀ (H1 : Heap) (locs1 : List Loc) (cells1 slots1 : Nat), XSt D s h0 h H1 locs1 cells1 slots1 → W p l e R s m args below meth c H1 locs1 cells1 slots1 Q (F0 m (pc + 3) ls (.int x :: rest))) : W p l e R s m args below meth c H locs cells slots Q (F0 m pc ls (.int b1 :: rv b0 :: rv a :: rest)) := by
  have q := ht
  exact X_callV hC hX (by rw [q]; decide) (by rw [q]; rfl) (As := [rv b0, .int b1]) (m_X3_path l D a b0 b1 h _ hcF) (cwV 2 hC.2.2.2.2.1 (lw_V q1733 q1734 q1735 q131 q1736) rfl rfl rfl (by decide +kernel) ⟨Nat.le_trans (Nat.le_of_ble_eq_true rfl) hRf, Nat.le_trans (Nat.le_of_ble_eq_true rfl) hRl⟩) rfl rfl hl hW hdg kk
/-! BlindCards.play -/
def F_X0_play_b69 (K : Nat → Nat) (x0 : Nat) (x1 : Int32) (h : TH) : Option (Int32 × TH) :=
  gd (hasF (hT h x0) 8 = true) <|
  lt (hR h 8 x0) fun r_2 =>
  gd (hasF (hT h x0) 19 = true) <|
  lt (hR h 19 x0) fun r_4 =>
  gd (hT h x0 = 1) <|
  bd2 (F_X0_playOn K x0 x1 h) fun r_8 h_7 =>
  gd (hT h_7 r_2 = 4) <|
  bd (F_X3_path K h_7 r_2 r_4 r_8) fun r_11 =>
  some (r_11, h_7)
set_option maxHeartbeats 4000000 in
theorem w_X0_play_b69 {p : Program} {l : Launch} {e : Env} {s : State} {m : MethodId} {args : Array Value} {below : List Frame} {meth : Method} {c : Code} {D : XD} {h0 : TH} (hC : XCx D cX0_play 3 RX0 h0 p (xRm 5 122 h0) s m args meth c) (hr : meth.sig.returnType = some .int) (hnh : c.exceptionTable.isEmpty = true) (hin : meth.name = "play") {x : (Int32 × TH)} :
    ∀ (x0 : Nat) (x1 : Int32) (h : TH), F_X0_play_b69 D.2.2.2 x0 x1 h = some x → XJ p l e (xRm 5 122 h0) s m args below meth c D 3 (.returned (some (.int x.1))) h0 x.2 69 [(0, rv x0), (1, .int x1)] [] h := by
  have hx := hC.1
  have hb := hC.2.1
  intro x0 x1 h hF H locs cells slots ls hX hl
  rw [F_X0_play_b69] at hF
  refine X_aload_n hx hb dX0_play_69 rfl (lv_at hl 0 rfl) ?_
  obtain ⟨h_1, hF⟩ := gd_ok hF
  refine gX_X0_57 hC hX h_1 dX0_play_70 ?_
  refine lv_topr (fun r_2 er_2 => ?_)
  replace hF := lt_at hF er_2
  refine X_aload_n hx hb dX0_play_73 rfl (lv_at hl 0 rfl) ?_
  obtain ⟨h_3, hF⟩ := gd_ok hF
  refine gX_X0_84 hC hX h_3 dX0_play_74 ?_
  refine lv_topr (fun r_4 er_4 => ?_)
  replace hF := lt_at hF er_4
  refine X_aload_n hx hb dX0_play_77 rfl (lv_at hl 0 rfl) ?_
  refine lv_iload_n hx hb dX0_play_78 rfl (lv_at hl 1 rfl) ?_
  obtain ⟨h_5, hF⟩ := gd_ok hF
  obtain ⟨r_8, h_7, hc_6, hF⟩ := bd2_ok hF
  refine iX_X0_293 hC hX h_5 hc_6 hl.1 (cat4 (Nat.le_of_ble_eq_true rfl)) (Nat.le_of_ble_eq_true rfl) (Nat.le_of_ble_eq_true rfl) dX0_play_79 (fun H locs cells slots hX => ?_)
  obtain ⟨h_9, hF⟩ := gd_ok hF
  obtain ⟨r_11, hc_10, hF⟩ := bd_ok hF
  refine iX_X0_296 hC hX h_9 hc_10 hl.1 (Nat.le_of_ble_eq_true rfl) (Nat.le_of_ble_eq_true rfl) (Nat.le_of_ble_eq_true rfl) dX0_play_82 (fun H locs cells slots hX => ?_)
  exact x_reti hC hX hr rfl (rt1 hF) (rt2 hF) dX0_play_85
def F_X0_play_L50 (K : Nat → Nat) : Nat → Nat → Int32 → Int32 → TH → Option (Int32 × TH)
  | 0, _, _, _, _ => none
  | fu + 1, x0, x1, x2, h =>
    if (8 : Int32) ≤ x2 then
      F_X0_play_b69 K x0 x1 h
    else
      gd (hasF (hT h x0) 20 = true) <|
      lt (hR h 20 x0) fun r_3 =>
      gd (hT h r_3 = 31) <|
      gd (inb x2 (hN h r_3)) <|
      lt (uA h r_3 (Int32.toNatClampNeg x2) (-1 : Int32)) fun h_6 =>
      lt (x2 + (1 : Int32)) fun x2_7 =>
      F_X0_play_L50 K fu x0 x1 x2_7 h_6
set_option maxHeartbeats 4000000 in
theorem w_X0_play_L50 {p : Program} {l : Launch} {e : Env} {s : State} {m : MethodId} {args : Array Value} {below : List Frame} {meth : Method} {c : Code} {D : XD} {h0 : TH} (hC : XCx D cX0_play 3 RX0 h0 p (xRm 5 122 h0) s m args meth c) (hr : meth.sig.returnType = some .int) (hnh : c.exceptionTable.isEmpty = true) (hin : meth.name = "play") {x : (Int32 × TH)} :
    ∀ (fu : Nat) (x0 : Nat) (x1 : Int32) (x2 : Int32) (h : TH), F_X0_play_L50 D.2.2.2 fu x0 x1 x2 h = some x → XJ p l e (xRm 5 122 h0) s m args below meth c D 3 (.returned (some (.int x.1))) h0 x.2 50 [(0, rv x0), (1, .int x1), (2, .int x2)] [] h := by
  have hx := hC.1
  have hb := hC.2.1
  intro fu
  induction fu with
  | zero => intro x0 x1 x2 h hF; exact nm_none hF
  | succ fu ih =>
    intro x0 x1 x2 h hF H locs cells slots ls hX hl
    rw [F_X0_play_L50] at hF
    refine lv_iload_n hx hb dX0_play_50 rfl (lv_at hl 2 rfl) ?_
    refine lv_bipush (v := 8) hx hb dX0_play_51 (by decide) ?_
    refine lv_icmp_ge (tgt := 69) hx hb dX0_play_53 (by decide) (fun c_1 => ?_) (fun c_1 => ?_)
    · replace hF := it_t hF c_1
      exact w_X0_play_b69 hC hr hnh hin x0 x1 h hF H locs cells slots ls hX (lv_sub hl [0, 1] rfl)
    · replace hF := it_f hF c_1
      refine X_aload_n hx hb dX0_play_56 rfl (lv_at hl 0 rfl) ?_
      obtain ⟨h_2, hF⟩ := gd_ok hF
      refine gX_X0_88 hC hX h_2 dX0_play_57 ?_
      refine lv_topr (fun r_3 er_3 => ?_)
      replace hF := lt_at hF er_3
      refine lv_iload_n hx hb dX0_play_60 rfl (lv_at hl 2 rfl) ?_
      refine lv_iconst (v := -1) hx hb dX0_play_61 (by decide) ?_
      obtain ⟨h_4, hF⟩ := gd_ok hF
      obtain ⟨h_5, hF⟩ := gd_ok hF
      refine X_iast hC hX h_4 h_5 dX0_play_62 (fun H locs hX => ?_)
      obtain ⟨h_6, eh_6, hF⟩ := lt_ok hF
      rw [← eh_6] at hX
      obtain ⟨x2_7, ex2_7, hF⟩ := lt_ok hF
      refine lv_iinc (v := x2_7) (lv' := [(2, .int x2_7), (0, rv x0), (1, .int x1)]) hx hb dX0_play_63 hl (k := 2) rfl (by rw [ex2_7]; rfl) (by decide) rfl (fun ls hl => ?_)
      refine lv_goto (tgt := 50) hx hb dX0_play_66 (by decide) ?_
      exact ih x0 x1 x2_7 h_6 hF H locs cells slots ls hX (lv_sub hl [1, 2, 0] rfl)
def F_X0_play (K : Nat → Nat) (a0 : Nat) (b0 : Int32) (h : TH) : Option (Int32 × TH) :=
  gd (hT h a0 = 1) <|
  bd (F_X0_isInput K h a0 b0) fun r_3 =>
  if r_3 = 0 then
    some ((-1 : Int32), h)
  else
    gd (hasF (hT h a0) 8 = true) <|
    lt (hR h 8 a0) fun r_6 =>
    gd (hasF (hT h r_6) 57 = true) <|
    if (hI h 57 r_6) = 0 then
      gd (hasF (hT h a0) 21 = true) <|
      gd (hT h a0 ≤ 24) <|
      lt (uI h 21 a0 (1 : Int32)) fun h_11 =>
      gd (hasF (hT h_11 a0) 22 = true) <|
      gd (hT h_11 a0 ≤ 24) <|
      lt (uI h_11 22 a0 (-1 : Int32)) fun h_14 =>
      gd (hasF (hT h_14 a0) 23 = true) <|
      gd (hT h_14 a0 ≤ 24) <|
      lt (uI h_14 23 a0 (0 : Int32)) fun h_17 =>
      gd (hasF (hT h_17 a0) 24 = true) <|
      gd (hT h_17 a0 ≤ 24) <|
      lt (uI h_17 24 a0 (0 : Int32)) fun h_20 =>
      gd (hasF (hT h_20 a0) 25 = true) <|
      gd (hT h_20 a0 ≤ 24) <|
      lt (uI h_20 25 a0 (0 : Int32)) fun h_23 =>
      F_X0_play_L50 K MN a0 b0 (0 : Int32) h_23
    else
      some ((-2 : Int32), h)
set_option maxHeartbeats 4000000 in
theorem w_X0_play {p : Program} {l : Launch} {e : Env} {s : State} {m : MethodId} {args : Array Value} {below : List Frame} {meth : Method} {c : Code} {D : XD} {h0 : TH} (hC : XCx D cX0_play 3 RX0 h0 p (xRm 5 122 h0) s m args meth c) (hr : meth.sig.returnType = some .int) (hnh : c.exceptionTable.isEmpty = true) (hin : meth.name = "play") {x : (Int32 × TH)} :
    ∀ (a0 : Nat) (b0 : Int32) (h : TH), F_X0_play D.2.2.2 a0 b0 h = some x → XJ p l e (xRm 5 122 h0) s m args below meth c D 3 (.returned (some (.int x.1))) h0 x.2 0 [(0, rv a0), (1, .int b0)] [] h := by
  have hx := hC.1
  have hb := hC.2.1
  intro a0 b0 h hF H locs cells slots ls hX hl
  rw [F_X0_play] at hF
  refine X_aload_n hx hb dX0_play_0 rfl (lv_at hl 0 rfl) ?_
  refine lv_iload_n hx hb dX0_play_1 rfl (lv_at hl 1 rfl) ?_
  obtain ⟨h_1, hF⟩ := gd_ok hF
  obtain ⟨r_3, hc_2, hF⟩ := bd_ok hF
  refine iX_X0_166 hC hX h_1 hc_2 hl.1 (Nat.le_of_ble_eq_true rfl) (Nat.le_of_ble_eq_true rfl) (Nat.le_of_ble_eq_true rfl) dX0_play_2 (fun H locs cells slots hX => ?_)
  refine lv_if_ne (tgt := 10) hx hb dX0_play_5 (by decide) (fun c_4 => ?_) (fun c_4 => ?_)
  · replace hF := it_f hF c_4
    refine X_aload_n hx hb dX0_play_10 rfl (lv_at hl 0 rfl) ?_
    obtain ⟨h_5, hF⟩ := gd_ok hF
    refine gX_X0_57 hC hX h_5 dX0_play_11 ?_
    refine lv_topr (fun r_6 er_6 => ?_)
    replace hF := lt_at hF er_6
    obtain ⟨h_7, hF⟩ := gd_ok hF
    refine gX_X0_171 hC hX h_7 dX0_play_14 ?_
    refine lv_if_eq (tgt := 23) hx hb dX0_play_17 (by decide) (fun c_8 => ?_) (fun c_8 => ?_)
    · replace hF := it_t hF c_8
      refine X_aload_n hx hb dX0_play_23 rfl (lv_at hl 0 rfl) ?_
      refine lv_iconst (v := 1) hx hb dX0_play_24 (by decide) ?_
      obtain ⟨h_9, hF⟩ := gd_ok hF
      obtain ⟨h_10, hF⟩ := gd_ok hF
      refine pX_X0_130 hC hX h_9 h_10 (Or.inr rfl) dX0_play_25 (fun H locs hX => ?_)
      obtain ⟨h_11, eh_11, hF⟩ := lt_ok hF
      rw [← eh_11] at hX
      refine X_aload_n hx hb dX0_play_28 rfl (lv_at hl 0 rfl) ?_
      refine lv_iconst (v := -1) hx hb dX0_play_29 (by decide) ?_
      obtain ⟨h_12, hF⟩ := gd_ok hF
      obtain ⟨h_13, hF⟩ := gd_ok hF
      refine pX_X0_281 hC hX h_12 h_13 dX0_play_30 (fun H locs hX => ?_)
      obtain ⟨h_14, eh_14, hF⟩ := lt_ok hF
      rw [← eh_14] at hX
      refine X_aload_n hx hb dX0_play_33 rfl (lv_at hl 0 rfl) ?_
      refine lv_iconst (v := 0) hx hb dX0_play_34 (by decide) ?_
      obtain ⟨h_15, hF⟩ := gd_ok hF
      obtain ⟨h_16, hF⟩ := gd_ok hF
      refine pX_X0_284 hC hX h_15 h_16 dX0_play_35 (fun H locs hX => ?_)
      obtain ⟨h_17, eh_17, hF⟩ := lt_ok hF
      rw [← eh_17] at hX
      refine X_aload_n hx hb dX0_play_38 rfl (lv_at hl 0 rfl) ?_
      refine lv_iconst (v := 0) hx hb dX0_play_39 (by decide) ?_
      obtain ⟨h_18, hF⟩ := gd_ok hF
      obtain ⟨h_19, hF⟩ := gd_ok hF
      refine pX_X0_287 hC hX h_18 h_19 dX0_play_40 (fun H locs hX => ?_)
      obtain ⟨h_20, eh_20, hF⟩ := lt_ok hF
      rw [← eh_20] at hX
      refine X_aload_n hx hb dX0_play_43 rfl (lv_at hl 0 rfl) ?_
      refine lv_iconst (v := 0) hx hb dX0_play_44 (by decide) ?_
      obtain ⟨h_21, hF⟩ := gd_ok hF
      obtain ⟨h_22, hF⟩ := gd_ok hF
      refine pX_X0_290 hC hX h_21 h_22 dX0_play_45 (fun H locs hX => ?_)
      obtain ⟨h_23, eh_23, hF⟩ := lt_ok hF
      rw [← eh_23] at hX
      refine lv_iconst (v := 0) hx hb dX0_play_48 (by decide) ?_
      refine lv_istore_n (lv' := [(2, .int (0 : Int32)), (0, rv a0), (1, .int b0)]) hx hb dX0_play_49 rfl hl (by decide) rfl (fun ls hl => ?_)
      exact w_X0_play_L50 hC hr hnh hin MN a0 b0 (0 : Int32) h_23 hF H locs cells slots ls hX (lv_sub hl [1, 2, 0] rfl)
    · replace hF := it_f hF c_8
      refine lv_bipush (v := -2) hx hb dX0_play_20 (by decide) ?_
      exact x_reti hC hX hr rfl (rt1 hF) (rt2 hF) dX0_play_22
  · replace hF := it_t hF c_4
    refine lv_iconst (v := -1) hx hb dX0_play_8 (by decide) ?_
    exact x_reti hC hX hr rfl (rt1 hF) (rt2 hF) dX0_play_9
theorem m_X0_play (l : Launch) (D : XD) (a0 : Nat) (b0 : Int32) (h : TH) (x : (Int32 × TH)) (hF : F_X0_play D.2.2.2 a0 b0 h = some x) : XMt l yX0_play (ws_ yX0_play cX0_play 3 (some .int)) 5 122 D [rv a0, .int b0] h (.returned (some (.int x.1))) x.2 := by
  refine x_met (by decide +kernel) ?_ ?_
  · simp [lg_sl, rv_cat, cat_i, cat_l]
  intro p e s m below meth c hC hr hnh hin ls hl hX
  replace hl : lv_has ls 3 [(0, rv a0), (1, .int b0)] := by simpa [lv_args, rv_cat, cat_i, cat_l] using hl
  exact w_X0_play hC hr hnh hin a0 b0 h hF s.heap [] 0 0 ls hX hl
theorem gX_X0_130 {p : Program} {l : Launch} {e : Env} {R : Room} {s : State} {m : MethodId} {args : Array Value} {below : List Frame} {meth : Method} {c : Code} {H : Heap} {locs : List Loc} {cells slots nL : Nat} {Q : State → Prop} {D : XD} {h0 h : TH} {cc : ByteArray} {pc : Nat} {ls : Array Slot} {rest : List Value} (hC : XCx D cc nL RX0 h0 p R s m args meth c) (hX : XSt D s h0 h H locs cells slots) {a : Nat} (hf : hasF (hT h a) 21 = true) (hdg : decode cc pc = .ok (.getfield 130, 3)) (kk : W p l e R s m args below meth c H locs cells slots Q (F0 m (pc + 3) ls (.int (hI h 21 a) :: rest))) : W p l e R s m args below meth c H locs cells slots Q (F0 m pc ls (rv a :: rest)) :=
  X_geti hC hX 21 hf rfl q771 (fun _ h => h) hdg kk
theorem gX_X0_281 {p : Program} {l : Launch} {e : Env} {R : Room} {s : State} {m : MethodId} {args : Array Value} {below : List Frame} {meth : Method} {c : Code} {H : Heap} {locs : List Loc} {cells slots nL : Nat} {Q : State → Prop} {D : XD} {h0 h : TH} {cc : ByteArray} {pc : Nat} {ls : Array Slot} {rest : List Value} (hC : XCx D cc nL RX0 h0 p R s m args meth c) (hX : XSt D s h0 h H locs cells slots) {a : Nat} (hf : hasF (hT h a) 22 = true) (hdg : decode cc pc = .ok (.getfield 281, 3)) (kk : W p l e R s m args below meth c H locs cells slots Q (F0 m (pc + 3) ls (.int (hI h 22 a) :: rest))) : W p l e R s m args below meth c H locs cells slots Q (F0 m pc ls (rv a :: rest)) :=
  X_geti hC hX 22 hf rfl q772 (fun _ h => h) hdg kk
/-! BlindCards.played -/
def F_X0_played (K : Nat → Nat) (h : TH) (a0 : Nat) (b0 : Int32) : Option Int32 :=
  gd (hasF (hT h a0) 21 = true) <|
  if (hI h 21 a0) = 0 then
    some (-1 : Int32)
  else
    if b0 = (0 : Int32) then
      gd (hasF (hT h a0) 22 = true) <|
      some (hI h 22 a0)
    else
    if b0 = (1 : Int32) then
      gd (hasF (hT h a0) 23 = true) <|
      some (hI h 23 a0)
    else
    if b0 = (2 : Int32) then
      gd (hasF (hT h a0) 24 = true) <|
      some (hI h 24 a0)
    else
    if b0 = (3 : Int32) then
      gd (hasF (hT h a0) 25 = true) <|
      some (hI h 25 a0)
    else
      some (-1 : Int32)
set_option maxHeartbeats 4000000 in
theorem w_X0_played {p : Program} {l : Launch} {e : Env} {s : State} {m : MethodId} {args : Array Value} {below : List Frame} {meth : Method} {c : Code} {D : XD} {h : TH} (hC : XCx D cX0_played 2 RX0 h p (xRm 0 0 h) s m args meth c) (hr : meth.sig.returnType = some .int) (hnh : c.exceptionTable.isEmpty = true) (hin : meth.name = "played") {x : Int32} :
    ∀ (a0 : Nat) (b0 : Int32), F_X0_played D.2.2.2 h a0 b0 = some x → XJ p l e (xRm 0 0 h) s m args below meth c D 2 (.returned (some (.int x))) h h 0 [(0, rv a0), (1, .int b0)] [] h := by
  have hx := hC.1
  have hb := hC.2.1
  intro a0 b0 hF H locs cells slots ls hX hl
  rw [F_X0_played] at hF
  refine X_aload_n hx hb dX0_played_0 rfl (lv_at hl 0 rfl) ?_
  obtain ⟨h_1, hF⟩ := gd_ok hF
  refine gX_X0_130 hC hX h_1 dX0_played_1 ?_
  refine lv_if_ne (tgt := 9) hx hb dX0_played_4 (by decide) (fun c_2 => ?_) (fun c_2 => ?_)
  · replace hF := it_f hF c_2
    refine lv_iload_n hx hb dX0_played_9 rfl (lv_at hl 1 rfl) ?_
    by_cases c_3 : b0 = (0 : Int32)
    · replace hF := it_t hF c_3
      refine lv_tableIn (off := 30) (tgt := 40) hx hb dX0_played_10 (by rw [c_3]; decide) (by rw [c_3]; decide) (by rw [c_3]; rfl) (by decide) ?_
      refine X_aload_n hx hb dX0_played_40 rfl (lv_at hl 0 rfl) ?_
      obtain ⟨h_4, hF⟩ := gd_ok hF
      refine gX_X0_281 hC hX h_4 dX0_played_41 ?_
      exact x_reti hC hX hr rfl (Option.some.inj hF) rfl dX0_played_44
    replace hF := it_f hF c_3
    by_cases c_5 : b0 = (1 : Int32)
    · replace hF := it_t hF c_5
      refine lv_tableIn (off := 35) (tgt := 45) hx hb dX0_played_10 (by rw [c_5]; decide) (by rw [c_5]; decide) (by rw [c_5]; rfl) (by decide) ?_
      refine X_aload_n hx hb dX0_played_45 rfl (lv_at hl 0 rfl) ?_
      obtain ⟨h_6, hF⟩ := gd_ok hF
      refine gX_X0_284 hC hX h_6 dX0_played_46 ?_
      exact x_reti hC hX hr rfl (Option.some.inj hF) rfl dX0_played_49
    replace hF := it_f hF c_5
    by_cases c_7 : b0 = (2 : Int32)
    · replace hF := it_t hF c_7
      refine lv_tableIn (off := 40) (tgt := 50) hx hb dX0_played_10 (by rw [c_7]; decide) (by rw [c_7]; decide) (by rw [c_7]; rfl) (by decide) ?_
      refine X_aload_n hx hb dX0_played_50 rfl (lv_at hl 0 rfl) ?_
      obtain ⟨h_8, hF⟩ := gd_ok hF
      refine gX_X0_287 hC hX h_8 dX0_played_51 ?_
      exact x_reti hC hX hr rfl (Option.some.inj hF) rfl dX0_played_54
    replace hF := it_f hF c_7
    by_cases c_9 : b0 = (3 : Int32)
    · replace hF := it_t hF c_9
      refine lv_tableIn (off := 45) (tgt := 55) hx hb dX0_played_10 (by rw [c_9]; decide) (by rw [c_9]; decide) (by rw [c_9]; rfl) (by decide) ?_
      refine X_aload_n hx hb dX0_played_55 rfl (lv_at hl 0 rfl) ?_
      obtain ⟨h_10, hF⟩ := gd_ok hF
      refine gX_X0_290 hC hX h_10 dX0_played_56 ?_
      exact x_reti hC hX hr rfl (Option.some.inj hF) rfl dX0_played_59
    replace hF := it_f hF c_9
    refine lv_tableD (keys := [0, 1, 2, 3]) (tgt := 60) hx hb dX0_played_10 (List.forall_mem_cons.mpr ⟨ne_toInt c_3 rfl, (List.forall_mem_cons.mpr ⟨ne_toInt c_5 rfl, (List.forall_mem_cons.mpr ⟨ne_toInt c_7 rfl, (List.forall_mem_cons.mpr ⟨ne_toInt c_9 rfl, (fun _ h => nomatch h)⟩)⟩)⟩)⟩) rfl rfl (by decide) ?_
    refine lv_iconst (v := -1) hx hb dX0_played_60 (by decide) ?_
    exact x_reti hC hX hr rfl (Option.some.inj hF) rfl dX0_played_61
  · replace hF := it_t hF c_2
    refine lv_iconst (v := -1) hx hb dX0_played_7 (by decide) ?_
    exact x_reti hC hX hr rfl (Option.some.inj hF) rfl dX0_played_8
theorem m_X0_played (l : Launch) (D : XD) (a0 : Nat) (b0 : Int32) (h : TH) (x : Int32) (hF : F_X0_played D.2.2.2 h a0 b0 = some x) : XMt l yX0_played (ws_ yX0_played cX0_played 2 (some .int)) 0 0 D [rv a0, .int b0] h (.returned (some (.int x))) h := by
  refine x_met (by decide +kernel) ?_ ?_
  · simp [lg_sl, rv_cat, cat_i, cat_l]
  intro p e s m below meth c hC hr hnh hin ls hl hX
  replace hl : lv_has ls 2 [(0, rv a0), (1, .int b0)] := by simpa [lv_args, rv_cat, cat_i, cat_l] using hl
  exact w_X0_played hC hr hnh hin a0 b0 hF s.heap [] 0 0 ls hX hl
theorem pX_X11_3 {p : Program} {l : Launch} {e : Env} {R : Room} {s : State} {m : MethodId} {args : Array Value} {below : List Frame} {meth : Method} {c : Code} {H : Heap} {locs : List Loc} {cells slots nL : Nat} {Q : State → Prop} {D : XD} {h0 h : TH} {cc : ByteArray} {pc : Nat} {ls : Array Slot} {rest : List Value} (hC : XCx D cc nL RX11 h0 p R s m args meth c) (hX : XSt D s h0 h H locs cells slots) (hinit : meth.name = "<init>") {a : Nat} {v : Nat} (hf : hasF (hT h a) 74 = true) (hw : hT h a ≤ 24) (hsep : (74 = 58 ∨ 74 = 63 ∨ 74 = 66 → hR h 49 a = 0) ∧ (74 = 49 → ∀ g, g = 58 ∨ g = 63 ∨ g = 66 → hasF (hT h a) g = true → hR h g a = v)) (hdg : decode cc pc = .ok (.putfield 3, 3)) (kk : ∀ (H1 : Heap) (locs1 : List Loc), XSt D s h0 (uR h 74 a v) H1 locs1 cells slots → W p l e R s m args below meth c H1 locs1 cells slots Q (F0 m (pc + 3) ls rest)) : W p l e R s m args below meth c H locs cells slots Q (F0 m pc ls (rv v :: rv a :: rest)) :=
  X_putrF hC hX hinit 74 hf hw rfl rfl rfl q871 hsep hdg kk
theorem pX_X11_17 {p : Program} {l : Launch} {e : Env} {R : Room} {s : State} {m : MethodId} {args : Array Value} {below : List Frame} {meth : Method} {c : Code} {H : Heap} {locs : List Loc} {cells slots nL : Nat} {Q : State → Prop} {D : XD} {h0 h : TH} {cc : ByteArray} {pc : Nat} {ls : Array Slot} {rest : List Value} (hC : XCx D cc nL RX11 h0 p R s m args meth c) (hX : XSt D s h0 h H locs cells slots) {a : Nat} {v : Nat} (hf : hasF (hT h a) 72 = true) (hw : hT h a ≤ 24) (hdg : decode cc pc = .ok (.putfield 17, 3)) (kk : ∀ (H1 : Heap) (locs1 : List Loc), XSt D s h0 (uR h 72 a v) H1 locs1 cells slots → W p l e R s m args below meth c H1 locs1 cells slots Q (F0 m (pc + 3) ls rest)) : W p l e R s m args below meth c H locs cells slots Q (F0 m pc ls (rv v :: rv a :: rest)) :=
  X_putr hC hX 72 hf hw rfl rfl q869 (fun _ h => h) hdg kk
theorem nX_X11_21 {p : Program} {l : Launch} {e : Env} {R : Room} {s : State} {m : MethodId} {args : Array Value} {below : List Frame} {meth : Method} {c : Code} {H : Heap} {locs : List Loc} {cells slots nL : Nat} {Q : State → Prop} {D : XD} {h0 h : TH} {cc : ByteArray} {pc : Nat} {ls : Array Slot} {rest : List Value} (hC : XCx D cc nL RX11 h0 p R s m args meth c) (hX : XSt D s h0 h H locs cells slots) (hroom : hc h + 1 ≤ XC ∧ hs h + 10 ≤ XS) (hdg : decode cc pc = .ok (.new 21, 3)) (kk : ∀ (H1 : Heap) (cells1 slots1 : Nat), XSt D s h0 (nO h 2 10) H1 locs cells1 slots1 → W p l e R s m args below meth c H1 locs cells1 slots1 Q (F0 m (pc + 3) ls (rv (hz h + 1) :: rest))) : W p l e R s m args below meth c H locs cells slots Q (F0 m pc ls rest) :=
  X_new hC hX 2 ⟨by decide, by decide⟩ rfl q862 q182 q126 hroom hdg kk
theorem iX_X11_23 {p : Program} {l : Launch} {e : Env} {R : Room} {s : State} {m : MethodId} {args : Array Value} {below : List Frame} {meth : Method} {c : Code} {H : Heap} {locs : List Loc} {cells slots nL : Nat} {Q : State → Prop} {D : XD} {h0 h : TH} {cc : ByteArray} {pc : Nat} {ls : Array Slot} {rest : List Value} (hC : XCx D cc nL RX11 h0 p R s m args meth c) (hX : XSt D s h0 h H locs cells slots) {a : Nat} {x : TH} (ha : a ≠ 0) (hcF : F_X1_init D.2.2.2 a h = some x) (hl : ls.size = nL) (hW : (rest.map fun v => v.category).sum ≤ 8) (hRf : 4 + 1 ≤ R.frames) (hRl : 111 ≤ R.locals) (hdg : decode cc pc = .ok (.invokespecial 23, 3)) (kk : ∀ (H1 : Heap) (locs1 : List Loc) (cells1 slots1 : Nat), XSt D s h0 x H1 locs1 cells1 slots1 → W p l e R s m args below meth c H1 locs1 cells1 slots1 Q (F0 m (pc + 3) ls (rest))) : W p l e R s m args below meth c H locs cells slots Q (F0 m pc ls (rv a :: rest)) := by
  exact X_callIN hC hX ha (As := []) (m_X1_init l D a h _ hcF) ⟨va_cnB 0 hC.2.2.2.2.1 (lw_meth q185) rfl rfl rfl (xm12 hC.2.2.2.2.2.2.1) (hC.2.2.2.2.1 _ q126) (by decide +kernel) ⟨Nat.le_trans (Nat.le_of_ble_eq_true rfl) hRf, Nat.le_trans (Nat.le_of_ble_eq_true rfl) hRl⟩, rfl, hC.2.2.2.2.1 _ q184⟩ rfl rfl hl hW hdg kk
theorem pX_X11_24 {p : Program} {l : Launch} {e : Env} {R : Room} {s : State} {m : MethodId} {args : Array Value} {below : List Frame} {meth : Method} {c : Code} {H : Heap} {locs : List Loc} {cells slots nL : Nat} {Q : State → Prop} {D : XD} {h0 h : TH} {cc : ByteArray} {pc : Nat} {ls : Array Slot} {rest : List Value} (hC : XCx D cc nL RX11 h0 p R s m args meth c) (hX : XSt D s h0 h H locs cells slots) (hinit : meth.name = "<init>") {a : Nat} {v : Nat} (hf : hasF (hT h a) 73 = true) (hw : hT h a ≤ 24) (hsep : (73 = 58 ∨ 73 = 63 ∨ 73 = 66 → hR h 49 a = 0) ∧ (73 = 49 → ∀ g, g = 58 ∨ g = 63 ∨ g = 66 → hasF (hT h a) g = true → hR h g a = v)) (hdg : decode cc pc = .ok (.putfield 24, 3)) (kk : ∀ (H1 : Heap) (locs1 : List Loc), XSt D s h0 (uR h 73 a v) H1 locs1 cells slots → W p l e R s m args below meth c H1 locs1 cells slots Q (F0 m (pc + 3) ls rest)) : W p l e R s m args below meth c H locs cells slots Q (F0 m pc ls (rv v :: rv a :: rest)) :=
  X_putrF hC hX hinit 73 hf hw rfl rfl rfl q870 hsep hdg kk
/-! BlindCards$Reader.<init> -/
def F_X11_init (K : Nat → Nat) (a0 : Nat) (b0 : Nat) (h : TH) : Option TH :=
  gd (hasF (hT h a0) 74 = true) <|
  gd (hT h a0 ≤ 24) <|
  lt (uR h 74 a0 b0) fun h_3 =>
  gd (a0 ≠ 0) <|
  lt ((K 0)) fun r_5 =>
  gd (hasF (hT h_3 a0) 72 = true) <|
  gd (hT h_3 a0 ≤ 24) <|
  lt (uR h_3 72 a0 r_5) fun h_8 =>
  gd (hc h_8 + 1 ≤ XC ∧ hs h_8 + 10 ≤ XS) <|
  lt (hz h_8 + 1) fun r_10 =>
  lt (nO h_8 2 10) fun h_11 =>
  gd (r_10 ≠ 0) <|
  bd (F_X1_init K r_10 h_11) fun h_14 =>
  gd (hasF (hT h_14 a0) 73 = true) <|
  gd (hT h_14 a0 ≤ 24) <|
  lt (uR h_14 73 a0 r_10) fun h_17 =>
  some h_17
set_option maxHeartbeats 4000000 in
theorem w_X11_init {p : Program} {l : Launch} {e : Env} {s : State} {m : MethodId} {args : Array Value} {below : List Frame} {meth : Method} {c : Code} {D : XD} {h0 : TH} (hC : XCx D cX11_init 2 RX11 h0 p (xRm 5 111 h0) s m args meth c) (hr : meth.sig.returnType = none) (hnh : c.exceptionTable.isEmpty = true) (hin : meth.name = "<init>") {x : TH} :
    ∀ (a0 : Nat) (b0 : Nat) (h : TH), F_X11_init D.2.2.2 a0 b0 h = some x → XJ p l e (xRm 5 111 h0) s m args below meth c D 2 (.returned none) h0 x 0 [(0, rv a0), (1, rv b0)] [] h := by
  have hx := hC.1
  have hb := hC.2.1
  intro a0 b0 h hF H locs cells slots ls hX hl
  rw [F_X11_init] at hF
  refine X_aload_n hx hb dX11_init_0 rfl (lv_at hl 0 rfl) ?_
  refine X_aload_n hx hb dX11_init_1 rfl (lv_at hl 1 rfl) ?_
  obtain ⟨h_1, hF⟩ := gd_ok hF
  obtain ⟨h_2, hF⟩ := gd_ok hF
  refine pX_X11_3 hC hX hin h_1 h_2 ⟨fun q => absurd q (by decide), fun q => absurd q (by decide)⟩ dX11_init_2 (fun H locs hX => ?_)
  obtain ⟨h_3, eh_3, hF⟩ := lt_ok hF
  rw [← eh_3] at hX
  refine X_aload_n hx hb dX11_init_5 rfl (lv_at hl 0 rfl) ?_
  obtain ⟨h_4, hF⟩ := gd_ok hF
  refine X_objInit hC h_4 q860 q175 q176 hl.1 (Nat.le_of_ble_eq_true rfl) (objlo (Nat.le_of_ble_eq_true rfl) (Nat.le_of_ble_eq_true rfl)) dX11_init_6 ?_
  refine X_aload_n hx hb dX11_init_9 rfl (lv_at hl 0 rfl) ?_
  refine X_ldcS hC (i := 0) (List.mem_of_getElem? (i := 0) rfl) dX11_init_10 ?_
  refine lv_topr (fun r_5 er_5 => ?_)
  replace hF := lt_at hF er_5
  obtain ⟨h_6, hF⟩ := gd_ok hF
  obtain ⟨h_7, hF⟩ := gd_ok hF
  refine pX_X11_17 hC hX h_6 h_7 dX11_init_12 (fun H locs hX => ?_)
  obtain ⟨h_8, eh_8, hF⟩ := lt_ok hF
  rw [← eh_8] at hX
  refine X_aload_n hx hb dX11_init_15 rfl (lv_at hl 0 rfl) ?_
  obtain ⟨h_9, hF⟩ := gd_ok hF
  refine nX_X11_21 hC hX h_9 dX11_init_16 (fun H cells slots hX => ?_)
  refine lv_topr (fun r_10 er_10 => ?_)
  replace hF := lt_at hF er_10
  obtain ⟨h_11, eh_11, hF⟩ := lt_ok hF
  rw [← eh_11] at hX
  refine lv_dup hx hb dX11_init_19 (rv_cat _) ?_
  obtain ⟨h_12, hF⟩ := gd_ok hF
  obtain ⟨h_14, hc_13, hF⟩ := bd_ok hF
  refine iX_X11_23 hC hX h_12 hc_13 hl.1 (cat4 (Nat.le_of_ble_eq_true rfl)) (Nat.le_of_ble_eq_true rfl) (Nat.le_of_ble_eq_true rfl) dX11_init_20 (fun H locs cells slots hX => ?_)
  obtain ⟨h_15, hF⟩ := gd_ok hF
  obtain ⟨h_16, hF⟩ := gd_ok hF
  refine pX_X11_24 hC hX hin h_15 h_16 ⟨fun q => absurd q (by decide), fun q => absurd q (by decide)⟩ dX11_init_23 (fun H locs hX => ?_)
  obtain ⟨h_17, eh_17, hF⟩ := lt_ok hF
  rw [← eh_17] at hX
  exact x_retv hC hX hr (Option.some.inj hF) dX11_init_26
theorem m_X11_init (l : Launch) (D : XD) (a0 : Nat) (b0 : Nat) (h : TH) (x : TH) (hF : F_X11_init D.2.2.2 a0 b0 h = some x) : XMt l yX11_init (ws_ yX11_init cX11_init 2 (none)) 5 111 D [rv a0, rv b0] h (.returned none) x := by
  refine x_met (by decide +kernel) ?_ ?_
  · simp [lg_sl, rv_cat, cat_i, cat_l]
  intro p e s m below meth c hC hr hnh hin ls hl hX
  replace hl : lv_has ls 2 [(0, rv a0), (1, rv b0)] := by simpa [lv_args, rv_cat, cat_i, cat_l] using hl
  exact w_X11_init hC hr hnh hin a0 b0 h hF s.heap [] 0 0 ls hX hl
theorem gX_X11_28 {p : Program} {l : Launch} {e : Env} {R : Room} {s : State} {m : MethodId} {args : Array Value} {below : List Frame} {meth : Method} {c : Code} {H : Heap} {locs : List Loc} {cells slots nL : Nat} {Q : State → Prop} {D : XD} {h0 h : TH} {cc : ByteArray} {pc : Nat} {ls : Array Slot} {rest : List Value} (hC : XCx D cc nL RX11 h0 p R s m args meth c) (hX : XSt D s h0 h H locs cells slots) {a : Nat} (hf : hasF (hT h a) 67 = true) (hdg : decode cc pc = .ok (.getfield 28, 3)) (kk : W p l e R s m args below meth c H locs cells slots Q (F0 m (pc + 3) ls (.int (hI h 67 a) :: rest))) : W p l e R s m args below meth c H locs cells slots Q (F0 m pc ls (rv a :: rest)) :=
  X_geti hC hX 67 hf rfl q864 (fun _ h => h) hdg kk
theorem gX_X11_3 {p : Program} {l : Launch} {e : Env} {R : Room} {s : State} {m : MethodId} {args : Array Value} {below : List Frame} {meth : Method} {c : Code} {H : Heap} {locs : List Loc} {cells slots nL : Nat} {Q : State → Prop} {D : XD} {h0 h : TH} {cc : ByteArray} {pc : Nat} {ls : Array Slot} {rest : List Value} (hC : XCx D cc nL RX11 h0 p R s m args meth c) (hX : XSt D s h0 h H locs cells slots) {a : Nat} (hf : hasF (hT h a) 74 = true) (hdg : decode cc pc = .ok (.getfield 3, 3)) (kk : W p l e R s m args below meth c H locs cells slots Q (F0 m (pc + 3) ls (rv (hR h 74 a) :: rest))) : W p l e R s m args below meth c H locs cells slots Q (F0 m pc ls (rv a :: rest)) :=
  X_getr hC hX 74 hf rfl (fun q => absurd q (by decide)) q871 (fun _ h => h) hdg kk
theorem gX_X11_32 {p : Program} {l : Launch} {e : Env} {R : Room} {s : State} {m : MethodId} {args : Array Value} {below : List Frame} {meth : Method} {c : Code} {H : Heap} {locs : List Loc} {cells slots nL : Nat} {Q : State → Prop} {D : XD} {h0 h : TH} {cc : ByteArray} {pc : Nat} {ls : Array Slot} {rest : List Value} (hC : XCx D cc nL RX11 h0 p R s m args meth c) (hX : XSt D s h0 h H locs cells slots) {a : Nat} (hf : hasF (hT h a) 4 = true) (hdg : decode cc pc = .ok (.getfield 32, 3)) (kk : W p l e R s m args below meth c H locs cells slots Q (F0 m (pc + 3) ls (.int (hI h 4 a) :: rest))) : W p l e R s m args below meth c H locs cells slots Q (F0 m pc ls (rv a :: rest)) :=
  X_getiN hC hX 4 hf rfl (List.mem_of_getElem? (i := 5) rfl) hdg kk
theorem gX_X11_35 {p : Program} {l : Launch} {e : Env} {R : Room} {s : State} {m : MethodId} {args : Array Value} {below : List Frame} {meth : Method} {c : Code} {H : Heap} {locs : List Loc} {cells slots nL : Nat} {Q : State → Prop} {D : XD} {h0 h : TH} {cc : ByteArray} {pc : Nat} {ls : Array Slot} {rest : List Value} (hC : XCx D cc nL RX11 h0 p R s m args meth c) (hX : XSt D s h0 h H locs cells slots) {a : Nat} (hf : hasF (hT h a) 3 = true) (hdg : decode cc pc = .ok (.getfield 35, 3)) (kk : W p l e R s m args below meth c H locs cells slots Q (F0 m (pc + 3) ls (rv (hR h 3 a) :: rest))) : W p l e R s m args below meth c H locs cells slots Q (F0 m pc ls (rv a :: rest)) :=
  X_getrN hC hX 3 hf rfl (fun q => absurd q (by decide)) (List.mem_of_getElem? (i := 4) rfl) hdg kk
/-! BlindCards$Reader.here -/
def F_X11_here (K : Nat → Nat) (h : TH) (a0 : Nat) (b0 : Int32) : Option Int32 :=
  gd (hasF (hT h a0) 67 = true) <|
  gd (hasF (hT h a0) 74 = true) <|
  lt (hR h 74 a0) fun r_3 =>
  gd (hasF (hT h r_3) 4 = true) <|
  if (hI h 4 r_3) ≤ ((hI h 67 a0) + b0) then
    some (-1 : Int32)
  else
    gd (hasF (hT h a0) 74 = true) <|
    lt (hR h 74 a0) fun r_7 =>
    gd (hasF (hT h r_7) 3 = true) <|
    lt (hR h 3 r_7) fun r_9 =>
    gd (hasF (hT h a0) 67 = true) <|
    gd (hT h r_9 = 32 ∨ hT h r_9 = 42) <|
    gd (inb ((hI h 67 a0) + b0) (hN h r_9)) <|
    some ((hA h r_9 (Int32.toNatClampNeg ((hI h 67 a0) + b0))) &&& (255 : Int32))
set_option maxHeartbeats 4000000 in
theorem w_X11_here {p : Program} {l : Launch} {e : Env} {s : State} {m : MethodId} {args : Array Value} {below : List Frame} {meth : Method} {c : Code} {D : XD} {h : TH} (hC : XCx D cX11_here 2 RX11 h p (xRm 0 0 h) s m args meth c) (hr : meth.sig.returnType = some .int) (hnh : c.exceptionTable.isEmpty = true) (hin : meth.name = "here") {x : Int32} :
    ∀ (a0 : Nat) (b0 : Int32), F_X11_here D.2.2.2 h a0 b0 = some x → XJ p l e (xRm 0 0 h) s m args below meth c D 2 (.returned (some (.int x))) h h 0 [(0, rv a0), (1, .int b0)] [] h := by
  have hx := hC.1
  have hb := hC.2.1
  intro a0 b0 hF H locs cells slots ls hX hl
  rw [F_X11_here] at hF
  refine X_aload_n hx hb dX11_here_0 rfl (lv_at hl 0 rfl) ?_
  obtain ⟨h_1, hF⟩ := gd_ok hF
  refine gX_X11_28 hC hX h_1 dX11_here_1 ?_
  refine lv_iload_n hx hb dX11_here_4 rfl (lv_at hl 1 rfl) ?_
  refine lv_iadd hx hb dX11_here_5 ?_
  refine X_aload_n hx hb dX11_here_6 rfl (lv_at hl 0 rfl) ?_
  obtain ⟨h_2, hF⟩ := gd_ok hF
  refine gX_X11_3 hC hX h_2 dX11_here_7 ?_
  refine lv_topr (fun r_3 er_3 => ?_)
  replace hF := lt_at hF er_3
  obtain ⟨h_4, hF⟩ := gd_ok hF
  refine gX_X11_32 hC hX h_4 dX11_here_10 ?_
  refine lv_icmp_ge (tgt := 37) hx hb dX11_here_13 (by decide) (fun c_5 => ?_) (fun c_5 => ?_)
  · replace hF := it_t hF c_5
    refine lv_iconst (v := -1) hx hb dX11_here_37 (by decide) ?_
    exact x_reti hC hX hr rfl (Option.some.inj hF) rfl dX11_here_38
  · replace hF := it_f hF c_5
    refine X_aload_n hx hb dX11_here_16 rfl (lv_at hl 0 rfl) ?_
    obtain ⟨h_6, hF⟩ := gd_ok hF
    refine gX_X11_3 hC hX h_6 dX11_here_17 ?_
    refine lv_topr (fun r_7 er_7 => ?_)
    replace hF := lt_at hF er_7
    obtain ⟨h_8, hF⟩ := gd_ok hF
    refine gX_X11_35 hC hX h_8 dX11_here_20 ?_
    refine lv_topr (fun r_9 er_9 => ?_)
    replace hF := lt_at hF er_9
    refine X_aload_n hx hb dX11_here_23 rfl (lv_at hl 0 rfl) ?_
    obtain ⟨h_10, hF⟩ := gd_ok hF
    refine gX_X11_28 hC hX h_10 dX11_here_24 ?_
    refine lv_iload_n hx hb dX11_here_27 rfl (lv_at hl 1 rfl) ?_
    refine lv_iadd hx hb dX11_here_28 ?_
    obtain ⟨h_11, hF⟩ := gd_ok hF
    obtain ⟨h_12, hF⟩ := gd_ok hF
    refine X_bald hC hX h_11 h_12 dX11_here_29 ?_
    refine lv_sipush (v := 255) hx hb dX11_here_30 (by decide) ?_
    refine lv_iand hx hb dX11_here_33 ?_
    refine lv_goto (tgt := 38) hx hb dX11_here_34 (by decide) ?_
    exact x_reti hC hX hr rfl (Option.some.inj hF) rfl dX11_here_38
theorem m_X11_here (l : Launch) (D : XD) (a0 : Nat) (b0 : Int32) (h : TH) (x : Int32) (hF : F_X11_here D.2.2.2 h a0 b0 = some x) : XMt l yX11_here (ws_ yX11_here cX11_here 2 (some .int)) 0 0 D [rv a0, .int b0] h (.returned (some (.int x))) h := by
  refine x_met (by decide +kernel) ?_ ?_
  · simp [lg_sl, rv_cat, cat_i, cat_l]
  intro p e s m below meth c hC hr hnh hin ls hl hX
  replace hl : lv_has ls 2 [(0, rv a0), (1, .int b0)] := by simpa [lv_args, rv_cat, cat_i, cat_l] using hl
  exact w_X11_here hC hr hnh hin a0 b0 hF s.heap [] 0 0 ls hX hl
theorem iX_X11_39 {p : Program} {l : Launch} {e : Env} {R : Room} {s : State} {m : MethodId} {args : Array Value} {below : List Frame} {meth : Method} {c : Code} {H : Heap} {locs : List Loc} {cells slots nL : Nat} {Q : State → Prop} {D : XD} {h0 h : TH} {cc : ByteArray} {pc : Nat} {ls : Array Slot} {rest : List Value} (hC : XCx D cc nL RX11 h0 p R s m args meth c) (hX : XSt D s h0 h H locs cells slots) {a : Nat} {b0 : Int32} {x : Int32} (ht : hT h a = 7) (hcF : F_X11_here D.2.2.2 h a b0 = some x) (hl : ls.size = nL) (hW : (rest.map fun v => v.category).sum ≤ 8) (hRf : 0 + 1 ≤ R.frames) (hRl : 21 ≤ R.locals) (hdg : decode cc pc = .ok (.invokevirtual 39, 3)) (kk : ∀ (H1 : Heap) (locs1 : List Loc) (cells1 slots1 : Nat), XSt D s h0 h H1 locs1 cells1 slots1 → W p l e R s m args below meth c H1 locs1 cells1 slots1 Q (F0 m (pc + 3) ls (.int x :: rest))) : W p l e R s m args below meth c H locs cells slots Q (F0 m pc ls (.int b0 :: rv a :: rest)) := by
  have q := ht
  exact X_callV hC hX (by rw [q]; decide) (by rw [q]; rfl) (As := [.int b0]) (m_X11_here l D a b0 h _ hcF) (cwV 1 hC.2.2.2.2.1 (lw_V q897 q899 qs7 q146 q900) rfl rfl rfl (by decide +kernel) ⟨Nat.le_trans (Nat.le_of_ble_eq_true rfl) hRf, Nat.le_trans (Nat.le_of_ble_eq_true rfl) hRl⟩) rfl rfl hl hW hdg kk
/-! BlindCards$Reader.isDigit -/
def F_X11_isDigit (K : Nat → Nat) (h : TH) (a0 : Nat) (b0 : Int32) : Option Int32 :=
  gd (hT h a0 = 7) <|
  bd (F_X11_here K h a0 b0) fun r_3 =>
  if r_3 < (48 : Int32) then
    some (0 : Int32)
  else
    gd (hT h a0 = 7) <|
    bd (F_X11_here K h a0 b0) fun r_7 =>
    if (57 : Int32) < r_7 then
      some (0 : Int32)
    else
      some (1 : Int32)
set_option maxHeartbeats 4000000 in
theorem w_X11_isDigit {p : Program} {l : Launch} {e : Env} {s : State} {m : MethodId} {args : Array Value} {below : List Frame} {meth : Method} {c : Code} {D : XD} {h : TH} (hC : XCx D cX11_isDigit 2 RX11 h p (xRm 1 21 h) s m args meth c) (hr : meth.sig.returnType = some .boolean) (hnh : c.exceptionTable.isEmpty = true) (hin : meth.name = "isDigit") {x : Int32} :
    ∀ (a0 : Nat) (b0 : Int32), F_X11_isDigit D.2.2.2 h a0 b0 = some x → XJ p l e (xRm 1 21 h) s m args below meth c D 2 (.returned (some (.int x))) h h 0 [(0, rv a0), (1, .int b0)] [] h := by
  have hx := hC.1
  have hb := hC.2.1
  intro a0 b0 hF H locs cells slots ls hX hl
  rw [F_X11_isDigit] at hF
  refine X_aload_n hx hb dX11_isDigit_0 rfl (lv_at hl 0 rfl) ?_
  refine lv_iload_n hx hb dX11_isDigit_1 rfl (lv_at hl 1 rfl) ?_
  obtain ⟨h_1, hF⟩ := gd_ok hF
  obtain ⟨r_3, hc_2, hF⟩ := bd_ok hF
  refine iX_X11_39 hC hX h_1 hc_2 hl.1 (Nat.le_of_ble_eq_true rfl) (Nat.le_of_ble_eq_true rfl) (Nat.le_of_ble_eq_true rfl) dX11_isDigit_2 (fun H locs cells slots hX => ?_)
  refine lv_bipush (v := 48) hx hb dX11_isDigit_5 (by decide) ?_
  refine lv_icmp_lt (tgt := 24) hx hb dX11_isDigit_7 (by decide) (fun c_4 => ?_) (fun c_4 => ?_)
  · replace hF := it_t hF c_4
    refine lv_iconst (v := 0) hx hb dX11_isDigit_24 (by decide) ?_
    exact x_reti hC hX hr rfl (Option.some.inj hF) rfl dX11_isDigit_25
  · replace hF := it_f hF c_4
    refine X_aload_n hx hb dX11_isDigit_10 rfl (lv_at hl 0 rfl) ?_
    refine lv_iload_n hx hb dX11_isDigit_11 rfl (lv_at hl 1 rfl) ?_
    obtain ⟨h_5, hF⟩ := gd_ok hF
    obtain ⟨r_7, hc_6, hF⟩ := bd_ok hF
    refine iX_X11_39 hC hX h_5 hc_6 hl.1 (Nat.le_of_ble_eq_true rfl) (Nat.le_of_ble_eq_true rfl) (Nat.le_of_ble_eq_true rfl) dX11_isDigit_12 (fun H locs cells slots hX => ?_)
    refine lv_bipush (v := 57) hx hb dX11_isDigit_15 (by decide) ?_
    refine lv_icmp_gt (tgt := 24) hx hb dX11_isDigit_17 (by decide) (fun c_8 => ?_) (fun c_8 => ?_)
    · replace hF := it_t hF c_8
      refine lv_iconst (v := 0) hx hb dX11_isDigit_24 (by decide) ?_
      exact x_reti hC hX hr rfl (Option.some.inj hF) rfl dX11_isDigit_25
    · replace hF := it_f hF c_8
      refine lv_iconst (v := 1) hx hb dX11_isDigit_20 (by decide) ?_
      refine lv_goto (tgt := 25) hx hb dX11_isDigit_21 (by decide) ?_
      exact x_reti hC hX hr rfl (Option.some.inj hF) rfl dX11_isDigit_25
theorem m_X11_isDigit (l : Launch) (D : XD) (a0 : Nat) (b0 : Int32) (h : TH) (x : Int32) (hF : F_X11_isDigit D.2.2.2 h a0 b0 = some x) : XMt l yX11_isDigit (ws_ yX11_isDigit cX11_isDigit 2 (some .boolean)) 1 21 D [rv a0, .int b0] h (.returned (some (.int x))) h := by
  refine x_met (by decide +kernel) ?_ ?_
  · simp [lg_sl, rv_cat, cat_i, cat_l]
  intro p e s m below meth c hC hr hnh hin ls hl hX
  replace hl : lv_has ls 2 [(0, rv a0), (1, .int b0)] := by simpa [lv_args, rv_cat, cat_i, cat_l] using hl
  exact w_X11_isDigit hC hr hnh hin a0 b0 hF s.heap [] 0 0 ls hX hl
/-! BlindCards$Reader.isLetter -/
def F_X11_isLetter (K : Nat → Nat) (h : TH) (a0 : Nat) (b0 : Int32) : Option Int32 :=
  gd (hT h a0 = 7) <|
  bd (F_X11_here K h a0 b0) fun r_3 =>
  if r_3 < (97 : Int32) then
    some (0 : Int32)
  else
    gd (hT h a0 = 7) <|
    bd (F_X11_here K h a0 b0) fun r_7 =>
    if (122 : Int32) < r_7 then
      some (0 : Int32)
    else
      some (1 : Int32)
set_option maxHeartbeats 4000000 in
theorem w_X11_isLetter {p : Program} {l : Launch} {e : Env} {s : State} {m : MethodId} {args : Array Value} {below : List Frame} {meth : Method} {c : Code} {D : XD} {h : TH} (hC : XCx D cX11_isLetter 2 RX11 h p (xRm 1 21 h) s m args meth c) (hr : meth.sig.returnType = some .boolean) (hnh : c.exceptionTable.isEmpty = true) (hin : meth.name = "isLetter") {x : Int32} :
    ∀ (a0 : Nat) (b0 : Int32), F_X11_isLetter D.2.2.2 h a0 b0 = some x → XJ p l e (xRm 1 21 h) s m args below meth c D 2 (.returned (some (.int x))) h h 0 [(0, rv a0), (1, .int b0)] [] h := by
  have hx := hC.1
  have hb := hC.2.1
  intro a0 b0 hF H locs cells slots ls hX hl
  rw [F_X11_isLetter] at hF
  refine X_aload_n hx hb dX11_isLetter_0 rfl (lv_at hl 0 rfl) ?_
  refine lv_iload_n hx hb dX11_isLetter_1 rfl (lv_at hl 1 rfl) ?_
  obtain ⟨h_1, hF⟩ := gd_ok hF
  obtain ⟨r_3, hc_2, hF⟩ := bd_ok hF
  refine iX_X11_39 hC hX h_1 hc_2 hl.1 (Nat.le_of_ble_eq_true rfl) (Nat.le_of_ble_eq_true rfl) (Nat.le_of_ble_eq_true rfl) dX11_isLetter_2 (fun H locs cells slots hX => ?_)
  refine lv_bipush (v := 97) hx hb dX11_isLetter_5 (by decide) ?_
  refine lv_icmp_lt (tgt := 24) hx hb dX11_isLetter_7 (by decide) (fun c_4 => ?_) (fun c_4 => ?_)
  · replace hF := it_t hF c_4
    refine lv_iconst (v := 0) hx hb dX11_isLetter_24 (by decide) ?_
    exact x_reti hC hX hr rfl (Option.some.inj hF) rfl dX11_isLetter_25
  · replace hF := it_f hF c_4
    refine X_aload_n hx hb dX11_isLetter_10 rfl (lv_at hl 0 rfl) ?_
    refine lv_iload_n hx hb dX11_isLetter_11 rfl (lv_at hl 1 rfl) ?_
    obtain ⟨h_5, hF⟩ := gd_ok hF
    obtain ⟨r_7, hc_6, hF⟩ := bd_ok hF
    refine iX_X11_39 hC hX h_5 hc_6 hl.1 (Nat.le_of_ble_eq_true rfl) (Nat.le_of_ble_eq_true rfl) (Nat.le_of_ble_eq_true rfl) dX11_isLetter_12 (fun H locs cells slots hX => ?_)
    refine lv_bipush (v := 122) hx hb dX11_isLetter_15 (by decide) ?_
    refine lv_icmp_gt (tgt := 24) hx hb dX11_isLetter_17 (by decide) (fun c_8 => ?_) (fun c_8 => ?_)
    · replace hF := it_t hF c_8
      refine lv_iconst (v := 0) hx hb dX11_isLetter_24 (by decide) ?_
      exact x_reti hC hX hr rfl (Option.some.inj hF) rfl dX11_isLetter_25
    · replace hF := it_f hF c_8
      refine lv_iconst (v := 1) hx hb dX11_isLetter_20 (by decide) ?_
      refine lv_goto (tgt := 25) hx hb dX11_isLetter_21 (by decide) ?_
      exact x_reti hC hX hr rfl (Option.some.inj hF) rfl dX11_isLetter_25
theorem m_X11_isLetter (l : Launch) (D : XD) (a0 : Nat) (b0 : Int32) (h : TH) (x : Int32) (hF : F_X11_isLetter D.2.2.2 h a0 b0 = some x) : XMt l yX11_isLetter (ws_ yX11_isLetter cX11_isLetter 2 (some .boolean)) 1 21 D [rv a0, .int b0] h (.returned (some (.int x))) h := by
  refine x_met (by decide +kernel) ?_ ?_
  · simp [lg_sl, rv_cat, cat_i, cat_l]
  intro p e s m below meth c hC hr hnh hin ls hl hX
  replace hl : lv_has ls 2 [(0, rv a0), (1, .int b0)] := by simpa [lv_args, rv_cat, cat_i, cat_l] using hl
  exact w_X11_isLetter hC hr hnh hin a0 b0 hF s.heap [] 0 0 ls hX hl
/-! BlindCards$Reader.isSign -/
def F_X11_isSign (K : Nat → Nat) (h : TH) (b0 : Int32) : Option Int32 :=
  if b0 = (59 : Int32) then
    some (1 : Int32)
  else
    if b0 = (40 : Int32) then
      some (1 : Int32)
    else
      if b0 = (41 : Int32) then
        some (1 : Int32)
      else
        if b0 = (60 : Int32) then
          some (1 : Int32)
        else
          if b0 = (62 : Int32) then
            some (1 : Int32)
          else
            if b0 = (61 : Int32) then
              some (1 : Int32)
            else
              if b0 = (43 : Int32) then
                some (1 : Int32)
              else
                if b0 = (45 : Int32) then
                  some (1 : Int32)
                else
                  if b0 = (42 : Int32) then
                    some (1 : Int32)
                  else
                    some (0 : Int32)
set_option maxHeartbeats 4000000 in
theorem w_X11_isSign {p : Program} {l : Launch} {e : Env} {s : State} {m : MethodId} {args : Array Value} {below : List Frame} {meth : Method} {c : Code} {D : XD} {h : TH} (hC : XCx D cX11_isSign 1 RX11 h p (xRm 0 0 h) s m args meth c) (hr : meth.sig.returnType = some .boolean) (hnh : c.exceptionTable.isEmpty = true) (hin : meth.name = "isSign") {x : Int32} :
    ∀ (b0 : Int32), F_X11_isSign D.2.2.2 h b0 = some x → XJ p l e (xRm 0 0 h) s m args below meth c D 1 (.returned (some (.int x))) h h 0 [(0, .int b0)] [] h := by
  have hx := hC.1
  have hb := hC.2.1
  intro b0 hF H locs cells slots ls hX hl
  rw [F_X11_isSign] at hF
  refine lv_iload_n hx hb dX11_isSign_0 rfl (lv_at hl 0 rfl) ?_
  refine lv_bipush (v := 59) hx hb dX11_isSign_1 (by decide) ?_
  refine lv_icmp_eq (tgt := 54) hx hb dX11_isSign_3 (by decide) (fun c_1 => ?_) (fun c_1 => ?_)
  · replace hF := it_t hF c_1
    refine lv_iconst (v := 1) hx hb dX11_isSign_54 (by decide) ?_
    refine lv_goto (tgt := 59) hx hb dX11_isSign_55 (by decide) ?_
    exact x_reti hC hX hr rfl (Option.some.inj hF) rfl dX11_isSign_59
  · replace hF := it_f hF c_1
    refine lv_iload_n hx hb dX11_isSign_6 rfl (lv_at hl 0 rfl) ?_
    refine lv_bipush (v := 40) hx hb dX11_isSign_7 (by decide) ?_
    refine lv_icmp_eq (tgt := 54) hx hb dX11_isSign_9 (by decide) (fun c_2 => ?_) (fun c_2 => ?_)
    · replace hF := it_t hF c_2
      refine lv_iconst (v := 1) hx hb dX11_isSign_54 (by decide) ?_
      refine lv_goto (tgt := 59) hx hb dX11_isSign_55 (by decide) ?_
      exact x_reti hC hX hr rfl (Option.some.inj hF) rfl dX11_isSign_59
    · replace hF := it_f hF c_2
      refine lv_iload_n hx hb dX11_isSign_12 rfl (lv_at hl 0 rfl) ?_
      refine lv_bipush (v := 41) hx hb dX11_isSign_13 (by decide) ?_
      refine lv_icmp_eq (tgt := 54) hx hb dX11_isSign_15 (by decide) (fun c_3 => ?_) (fun c_3 => ?_)
      · replace hF := it_t hF c_3
        refine lv_iconst (v := 1) hx hb dX11_isSign_54 (by decide) ?_
        refine lv_goto (tgt := 59) hx hb dX11_isSign_55 (by decide) ?_
        exact x_reti hC hX hr rfl (Option.some.inj hF) rfl dX11_isSign_59
      · replace hF := it_f hF c_3
        refine lv_iload_n hx hb dX11_isSign_18 rfl (lv_at hl 0 rfl) ?_
        refine lv_bipush (v := 60) hx hb dX11_isSign_19 (by decide) ?_
        refine lv_icmp_eq (tgt := 54) hx hb dX11_isSign_21 (by decide) (fun c_4 => ?_) (fun c_4 => ?_)
        · replace hF := it_t hF c_4
          refine lv_iconst (v := 1) hx hb dX11_isSign_54 (by decide) ?_
          refine lv_goto (tgt := 59) hx hb dX11_isSign_55 (by decide) ?_
          exact x_reti hC hX hr rfl (Option.some.inj hF) rfl dX11_isSign_59
        · replace hF := it_f hF c_4
          refine lv_iload_n hx hb dX11_isSign_24 rfl (lv_at hl 0 rfl) ?_
          refine lv_bipush (v := 62) hx hb dX11_isSign_25 (by decide) ?_
          refine lv_icmp_eq (tgt := 54) hx hb dX11_isSign_27 (by decide) (fun c_5 => ?_) (fun c_5 => ?_)
          · replace hF := it_t hF c_5
            refine lv_iconst (v := 1) hx hb dX11_isSign_54 (by decide) ?_
            refine lv_goto (tgt := 59) hx hb dX11_isSign_55 (by decide) ?_
            exact x_reti hC hX hr rfl (Option.some.inj hF) rfl dX11_isSign_59
          · replace hF := it_f hF c_5
            refine lv_iload_n hx hb dX11_isSign_30 rfl (lv_at hl 0 rfl) ?_
            refine lv_bipush (v := 61) hx hb dX11_isSign_31 (by decide) ?_
            refine lv_icmp_eq (tgt := 54) hx hb dX11_isSign_33 (by decide) (fun c_6 => ?_) (fun c_6 => ?_)
            · replace hF := it_t hF c_6
              refine lv_iconst (v := 1) hx hb dX11_isSign_54 (by decide) ?_
              refine lv_goto (tgt := 59) hx hb dX11_isSign_55 (by decide) ?_
              exact x_reti hC hX hr rfl (Option.some.inj hF) rfl dX11_isSign_59
            · replace hF := it_f hF c_6
              refine lv_iload_n hx hb dX11_isSign_36 rfl (lv_at hl 0 rfl) ?_
              refine lv_bipush (v := 43) hx hb dX11_isSign_37 (by decide) ?_
              refine lv_icmp_eq (tgt := 54) hx hb dX11_isSign_39 (by decide) (fun c_7 => ?_) (fun c_7 => ?_)
              · replace hF := it_t hF c_7
                refine lv_iconst (v := 1) hx hb dX11_isSign_54 (by decide) ?_
                refine lv_goto (tgt := 59) hx hb dX11_isSign_55 (by decide) ?_
                exact x_reti hC hX hr rfl (Option.some.inj hF) rfl dX11_isSign_59
              · replace hF := it_f hF c_7
                refine lv_iload_n hx hb dX11_isSign_42 rfl (lv_at hl 0 rfl) ?_
                refine lv_bipush (v := 45) hx hb dX11_isSign_43 (by decide) ?_
                refine lv_icmp_eq (tgt := 54) hx hb dX11_isSign_45 (by decide) (fun c_8 => ?_) (fun c_8 => ?_)
                · replace hF := it_t hF c_8
                  refine lv_iconst (v := 1) hx hb dX11_isSign_54 (by decide) ?_
                  refine lv_goto (tgt := 59) hx hb dX11_isSign_55 (by decide) ?_
                  exact x_reti hC hX hr rfl (Option.some.inj hF) rfl dX11_isSign_59
                · replace hF := it_f hF c_8
                  refine lv_iload_n hx hb dX11_isSign_48 rfl (lv_at hl 0 rfl) ?_
                  refine lv_bipush (v := 42) hx hb dX11_isSign_49 (by decide) ?_
                  refine lv_icmp_ne (tgt := 58) hx hb dX11_isSign_51 (by decide) (fun c_9 => ?_) (fun c_9 => ?_)
                  · replace hF := it_f hF c_9
                    refine lv_iconst (v := 0) hx hb dX11_isSign_58 (by decide) ?_
                    exact x_reti hC hX hr rfl (Option.some.inj hF) rfl dX11_isSign_59
                  · replace hF := it_t hF c_9
                    refine lv_iconst (v := 1) hx hb dX11_isSign_54 (by decide) ?_
                    refine lv_goto (tgt := 59) hx hb dX11_isSign_55 (by decide) ?_
                    exact x_reti hC hX hr rfl (Option.some.inj hF) rfl dX11_isSign_59
theorem m_X11_isSign (l : Launch) (D : XD) (b0 : Int32) (h : TH) (x : Int32) (hF : F_X11_isSign D.2.2.2 h b0 = some x) : XMt l yX11_isSign (ws_ yX11_isSign cX11_isSign 1 (some .boolean)) 0 0 D [.int b0] h (.returned (some (.int x))) h := by
  refine x_met (by decide +kernel) ?_ ?_
  · exact Nat.le_of_ble_eq_true rfl
  intro p e s m below meth c hC hr hnh hin ls hl hX
  replace hl : lv_has ls 1 [(0, .int b0)] := by simpa [lv_args, rv_cat, cat_i, cat_l] using hl
  exact w_X11_isSign hC hr hnh hin b0 hF s.heap [] 0 0 ls hX hl
theorem sX_J9_18 {p : Program} {l : Launch} {e : Env} {R : Room} {s : State} {m : MethodId} {args : Array Value} {below : List Frame} {meth : Method} {c : Code} {H : Heap} {locs : List Loc} {cells slots nL : Nat} {Q : State → Prop} {D : XD} {h0 h : TH} {cc : ByteArray} {pc : Nat} {ls : Array Slot} {rest : List Value} (hC : XCx D cc nL RJ9 h0 p R s m args meth c) (hX : XSt D s h0 h H locs cells slots) (hdg : decode cc pc = .ok (.getstatic 18, 3)) (kk : W p l e R s m args below meth c H locs cells slots Q (F0 m (pc + 3) ls (.int 1 :: rest))) : W p l e R s m args below meth c H locs cells slots Q (F0 m pc ls rest) :=
  X_gets hC hX (q := .inr 1) (List.mem_of_getElem? (i := 9) rfl) q914 hdg kk
theorem pX_J9_15 {p : Program} {l : Launch} {e : Env} {R : Room} {s : State} {m : MethodId} {args : Array Value} {below : List Frame} {meth : Method} {c : Code} {H : Heap} {locs : List Loc} {cells slots nL : Nat} {Q : State → Prop} {D : XD} {h0 h : TH} {cc : ByteArray} {pc : Nat} {ls : Array Slot} {rest : List Value} (hC : XCx D cc nL RJ9 h0 p R s m args meth c) (hX : XSt D s h0 h H locs cells slots) {a : Nat} {v : Nat} (hf : hasF (hT h a) 75 = true) (hw : hT h a ≤ 24) (hdg : decode cc pc = .ok (.putfield 15, 3)) (kk : ∀ (H1 : Heap) (locs1 : List Loc), XSt D s h0 (uR h 75 a v) H1 locs1 cells slots → W p l e R s m args below meth c H1 locs1 cells slots Q (F0 m (pc + 3) ls rest)) : W p l e R s m args below meth c H locs cells slots Q (F0 m pc ls (rv v :: rv a :: rest)) :=
  X_putr hC hX 75 hf hw rfl rfl q923 (fun _ h => h) hdg kk
theorem pX_J9_22 {p : Program} {l : Launch} {e : Env} {R : Room} {s : State} {m : MethodId} {args : Array Value} {below : List Frame} {meth : Method} {c : Code} {H : Heap} {locs : List Loc} {cells slots nL : Nat} {Q : State → Prop} {D : XD} {h0 h : TH} {cc : ByteArray} {pc : Nat} {ls : Array Slot} {rest : List Value} (hC : XCx D cc nL RJ9 h0 p R s m args meth c) (hX : XSt D s h0 h H locs cells slots) {a : Nat} {v : Int32} (hf : hasF (hT h a) 76 = true) (hw : hT h a ≤ 24) (hg : Int8.toInt32 (Int32.toInt8 v) = v) (hdg : decode cc pc = .ok (.putfield 22, 3)) (kk : ∀ (H1 : Heap) (locs1 : List Loc), XSt D s h0 (uI h 76 a v) H1 locs1 cells slots → W p l e R s m args below meth c H1 locs1 cells slots Q (F0 m (pc + 3) ls rest)) : W p l e R s m args below meth c H locs cells slots Q (F0 m pc ls (.int v :: rv a :: rest)) :=
  X_puti hC hX 76 hf hw rfl rfl q924 (fun _ h => h) (nb_nar hg) hdg kk
/-! java/lang/AbstractStringBuilder.<init> -/
def F_J9_init (K : Nat → Nat) (a0 : Nat) (b0 : Int32) (h : TH) : Option TH :=
  gd (a0 ≠ 0) <|
  if (1 : Int32) = 0 then
    none
  else
    gd (¬ b0 < 0) <|
    gd (Int32.toNatClampNeg b0 ≤ 67108864) <|
    gd (hc h + 1 ≤ XC ∧ hs h + Int32.toNatClampNeg b0 ≤ XS) <|
    lt (hz h + 1) fun r_6 =>
    lt (nA h 32 (Int32.toNatClampNeg b0)) fun h_7 =>
    gd (hasF (hT h_7 a0) 75 = true) <|
    gd (hT h_7 a0 ≤ 24) <|
    lt (uR h_7 75 a0 r_6) fun h_10 =>
    gd (hasF (hT h_10 a0) 76 = true) <|
    gd (hT h_10 a0 ≤ 24) <|
    gd (Int8.toInt32 (Int32.toInt8 (0 : Int32)) = (0 : Int32)) <|
    lt (uI h_10 76 a0 (0 : Int32)) fun h_14 =>
    some h_14
set_option maxHeartbeats 4000000 in
theorem w_J9_init {p : Program} {l : Launch} {e : Env} {s : State} {m : MethodId} {args : Array Value} {below : List Frame} {meth : Method} {c : Code} {D : XD} {h0 : TH} (hC : XCx D cJ9_init 2 RJ9 h0 p (xRm 1 30 h0) s m args meth c) (hr : meth.sig.returnType = none) (hnh : c.exceptionTable.isEmpty = true) (hin : meth.name = "<init>") {x : TH} :
    ∀ (a0 : Nat) (b0 : Int32) (h : TH), F_J9_init D.2.2.2 a0 b0 h = some x → XJ p l e (xRm 1 30 h0) s m args below meth c D 2 (.returned none) h0 x 0 [(0, rv a0), (1, .int b0)] [] h := by
  have hx := hC.1
  have hb := hC.2.1
  intro a0 b0 h hF H locs cells slots ls hX hl
  rw [F_J9_init] at hF
  refine X_aload_n hx hb dJ9_init_0 rfl (lv_at hl 0 rfl) ?_
  obtain ⟨h_1, hF⟩ := gd_ok hF
  refine X_objInit hC h_1 q913 q175 q176 hl.1 (Nat.le_of_ble_eq_true rfl) (objlo (Nat.le_of_ble_eq_true rfl) (Nat.le_of_ble_eq_true rfl)) dJ9_init_1 ?_
  refine sX_J9_18 hC hX dJ9_init_4 ?_
  refine lv_if_eq (tgt := 25) hx hb dJ9_init_7 (by decide) (fun c_2 => ?_) (fun c_2 => ?_)
  · replace hF := it_t hF c_2
    refine X_aload_n hx hb dJ9_init_25 rfl (lv_at hl 0 rfl) ?_
    refine lv_iload_n hx hb dJ9_init_26 rfl (lv_at hl 1 rfl) ?_
    exact nm_none hF
  · replace hF := it_f hF c_2
    refine X_aload_n hx hb dJ9_init_10 rfl (lv_at hl 0 rfl) ?_
    refine lv_iload_n hx hb dJ9_init_11 rfl (lv_at hl 1 rfl) ?_
    obtain ⟨h_3, hF⟩ := gd_ok hF
    obtain ⟨h_4, hF⟩ := gd_ok hF
    obtain ⟨h_5, hF⟩ := gd_ok hF
    refine X_newa hC hX (atype := .byte) 32 (Or.inr (Or.inl rfl)) rfl q217 h_3 h_4 h_5 dJ9_init_12 (fun H cells slots hX => ?_)
    refine lv_topr (fun r_6 er_6 => ?_)
    replace hF := lt_at hF er_6
    obtain ⟨h_7, eh_7, hF⟩ := lt_ok hF
    rw [← eh_7] at hX
    obtain ⟨h_8, hF⟩ := gd_ok hF
    obtain ⟨h_9, hF⟩ := gd_ok hF
    refine pX_J9_15 hC hX h_8 h_9 dJ9_init_14 (fun H locs hX => ?_)
    obtain ⟨h_10, eh_10, hF⟩ := lt_ok hF
    rw [← eh_10] at hX
    refine X_aload_n hx hb dJ9_init_17 rfl (lv_at hl 0 rfl) ?_
    refine lv_iconst (v := 0) hx hb dJ9_init_18 (by decide) ?_
    obtain ⟨h_11, hF⟩ := gd_ok hF
    obtain ⟨h_12, hF⟩ := gd_ok hF
    obtain ⟨h_13, hF⟩ := gd_ok hF
    refine pX_J9_22 hC hX h_11 h_12 h_13 dJ9_init_19 (fun H locs hX => ?_)
    obtain ⟨h_14, eh_14, hF⟩ := lt_ok hF
    rw [← eh_14] at hX
    refine lv_goto (tgt := 38) hx hb dJ9_init_22 (by decide) ?_
    exact x_retv hC hX hr (Option.some.inj hF) dJ9_init_38
theorem m_J9_init (l : Launch) (D : XD) (a0 : Nat) (b0 : Int32) (h : TH) (x : TH) (hF : F_J9_init D.2.2.2 a0 b0 h = some x) : XMt l yJ9_init (ws_ yJ9_init cJ9_init 2 (none)) 1 30 D [rv a0, .int b0] h (.returned none) x := by
  refine x_met (by decide +kernel) ?_ ?_
  · simp [lg_sl, rv_cat, cat_i, cat_l]
  intro p e s m below meth c hC hr hnh hin ls hl hX
  replace hl : lv_has ls 2 [(0, rv a0), (1, .int b0)] := by simpa [lv_args, rv_cat, cat_i, cat_l] using hl
  exact w_J9_init hC hr hnh hin a0 b0 h hF s.heap [] 0 0 ls hX hl
theorem iX_J10_1 {p : Program} {l : Launch} {e : Env} {R : Room} {s : State} {m : MethodId} {args : Array Value} {below : List Frame} {meth : Method} {c : Code} {H : Heap} {locs : List Loc} {cells slots nL : Nat} {Q : State → Prop} {D : XD} {h0 h : TH} {cc : ByteArray} {pc : Nat} {ls : Array Slot} {rest : List Value} (hC : XCx D cc nL RJ10 h0 p R s m args meth c) (hX : XSt D s h0 h H locs cells slots) {a : Nat} {b0 : Int32} {x : TH} (ha : a ≠ 0) (hcF : F_J9_init D.2.2.2 a b0 h = some x) (hl : ls.size = nL) (hW : (rest.map fun v => v.category).sum ≤ 8) (hRf : 1 + 1 ≤ R.frames) (hRl : 51 ≤ R.locals) (hdg : decode cc pc = .ok (.invokespecial 1, 3)) (kk : ∀ (H1 : Heap) (locs1 : List Loc) (cells1 slots1 : Nat), XSt D s h0 x H1 locs1 cells1 slots1 → W p l e R s m args below meth c H1 locs1 cells1 slots1 Q (F0 m (pc + 3) ls (rest))) : W p l e R s m args below meth c H locs cells slots Q (F0 m pc ls (.int b0 :: rv a :: rest)) := by
  exact X_callI hC hX ha (As := [.int b0]) (m_J9_init l D a b0 h _ hcF) (cwI 1 hC.2.2.2.2.1 (lw_meth q912) rfl rfl rfl (hC.2.2.2.2.1 _ q147) (hC.2.2.2.2.1 _ q910) (hC.2.2.2.2.1 _ q911) rfl (by decide +kernel) ⟨Nat.le_trans (Nat.le_of_ble_eq_true rfl) hRf, Nat.le_trans (Nat.le_of_ble_eq_true rfl) hRl⟩) rfl rfl hl hW hdg kk
/-! java/lang/StringBuilder.<init> -/
def F_J10_init (K : Nat → Nat) (a0 : Nat) (b0 : Int32) (h : TH) : Option TH :=
  gd (a0 ≠ 0) <|
  bd (F_J9_init K a0 b0 h) fun h_3 =>
  some h_3
set_option maxHeartbeats 4000000 in
theorem w_J10_init {p : Program} {l : Launch} {e : Env} {s : State} {m : MethodId} {args : Array Value} {below : List Frame} {meth : Method} {c : Code} {D : XD} {h0 : TH} (hC : XCx D cJ10_init 2 RJ10 h0 p (xRm 2 51 h0) s m args meth c) (hr : meth.sig.returnType = none) (hnh : c.exceptionTable.isEmpty = true) (hin : meth.name = "<init>") {x : TH} :
    ∀ (a0 : Nat) (b0 : Int32) (h : TH), F_J10_init D.2.2.2 a0 b0 h = some x → XJ p l e (xRm 2 51 h0) s m args below meth c D 2 (.returned none) h0 x 0 [(0, rv a0), (1, .int b0)] [] h := by
  have hx := hC.1
  have hb := hC.2.1
  intro a0 b0 h hF H locs cells slots ls hX hl
  rw [F_J10_init] at hF
  refine X_aload_n hx hb dJ10_init_0 rfl (lv_at hl 0 rfl) ?_
  refine lv_iload_n hx hb dJ10_init_1 rfl (lv_at hl 1 rfl) ?_
  obtain ⟨h_1, hF⟩ := gd_ok hF
  obtain ⟨h_3, hc_2, hF⟩ := bd_ok hF
  refine iX_J10_1 hC hX h_1 hc_2 hl.1 (Nat.le_of_ble_eq_true rfl) (Nat.le_of_ble_eq_true rfl) (Nat.le_of_ble_eq_true rfl) dJ10_init_2 (fun H locs cells slots hX => ?_)
  exact x_retv hC hX hr (Option.some.inj hF) dJ10_init_5
theorem m_J10_init (l : Launch) (D : XD) (a0 : Nat) (b0 : Int32) (h : TH) (x : TH) (hF : F_J10_init D.2.2.2 a0 b0 h = some x) : XMt l yJ10_init (ws_ yJ10_init cJ10_init 2 (none)) 2 51 D [rv a0, .int b0] h (.returned none) x := by
  refine x_met (by decide +kernel) ?_ ?_
  · simp [lg_sl, rv_cat, cat_i, cat_l]
  intro p e s m below meth c hC hr hnh hin ls hl hX
  replace hl : lv_has ls 2 [(0, rv a0), (1, .int b0)] := by simpa [lv_args, rv_cat, cat_i, cat_l] using hl
  exact w_J10_init hC hr hnh hin a0 b0 h hF s.heap [] 0 0 ls hX hl
theorem gX_J9_15 {p : Program} {l : Launch} {e : Env} {R : Room} {s : State} {m : MethodId} {args : Array Value} {below : List Frame} {meth : Method} {c : Code} {H : Heap} {locs : List Loc} {cells slots nL : Nat} {Q : State → Prop} {D : XD} {h0 h : TH} {cc : ByteArray} {pc : Nat} {ls : Array Slot} {rest : List Value} (hC : XCx D cc nL RJ9 h0 p R s m args meth c) (hX : XSt D s h0 h H locs cells slots) {a : Nat} (hf : hasF (hT h a) 75 = true) (hdg : decode cc pc = .ok (.getfield 15, 3)) (kk : W p l e R s m args below meth c H locs cells slots Q (F0 m (pc + 3) ls (rv (hR h 75 a) :: rest))) : W p l e R s m args below meth c H locs cells slots Q (F0 m pc ls (rv a :: rest)) :=
  X_getr hC hX 75 hf rfl (fun q => absurd q (by decide)) q923 (fun _ h => h) hdg kk
theorem gX_J9_22 {p : Program} {l : Launch} {e : Env} {R : Room} {s : State} {m : MethodId} {args : Array Value} {below : List Frame} {meth : Method} {c : Code} {H : Heap} {locs : List Loc} {cells slots nL : Nat} {Q : State → Prop} {D : XD} {h0 h : TH} {cc : ByteArray} {pc : Nat} {ls : Array Slot} {rest : List Value} (hC : XCx D cc nL RJ9 h0 p R s m args meth c) (hX : XSt D s h0 h H locs cells slots) {a : Nat} (hf : hasF (hT h a) 76 = true) (hdg : decode cc pc = .ok (.getfield 22, 3)) (kk : W p l e R s m args below meth c H locs cells slots Q (F0 m (pc + 3) ls (.int (hI h 76 a) :: rest))) : W p l e R s m args below meth c H locs cells slots Q (F0 m pc ls (rv a :: rest)) :=
  X_geti hC hX 76 hf rfl q924 (fun _ h => h) hdg kk
/-! java/lang/AbstractStringBuilder.ensureCapacityInternal -/
def F_J9_ensureCapacityInternal (K : Nat → Nat) (h : TH) (a0 : Nat) (b0 : Int32) : Option Unit :=
  gd (hasF (hT h a0) 75 = true) <|
  lt (hR h 75 a0) fun r_2 =>
  gd (2 ≤ tkd (hT h r_2)) <|
  gd (hasF (hT h a0) 76 = true) <|
  lt (((Int32.ofNat (hN h r_2)) >>> ((hI h 76 a0) &&& 31))) fun x_5 =>
  if (b0 - x_5) ≤ 0 then
    some ()
  else
    gd (hasF (hT h a0) 75 = true) <|
    lt (hR h 75 a0) fun r_8 =>
    none
set_option maxHeartbeats 4000000 in
theorem w_J9_ensureCapacityInternal {p : Program} {l : Launch} {e : Env} {s : State} {m : MethodId} {args : Array Value} {below : List Frame} {meth : Method} {c : Code} {D : XD} {h : TH} (hC : XCx D cJ9_ensureCapacityInternal 3 RJ9 h p (xRm 0 0 h) s m args meth c) (hr : meth.sig.returnType = none) (hnh : c.exceptionTable.isEmpty = true) (hin : meth.name = "ensureCapacityInternal") {x : Unit} :
    ∀ (a0 : Nat) (b0 : Int32), F_J9_ensureCapacityInternal D.2.2.2 h a0 b0 = some x → XJ p l e (xRm 0 0 h) s m args below meth c D 3 (.returned none) h h 0 [(0, rv a0), (1, .int b0)] [] h := by
  have hx := hC.1
  have hb := hC.2.1
  intro a0 b0 hF H locs cells slots ls hX hl
  rw [F_J9_ensureCapacityInternal] at hF
  refine X_aload_n hx hb dJ9_ensureCapacityInternal_0 rfl (lv_at hl 0 rfl) ?_
  obtain ⟨h_1, hF⟩ := gd_ok hF
  refine gX_J9_15 hC hX h_1 dJ9_ensureCapacityInternal_1 ?_
  refine lv_topr (fun r_2 er_2 => ?_)
  replace hF := lt_at hF er_2
  obtain ⟨h_3, hF⟩ := gd_ok hF
  refine X_alen hC hX h_3 dJ9_ensureCapacityInternal_4 ?_
  refine X_aload_n hx hb dJ9_ensureCapacityInternal_5 rfl (lv_at hl 0 rfl) ?_
  obtain ⟨h_4, hF⟩ := gd_ok hF
  refine gX_J9_22 hC hX h_4 dJ9_ensureCapacityInternal_6 ?_
  refine lv_ishr hx hb dJ9_ensureCapacityInternal_9 ?_
  refine lv_topi (fun x_5 ex_5 => ?_)
  replace hF := lt_at hF ex_5
  refine lv_istore_n (lv' := [(2, .int x_5), (0, rv a0), (1, .int b0)]) hx hb dJ9_ensureCapacityInternal_10 rfl hl (by decide) rfl (fun ls hl => ?_)
  refine lv_iload_n hx hb dJ9_ensureCapacityInternal_11 rfl (lv_at hl 2 rfl) ?_
  refine lv_iload_n hx hb dJ9_ensureCapacityInternal_12 rfl (lv_at hl 0 rfl) ?_
  refine lv_isub hx hb dJ9_ensureCapacityInternal_13 ?_
  refine lv_if_le (tgt := 38) hx hb dJ9_ensureCapacityInternal_14 (by decide) (fun c_6 => ?_) (fun c_6 => ?_)
  · replace hF := it_t hF c_6
    exact x_retv hC hX hr rfl dJ9_ensureCapacityInternal_38
  · replace hF := it_f hF c_6
    refine X_aload_n hx hb dJ9_ensureCapacityInternal_17 rfl (lv_at hl 1 rfl) ?_
    refine X_aload_n hx hb dJ9_ensureCapacityInternal_18 rfl (lv_at hl 1 rfl) ?_
    obtain ⟨h_7, hF⟩ := gd_ok hF
    refine gX_J9_15 hC hX h_7 dJ9_ensureCapacityInternal_19 ?_
    refine lv_topr (fun r_8 er_8 => ?_)
    replace hF := lt_at hF er_8
    refine X_aload_n hx hb dJ9_ensureCapacityInternal_22 rfl (lv_at hl 1 rfl) ?_
    refine lv_iload_n hx hb dJ9_ensureCapacityInternal_23 rfl (lv_at hl 2 rfl) ?_
    exact nm_none hF
theorem m_J9_ensureCapacityInternal (l : Launch) (D : XD) (a0 : Nat) (b0 : Int32) (h : TH) (x : Unit) (hF : F_J9_ensureCapacityInternal D.2.2.2 h a0 b0 = some x) : XMt l yJ9_ensureCapacityInternal (ws_ yJ9_ensureCapacityInternal cJ9_ensureCapacityInternal 3 (none)) 0 0 D [rv a0, .int b0] h (.returned none) h := by
  refine x_met (by decide +kernel) ?_ ?_
  · simp [lg_sl, rv_cat, cat_i, cat_l]
  intro p e s m below meth c hC hr hnh hin ls hl hX
  replace hl : lv_has ls 3 [(0, rv a0), (1, .int b0)] := by simpa [lv_args, rv_cat, cat_i, cat_l] using hl
  exact w_J9_ensureCapacityInternal hC hr hnh hin a0 b0 hF s.heap [] 0 0 ls hX hl
/-! java/lang/AbstractStringBuilder.isLatin1 -/
def F_J9_isLatin1 (K : Nat → Nat) (h : TH) (a0 : Nat) : Option Int32 :=
  if (1 : Int32) = 0 then
    some (0 : Int32)
  else
    gd (hasF (hT h a0) 76 = true) <|
    if (hI h 76 a0) = 0 then
      some (1 : Int32)
    else
      some (0 : Int32)
set_option maxHeartbeats 4000000 in
theorem w_J9_isLatin1 {p : Program} {l : Launch} {e : Env} {s : State} {m : MethodId} {args : Array Value} {below : List Frame} {meth : Method} {c : Code} {D : XD} {h : TH} (hC : XCx D cJ9_isLatin1 1 RJ9 h p (xRm 0 0 h) s m args meth c) (hr : meth.sig.returnType = some .boolean) (hnh : c.exceptionTable.isEmpty = true) (hin : meth.name = "isLatin1") {x : Int32} :
    ∀ (a0 : Nat), F_J9_isLatin1 D.2.2.2 h a0 = some x → XJ p l e (xRm 0 0 h) s m args below meth c D 1 (.returned (some (.int x))) h h 0 [(0, rv a0)] [] h := by
  have hx := hC.1
  have hb := hC.2.1
  intro a0 hF H locs cells slots ls hX hl
  rw [F_J9_isLatin1] at hF
  refine sX_J9_18 hC hX dJ9_isLatin1_0 ?_
  refine lv_if_eq (tgt := 17) hx hb dJ9_isLatin1_3 (by decide) (fun c_1 => ?_) (fun c_1 => ?_)
  · replace hF := it_t hF c_1
    refine lv_iconst (v := 0) hx hb dJ9_isLatin1_17 (by decide) ?_
    exact x_reti hC hX hr rfl (Option.some.inj hF) rfl dJ9_isLatin1_18
  · replace hF := it_f hF c_1
    refine X_aload_n hx hb dJ9_isLatin1_6 rfl (lv_at hl 0 rfl) ?_
    obtain ⟨h_2, hF⟩ := gd_ok hF
    refine gX_J9_22 hC hX h_2 dJ9_isLatin1_7 ?_
    refine lv_if_ne (tgt := 17) hx hb dJ9_isLatin1_10 (by decide) (fun c_3 => ?_) (fun c_3 => ?_)
    · replace hF := it_f hF c_3
      refine lv_iconst (v := 0) hx hb dJ9_isLatin1_17 (by decide) ?_
      exact x_reti hC hX hr rfl (Option.some.inj hF) rfl dJ9_isLatin1_18
    · replace hF := it_t hF c_3
      refine lv_iconst (v := 1) hx hb dJ9_isLatin1_13 (by decide) ?_
      refine lv_goto (tgt := 18) hx hb dJ9_isLatin1_14 (by decide) ?_
      exact x_reti hC hX hr rfl (Option.some.inj hF) rfl dJ9_isLatin1_18
theorem m_J9_isLatin1 (l : Launch) (D : XD) (a0 : Nat) (h : TH) (x : Int32) (hF : F_J9_isLatin1 D.2.2.2 h a0 = some x) : XMt l yJ9_isLatin1 (ws_ yJ9_isLatin1 cJ9_isLatin1 1 (some .boolean)) 0 0 D [rv a0] h (.returned (some (.int x))) h := by
  refine x_met (by decide +kernel) ?_ ?_
  · simp [lg_sl, rv_cat, cat_i, cat_l]
  intro p e s m below meth c hC hr hnh hin ls hl hX
  replace hl : lv_has ls 1 [(0, rv a0)] := by simpa [lv_args, rv_cat, cat_i, cat_l] using hl
  exact w_J9_isLatin1 hC hr hnh hin a0 hF s.heap [] 0 0 ls hX hl
/-! java/lang/StringLatin1.canEncode -/
def F_J13_canEncode (K : Nat → Nat) (h : TH) (b0 : Int32) : Option Int32 :=
  if (255 : Int32) < b0 then
    some (0 : Int32)
  else
    some (1 : Int32)
set_option maxHeartbeats 4000000 in
theorem w_J13_canEncode {p : Program} {l : Launch} {e : Env} {s : State} {m : MethodId} {args : Array Value} {below : List Frame} {meth : Method} {c : Code} {D : XD} {h : TH} (hC : XCx D cJ13_canEncode 1 RJ13 h p (xRm 0 0 h) s m args meth c) (hr : meth.sig.returnType = some .boolean) (hnh : c.exceptionTable.isEmpty = true) (hin : meth.name = "canEncode") {x : Int32} :
    ∀ (b0 : Int32), F_J13_canEncode D.2.2.2 h b0 = some x → XJ p l e (xRm 0 0 h) s m args below meth c D 1 (.returned (some (.int x))) h h 0 [(0, .int b0)] [] h := by
  have hx := hC.1
  have hb := hC.2.1
  intro b0 hF H locs cells slots ls hX hl
  rw [F_J13_canEncode] at hF
  refine lv_iload_n hx hb dJ13_canEncode_0 rfl (lv_at hl 0 rfl) ?_
  refine lv_sipush (v := 255) hx hb dJ13_canEncode_1 (by decide) ?_
  refine lv_icmp_gt (tgt := 11) hx hb dJ13_canEncode_4 (by decide) (fun c_1 => ?_) (fun c_1 => ?_)
  · replace hF := it_t hF c_1
    refine lv_iconst (v := 0) hx hb dJ13_canEncode_11 (by decide) ?_
    exact x_reti hC hX hr rfl (Option.some.inj hF) rfl dJ13_canEncode_12
  · replace hF := it_f hF c_1
    refine lv_iconst (v := 1) hx hb dJ13_canEncode_7 (by decide) ?_
    refine lv_goto (tgt := 12) hx hb dJ13_canEncode_8 (by decide) ?_
    exact x_reti hC hX hr rfl (Option.some.inj hF) rfl dJ13_canEncode_12
theorem m_J13_canEncode (l : Launch) (D : XD) (b0 : Int32) (h : TH) (x : Int32) (hF : F_J13_canEncode D.2.2.2 h b0 = some x) : XMt l yJ13_canEncode (ws_ yJ13_canEncode cJ13_canEncode 1 (some .boolean)) 0 0 D [.int b0] h (.returned (some (.int x))) h := by
  refine x_met (by decide +kernel) ?_ ?_
  · exact Nat.le_of_ble_eq_true rfl
  intro p e s m below meth c hC hr hnh hin ls hl hX
  replace hl : lv_has ls 1 [(0, .int b0)] := by simpa [lv_args, rv_cat, cat_i, cat_l] using hl
  exact w_J13_canEncode hC hr hnh hin b0 hF s.heap [] 0 0 ls hX hl
theorem gX_J9_79 {p : Program} {l : Launch} {e : Env} {R : Room} {s : State} {m : MethodId} {args : Array Value} {below : List Frame} {meth : Method} {c : Code} {H : Heap} {locs : List Loc} {cells slots nL : Nat} {Q : State → Prop} {D : XD} {h0 h : TH} {cc : ByteArray} {pc : Nat} {ls : Array Slot} {rest : List Value} (hC : XCx D cc nL RJ9 h0 p R s m args meth c) (hX : XSt D s h0 h H locs cells slots) {a : Nat} (hf : hasF (hT h a) 78 = true) (hdg : decode cc pc = .ok (.getfield 79, 3)) (kk : W p l e R s m args below meth c H locs cells slots Q (F0 m (pc + 3) ls (.int (hI h 78 a) :: rest))) : W p l e R s m args below meth c H locs cells slots Q (F0 m pc ls (rv a :: rest)) :=
  X_geti hC hX 78 hf rfl q926 (fun _ h => h) hdg kk
theorem iX_J9_100 {p : Program} {l : Launch} {e : Env} {R : Room} {s : State} {m : MethodId} {args : Array Value} {below : List Frame} {meth : Method} {c : Code} {H : Heap} {locs : List Loc} {cells slots nL : Nat} {Q : State → Prop} {D : XD} {h0 h : TH} {cc : ByteArray} {pc : Nat} {ls : Array Slot} {rest : List Value} (hC : XCx D cc nL RJ9 h0 p R s m args meth c) (hX : XSt D s h0 h H locs cells slots) {a : Nat} {b0 : Int32} {x : Unit} (ht : hT h a = 8) (hcF : F_J9_ensureCapacityInternal D.2.2.2 h a b0 = some x) (hl : ls.size = nL) (hW : (rest.map fun v => v.category).sum ≤ 8) (hRf : 0 + 1 ≤ R.frames) (hRl : 22 ≤ R.locals) (hdg : decode cc pc = .ok (.invokevirtual 100, 3)) (kk : ∀ (H1 : Heap) (locs1 : List Loc) (cells1 slots1 : Nat), XSt D s h0 h H1 locs1 cells1 slots1 → W p l e R s m args below meth c H1 locs1 cells1 slots1 Q (F0 m (pc + 3) ls (rest))) : W p l e R s m args below meth c H locs cells slots Q (F0 m pc ls (.int b0 :: rv a :: rest)) := by
  have q := ht
  exact X_callV hC hX (by rw [q]; decide) (by rw [q]; rfl) (As := [.int b0]) (m_J9_ensureCapacityInternal l D a b0 h _ hcF) ⟨callB_of 1 hC.2.2.2.2.1 (lw_meth q946) rfl rfl rfl (hC.2.2.2.2.1 _ q147) (hC.2.2.2.2.1 _ q943) (by decide +kernel) ⟨Nat.le_trans (Nat.le_of_ble_eq_true rfl) hRf, Nat.le_trans (Nat.le_of_ble_eq_true rfl) hRl⟩, hC.2.2.2.2.1 _ q945, va_Nw.use rfl (xs15 hC.2.2.2.2.2.2.1)⟩ rfl rfl hl hW hdg kk
theorem iX_J9_83 {p : Program} {l : Launch} {e : Env} {R : Room} {s : State} {m : MethodId} {args : Array Value} {below : List Frame} {meth : Method} {c : Code} {H : Heap} {locs : List Loc} {cells slots nL : Nat} {Q : State → Prop} {D : XD} {h0 h : TH} {cc : ByteArray} {pc : Nat} {ls : Array Slot} {rest : List Value} (hC : XCx D cc nL RJ9 h0 p R s m args meth c) (hX : XSt D s h0 h H locs cells slots) {a : Nat} {x : Int32} (ht : hT h a = 8) (hcF : F_J9_isLatin1 D.2.2.2 h a = some x) (hl : ls.size = nL) (hW : (rest.map fun v => v.category).sum ≤ 8) (hRf : 0 + 1 ≤ R.frames) (hRl : 20 ≤ R.locals) (hdg : decode cc pc = .ok (.invokevirtual 83, 3)) (kk : ∀ (H1 : Heap) (locs1 : List Loc) (cells1 slots1 : Nat), XSt D s h0 h H1 locs1 cells1 slots1 → W p l e R s m args below meth c H1 locs1 cells1 slots1 Q (F0 m (pc + 3) ls (.int x :: rest))) : W p l e R s m args below meth c H locs cells slots Q (F0 m pc ls (rv a :: rest)) := by
  have q := ht
  exact X_callU hC hX (by rw [q]; decide) (by rw [q]; rfl) (As := []) (m_J9_isLatin1 l D a h _ hcF) (va_cwU 0 hC.2.2.2.2.1 (lw_U (owner := "java/lang/AbstractStringBuilder") q963 q965 q966 q964 q147 q967) rfl rfl rfl rfl (by decide +kernel) ⟨Nat.le_trans (Nat.le_of_ble_eq_true rfl) hRf, Nat.le_trans (Nat.le_of_ble_eq_true rfl) hRl⟩) rfl rfl hl hW hdg kk
theorem iX_J9_191 {p : Program} {l : Launch} {e : Env} {R : Room} {s : State} {m : MethodId} {args : Array Value} {below : List Frame} {meth : Method} {c : Code} {H : Heap} {locs : List Loc} {cells slots nL : Nat} {Q : State → Prop} {D : XD} {h0 h : TH} {cc : ByteArray} {pc : Nat} {ls : Array Slot} {rest : List Value} (hC : XCx D cc nL RJ9 h0 p R s m args meth c) (hX : XSt D s h0 h H locs cells slots) {b0 : Int32} {x : Int32} (hcF : F_J13_canEncode D.2.2.2 h b0 = some x) (hl : ls.size = nL) (hW : (rest.map fun v => v.category).sum ≤ 8) (hRf : 0 + 1 ≤ R.frames) (hRl : 20 ≤ R.locals) (hdg : decode cc pc = .ok (.invokestatic 191, 3)) (kk : ∀ (H1 : Heap) (locs1 : List Loc) (cells1 slots1 : Nat), XSt D s h0 h H1 locs1 cells1 slots1 → W p l e R s m args below meth c H1 locs1 cells1 slots1 Q (F0 m (pc + 3) ls (.int x :: rest))) : W p l e R s m args below meth c H locs cells slots Q (F0 m pc ls (.int b0 :: rest)) := by
  exact X_callS hC hX (As := [.int b0]) (m_J13_canEncode l D b0 h _ hcF) (va_cwS 1 hC.2.2.2.2.1 (lw_S q968 q969 q151 q970) rfl rfl rfl (by decide +kernel) ⟨Nat.le_trans (Nat.le_of_ble_eq_true rfl) hRf, Nat.le_trans (Nat.le_of_ble_eq_true rfl) hRl⟩) rfl rfl hl hW hdg kk
theorem pX_J9_79 {p : Program} {l : Launch} {e : Env} {R : Room} {s : State} {m : MethodId} {args : Array Value} {below : List Frame} {meth : Method} {c : Code} {H : Heap} {locs : List Loc} {cells slots nL : Nat} {Q : State → Prop} {D : XD} {h0 h : TH} {cc : ByteArray} {pc : Nat} {ls : Array Slot} {rest : List Value} (hC : XCx D cc nL RJ9 h0 p R s m args meth c) (hX : XSt D s h0 h H locs cells slots) {a : Nat} {v : Int32} (hf : hasF (hT h a) 78 = true) (hw : hT h a ≤ 24) (hdg : decode cc pc = .ok (.putfield 79, 3)) (kk : ∀ (H1 : Heap) (locs1 : List Loc), XSt D s h0 (uI h 78 a v) H1 locs1 cells slots → W p l e R s m args below meth c H1 locs1 cells slots Q (F0 m (pc + 3) ls rest)) : W p l e R s m args below meth c H locs cells slots Q (F0 m pc ls (.int v :: rv a :: rest)) :=
  X_puti hC hX 78 hf hw rfl rfl q926 (fun _ h => h) ⟨rfl, rfl⟩ hdg kk
/-! java/lang/AbstractStringBuilder.append -/
def F_J9_append_b45 (K : Nat → Nat) (x0 : Nat) (x1 : Int32) (h : TH) : Option (Nat × TH) :=
  gd (hT h x0 = 8) <|
  bd (F_J9_isLatin1 K h x0) fun r_3 =>
  if r_3 = 0 then
    gd (hasF (hT h x0) 75 = true) <|
    lt (hR h 75 x0) fun r_6 =>
    gd (hasF (hT h x0) 78 = true) <|
    gd (hasF (hT h x0) 78 = true) <|
    gd (hT h x0 ≤ 24) <|
    lt (uI h 78 x0 ((hI h 78 x0) + (1 : Int32))) fun h_10 =>
    none
  else
    none
set_option maxHeartbeats 4000000 in
theorem w_J9_append_b45 {p : Program} {l : Launch} {e : Env} {s : State} {m : MethodId} {args : Array Value} {below : List Frame} {meth : Method} {c : Code} {D : XD} {h0 : TH} (hC : XCx D cJ9_append 2 RJ9 h0 p (xRm 1 22 h0) s m args meth c) (hr : meth.sig.returnType = some (.object "java/lang/AbstractStringBuilder")) (hnh : c.exceptionTable.isEmpty = true) (hin : meth.name = "append") {x : (Nat × TH)} :
    ∀ (x0 : Nat) (x1 : Int32) (h : TH), F_J9_append_b45 D.2.2.2 x0 x1 h = some x → XJ p l e (xRm 1 22 h0) s m args below meth c D 2 (.returned (some (rv x.1))) h0 x.2 45 [(0, rv x0), (1, .int x1)] [] h := by
  have hx := hC.1
  have hb := hC.2.1
  intro x0 x1 h hF H locs cells slots ls hX hl
  rw [F_J9_append_b45] at hF
  refine X_aload_n hx hb dJ9_append_45 rfl (lv_at hl 0 rfl) ?_
  obtain ⟨h_1, hF⟩ := gd_ok hF
  obtain ⟨r_3, hc_2, hF⟩ := bd_ok hF
  refine iX_J9_83 hC hX h_1 hc_2 hl.1 (Nat.le_of_ble_eq_true rfl) (Nat.le_of_ble_eq_true rfl) (Nat.le_of_ble_eq_true rfl) dJ9_append_46 (fun H locs cells slots hX => ?_)
  refine lv_if_eq (tgt := 56) hx hb dJ9_append_49 (by decide) (fun c_4 => ?_) (fun c_4 => ?_)
  · replace hF := it_t hF c_4
    refine X_aload_n hx hb dJ9_append_56 rfl (lv_at hl 0 rfl) ?_
    obtain ⟨h_5, hF⟩ := gd_ok hF
    refine gX_J9_15 hC hX h_5 dJ9_append_57 ?_
    refine lv_topr (fun r_6 er_6 => ?_)
    replace hF := lt_at hF er_6
    refine X_aload_n hx hb dJ9_append_60 rfl (lv_at hl 0 rfl) ?_
    refine lv_dup hx hb dJ9_append_61 (rv_cat _) ?_
    obtain ⟨h_7, hF⟩ := gd_ok hF
    refine gX_J9_79 hC hX h_7 dJ9_append_62 ?_
    refine lv_dup_x1 hx hb dJ9_append_65 rfl (rv_cat _) ?_
    refine lv_iconst (v := 1) hx hb dJ9_append_66 (by decide) ?_
    refine lv_iadd hx hb dJ9_append_67 ?_
    obtain ⟨h_8, hF⟩ := gd_ok hF
    obtain ⟨h_9, hF⟩ := gd_ok hF
    refine pX_J9_79 hC hX h_8 h_9 dJ9_append_68 (fun H locs hX => ?_)
    obtain ⟨h_10, eh_10, hF⟩ := lt_ok hF
    rw [← eh_10] at hX
    refine lv_iload_n hx hb dJ9_append_71 rfl (lv_at hl 1 rfl) ?_
    exact nm_none hF
  · replace hF := it_f hF c_4
    refine X_aload_n hx hb dJ9_append_52 rfl (lv_at hl 0 rfl) ?_
    exact nm_none hF
def F_J9_append (K : Nat → Nat) (a0 : Nat) (b0 : Int32) (h : TH) : Option (Nat × TH) :=
  gd (hasF (hT h a0) 78 = true) <|
  gd (hT h a0 = 8) <|
  bd (F_J9_ensureCapacityInternal K h a0 ((hI h 78 a0) + (1 : Int32))) fun u_4 =>
  gd (hT h a0 = 8) <|
  bd (F_J9_isLatin1 K h a0) fun r_7 =>
  if r_7 = 0 then
    F_J9_append_b45 K a0 b0 h
  else
    bd (F_J13_canEncode K h b0) fun r_10 =>
    if r_10 = 0 then
      F_J9_append_b45 K a0 b0 h
    else
      gd (hasF (hT h a0) 75 = true) <|
      lt (hR h 75 a0) fun r_13 =>
      gd (hasF (hT h a0) 78 = true) <|
      gd (hasF (hT h a0) 78 = true) <|
      gd (hT h a0 ≤ 24) <|
      lt (uI h 78 a0 ((hI h 78 a0) + (1 : Int32))) fun h_17 =>
      gd (hT h_17 r_13 = 32) <|
      gd (inb (hI h 78 a0) (hN h_17 r_13)) <|
      lt (uA h_17 r_13 (Int32.toNatClampNeg (hI h 78 a0)) (Int8.toInt32 (Int32.toInt8 (Int8.toInt32 (Int32.toInt8 b0))))) fun h_20 =>
      some (a0, h_20)
set_option maxHeartbeats 4000000 in
theorem w_J9_append {p : Program} {l : Launch} {e : Env} {s : State} {m : MethodId} {args : Array Value} {below : List Frame} {meth : Method} {c : Code} {D : XD} {h0 : TH} (hC : XCx D cJ9_append 2 RJ9 h0 p (xRm 1 22 h0) s m args meth c) (hr : meth.sig.returnType = some (.object "java/lang/AbstractStringBuilder")) (hnh : c.exceptionTable.isEmpty = true) (hin : meth.name = "append") {x : (Nat × TH)} :
    ∀ (a0 : Nat) (b0 : Int32) (h : TH), F_J9_append D.2.2.2 a0 b0 h = some x → XJ p l e (xRm 1 22 h0) s m args below meth c D 2 (.returned (some (rv x.1))) h0 x.2 0 [(0, rv a0), (1, .int b0)] [] h := by
  have hx := hC.1
  have hb := hC.2.1
  intro a0 b0 h hF H locs cells slots ls hX hl
  rw [F_J9_append] at hF
  refine X_aload_n hx hb dJ9_append_0 rfl (lv_at hl 0 rfl) ?_
  refine X_aload_n hx hb dJ9_append_1 rfl (lv_at hl 0 rfl) ?_
  obtain ⟨h_1, hF⟩ := gd_ok hF
  refine gX_J9_79 hC hX h_1 dJ9_append_2 ?_
  refine lv_iconst (v := 1) hx hb dJ9_append_5 (by decide) ?_
  refine lv_iadd hx hb dJ9_append_6 ?_
  obtain ⟨h_2, hF⟩ := gd_ok hF
  obtain ⟨u_4, hc_3, hF⟩ := bd_ok hF
  refine iX_J9_100 hC hX h_2 hc_3 hl.1 (Nat.le_of_ble_eq_true rfl) (Nat.le_of_ble_eq_true rfl) (Nat.le_of_ble_eq_true rfl) dJ9_append_7 (fun H locs cells slots hX => ?_)
  refine X_aload_n hx hb dJ9_append_10 rfl (lv_at hl 0 rfl) ?_
  obtain ⟨h_5, hF⟩ := gd_ok hF
  obtain ⟨r_7, hc_6, hF⟩ := bd_ok hF
  refine iX_J9_83 hC hX h_5 hc_6 hl.1 (Nat.le_of_ble_eq_true rfl) (Nat.le_of_ble_eq_true rfl) (Nat.le_of_ble_eq_true rfl) dJ9_append_11 (fun H locs cells slots hX => ?_)
  refine lv_if_eq (tgt := 45) hx hb dJ9_append_14 (by decide) (fun c_8 => ?_) (fun c_8 => ?_)
  · replace hF := it_t hF c_8
    exact w_J9_append_b45 hC hr hnh hin a0 b0 h hF H locs cells slots ls hX (lv_sub hl [0, 1] rfl)
  · replace hF := it_f hF c_8
    refine lv_iload_n hx hb dJ9_append_17 rfl (lv_at hl 1 rfl) ?_
    obtain ⟨r_10, hc_9, hF⟩ := bd_ok hF
    refine iX_J9_191 hC hX hc_9 hl.1 (Nat.le_of_ble_eq_true rfl) (Nat.le_of_ble_eq_true rfl) (Nat.le_of_ble_eq_true rfl) dJ9_append_18 (fun H locs cells slots hX => ?_)
    refine lv_if_eq (tgt := 45) hx hb dJ9_append_21 (by decide) (fun c_11 => ?_) (fun c_11 => ?_)
    · replace hF := it_t hF c_11
      exact w_J9_append_b45 hC hr hnh hin a0 b0 h hF H locs cells slots ls hX (lv_sub hl [0, 1] rfl)
    · replace hF := it_f hF c_11
      refine X_aload_n hx hb dJ9_append_24 rfl (lv_at hl 0 rfl) ?_
      obtain ⟨h_12, hF⟩ := gd_ok hF
      refine gX_J9_15 hC hX h_12 dJ9_append_25 ?_
      refine lv_topr (fun r_13 er_13 => ?_)
      replace hF := lt_at hF er_13
      refine X_aload_n hx hb dJ9_append_28 rfl (lv_at hl 0 rfl) ?_
      refine lv_dup hx hb dJ9_append_29 (rv_cat _) ?_
      obtain ⟨h_14, hF⟩ := gd_ok hF
      refine gX_J9_79 hC hX h_14 dJ9_append_30 ?_
      refine lv_dup_x1 hx hb dJ9_append_33 rfl (rv_cat _) ?_
      refine lv_iconst (v := 1) hx hb dJ9_append_34 (by decide) ?_
      refine lv_iadd hx hb dJ9_append_35 ?_
      obtain ⟨h_15, hF⟩ := gd_ok hF
      obtain ⟨h_16, hF⟩ := gd_ok hF
      refine pX_J9_79 hC hX h_15 h_16 dJ9_append_36 (fun H locs hX => ?_)
      obtain ⟨h_17, eh_17, hF⟩ := lt_ok hF
      rw [← eh_17] at hX
      refine lv_iload_n hx hb dJ9_append_39 rfl (lv_at hl 1 rfl) ?_
      refine lv_i2b hx hb dJ9_append_40 rfl ?_
      obtain ⟨h_18, hF⟩ := gd_ok hF
      obtain ⟨h_19, hF⟩ := gd_ok hF
      refine X_bast hC hX h_18 h_19 dJ9_append_41 (fun H locs hX => ?_)
      obtain ⟨h_20, eh_20, hF⟩ := lt_ok hF
      rw [← eh_20] at hX
      refine lv_goto (tgt := 75) hx hb dJ9_append_42 (by decide) ?_
      refine X_aload_n hx hb dJ9_append_75 rfl (lv_at hl 0 rfl) ?_
      exact x_reta hC hX hr (Or.inl ⟨_, rfl⟩) (rt1 hF) (rt2 hF) dJ9_append_76
theorem m_J9_append (l : Launch) (D : XD) (a0 : Nat) (b0 : Int32) (h : TH) (x : (Nat × TH)) (hF : F_J9_append D.2.2.2 a0 b0 h = some x) : XMt l yJ9_append (ws_ yJ9_append cJ9_append 2 (some (.object "java/lang/AbstractStringBuilder"))) 1 22 D [rv a0, .int b0] h (.returned (some (rv x.1))) x.2 := by
  refine x_met (by decide +kernel) ?_ ?_
  · simp [lg_sl, rv_cat, cat_i, cat_l]
  intro p e s m below meth c hC hr hnh hin ls hl hX
  replace hl : lv_has ls 2 [(0, rv a0), (1, .int b0)] := by simpa [lv_args, rv_cat, cat_i, cat_l] using hl
  exact w_J9_append hC hr hnh hin a0 b0 h hF s.heap [] 0 0 ls hX hl
theorem iX_J10_50 {p : Program} {l : Launch} {e : Env} {R : Room} {s : State} {m : MethodId} {args : Array Value} {below : List Frame} {meth : Method} {c : Code} {H : Heap} {locs : List Loc} {cells slots nL : Nat} {Q : State → Prop} {D : XD} {h0 h : TH} {cc : ByteArray} {pc : Nat} {ls : Array Slot} {rest : List Value} {h1 : TH} (hC : XCx D cc nL RJ10 h0 p R s m args meth c) (hX : XSt D s h0 h H locs cells slots) {a : Nat} {b0 : Int32} {x : Nat} (ht : hT h a = 8) (hcF : F_J9_append D.2.2.2 a b0 h = some (x, h1)) (hl : ls.size = nL) (hW : (rest.map fun v => v.category).sum ≤ 8) (hRf : 1 + 1 ≤ R.frames) (hRl : 43 ≤ R.locals) (hdg : decode cc pc = .ok (.invokespecial 50, 3)) (kk : ∀ (H1 : Heap) (locs1 : List Loc) (cells1 slots1 : Nat), XSt D s h0 h1 H1 locs1 cells1 slots1 → W p l e R s m args below meth c H1 locs1 cells1 slots1 Q (F0 m (pc + 3) ls (rv x :: rest))) : W p l e R s m args below meth c H locs cells slots Q (F0 m pc ls (.int b0 :: rv a :: rest)) := by
  have q := ht
  exact X_callSU (C := "java/lang/StringBuilder") hC hX (by rw [q]; decide) (by rw [q]; rfl) (As := [.int b0]) (m_J9_append l D a b0 h _ hcF) (va_cwSU 1 hC.2.2.2.2.1 (lw_SU q940 q2557 q935 q941 q147 q942) rfl rfl rfl (by decide +kernel) ⟨Nat.le_trans (Nat.le_of_ble_eq_true rfl) hRf, Nat.le_trans (Nat.le_of_ble_eq_true rfl) hRl⟩) rfl rfl hl hW hdg kk
/-! java/lang/StringBuilder.append -/
def F_J10_append (K : Nat → Nat) (a0 : Nat) (b0 : Int32) (h : TH) : Option (Nat × TH) :=
  gd (hT h a0 = 8) <|
  bd2 (F_J9_append K a0 b0 h) fun r_4 h_3 =>
  some (a0, h_3)
set_option maxHeartbeats 4000000 in
theorem w_J10_append {p : Program} {l : Launch} {e : Env} {s : State} {m : MethodId} {args : Array Value} {below : List Frame} {meth : Method} {c : Code} {D : XD} {h0 : TH} (hC : XCx D cJ10_append 2 RJ10 h0 p (xRm 2 43 h0) s m args meth c) (hr : meth.sig.returnType = some (.object "java/lang/StringBuilder")) (hnh : c.exceptionTable.isEmpty = true) (hin : meth.name = "append") {x : (Nat × TH)} :
    ∀ (a0 : Nat) (b0 : Int32) (h : TH), F_J10_append D.2.2.2 a0 b0 h = some x → XJ p l e (xRm 2 43 h0) s m args below meth c D 2 (.returned (some (rv x.1))) h0 x.2 0 [(0, rv a0), (1, .int b0)] [] h := by
  have hx := hC.1
  have hb := hC.2.1
  intro a0 b0 h hF H locs cells slots ls hX hl
  rw [F_J10_append] at hF
  refine X_aload_n hx hb dJ10_append_0 rfl (lv_at hl 0 rfl) ?_
  refine lv_iload_n hx hb dJ10_append_1 rfl (lv_at hl 1 rfl) ?_
  obtain ⟨h_1, hF⟩ := gd_ok hF
  obtain ⟨r_4, h_3, hc_2, hF⟩ := bd2_ok hF
  refine iX_J10_50 hC hX h_1 hc_2 hl.1 (Nat.le_of_ble_eq_true rfl) (Nat.le_of_ble_eq_true rfl) (Nat.le_of_ble_eq_true rfl) dJ10_append_2 (fun H locs cells slots hX => ?_)
  refine lv_pop hx hb dJ10_append_5 (rv_cat _) ?_
  refine X_aload_n hx hb dJ10_append_6 rfl (lv_at hl 0 rfl) ?_
  exact x_reta hC hX hr (Or.inl ⟨_, rfl⟩) (rt1 hF) (rt2 hF) dJ10_append_7
theorem m_J10_append (l : Launch) (D : XD) (a0 : Nat) (b0 : Int32) (h : TH) (x : (Nat × TH)) (hF : F_J10_append D.2.2.2 a0 b0 h = some x) : XMt l yJ10_append (ws_ yJ10_append cJ10_append 2 (some (.object "java/lang/StringBuilder"))) 2 43 D [rv a0, .int b0] h (.returned (some (rv x.1))) x.2 := by
  refine x_met (by decide +kernel) ?_ ?_
  · simp [lg_sl, rv_cat, cat_i, cat_l]
  intro p e s m below meth c hC hr hnh hin ls hl hX
  replace hl : lv_has ls 2 [(0, rv a0), (1, .int b0)] := by simpa [lv_args, rv_cat, cat_i, cat_l] using hl
  exact w_J10_append hC hr hnh hin a0 b0 h hF s.heap [] 0 0 ls hX hl
/-! java/lang/AbstractStringBuilder.getValue -/
def F_J9_getValue (K : Nat → Nat) (h : TH) (a0 : Nat) : Option Nat :=
  gd (hasF (hT h a0) 75 = true) <|
  lt (hR h 75 a0) fun r_2 =>
  some r_2
set_option maxHeartbeats 4000000 in
theorem w_J9_getValue {p : Program} {l : Launch} {e : Env} {s : State} {m : MethodId} {args : Array Value} {below : List Frame} {meth : Method} {c : Code} {D : XD} {h : TH} (hC : XCx D cJ9_getValue 1 RJ9 h p (xRm 0 0 h) s m args meth c) (hr : meth.sig.returnType = some (.array .byte)) (hnh : c.exceptionTable.isEmpty = true) (hin : meth.name = "getValue") {x : Nat} :
    ∀ (a0 : Nat), F_J9_getValue D.2.2.2 h a0 = some x → XJ p l e (xRm 0 0 h) s m args below meth c D 1 (.returned (some (rv x))) h h 0 [(0, rv a0)] [] h := by
  have hx := hC.1
  have hb := hC.2.1
  intro a0 hF H locs cells slots ls hX hl
  rw [F_J9_getValue] at hF
  refine X_aload_n hx hb dJ9_getValue_0 rfl (lv_at hl 0 rfl) ?_
  obtain ⟨h_1, hF⟩ := gd_ok hF
  refine gX_J9_15 hC hX h_1 dJ9_getValue_1 ?_
  refine lv_topr (fun r_2 er_2 => ?_)
  replace hF := lt_at hF er_2
  exact x_reta hC hX hr (Or.inr ⟨_, rfl⟩) (Option.some.inj hF) rfl dJ9_getValue_4
theorem m_J9_getValue (l : Launch) (D : XD) (a0 : Nat) (h : TH) (x : Nat) (hF : F_J9_getValue D.2.2.2 h a0 = some x) : XMt l yJ9_getValue (ws_ yJ9_getValue cJ9_getValue 1 (some (.array .byte))) 0 0 D [rv a0] h (.returned (some (rv x))) h := by
  refine x_met (by decide +kernel) ?_ ?_
  · simp [lg_sl, rv_cat, cat_i, cat_l]
  intro p e s m below meth c hC hr hnh hin ls hl hX
  replace hl : lv_has ls 1 [(0, rv a0)] := by simpa [lv_args, rv_cat, cat_i, cat_l] using hl
  exact w_J9_getValue hC hr hnh hin a0 hF s.heap [] 0 0 ls hX hl
/-! java/lang/AbstractStringBuilder.length -/
def F_J9_length (K : Nat → Nat) (h : TH) (a0 : Nat) : Option Int32 :=
  gd (hasF (hT h a0) 78 = true) <|
  some (hI h 78 a0)
set_option maxHeartbeats 4000000 in
theorem w_J9_length {p : Program} {l : Launch} {e : Env} {s : State} {m : MethodId} {args : Array Value} {below : List Frame} {meth : Method} {c : Code} {D : XD} {h : TH} (hC : XCx D cJ9_length 1 RJ9 h p (xRm 0 0 h) s m args meth c) (hr : meth.sig.returnType = some .int) (hnh : c.exceptionTable.isEmpty = true) (hin : meth.name = "length") {x : Int32} :
    ∀ (a0 : Nat), F_J9_length D.2.2.2 h a0 = some x → XJ p l e (xRm 0 0 h) s m args below meth c D 1 (.returned (some (.int x))) h h 0 [(0, rv a0)] [] h := by
  have hx := hC.1
  have hb := hC.2.1
  intro a0 hF H locs cells slots ls hX hl
  rw [F_J9_length] at hF
  refine X_aload_n hx hb dJ9_length_0 rfl (lv_at hl 0 rfl) ?_
  obtain ⟨h_1, hF⟩ := gd_ok hF
  refine gX_J9_79 hC hX h_1 dJ9_length_1 ?_
  exact x_reti hC hX hr rfl (Option.some.inj hF) rfl dJ9_length_4
theorem m_J9_length (l : Launch) (D : XD) (a0 : Nat) (h : TH) (x : Int32) (hF : F_J9_length D.2.2.2 h a0 = some x) : XMt l yJ9_length (ws_ yJ9_length cJ9_length 1 (some .int)) 0 0 D [rv a0] h (.returned (some (.int x))) h := by
  refine x_met (by decide +kernel) ?_ ?_
  · simp [lg_sl, rv_cat, cat_i, cat_l]
  intro p e s m below meth c hC hr hnh hin ls hl hX
  replace hl : lv_has ls 1 [(0, rv a0)] := by simpa [lv_args, rv_cat, cat_i, cat_l] using hl
  exact w_J9_length hC hr hnh hin a0 hF s.heap [] 0 0 ls hX hl
theorem iX_J10_343 {p : Program} {l : Launch} {e : Env} {R : Room} {s : State} {m : MethodId} {args : Array Value} {below : List Frame} {meth : Method} {c : Code} {H : Heap} {locs : List Loc} {cells slots nL : Nat} {Q : State → Prop} {D : XD} {h0 h : TH} {cc : ByteArray} {pc : Nat} {ls : Array Slot} {rest : List Value} (hC : XCx D cc nL RJ10 h0 p R s m args meth c) (hX : XSt D s h0 h H locs cells slots) {a : Nat} {x : Int32} (ht : hT h a = 8) (hcF : F_J9_length D.2.2.2 h a = some x) (hl : ls.size = nL) (hW : (rest.map fun v => v.category).sum ≤ 8) (hRf : 0 + 1 ≤ R.frames) (hRl : 20 ≤ R.locals) (hdg : decode cc pc = .ok (.invokespecial 343, 3)) (kk : ∀ (H1 : Heap) (locs1 : List Loc) (cells1 slots1 : Nat), XSt D s h0 h H1 locs1 cells1 slots1 → W p l e R s m args below meth c H1 locs1 cells1 slots1 Q (F0 m (pc + 3) ls (.int x :: rest))) : W p l e R s m args below meth c H locs cells slots Q (F0 m pc ls (rv a :: rest)) := by
  have q := ht
  exact X_callSU (C := "java/lang/StringBuilder") hC hX (by rw [q]; decide) (by rw [q]; rfl) (As := []) (m_J9_length l D a h _ hcF) (va_cwSU 0 hC.2.2.2.2.1 (lw_SU q1038 q1034 q935 q1033 q147 q1039) rfl rfl rfl (by decide +kernel) ⟨Nat.le_trans (Nat.le_of_ble_eq_true rfl) hRf, Nat.le_trans (Nat.le_of_ble_eq_true rfl) hRl⟩) rfl rfl hl hW hdg kk
/-! java/lang/StringBuilder.length -/
def F_J10_length (K : Nat → Nat) (h : TH) (a0 : Nat) : Option Int32 :=
  gd (hT h a0 = 8) <|
  bd (F_J9_length K h a0) fun r_3 =>
  some r_3
set_option maxHeartbeats 4000000 in
theorem w_J10_length {p : Program} {l : Launch} {e : Env} {s : State} {m : MethodId} {args : Array Value} {below : List Frame} {meth : Method} {c : Code} {D : XD} {h : TH} (hC : XCx D cJ10_length 1 RJ10 h p (xRm 1 20 h) s m args meth c) (hr : meth.sig.returnType = some .int) (hnh : c.exceptionTable.isEmpty = true) (hin : meth.name = "length") {x : Int32} :
    ∀ (a0 : Nat), F_J10_length D.2.2.2 h a0 = some x → XJ p l e (xRm 1 20 h) s m args below meth c D 1 (.returned (some (.int x))) h h 0 [(0, rv a0)] [] h := by
  have hx := hC.1
  have hb := hC.2.1
  intro a0 hF H locs cells slots ls hX hl
  rw [F_J10_length] at hF
  refine X_aload_n hx hb dJ10_length_0 rfl (lv_at hl 0 rfl) ?_
  obtain ⟨h_1, hF⟩ := gd_ok hF
  obtain ⟨r_3, hc_2, hF⟩ := bd_ok hF
  refine iX_J10_343 hC hX h_1 hc_2 hl.1 (Nat.le_of_ble_eq_true rfl) (Nat.le_of_ble_eq_true rfl) (Nat.le_of_ble_eq_true rfl) dJ10_length_1 (fun H locs cells slots hX => ?_)
  exact x_reti hC hX hr rfl (Option.some.inj hF) rfl dJ10_length_4
theorem m_J10_length (l : Launch) (D : XD) (a0 : Nat) (h : TH) (x : Int32) (hF : F_J10_length D.2.2.2 h a0 = some x) : XMt l yJ10_length (ws_ yJ10_length cJ10_length 1 (some .int)) 1 20 D [rv a0] h (.returned (some (.int x))) h := by
  refine x_met (by decide +kernel) ?_ ?_
  · simp [lg_sl, rv_cat, cat_i, cat_l]
  intro p e s m below meth c hC hr hnh hin ls hl hX
  replace hl : lv_has ls 1 [(0, rv a0)] := by simpa [lv_args, rv_cat, cat_i, cat_l] using hl
  exact w_J10_length hC hr hnh hin a0 hF s.heap [] 0 0 ls hX hl
/-! java/util/Arrays.checkLength -/
def F_J5_checkLength (K : Nat → Nat) (h : TH) (b0 : Int32) (b1 : Int32) : Option Unit :=
  if b0 ≤ b1 then
    some ()
  else
    none
set_option maxHeartbeats 4000000 in
theorem w_J5_checkLength {p : Program} {l : Launch} {e : Env} {s : State} {m : MethodId} {args : Array Value} {below : List Frame} {meth : Method} {c : Code} {D : XD} {h : TH} (hC : XCx D cJ5_checkLength 2 RJ5 h p (xRm 0 0 h) s m args meth c) (hr : meth.sig.returnType = none) (hnh : c.exceptionTable.isEmpty = true) (hin : meth.name = "checkLength") {x : Unit} :
    ∀ (b0 : Int32) (b1 : Int32), F_J5_checkLength D.2.2.2 h b0 b1 = some x → XJ p l e (xRm 0 0 h) s m args below meth c D 2 (.returned none) h h 0 [(0, .int b0), (1, .int b1)] [] h := by
  have hx := hC.1
  have hb := hC.2.1
  intro b0 b1 hF H locs cells slots ls hX hl
  rw [F_J5_checkLength] at hF
  refine lv_iload_n hx hb dJ5_checkLength_0 rfl (lv_at hl 1 rfl) ?_
  refine lv_iload_n hx hb dJ5_checkLength_1 rfl (lv_at hl 0 rfl) ?_
  refine lv_icmp_ge (tgt := 37) hx hb dJ5_checkLength_2 (by decide) (fun c_1 => ?_) (fun c_1 => ?_)
  · replace hF := it_t hF c_1
    exact x_retv hC hX hr rfl dJ5_checkLength_37
  · replace hF := it_f hF c_1
    exact nm_none hF
theorem m_J5_checkLength (l : Launch) (D : XD) (b0 : Int32) (b1 : Int32) (h : TH) (x : Unit) (hF : F_J5_checkLength D.2.2.2 h b0 b1 = some x) : XMt l yJ5_checkLength (ws_ yJ5_checkLength cJ5_checkLength 2 (none)) 0 0 D [.int b0, .int b1] h (.returned none) h := by
  refine x_met (by decide +kernel) ?_ ?_
  · exact Nat.le_of_ble_eq_true rfl
  intro p e s m below meth c hC hr hnh hin ls hl hX
  replace hl : lv_has ls 2 [(0, .int b0), (1, .int b1)] := by simpa [lv_args, rv_cat, cat_i, cat_l] using hl
  exact w_J5_checkLength hC hr hnh hin b0 b1 hF s.heap [] 0 0 ls hX hl
theorem iX_J5_343 {p : Program} {l : Launch} {e : Env} {R : Room} {s : State} {m : MethodId} {args : Array Value} {below : List Frame} {meth : Method} {c : Code} {H : Heap} {locs : List Loc} {cells slots nL : Nat} {Q : State → Prop} {D : XD} {h0 h : TH} {cc : ByteArray} {pc : Nat} {ls : Array Slot} {rest : List Value} (hC : XCx D cc nL RJ5 h0 p R s m args meth c) (hX : XSt D s h0 h H locs cells slots) {b0 : Int32} {b1 : Int32} {x : Unit} (hcF : F_J5_checkLength D.2.2.2 h b0 b1 = some x) (hl : ls.size = nL) (hW : (rest.map fun v => v.category).sum ≤ 8) (hRf : 0 + 1 ≤ R.frames) (hRl : 21 ≤ R.locals) (hdg : decode cc pc = .ok (.invokestatic 343, 3)) (kk : ∀ (H1 : Heap) (locs1 : List Loc) (cells1 slots1 : Nat), XSt D s h0 h H1 locs1 cells1 slots1 → W p l e R s m args below meth c H1 locs1 cells1 slots1 Q (F0 m (pc + 3) ls (rest))) : W p l e R s m args below meth c H locs cells slots Q (F0 m pc ls (.int b1 :: .int b0 :: rest)) := by
  exact X_callS hC hX (As := [.int b0, .int b1]) (m_J5_checkLength l D b0 b1 h _ hcF) (va_cwS 2 hC.2.2.2.2.1 (lw_S q1047 q1048 q136 q1049) rfl rfl rfl (by decide +kernel) ⟨Nat.le_trans (Nat.le_of_ble_eq_true rfl) hRf, Nat.le_trans (Nat.le_of_ble_eq_true rfl) hRl⟩) rfl rfl hl hW hdg kk
theorem iX_J5_304 {p : Program} {l : Launch} {e : Env} {R : Room} {s : State} {m : MethodId} {args : Array Value} {below : List Frame} {meth : Method} {c : Code} {H : Heap} {locs : List Loc} {cells slots nL : Nat} {Q : State → Prop} {D : XD} {h0 h : TH} {cc : ByteArray} {pc : Nat} {ls : Array Slot} {rest : List Value} (hC : XCx D cc nL RJ5 h0 p R s m args meth c) (hX : XSt D s h0 h H locs cells slots) {b0 : Int32} {b1 : Int32} {x : Int32} (hcF : F_J4_min D.2.2.2 h b0 b1 = some x) (hl : ls.size = nL) (hW : (rest.map fun v => v.category).sum ≤ 8) (hRf : 0 + 1 ≤ R.frames) (hRl : 21 ≤ R.locals) (hdg : decode cc pc = .ok (.invokestatic 304, 3)) (kk : ∀ (H1 : Heap) (locs1 : List Loc) (cells1 slots1 : Nat), XSt D s h0 h H1 locs1 cells1 slots1 → W p l e R s m args below meth c H1 locs1 cells1 slots1 Q (F0 m (pc + 3) ls (.int x :: rest))) : W p l e R s m args below meth c H locs cells slots Q (F0 m pc ls (.int b1 :: .int b0 :: rest)) := by
  exact X_callS hC hX (As := [.int b0, .int b1]) (m_J4_min l D b0 b1 h _ hcF) (va_cwS 2 hC.2.2.2.2.1 (lw_S q462 q463 q135 q464) rfl rfl rfl (by decide +kernel) ⟨Nat.le_trans (Nat.le_of_ble_eq_true rfl) hRf, Nat.le_trans (Nat.le_of_ble_eq_true rfl) hRl⟩) rfl rfl hl hW hdg kk
/-! java/util/Arrays.copyOfRangeByte -/
def F_J5_copyOfRangeByte (K : Nat → Nat) (b0 : Nat) (b1 : Int32) (b2 : Int32) (h : TH) : Option (Nat × TH) :=
  bd (F_J5_checkLength K h b1 b2) fun u_2 =>
  lt ((b2 - b1)) fun x_3 =>
  gd (¬ x_3 < 0) <|
  gd (Int32.toNatClampNeg x_3 ≤ 67108864) <|
  gd (hc h + 1 ≤ XC ∧ hs h + Int32.toNatClampNeg x_3 ≤ XS) <|
  lt (hz h + 1) fun r_7 =>
  lt (nA h 32 (Int32.toNatClampNeg x_3)) fun h_8 =>
  gd (2 ≤ tkd (hT h_8 b0)) <|
  bd (F_J4_min K h_8 ((Int32.ofNat (hN h_8 b0)) - b1) x_3) fun r_11 =>
  gd (hT h_8 b0 = 32 ∨ hT h_8 b0 = 42) <|
  gd (hT h_8 r_7 = 32) <|
  gd (∀ i, i < (Int32.toNatClampNeg r_11) → fits .byte (.int (hA h_8 b0 ((Int32.toNatClampNeg b1) + i))) = true) <|
  gd (¬ b1 < 0 ∧ ¬ (0 : Int32) < 0 ∧ ¬ r_11 < 0 ∧ (Int32.toNatClampNeg b1) + (Int32.toNatClampNeg r_11) ≤ hN h_8 b0 ∧ (Int32.toNatClampNeg (0 : Int32)) + (Int32.toNatClampNeg r_11) ≤ hN h_8 r_7) <|
  lt (cpA h_8 b0 (Int32.toNatClampNeg b1) r_7 (Int32.toNatClampNeg (0 : Int32)) (Int32.toNatClampNeg r_11)) fun h_16 =>
  some (r_7, h_16)
set_option maxHeartbeats 4000000 in
theorem w_J5_copyOfRangeByte {p : Program} {l : Launch} {e : Env} {s : State} {m : MethodId} {args : Array Value} {below : List Frame} {meth : Method} {c : Code} {D : XD} {h0 : TH} (hC : XCx D cJ5_copyOfRangeByte 5 RJ5 h0 p (xRm 1 60 h0) s m args meth c) (hr : meth.sig.returnType = some (.array .byte)) (hnh : c.exceptionTable.isEmpty = true) (hin : meth.name = "copyOfRangeByte") {x : (Nat × TH)} :
    ∀ (b0 : Nat) (b1 : Int32) (b2 : Int32) (h : TH), F_J5_copyOfRangeByte D.2.2.2 b0 b1 b2 h = some x → XJ p l e (xRm 1 60 h0) s m args below meth c D 5 (.returned (some (rv x.1))) h0 x.2 0 [(0, rv b0), (1, .int b1), (2, .int b2)] [] h := by
  have hx := hC.1
  have hb := hC.2.1
  intro b0 b1 b2 h hF H locs cells slots ls hX hl
  rw [F_J5_copyOfRangeByte] at hF
  refine lv_iload_n hx hb dJ5_copyOfRangeByte_0 rfl (lv_at hl 1 rfl) ?_
  refine lv_iload_n hx hb dJ5_copyOfRangeByte_1 rfl (lv_at hl 2 rfl) ?_
  obtain ⟨u_2, hc_1, hF⟩ := bd_ok hF
  refine iX_J5_343 hC hX hc_1 hl.1 (Nat.le_of_ble_eq_true rfl) (Nat.le_of_ble_eq_true rfl) (Nat.le_of_ble_eq_true rfl) dJ5_copyOfRangeByte_2 (fun H locs cells slots hX => ?_)
  refine lv_iload_n hx hb dJ5_copyOfRangeByte_5 rfl (lv_at hl 2 rfl) ?_
  refine lv_iload_n hx hb dJ5_copyOfRangeByte_6 rfl (lv_at hl 1 rfl) ?_
  refine lv_isub hx hb dJ5_copyOfRangeByte_7 ?_
  refine lv_topi (fun x_3 ex_3 => ?_)
  replace hF := lt_at hF ex_3
  refine lv_istore_n (lv' := [(3, .int x_3), (0, rv b0), (1, .int b1), (2, .int b2)]) hx hb dJ5_copyOfRangeByte_8 rfl hl (by decide) rfl (fun ls hl => ?_)
  refine lv_iload_n hx hb dJ5_copyOfRangeByte_9 rfl (lv_at hl 0 rfl) ?_
  obtain ⟨h_4, hF⟩ := gd_ok hF
  obtain ⟨h_5, hF⟩ := gd_ok hF
  obtain ⟨h_6, hF⟩ := gd_ok hF
  refine X_newa hC hX (atype := .byte) 32 (Or.inr (Or.inl rfl)) rfl q217 h_4 h_5 h_6 dJ5_copyOfRangeByte_10 (fun H cells slots hX => ?_)
  refine lv_topr (fun r_7 er_7 => ?_)
  replace hF := lt_at hF er_7
  obtain ⟨h_8, eh_8, hF⟩ := lt_ok hF
  rw [← eh_8] at hX
  refine X_astore (lv' := [(4, rv r_7), (3, .int x_3), (0, rv b0), (1, .int b1), (2, .int b2)]) hx hb dJ5_copyOfRangeByte_12 hl (by decide) rfl (fun ls hl => ?_)
  refine X_aload_n hx hb dJ5_copyOfRangeByte_14 rfl (lv_at hl 2 rfl) ?_
  refine lv_iload_n hx hb dJ5_copyOfRangeByte_15 rfl (lv_at hl 3 rfl) ?_
  refine X_aload hx hb dJ5_copyOfRangeByte_16 (lv_at hl 0 rfl) ?_
  refine lv_iconst (v := 0) hx hb dJ5_copyOfRangeByte_18 (by decide) ?_
  refine X_aload_n hx hb dJ5_copyOfRangeByte_19 rfl (lv_at hl 2 rfl) ?_
  obtain ⟨h_9, hF⟩ := gd_ok hF
  refine X_alen hC hX h_9 dJ5_copyOfRangeByte_20 ?_
  refine lv_iload_n hx hb dJ5_copyOfRangeByte_21 rfl (lv_at hl 3 rfl) ?_
  refine lv_isub hx hb dJ5_copyOfRangeByte_22 ?_
  refine lv_iload_n hx hb dJ5_copyOfRangeByte_23 rfl (lv_at hl 1 rfl) ?_
  obtain ⟨r_11, hc_10, hF⟩ := bd_ok hF
  refine iX_J5_304 hC hX hc_10 hl.1 (cat4 (Nat.le_of_ble_eq_true rfl)) (Nat.le_of_ble_eq_true rfl) (Nat.le_of_ble_eq_true rfl) dJ5_copyOfRangeByte_24 (fun H locs cells slots hX => ?_)
  obtain ⟨h_12, hF⟩ := gd_ok hF
  obtain ⟨h_13, hF⟩ := gd_ok hF
  obtain ⟨h_14, hF⟩ := gd_ok hF
  obtain ⟨h_15, hF⟩ := gd_ok hF
  refine X_copyA hC hX (Or.inr ⟨h_12, h_13, h_14⟩) h_15 q465 q467 q466 q137 hl.1 (Nat.le_of_ble_eq_true rfl) (cplo (Nat.le_of_ble_eq_true rfl) (Nat.le_of_ble_eq_true rfl)) dJ5_copyOfRangeByte_27 (fun H locs hX => ?_)
  obtain ⟨h_16, eh_16, hF⟩ := lt_ok hF
  rw [← eh_16] at hX
  refine X_aload hx hb dJ5_copyOfRangeByte_30 (lv_at hl 0 rfl) ?_
  exact x_reta hC hX hr (Or.inr ⟨_, rfl⟩) (rt1 hF) (rt2 hF) dJ5_copyOfRangeByte_32
theorem m_J5_copyOfRangeByte (l : Launch) (D : XD) (b0 : Nat) (b1 : Int32) (b2 : Int32) (h : TH) (x : (Nat × TH)) (hF : F_J5_copyOfRangeByte D.2.2.2 b0 b1 b2 h = some x) : XMt l yJ5_copyOfRangeByte (ws_ yJ5_copyOfRangeByte cJ5_copyOfRangeByte 5 (some (.array .byte))) 1 60 D [rv b0, .int b1, .int b2] h (.returned (some (rv x.1))) x.2 := by
  refine x_met (by decide +kernel) ?_ ?_
  · simp [lg_sl, rv_cat, cat_i, cat_l]
  intro p e s m below meth c hC hr hnh hin ls hl hX
  replace hl : lv_has ls 5 [(0, rv b0), (1, .int b1), (2, .int b2)] := by simpa [lv_args, rv_cat, cat_i, cat_l] using hl
  exact w_J5_copyOfRangeByte hC hr hnh hin b0 b1 b2 h hF s.heap [] 0 0 ls hX hl
theorem iX_J5_339 {p : Program} {l : Launch} {e : Env} {R : Room} {s : State} {m : MethodId} {args : Array Value} {below : List Frame} {meth : Method} {c : Code} {H : Heap} {locs : List Loc} {cells slots nL : Nat} {Q : State → Prop} {D : XD} {h0 h : TH} {cc : ByteArray} {pc : Nat} {ls : Array Slot} {rest : List Value} {h1 : TH} (hC : XCx D cc nL RJ5 h0 p R s m args meth c) (hX : XSt D s h0 h H locs cells slots) {b0 : Nat} {b1 : Int32} {b2 : Int32} {x : Nat} (hcF : F_J5_copyOfRangeByte D.2.2.2 b0 b1 b2 h = some (x, h1)) (hl : ls.size = nL) (hW : (rest.map fun v => v.category).sum ≤ 8) (hRf : 1 + 1 ≤ R.frames) (hRl : 84 ≤ R.locals) (hdg : decode cc pc = .ok (.invokestatic 339, 3)) (kk : ∀ (H1 : Heap) (locs1 : List Loc) (cells1 slots1 : Nat), XSt D s h0 h1 H1 locs1 cells1 slots1 → W p l e R s m args below meth c H1 locs1 cells1 slots1 Q (F0 m (pc + 3) ls (rv x :: rest))) : W p l e R s m args below meth c H locs cells slots Q (F0 m pc ls (.int b2 :: .int b1 :: rv b0 :: rest)) := by
  exact X_callS hC hX (As := [rv b0, .int b1, .int b2]) (m_J5_copyOfRangeByte l D b0 b1 b2 h _ hcF) (va_cwS 3 hC.2.2.2.2.1 (lw_S q1044 q1045 q136 q1046) rfl rfl rfl (by decide +kernel) ⟨Nat.le_trans (Nat.le_of_ble_eq_true rfl) hRf, Nat.le_trans (Nat.le_of_ble_eq_true rfl) hRl⟩) rfl rfl hl hW hdg kk
/-! java/util/Arrays.copyOfRange -/
def F_J5_copyOfRange_b10 (K : Nat → Nat) (x0 : Nat) (x1 : Int32) (x2 : Int32) (h : TH) : Option (Nat × TH) :=
  bd2 (F_J5_copyOfRangeByte K x0 x1 x2 h) fun r_3 h_2 =>
  some (r_3, h_2)
set_option maxHeartbeats 4000000 in
theorem w_J5_copyOfRange_b10 {p : Program} {l : Launch} {e : Env} {s : State} {m : MethodId} {args : Array Value} {below : List Frame} {meth : Method} {c : Code} {D : XD} {h0 : TH} (hC : XCx D cJ5_copyOfRange 3 RJ5 h0 p (xRm 2 84 h0) s m args meth c) (hr : meth.sig.returnType = some (.array .byte)) (hnh : c.exceptionTable.isEmpty = true) (hin : meth.name = "copyOfRange") {x : (Nat × TH)} :
    ∀ (x0 : Nat) (x1 : Int32) (x2 : Int32) (h : TH), F_J5_copyOfRange_b10 D.2.2.2 x0 x1 x2 h = some x → XJ p l e (xRm 2 84 h0) s m args below meth c D 3 (.returned (some (rv x.1))) h0 x.2 10 [(0, rv x0), (1, .int x1), (2, .int x2)] [] h := by
  have hx := hC.1
  have hb := hC.2.1
  intro x0 x1 x2 h hF H locs cells slots ls hX hl
  rw [F_J5_copyOfRange_b10] at hF
  refine X_aload_n hx hb dJ5_copyOfRange_10 rfl (lv_at hl 0 rfl) ?_
  refine lv_iload_n hx hb dJ5_copyOfRange_11 rfl (lv_at hl 1 rfl) ?_
  refine lv_iload_n hx hb dJ5_copyOfRange_12 rfl (lv_at hl 2 rfl) ?_
  obtain ⟨r_3, h_2, hc_1, hF⟩ := bd2_ok hF
  refine iX_J5_339 hC hX hc_1 hl.1 (Nat.le_of_ble_eq_true rfl) (Nat.le_of_ble_eq_true rfl) (Nat.le_of_ble_eq_true rfl) dJ5_copyOfRange_13 (fun H locs cells slots hX => ?_)
  exact x_reta hC hX hr (Or.inr ⟨_, rfl⟩) (rt1 hF) (rt2 hF) dJ5_copyOfRange_16
def F_J5_copyOfRange (K : Nat → Nat) (b0 : Nat) (b1 : Int32) (b2 : Int32) (h : TH) : Option (Nat × TH) :=
  if b1 = 0 then
    gd (2 ≤ tkd (hT h b0)) <|
    if b2 = (Int32.ofNat (hN h b0)) then
      gd (hT h b0 = 32) <|
      gd (∀ i, i < hN h b0 → fits .byte (.int (hA h b0 i)) = true) <|
      gd (hc h + 1 ≤ XC ∧ hs h + hN h b0 ≤ XS) <|
      lt (hz h + 1) fun r_7 =>
      lt (clA h b0) fun h_8 =>
      gd (hT h_8 r_7 = 32 ∨ hT h_8 r_7 = 42) <|
      some (r_7, h_8)
    else
      F_J5_copyOfRange_b10 K b0 b1 b2 h
  else
    F_J5_copyOfRange_b10 K b0 b1 b2 h
set_option maxHeartbeats 4000000 in
theorem w_J5_copyOfRange {p : Program} {l : Launch} {e : Env} {s : State} {m : MethodId} {args : Array Value} {below : List Frame} {meth : Method} {c : Code} {D : XD} {h0 : TH} (hC : XCx D cJ5_copyOfRange 3 RJ5 h0 p (xRm 2 84 h0) s m args meth c) (hr : meth.sig.returnType = some (.array .byte)) (hnh : c.exceptionTable.isEmpty = true) (hin : meth.name = "copyOfRange") {x : (Nat × TH)} :
    ∀ (b0 : Nat) (b1 : Int32) (b2 : Int32) (h : TH), F_J5_copyOfRange D.2.2.2 b0 b1 b2 h = some x → XJ p l e (xRm 2 84 h0) s m args below meth c D 3 (.returned (some (rv x.1))) h0 x.2 0 [(0, rv b0), (1, .int b1), (2, .int b2)] [] h := by
  have hx := hC.1
  have hb := hC.2.1
  intro b0 b1 b2 h hF H locs cells slots ls hX hl
  rw [F_J5_copyOfRange] at hF
  refine lv_iload_n hx hb dJ5_copyOfRange_0 rfl (lv_at hl 1 rfl) ?_
  refine lv_if_ne (tgt := 10) hx hb dJ5_copyOfRange_1 (by decide) (fun c_1 => ?_) (fun c_1 => ?_)
  · replace hF := it_f hF c_1
    exact w_J5_copyOfRange_b10 hC hr hnh hin b0 b1 b2 h hF H locs cells slots ls hX (lv_sub hl [0, 1, 2] rfl)
  · replace hF := it_t hF c_1
    refine lv_iload_n hx hb dJ5_copyOfRange_4 rfl (lv_at hl 2 rfl) ?_
    refine X_aload_n hx hb dJ5_copyOfRange_5 rfl (lv_at hl 0 rfl) ?_
    obtain ⟨h_2, hF⟩ := gd_ok hF
    refine X_alen hC hX h_2 dJ5_copyOfRange_6 ?_
    refine lv_icmp_eq (tgt := 17) hx hb dJ5_copyOfRange_7 (by decide) (fun c_3 => ?_) (fun c_3 => ?_)
    · replace hF := it_t hF c_3
      refine X_aload_n hx hb dJ5_copyOfRange_17 rfl (lv_at hl 0 rfl) ?_
      obtain ⟨h_4, hF⟩ := gd_ok hF
      obtain ⟨h_5, hF⟩ := gd_ok hF
      obtain ⟨h_6, hF⟩ := gd_ok hF
      refine X_clone hC hX h_4 h_5 h_6 q956 q957 q958 q959 q960 (List.mem_of_getElem? (i := 7) rfl) hl.1 (Nat.le_of_ble_eq_true rfl) (cplo (Nat.le_of_ble_eq_true rfl) (Nat.le_of_ble_eq_true rfl)) dJ5_copyOfRange_18 (fun H cells slots hX => ?_)
      refine lv_topr (fun r_7 er_7 => ?_)
      replace hF := lt_at hF er_7
      obtain ⟨h_8, eh_8, hF⟩ := lt_ok hF
      rw [← eh_8] at hX
      obtain ⟨h_9, hF⟩ := gd_ok hF
      refine X_castB hC hX h_9 q962 dJ5_copyOfRange_21 ?_
      exact x_reta hC hX hr (Or.inr ⟨_, rfl⟩) (rt1 hF) (rt2 hF) dJ5_copyOfRange_24
    · replace hF := it_f hF c_3
      exact w_J5_copyOfRange_b10 hC hr hnh hin b0 b1 b2 h hF H locs cells slots ls hX (lv_sub hl [0, 1, 2] rfl)
theorem m_J5_copyOfRange (l : Launch) (D : XD) (b0 : Nat) (b1 : Int32) (b2 : Int32) (h : TH) (x : (Nat × TH)) (hF : F_J5_copyOfRange D.2.2.2 b0 b1 b2 h = some x) : XMt l yJ5_copyOfRange (ws_ yJ5_copyOfRange cJ5_copyOfRange 3 (some (.array .byte))) 2 84 D [rv b0, .int b1, .int b2] h (.returned (some (rv x.1))) x.2 := by
  refine x_met (by decide +kernel) ?_ ?_
  · simp [lg_sl, rv_cat, cat_i, cat_l]
  intro p e s m below meth c hC hr hnh hin ls hl hX
  replace hl : lv_has ls 3 [(0, rv b0), (1, .int b1), (2, .int b2)] := by simpa [lv_args, rv_cat, cat_i, cat_l] using hl
  exact w_J5_copyOfRange hC hr hnh hin b0 b1 b2 h hF s.heap [] 0 0 ls hX hl
theorem iX_J11_552 {p : Program} {l : Launch} {e : Env} {R : Room} {s : State} {m : MethodId} {args : Array Value} {below : List Frame} {meth : Method} {c : Code} {H : Heap} {locs : List Loc} {cells slots nL : Nat} {Q : State → Prop} {D : XD} {h0 h : TH} {cc : ByteArray} {pc : Nat} {ls : Array Slot} {rest : List Value} (hC : XCx D cc nL RJ11 h0 p R s m args meth c) (hX : XSt D s h0 h H locs cells slots) {a : Nat} {x : Nat} (ht : hT h a = 8) (hcF : F_J9_getValue D.2.2.2 h a = some x) (hl : ls.size = nL) (hW : (rest.map fun v => v.category).sum ≤ 8) (hRf : 0 + 1 ≤ R.frames) (hRl : 20 ≤ R.locals) (hdg : decode cc pc = .ok (.invokevirtual 552, 3)) (kk : ∀ (H1 : Heap) (locs1 : List Loc) (cells1 slots1 : Nat), XSt D s h0 h H1 locs1 cells1 slots1 → W p l e R s m args below meth c H1 locs1 cells1 slots1 Q (F0 m (pc + 3) ls (rv x :: rest))) : W p l e R s m args below meth c H locs cells slots Q (F0 m pc ls (rv a :: rest)) := by
  have q := ht
  exact X_callU hC hX (by rw [q]; decide) (by rw [q]; rfl) (As := []) (m_J9_getValue l D a h _ hcF) (va_cwU 0 hC.2.2.2.2.1 (lw_U (owner := "java/lang/AbstractStringBuilder") q1027 q1029 q1030 q1028 q147 q1031) rfl rfl rfl rfl (by decide +kernel) ⟨Nat.le_trans (Nat.le_of_ble_eq_true rfl) hRf, Nat.le_trans (Nat.le_of_ble_eq_true rfl) hRl⟩) rfl rfl hl hW hdg kk
theorem iX_J11_549 {p : Program} {l : Launch} {e : Env} {R : Room} {s : State} {m : MethodId} {args : Array Value} {below : List Frame} {meth : Method} {c : Code} {H : Heap} {locs : List Loc} {cells slots nL : Nat} {Q : State → Prop} {D : XD} {h0 h : TH} {cc : ByteArray} {pc : Nat} {ls : Array Slot} {rest : List Value} (hC : XCx D cc nL RJ11 h0 p R s m args meth c) (hX : XSt D s h0 h H locs cells slots) {a : Nat} {x : Int32} (ht : hT h a = 8) (hcF : F_J10_length D.2.2.2 h a = some x) (hl : ls.size = nL) (hW : (rest.map fun v => v.category).sum ≤ 8) (hRf : 1 + 1 ≤ R.frames) (hRl : 40 ≤ R.locals) (hdg : decode cc pc = .ok (.invokevirtual 549, 3)) (kk : ∀ (H1 : Heap) (locs1 : List Loc) (cells1 slots1 : Nat), XSt D s h0 h H1 locs1 cells1 slots1 → W p l e R s m args below meth c H1 locs1 cells1 slots1 Q (F0 m (pc + 3) ls (.int x :: rest))) : W p l e R s m args below meth c H locs cells slots Q (F0 m pc ls (rv a :: rest)) := by
  have q := ht
  exact X_callU hC hX (by rw [q]; decide) (by rw [q]; rfl) (As := []) (m_J10_length l D a h _ hcF) (va_cwO 0 hC.2.2.2.2.1 (lw_O (owner := "java/lang/AbstractStringBuilder") q1032 q1034 q1033 q1035 q1036 q148 q1037) rfl rfl rfl q1039 (by decide +kernel) ⟨Nat.le_trans (Nat.le_of_ble_eq_true rfl) hRf, Nat.le_trans (Nat.le_of_ble_eq_true rfl) hRl⟩) rfl rfl hl hW hdg kk
theorem iX_J11_1047 {p : Program} {l : Launch} {e : Env} {R : Room} {s : State} {m : MethodId} {args : Array Value} {below : List Frame} {meth : Method} {c : Code} {H : Heap} {locs : List Loc} {cells slots nL : Nat} {Q : State → Prop} {D : XD} {h0 h : TH} {cc : ByteArray} {pc : Nat} {ls : Array Slot} {rest : List Value} (hC : XCx D cc nL RJ11 h0 p R s m args meth c) (hX : XSt D s h0 h H locs cells slots) {a : Nat} {x : Int32} (ht : hT h a = 8) (hcF : F_J9_isLatin1 D.2.2.2 h a = some x) (hl : ls.size = nL) (hW : (rest.map fun v => v.category).sum ≤ 8) (hRf : 0 + 1 ≤ R.frames) (hRl : 20 ≤ R.locals) (hdg : decode cc pc = .ok (.invokevirtual 1047, 3)) (kk : ∀ (H1 : Heap) (locs1 : List Loc) (cells1 slots1 : Nat), XSt D s h0 h H1 locs1 cells1 slots1 → W p l e R s m args below meth c H1 locs1 cells1 slots1 Q (F0 m (pc + 3) ls (.int x :: rest))) : W p l e R s m args below meth c H locs cells slots Q (F0 m pc ls (rv a :: rest)) := by
  have q := ht
  exact X_callU hC hX (by rw [q]; decide) (by rw [q]; rfl) (As := []) (m_J9_isLatin1 l D a h _ hcF) (va_cwU 0 hC.2.2.2.2.1 (lw_U (owner := "java/lang/AbstractStringBuilder") q1040 q965 q966 q964 q147 q967) rfl rfl rfl rfl (by decide +kernel) ⟨Nat.le_trans (Nat.le_of_ble_eq_true rfl) hRf, Nat.le_trans (Nat.le_of_ble_eq_true rfl) hRl⟩) rfl rfl hl hW hdg kk
theorem sX_J11_38 {p : Program} {l : Launch} {e : Env} {R : Room} {s : State} {m : MethodId} {args : Array Value} {below : List Frame} {meth : Method} {c : Code} {H : Heap} {locs : List Loc} {cells slots nL : Nat} {Q : State → Prop} {D : XD} {h0 h : TH} {cc : ByteArray} {pc : Nat} {ls : Array Slot} {rest : List Value} (hC : XCx D cc nL RJ11 h0 p R s m args meth c) (hX : XSt D s h0 h H locs cells slots) (hdg : decode cc pc = .ok (.getstatic 38, 3)) (kk : W p l e R s m args below meth c H locs cells slots Q (F0 m (pc + 3) ls (.int 1 :: rest))) : W p l e R s m args below meth c H locs cells slots Q (F0 m pc ls rest) :=
  X_gets hC hX (q := .inr 1) (List.mem_of_getElem? (i := 9) rfl) q1050 hdg kk
theorem gX_J11_1048 {p : Program} {l : Launch} {e : Env} {R : Room} {s : State} {m : MethodId} {args : Array Value} {below : List Frame} {meth : Method} {c : Code} {H : Heap} {locs : List Loc} {cells slots nL : Nat} {Q : State → Prop} {D : XD} {h0 h : TH} {cc : ByteArray} {pc : Nat} {ls : Array Slot} {rest : List Value} (hC : XCx D cc nL RJ11 h0 p R s m args meth c) (hX : XSt D s h0 h H locs cells slots) {a : Nat} (hf : hasF (hT h a) 77 = true) (hdg : decode cc pc = .ok (.getfield 1048, 3)) (kk : W p l e R s m args below meth c H locs cells slots Q (F0 m (pc + 3) ls (.int (hI h 77 a) :: rest))) : W p l e R s m args below meth c H locs cells slots Q (F0 m pc ls (rv a :: rest)) :=
  X_geti hC hX 77 hf rfl q925 (fun _ h => h) hdg kk
theorem pX_J11_15 {p : Program} {l : Launch} {e : Env} {R : Room} {s : State} {m : MethodId} {args : Array Value} {below : List Frame} {meth : Method} {c : Code} {H : Heap} {locs : List Loc} {cells slots nL : Nat} {Q : State → Prop} {D : XD} {h0 h : TH} {cc : ByteArray} {pc : Nat} {ls : Array Slot} {rest : List Value} (hC : XCx D cc nL RJ11 h0 p R s m args meth c) (hX : XSt D s h0 h H locs cells slots) (hinit : meth.name = "<init>") {a : Nat} {v : Int32} (hf : hasF (hT h a) 80 = true) (hw : hT h a ≤ 24) (hg : Int8.toInt32 (Int32.toInt8 v) = v) (hdg : decode cc pc = .ok (.putfield 15, 3)) (kk : ∀ (H1 : Heap) (locs1 : List Loc), XSt D s h0 (uI h 80 a v) H1 locs1 cells slots → W p l e R s m args below meth c H1 locs1 cells slots Q (F0 m (pc + 3) ls rest)) : W p l e R s m args below meth c H locs cells slots Q (F0 m pc ls (.int v :: rv a :: rest)) :=
  X_putiF hC hX hinit 80 hf hw rfl rfl rfl q1065 (nb_nar hg) hdg kk
theorem iX_J11_54 {p : Program} {l : Launch} {e : Env} {R : Room} {s : State} {m : MethodId} {args : Array Value} {below : List Frame} {meth : Method} {c : Code} {H : Heap} {locs : List Loc} {cells slots nL : Nat} {Q : State → Prop} {D : XD} {h0 h : TH} {cc : ByteArray} {pc : Nat} {ls : Array Slot} {rest : List Value} {h1 : TH} (hC : XCx D cc nL RJ11 h0 p R s m args meth c) (hX : XSt D s h0 h H locs cells slots) {b0 : Nat} {b1 : Int32} {b2 : Int32} {x : Nat} (hcF : F_J5_copyOfRange D.2.2.2 b0 b1 b2 h = some (x, h1)) (hl : ls.size = nL) (hW : (rest.map fun v => v.category).sum ≤ 8) (hRf : 2 + 1 ≤ R.frames) (hRl : 106 ≤ R.locals) (hdg : decode cc pc = .ok (.invokestatic 54, 3)) (kk : ∀ (H1 : Heap) (locs1 : List Loc) (cells1 slots1 : Nat), XSt D s h0 h1 H1 locs1 cells1 slots1 → W p l e R s m args below meth c H1 locs1 cells1 slots1 Q (F0 m (pc + 3) ls (rv x :: rest))) : W p l e R s m args below meth c H locs cells slots Q (F0 m pc ls (.int b2 :: .int b1 :: rv b0 :: rest)) := by
  exact X_callS hC hX (As := [rv b0, .int b1, .int b2]) (m_J5_copyOfRange l D b0 b1 b2 h _ hcF) (va_cwS 3 hC.2.2.2.2.1 (lw_S q1041 q1042 q136 q1043) rfl rfl rfl (by decide +kernel) ⟨Nat.le_trans (Nat.le_of_ble_eq_true rfl) hRf, Nat.le_trans (Nat.le_of_ble_eq_true rfl) hRl⟩) rfl rfl hl hW hdg kk
theorem pX_J11_9 {p : Program} {l : Launch} {e : Env} {R : Room} {s : State} {m : MethodId} {args : Array Value} {below : List Frame} {meth : Method} {c : Code} {H : Heap} {locs : List Loc} {cells slots nL : Nat} {Q : State → Prop} {D : XD} {h0 h : TH} {cc : ByteArray} {pc : Nat} {ls : Array Slot} {rest : List Value} (hC : XCx D cc nL RJ11 h0 p R s m args meth c) (hX : XSt D s h0 h H locs cells slots) (hinit : meth.name = "<init>") {a : Nat} {v : Nat} (hf : hasF (hT h a) 79 = true) (hw : hT h a ≤ 24) (hsep : (79 = 58 ∨ 79 = 63 ∨ 79 = 66 → hR h 49 a = 0) ∧ (79 = 49 → ∀ g, g = 58 ∨ g = 63 ∨ g = 66 → hasF (hT h a) g = true → hR h g a = v)) (hdg : decode cc pc = .ok (.putfield 9, 3)) (kk : ∀ (H1 : Heap) (locs1 : List Loc), XSt D s h0 (uR h 79 a v) H1 locs1 cells slots → W p l e R s m args below meth c H1 locs1 cells slots Q (F0 m (pc + 3) ls rest)) : W p l e R s m args below meth c H locs cells slots Q (F0 m pc ls (rv v :: rv a :: rest)) :=
  X_putrF hC hX hinit 79 hf hw rfl rfl rfl q1064 hsep hdg kk
/-! java/lang/String.<init> -/
def F_J11_init_2_b79 (K : Nat → Nat) (x0 : Nat) (x3 : Nat) (x4 : Int32) (h : TH) : Option TH :=
  gd (hasF (hT h x0) 80 = true) <|
  gd (hT h x0 ≤ 24) <|
  gd (Int8.toInt32 (Int32.toInt8 (1 : Int32)) = (1 : Int32)) <|
  lt (uI h 80 x0 (1 : Int32)) fun h_4 =>
  bd2 (F_J5_copyOfRange K x3 (0 : Int32) (x4 <<< ((1 : Int32) &&& 31)) h_4) fun r_7 h_6 =>
  gd (hasF (hT h_6 x0) 79 = true) <|
  gd (hT h_6 x0 ≤ 24) <|
  lt (uR h_6 79 x0 r_7) fun h_10 =>
  some h_10
set_option maxHeartbeats 4000000 in
theorem w_J11_init_2_b79 {p : Program} {l : Launch} {e : Env} {s : State} {m : MethodId} {args : Array Value} {below : List Frame} {meth : Method} {c : Code} {D : XD} {h0 : TH} (hC : XCx D cJ11_init_2 5 RJ11 h0 p (xRm 3 106 h0) s m args meth c) (hr : meth.sig.returnType = none) (hnh : c.exceptionTable.isEmpty = true) (hin : meth.name = "<init>") {x : TH} :
    ∀ (x0 : Nat) (x3 : Nat) (x4 : Int32) (h : TH), F_J11_init_2_b79 D.2.2.2 x0 x3 x4 h = some x → XJ p l e (xRm 3 106 h0) s m args below meth c D 5 (.returned none) h0 x 79 [(0, rv x0), (3, rv x3), (4, .int x4)] [] h := by
  have hx := hC.1
  have hb := hC.2.1
  intro x0 x3 x4 h hF H locs cells slots ls hX hl
  rw [F_J11_init_2_b79] at hF
  refine X_aload_n hx hb dJ11_init_2_79 rfl (lv_at hl 0 rfl) ?_
  refine lv_iconst (v := 1) hx hb dJ11_init_2_80 (by decide) ?_
  obtain ⟨h_1, hF⟩ := gd_ok hF
  obtain ⟨h_2, hF⟩ := gd_ok hF
  obtain ⟨h_3, hF⟩ := gd_ok hF
  refine pX_J11_15 hC hX hin h_1 h_2 h_3 dJ11_init_2_81 (fun H locs hX => ?_)
  obtain ⟨h_4, eh_4, hF⟩ := lt_ok hF
  rw [← eh_4] at hX
  refine X_aload_n hx hb dJ11_init_2_84 rfl (lv_at hl 0 rfl) ?_
  refine X_aload_n hx hb dJ11_init_2_85 rfl (lv_at hl 1 rfl) ?_
  refine lv_iconst (v := 0) hx hb dJ11_init_2_86 (by decide) ?_
  refine lv_iload hx hb dJ11_init_2_87 (lv_at hl 2 rfl) ?_
  refine lv_iconst (v := 1) hx hb dJ11_init_2_89 (by decide) ?_
  refine lv_ishl hx hb dJ11_init_2_90 ?_
  obtain ⟨r_7, h_6, hc_5, hF⟩ := bd2_ok hF
  refine iX_J11_54 hC hX hc_5 hl.1 (cat4 (Nat.le_of_ble_eq_true rfl)) (Nat.le_of_ble_eq_true rfl) (Nat.le_of_ble_eq_true rfl) dJ11_init_2_91 (fun H locs cells slots hX => ?_)
  obtain ⟨h_8, hF⟩ := gd_ok hF
  obtain ⟨h_9, hF⟩ := gd_ok hF
  refine pX_J11_9 hC hX hin h_8 h_9 ⟨fun q => absurd q (by decide), fun q => absurd q (by decide)⟩ dJ11_init_2_94 (fun H locs hX => ?_)
  obtain ⟨h_10, eh_10, hF⟩ := lt_ok hF
  rw [← eh_10] at hX
  exact x_retv hC hX hr (Option.some.inj hF) dJ11_init_2_97
def F_J11_init_2 (K : Nat → Nat) (a0 : Nat) (b0 : Nat) (b1 : Nat) (h : TH) : Option TH :=
  gd (a0 ≠ 0) <|
  gd (hT h b0 = 8) <|
  bd (F_J9_getValue K h b0) fun r_4 =>
  gd (hT h b0 = 8) <|
  bd (F_J10_length K h b0) fun r_7 =>
  gd (hT h b0 = 8) <|
  bd (F_J9_isLatin1 K h b0) fun r_10 =>
  if r_10 = 0 then
    if (1 : Int32) = 0 then
      F_J11_init_2_b79 K a0 r_4 r_7 h
    else
      gd (hasF (hT h b0) 77 = true) <|
      if (hI h 77 b0) = 0 then
        F_J11_init_2_b79 K a0 r_4 r_7 h
      else
        none
  else
    gd (hasF (hT h a0) 80 = true) <|
    gd (hT h a0 ≤ 24) <|
    gd (Int8.toInt32 (Int32.toInt8 (0 : Int32)) = (0 : Int32)) <|
    lt (uI h 80 a0 (0 : Int32)) fun h_18 =>
    bd2 (F_J5_copyOfRange K r_4 (0 : Int32) r_7 h_18) fun r_21 h_20 =>
    gd (hasF (hT h_20 a0) 79 = true) <|
    gd (hT h_20 a0 ≤ 24) <|
    lt (uR h_20 79 a0 r_21) fun h_24 =>
    some h_24
set_option maxHeartbeats 4000000 in
theorem w_J11_init_2 {p : Program} {l : Launch} {e : Env} {s : State} {m : MethodId} {args : Array Value} {below : List Frame} {meth : Method} {c : Code} {D : XD} {h0 : TH} (hC : XCx D cJ11_init_2 5 RJ11 h0 p (xRm 3 106 h0) s m args meth c) (hr : meth.sig.returnType = none) (hnh : c.exceptionTable.isEmpty = true) (hin : meth.name = "<init>") {x : TH} :
    ∀ (a0 : Nat) (b0 : Nat) (b1 : Nat) (h : TH), F_J11_init_2 D.2.2.2 a0 b0 b1 h = some x → XJ p l e (xRm 3 106 h0) s m args below meth c D 5 (.returned none) h0 x 0 [(0, rv a0), (1, rv b0), (2, rv b1)] [] h := by
  have hx := hC.1
  have hb := hC.2.1
  intro a0 b0 b1 h hF H locs cells slots ls hX hl
  rw [F_J11_init_2] at hF
  refine X_aload_n hx hb dJ11_init_2_0 rfl (lv_at hl 0 rfl) ?_
  obtain ⟨h_1, hF⟩ := gd_ok hF
  refine X_objInit hC h_1 q1026 q175 q176 hl.1 (Nat.le_of_ble_eq_true rfl) (objlo (Nat.le_of_ble_eq_true rfl) (Nat.le_of_ble_eq_true rfl)) dJ11_init_2_1 ?_
  refine X_aload_n hx hb dJ11_init_2_4 rfl (lv_at hl 1 rfl) ?_
  obtain ⟨h_2, hF⟩ := gd_ok hF
  obtain ⟨r_4, hc_3, hF⟩ := bd_ok hF
  refine iX_J11_552 hC hX h_2 hc_3 hl.1 (Nat.le_of_ble_eq_true rfl) (Nat.le_of_ble_eq_true rfl) (Nat.le_of_ble_eq_true rfl) dJ11_init_2_5 (fun H locs cells slots hX => ?_)
  refine X_astore_n (i := 3) hx hb dJ11_init_2_8 rfl hl (by decide) rfl (fun ls hl => ?_)
  replace hl : lv_has ls 5 [(3, rv r_4), (0, rv a0), (1, rv b0), (2, rv b1)] := lv_subS hl (List.forall_mem_cons.mpr ⟨Or.inl rfl, (List.forall_mem_cons.mpr ⟨Or.inr ⟨List.mem_of_getElem? (i := 0) rfl, rfl⟩, (List.forall_mem_cons.mpr ⟨Or.inr ⟨List.mem_of_getElem? (i := 1) rfl, rfl⟩, (List.forall_mem_cons.mpr ⟨Or.inr ⟨List.mem_of_getElem? (i := 2) rfl, by simp [rv_cat]⟩, (fun _ h => nomatch h)⟩)⟩)⟩)⟩)
  refine X_aload_n hx hb dJ11_init_2_9 rfl (lv_at hl 2 rfl) ?_
  obtain ⟨h_5, hF⟩ := gd_ok hF
  obtain ⟨r_7, hc_6, hF⟩ := bd_ok hF
  refine iX_J11_549 hC hX h_5 hc_6 hl.1 (Nat.le_of_ble_eq_true rfl) (Nat.le_of_ble_eq_true rfl) (Nat.le_of_ble_eq_true rfl) dJ11_init_2_10 (fun H locs cells slots hX => ?_)
  refine lv_istore (i := 4) hx hb dJ11_init_2_13 hl (by decide) rfl (fun ls hl => ?_)
  replace hl : lv_has ls 5 [(4, .int r_7), (3, rv r_4), (0, rv a0), (1, rv b0), (2, rv b1)] := lv_subS hl (List.forall_mem_cons.mpr ⟨Or.inl rfl, (List.forall_mem_cons.mpr ⟨Or.inr ⟨List.mem_of_getElem? (i := 0) rfl, by simp [rv_cat]⟩, (List.forall_mem_cons.mpr ⟨Or.inr ⟨List.mem_of_getElem? (i := 1) rfl, rfl⟩, (List.forall_mem_cons.mpr ⟨Or.inr ⟨List.mem_of_getElem? (i := 2) rfl, rfl⟩, (List.forall_mem_cons.mpr ⟨Or.inr ⟨List.mem_of_getElem? (i := 3) rfl, rfl⟩, (fun _ h => nomatch h)⟩)⟩)⟩)⟩)⟩)
  refine X_aload_n hx hb dJ11_init_2_15 rfl (lv_at hl 3 rfl) ?_
  obtain ⟨h_8, hF⟩ := gd_ok hF
  obtain ⟨r_10, hc_9, hF⟩ := bd_ok hF
  refine iX_J11_1047 hC hX h_8 hc_9 hl.1 (Nat.le_of_ble_eq_true rfl) (Nat.le_of_ble_eq_true rfl) (Nat.le_of_ble_eq_true rfl) dJ11_init_2_16 (fun H locs cells slots hX => ?_)
  refine lv_if_eq (tgt := 41) hx hb dJ11_init_2_19 (by decide) (fun c_11 => ?_) (fun c_11 => ?_)
  · replace hF := it_t hF c_11
    refine sX_J11_38 hC hX dJ11_init_2_41 ?_
    refine lv_if_eq (tgt := 79) hx hb dJ11_init_2_44 (by decide) (fun c_12 => ?_) (fun c_12 => ?_)
    · replace hF := it_t hF c_12
      exact w_J11_init_2_b79 hC hr hnh hin a0 r_4 r_7 h hF H locs cells slots ls hX (lv_sub hl [2, 1, 0] rfl)
    · replace hF := it_f hF c_12
      refine X_aload_n hx hb dJ11_init_2_47 rfl (lv_at hl 3 rfl) ?_
      obtain ⟨h_13, hF⟩ := gd_ok hF
      refine gX_J11_1048 hC hX h_13 dJ11_init_2_48 ?_
      refine lv_if_eq (tgt := 79) hx hb dJ11_init_2_51 (by decide) (fun c_14 => ?_) (fun c_14 => ?_)
      · replace hF := it_t hF c_14
        exact w_J11_init_2_b79 hC hr hnh hin a0 r_4 r_7 h hF H locs cells slots ls hX (lv_sub hl [2, 1, 0] rfl)
      · replace hF := it_f hF c_14
        refine X_aload_n hx hb dJ11_init_2_54 rfl (lv_at hl 2 rfl) ?_
        refine X_aload_n hx hb dJ11_init_2_55 rfl (lv_at hl 1 rfl) ?_
        refine lv_iconst (v := 0) hx hb dJ11_init_2_56 (by decide) ?_
        refine lv_iload hx hb dJ11_init_2_57 (lv_at hl 0 rfl) ?_
        exact nm_none hF
  · replace hF := it_f hF c_11
    refine X_aload_n hx hb dJ11_init_2_22 rfl (lv_at hl 2 rfl) ?_
    refine lv_iconst (v := 0) hx hb dJ11_init_2_23 (by decide) ?_
    obtain ⟨h_15, hF⟩ := gd_ok hF
    obtain ⟨h_16, hF⟩ := gd_ok hF
    obtain ⟨h_17, hF⟩ := gd_ok hF
    refine pX_J11_15 hC hX hin h_15 h_16 h_17 dJ11_init_2_24 (fun H locs hX => ?_)
    obtain ⟨h_18, eh_18, hF⟩ := lt_ok hF
    rw [← eh_18] at hX
    refine X_aload_n hx hb dJ11_init_2_27 rfl (lv_at hl 2 rfl) ?_
    refine X_aload_n hx hb dJ11_init_2_28 rfl (lv_at hl 1 rfl) ?_
    refine lv_iconst (v := 0) hx hb dJ11_init_2_29 (by decide) ?_
    refine lv_iload hx hb dJ11_init_2_30 (lv_at hl 0 rfl) ?_
    obtain ⟨r_21, h_20, hc_19, hF⟩ := bd2_ok hF
    refine iX_J11_54 hC hX hc_19 hl.1 (cat4 (Nat.le_of_ble_eq_true rfl)) (Nat.le_of_ble_eq_true rfl) (Nat.le_of_ble_eq_true rfl) dJ11_init_2_32 (fun H locs cells slots hX => ?_)
    obtain ⟨h_22, hF⟩ := gd_ok hF
    obtain ⟨h_23, hF⟩ := gd_ok hF
    refine pX_J11_9 hC hX hin h_22 h_23 ⟨fun q => absurd q (by decide), fun q => absurd q (by decide)⟩ dJ11_init_2_35 (fun H locs hX => ?_)
    obtain ⟨h_24, eh_24, hF⟩ := lt_ok hF
    rw [← eh_24] at hX
    refine lv_goto (tgt := 97) hx hb dJ11_init_2_38 (by decide) ?_
    exact x_retv hC hX hr (Option.some.inj hF) dJ11_init_2_97
theorem m_J11_init_2 (l : Launch) (D : XD) (a0 : Nat) (b0 : Nat) (b1 : Nat) (h : TH) (x : TH) (hF : F_J11_init_2 D.2.2.2 a0 b0 b1 h = some x) : XMt l yJ11_init_2 (ws_ yJ11_init_2 cJ11_init_2 5 (none)) 3 106 D [rv a0, rv b0, rv b1] h (.returned none) x := by
  refine x_met (by decide +kernel) ?_ ?_
  · simp [lg_sl, rv_cat, cat_i, cat_l]
  intro p e s m below meth c hC hr hnh hin ls hl hX
  replace hl : lv_has ls 5 [(0, rv a0), (1, rv b0), (2, rv b1)] := by simpa [lv_args, rv_cat, cat_i, cat_l] using hl
  exact w_J11_init_2 hC hr hnh hin a0 b0 b1 h hF s.heap [] 0 0 ls hX hl
theorem iX_J11_489 {p : Program} {l : Launch} {e : Env} {R : Room} {s : State} {m : MethodId} {args : Array Value} {below : List Frame} {meth : Method} {c : Code} {H : Heap} {locs : List Loc} {cells slots nL : Nat} {Q : State → Prop} {D : XD} {h0 h : TH} {cc : ByteArray} {pc : Nat} {ls : Array Slot} {rest : List Value} (hC : XCx D cc nL RJ11 h0 p R s m args meth c) (hX : XSt D s h0 h H locs cells slots) {a : Nat} {b0 : Nat} {b1 : Nat} {x : TH} (ha : a ≠ 0) (hcF : F_J11_init_2 D.2.2.2 a b0 b1 h = some x) (hl : ls.size = nL) (hW : (rest.map fun v => v.category).sum ≤ 8) (hRf : 3 + 1 ≤ R.frames) (hRl : 130 ≤ R.locals) (hdg : decode cc pc = .ok (.invokespecial 489, 3)) (kk : ∀ (H1 : Heap) (locs1 : List Loc) (cells1 slots1 : Nat), XSt D s h0 x H1 locs1 cells1 slots1 → W p l e R s m args below meth c H1 locs1 cells1 slots1 Q (F0 m (pc + 3) ls (rest))) : W p l e R s m args below meth c H locs cells slots Q (F0 m pc ls (rv b1 :: rv b0 :: rv a :: rest)) := by
  exact X_callI hC hX ha (As := [rv b0, rv b1]) (m_J11_init_2 l D a b0 b1 h _ hcF) (cwI 2 hC.2.2.2.2.1 (lw_meth q1025) rfl rfl rfl (hC.2.2.2.2.1 _ q149) (hC.2.2.2.2.1 _ q1023) (hC.2.2.2.2.1 _ q1024) rfl (by decide +kernel) ⟨Nat.le_trans (Nat.le_of_ble_eq_true rfl) hRf, Nat.le_trans (Nat.le_of_ble_eq_true rfl) hRl⟩) rfl rfl hl hW hdg kk
/-! java/lang/String.<init> -/
def F_J11_init (K : Nat → Nat) (a0 : Nat) (b0 : Nat) (h : TH) : Option TH :=
  gd (a0 ≠ 0) <|
  bd (F_J11_init_2 K a0 b0 0 h) fun h_3 =>
  some h_3
set_option maxHeartbeats 4000000 in
theorem w_J11_init {p : Program} {l : Launch} {e : Env} {s : State} {m : MethodId} {args : Array Value} {below : List Frame} {meth : Method} {c : Code} {D : XD} {h0 : TH} (hC : XCx D cJ11_init 2 RJ11 h0 p (xRm 4 130 h0) s m args meth c) (hr : meth.sig.returnType = none) (hnh : c.exceptionTable.isEmpty = true) (hin : meth.name = "<init>") {x : TH} :
    ∀ (a0 : Nat) (b0 : Nat) (h : TH), F_J11_init D.2.2.2 a0 b0 h = some x → XJ p l e (xRm 4 130 h0) s m args below meth c D 2 (.returned none) h0 x 0 [(0, rv a0), (1, rv b0)] [] h := by
  have hx := hC.1
  have hb := hC.2.1
  intro a0 b0 h hF H locs cells slots ls hX hl
  rw [F_J11_init] at hF
  refine X_aload_n hx hb dJ11_init_0 rfl (lv_at hl 0 rfl) ?_
  refine X_aload_n hx hb dJ11_init_1 rfl (lv_at hl 1 rfl) ?_
  refine X_null hx hb dJ11_init_2 ?_
  obtain ⟨h_1, hF⟩ := gd_ok hF
  obtain ⟨h_3, hc_2, hF⟩ := bd_ok hF
  refine iX_J11_489 hC hX h_1 hc_2 hl.1 (Nat.le_of_ble_eq_true rfl) (Nat.le_of_ble_eq_true rfl) (Nat.le_of_ble_eq_true rfl) dJ11_init_3 (fun H locs cells slots hX => ?_)
  exact x_retv hC hX hr (Option.some.inj hF) dJ11_init_6
theorem m_J11_init (l : Launch) (D : XD) (a0 : Nat) (b0 : Nat) (h : TH) (x : TH) (hF : F_J11_init D.2.2.2 a0 b0 h = some x) : XMt l yJ11_init (ws_ yJ11_init cJ11_init 2 (none)) 4 130 D [rv a0, rv b0] h (.returned none) x := by
  refine x_met (by decide +kernel) ?_ ?_
  · simp [lg_sl, rv_cat, cat_i, cat_l]
  intro p e s m below meth c hC hr hnh hin ls hl hX
  replace hl : lv_has ls 2 [(0, rv a0), (1, rv b0)] := by simpa [lv_args, rv_cat, cat_i, cat_l] using hl
  exact w_J11_init hC hr hnh hin a0 b0 h hF s.heap [] 0 0 ls hX hl
theorem nX_J10_18 {p : Program} {l : Launch} {e : Env} {R : Room} {s : State} {m : MethodId} {args : Array Value} {below : List Frame} {meth : Method} {c : Code} {H : Heap} {locs : List Loc} {cells slots nL : Nat} {Q : State → Prop} {D : XD} {h0 h : TH} {cc : ByteArray} {pc : Nat} {ls : Array Slot} {rest : List Value} (hC : XCx D cc nL RJ10 h0 p R s m args meth c) (hX : XSt D s h0 h H locs cells slots) (hroom : hc h + 1 ≤ XC ∧ hs h + 4 ≤ XS) (hdg : decode cc pc = .ok (.new 18, 3)) (kk : ∀ (H1 : Heap) (cells1 slots1 : Nat), XSt D s h0 (nO h 9 4) H1 locs cells1 slots1 → W p l e R s m args below meth c H1 locs cells1 slots1 Q (F0 m (pc + 3) ls (rv (hz h + 1) :: rest))) : W p l e R s m args below meth c H locs cells slots Q (F0 m pc ls rest) :=
  X_new hC hX 9 ⟨by decide, by decide⟩ rfl q1018 q1019 q149 hroom hdg kk
theorem iX_J10_137 {p : Program} {l : Launch} {e : Env} {R : Room} {s : State} {m : MethodId} {args : Array Value} {below : List Frame} {meth : Method} {c : Code} {H : Heap} {locs : List Loc} {cells slots nL : Nat} {Q : State → Prop} {D : XD} {h0 h : TH} {cc : ByteArray} {pc : Nat} {ls : Array Slot} {rest : List Value} (hC : XCx D cc nL RJ10 h0 p R s m args meth c) (hX : XSt D s h0 h H locs cells slots) {a : Nat} {b0 : Nat} {x : TH} (ha : a ≠ 0) (hcF : F_J11_init D.2.2.2 a b0 h = some x) (hl : ls.size = nL) (hW : (rest.map fun v => v.category).sum ≤ 8) (hRf : 4 + 1 ≤ R.frames) (hRl : 151 ≤ R.locals) (hdg : decode cc pc = .ok (.invokespecial 137, 3)) (kk : ∀ (H1 : Heap) (locs1 : List Loc) (cells1 slots1 : Nat), XSt D s h0 x H1 locs1 cells1 slots1 → W p l e R s m args below meth c H1 locs1 cells1 slots1 Q (F0 m (pc + 3) ls (rest))) : W p l e R s m args below meth c H locs cells slots Q (F0 m pc ls (rv b0 :: rv a :: rest)) := by
  exact X_callI hC hX ha (As := [rv b0]) (m_J11_init l D a b0 h _ hcF) (cwI 1 hC.2.2.2.2.1 (lw_meth q1022) rfl rfl rfl (hC.2.2.2.2.1 _ q149) (hC.2.2.2.2.1 _ q1020) (hC.2.2.2.2.1 _ q1021) rfl (by decide +kernel) ⟨Nat.le_trans (Nat.le_of_ble_eq_true rfl) hRf, Nat.le_trans (Nat.le_of_ble_eq_true rfl) hRl⟩) rfl rfl hl hW hdg kk
/-! java/lang/StringBuilder.toString -/
def F_J10_toString (K : Nat → Nat) (a0 : Nat) (h : TH) : Option (Nat × TH) :=
  gd (hc h + 1 ≤ XC ∧ hs h + 4 ≤ XS) <|
  lt (hz h + 1) fun r_2 =>
  lt (nO h 9 4) fun h_3 =>
  gd (r_2 ≠ 0) <|
  bd (F_J11_init K r_2 a0 h_3) fun h_6 =>
  some (r_2, h_6)
set_option maxHeartbeats 4000000 in
theorem w_J10_toString {p : Program} {l : Launch} {e : Env} {s : State} {m : MethodId} {args : Array Value} {below : List Frame} {meth : Method} {c : Code} {D : XD} {h0 : TH} (hC : XCx D cJ10_toString 1 RJ10 h0 p (xRm 5 151 h0) s m args meth c) (hr : meth.sig.returnType = some (.object "java/lang/String")) (hnh : c.exceptionTable.isEmpty = true) (hin : meth.name = "toString") {x : (Nat × TH)} :
    ∀ (a0 : Nat) (h : TH), F_J10_toString D.2.2.2 a0 h = some x → XJ p l e (xRm 5 151 h0) s m args below meth c D 1 (.returned (some (rv x.1))) h0 x.2 0 [(0, rv a0)] [] h := by
  have hx := hC.1
  have hb := hC.2.1
  intro a0 h hF H locs cells slots ls hX hl
  rw [F_J10_toString] at hF
  obtain ⟨h_1, hF⟩ := gd_ok hF
  refine nX_J10_18 hC hX h_1 dJ10_toString_0 (fun H cells slots hX => ?_)
  refine lv_topr (fun r_2 er_2 => ?_)
  replace hF := lt_at hF er_2
  obtain ⟨h_3, eh_3, hF⟩ := lt_ok hF
  rw [← eh_3] at hX
  refine lv_dup hx hb dJ10_toString_3 (rv_cat _) ?_
  refine X_aload_n hx hb dJ10_toString_4 rfl (lv_at hl 0 rfl) ?_
  obtain ⟨h_4, hF⟩ := gd_ok hF
  obtain ⟨h_6, hc_5, hF⟩ := bd_ok hF
  refine iX_J10_137 hC hX h_4 hc_5 hl.1 (cat4 (Nat.le_of_ble_eq_true rfl)) (Nat.le_of_ble_eq_true rfl) (Nat.le_of_ble_eq_true rfl) dJ10_toString_5 (fun H locs cells slots hX => ?_)
  exact x_reta hC hX hr (Or.inl ⟨_, rfl⟩) (rt1 hF) (rt2 hF) dJ10_toString_8
theorem m_J10_toString (l : Launch) (D : XD) (a0 : Nat) (h : TH) (x : (Nat × TH)) (hF : F_J10_toString D.2.2.2 a0 h = some x) : XMt l yJ10_toString (ws_ yJ10_toString cJ10_toString 1 (some (.object "java/lang/String"))) 5 151 D [rv a0] h (.returned (some (rv x.1))) x.2 := by
  refine x_met (by decide +kernel) ?_ ?_
  · simp [lg_sl, rv_cat, cat_i, cat_l]
  intro p e s m below meth c hC hr hnh hin ls hl hX
  replace hl : lv_has ls 1 [(0, rv a0)] := by simpa [lv_args, rv_cat, cat_i, cat_l] using hl
  exact w_J10_toString hC hr hnh hin a0 h hF s.heap [] 0 0 ls hX hl
theorem pX_X11_43 {p : Program} {l : Launch} {e : Env} {R : Room} {s : State} {m : MethodId} {args : Array Value} {below : List Frame} {meth : Method} {c : Code} {H : Heap} {locs : List Loc} {cells slots nL : Nat} {Q : State → Prop} {D : XD} {h0 h : TH} {cc : ByteArray} {pc : Nat} {ls : Array Slot} {rest : List Value} (hC : XCx D cc nL RX11 h0 p R s m args meth c) (hX : XSt D s h0 h H locs cells slots) {a : Nat} {v : Int32} (hf : hasF (hT h a) 69 = true) (hw : hT h a ≤ 24) (hdg : decode cc pc = .ok (.putfield 43, 3)) (kk : ∀ (H1 : Heap) (locs1 : List Loc), XSt D s h0 (uI h 69 a v) H1 locs1 cells slots → W p l e R s m args below meth c H1 locs1 cells slots Q (F0 m (pc + 3) ls rest)) : W p l e R s m args below meth c H locs cells slots Q (F0 m pc ls (.int v :: rv a :: rest)) :=
  X_puti hC hX 69 hf hw rfl rfl q866 (fun _ h => h) ⟨rfl, rfl⟩ hdg kk
theorem pX_X11_46 {p : Program} {l : Launch} {e : Env} {R : Room} {s : State} {m : MethodId} {args : Array Value} {below : List Frame} {meth : Method} {c : Code} {H : Heap} {locs : List Loc} {cells slots nL : Nat} {Q : State → Prop} {D : XD} {h0 h : TH} {cc : ByteArray} {pc : Nat} {ls : Array Slot} {rest : List Value} (hC : XCx D cc nL RX11 h0 p R s m args meth c) (hX : XSt D s h0 h H locs cells slots) {a : Nat} {v : Int32} (hf : hasF (hT h a) 68 = true) (hw : hT h a ≤ 24) (hdg : decode cc pc = .ok (.putfield 46, 3)) (kk : ∀ (H1 : Heap) (locs1 : List Loc), XSt D s h0 (uI h 68 a v) H1 locs1 cells slots → W p l e R s m args below meth c H1 locs1 cells slots Q (F0 m (pc + 3) ls rest)) : W p l e R s m args below meth c H locs cells slots Q (F0 m pc ls (.int v :: rv a :: rest)) :=
  X_puti hC hX 68 hf hw rfl rfl q865 (fun _ h => h) ⟨rfl, rfl⟩ hdg kk
theorem iX_X11_49 {p : Program} {l : Launch} {e : Env} {R : Room} {s : State} {m : MethodId} {args : Array Value} {below : List Frame} {meth : Method} {c : Code} {H : Heap} {locs : List Loc} {cells slots nL : Nat} {Q : State → Prop} {D : XD} {h0 h : TH} {cc : ByteArray} {pc : Nat} {ls : Array Slot} {rest : List Value} (hC : XCx D cc nL RX11 h0 p R s m args meth c) (hX : XSt D s h0 h H locs cells slots) {a : Nat} {b0 : Int32} {x : Int32} (ht : hT h a = 7) (hcF : F_X11_isLetter D.2.2.2 h a b0 = some x) (hl : ls.size = nL) (hW : (rest.map fun v => v.category).sum ≤ 8) (hRf : 1 + 1 ≤ R.frames) (hRl : 42 ≤ R.locals) (hdg : decode cc pc = .ok (.invokevirtual 49, 3)) (kk : ∀ (H1 : Heap) (locs1 : List Loc) (cells1 slots1 : Nat), XSt D s h0 h H1 locs1 cells1 slots1 → W p l e R s m args below meth c H1 locs1 cells1 slots1 Q (F0 m (pc + 3) ls (.int x :: rest))) : W p l e R s m args below meth c H locs cells slots Q (F0 m pc ls (.int b0 :: rv a :: rest)) := by
  have q := ht
  exact X_callV hC hX (by rw [q]; decide) (by rw [q]; rfl) (As := [.int b0]) (m_X11_isLetter l D a b0 h _ hcF) (cwV 1 hC.2.2.2.2.1 (lw_V q901 q903 qs8 q146 q904) rfl rfl rfl (by decide +kernel) ⟨Nat.le_trans (Nat.le_of_ble_eq_true rfl) hRf, Nat.le_trans (Nat.le_of_ble_eq_true rfl) hRl⟩) rfl rfl hl hW hdg kk
theorem iX_X11_66 {p : Program} {l : Launch} {e : Env} {R : Room} {s : State} {m : MethodId} {args : Array Value} {below : List Frame} {meth : Method} {c : Code} {H : Heap} {locs : List Loc} {cells slots nL : Nat} {Q : State → Prop} {D : XD} {h0 h : TH} {cc : ByteArray} {pc : Nat} {ls : Array Slot} {rest : List Value} (hC : XCx D cc nL RX11 h0 p R s m args meth c) (hX : XSt D s h0 h H locs cells slots) {a : Nat} {b0 : Int32} {x : Int32} (ht : hT h a = 7) (hcF : F_X11_isDigit D.2.2.2 h a b0 = some x) (hl : ls.size = nL) (hW : (rest.map fun v => v.category).sum ≤ 8) (hRf : 1 + 1 ≤ R.frames) (hRl : 42 ≤ R.locals) (hdg : decode cc pc = .ok (.invokevirtual 66, 3)) (kk : ∀ (H1 : Heap) (locs1 : List Loc) (cells1 slots1 : Nat), XSt D s h0 h H1 locs1 cells1 slots1 → W p l e R s m args below meth c H1 locs1 cells1 slots1 Q (F0 m (pc + 3) ls (.int x :: rest))) : W p l e R s m args below meth c H locs cells slots Q (F0 m pc ls (.int b0 :: rv a :: rest)) := by
  have q := ht
  exact X_callV hC hX (by rw [q]; decide) (by rw [q]; rfl) (As := [.int b0]) (m_X11_isDigit l D a b0 h _ hcF) (cwV 1 hC.2.2.2.2.1 (lw_V q1077 q1079 qs9 q146 q1080) rfl rfl rfl (by decide +kernel) ⟨Nat.le_trans (Nat.le_of_ble_eq_true rfl) hRf, Nat.le_trans (Nat.le_of_ble_eq_true rfl) hRl⟩) rfl rfl hl hW hdg kk
theorem iX_X11_72 {p : Program} {l : Launch} {e : Env} {R : Room} {s : State} {m : MethodId} {args : Array Value} {below : List Frame} {meth : Method} {c : Code} {H : Heap} {locs : List Loc} {cells slots nL : Nat} {Q : State → Prop} {D : XD} {h0 h : TH} {cc : ByteArray} {pc : Nat} {ls : Array Slot} {rest : List Value} (hC : XCx D cc nL RX11 h0 p R s m args meth c) (hX : XSt D s h0 h H locs cells slots) {b0 : Int32} {x : Int32} (hcF : F_X11_isSign D.2.2.2 h b0 = some x) (hl : ls.size = nL) (hW : (rest.map fun v => v.category).sum ≤ 8) (hRf : 0 + 1 ≤ R.frames) (hRl : 20 ≤ R.locals) (hdg : decode cc pc = .ok (.invokestatic 72, 3)) (kk : ∀ (H1 : Heap) (locs1 : List Loc) (cells1 slots1 : Nat), XSt D s h0 h H1 locs1 cells1 slots1 → W p l e R s m args below meth c H1 locs1 cells1 slots1 Q (F0 m (pc + 3) ls (.int x :: rest))) : W p l e R s m args below meth c H locs cells slots Q (F0 m pc ls (.int b0 :: rest)) := by
  exact X_callS hC hX (As := [.int b0]) (m_X11_isSign l D b0 h _ hcF) (va_cwS 1 hC.2.2.2.2.1 (lw_S q1081 q1082 q146 q1083) rfl rfl rfl (by decide +kernel) ⟨Nat.le_trans (Nat.le_of_ble_eq_true rfl) hRf, Nat.le_trans (Nat.le_of_ble_eq_true rfl) hRl⟩) rfl rfl hl hW hdg kk
theorem pX_X11_69 {p : Program} {l : Launch} {e : Env} {R : Room} {s : State} {m : MethodId} {args : Array Value} {below : List Frame} {meth : Method} {c : Code} {H : Heap} {locs : List Loc} {cells slots nL : Nat} {Q : State → Prop} {D : XD} {h0 h : TH} {cc : ByteArray} {pc : Nat} {ls : Array Slot} {rest : List Value} (hC : XCx D cc nL RX11 h0 p R s m args meth c) (hX : XSt D s h0 h H locs cells slots) {a : Nat} {v : Int32} (hf : hasF (hT h a) 70 = true) (hw : hT h a ≤ 24) (hdg : decode cc pc = .ok (.putfield 69, 3)) (kk : ∀ (H1 : Heap) (locs1 : List Loc), XSt D s h0 (uI h 70 a v) H1 locs1 cells slots → W p l e R s m args below meth c H1 locs1 cells slots Q (F0 m (pc + 3) ls rest)) : W p l e R s m args below meth c H locs cells slots Q (F0 m pc ls (.int v :: rv a :: rest)) :=
  X_puti hC hX 70 hf hw rfl rfl q867 (fun _ h => h) ⟨rfl, rfl⟩ hdg kk
theorem nX_X11_53 {p : Program} {l : Launch} {e : Env} {R : Room} {s : State} {m : MethodId} {args : Array Value} {below : List Frame} {meth : Method} {c : Code} {H : Heap} {locs : List Loc} {cells slots nL : Nat} {Q : State → Prop} {D : XD} {h0 h : TH} {cc : ByteArray} {pc : Nat} {ls : Array Slot} {rest : List Value} (hC : XCx D cc nL RX11 h0 p R s m args meth c) (hX : XSt D s h0 h H locs cells slots) (hroom : hc h + 1 ≤ XC ∧ hs h + 4 ≤ XS) (hdg : decode cc pc = .ok (.new 53, 3)) (kk : ∀ (H1 : Heap) (cells1 slots1 : Nat), XSt D s h0 (nO h 8 4) H1 locs cells1 slots1 → W p l e R s m args below meth c H1 locs cells1 slots1 Q (F0 m (pc + 3) ls (rv (hz h + 1) :: rest))) : W p l e R s m args below meth c H locs cells slots Q (F0 m pc ls rest) :=
  X_new hC hX 8 ⟨by decide, by decide⟩ rfl q905 q906 q148 hroom hdg kk
theorem iX_X11_55 {p : Program} {l : Launch} {e : Env} {R : Room} {s : State} {m : MethodId} {args : Array Value} {below : List Frame} {meth : Method} {c : Code} {H : Heap} {locs : List Loc} {cells slots nL : Nat} {Q : State → Prop} {D : XD} {h0 h : TH} {cc : ByteArray} {pc : Nat} {ls : Array Slot} {rest : List Value} (hC : XCx D cc nL RX11 h0 p R s m args meth c) (hX : XSt D s h0 h H locs cells slots) {a : Nat} {b0 : Int32} {x : TH} (ha : a ≠ 0) (hcF : F_J10_init D.2.2.2 a b0 h = some x) (hl : ls.size = nL) (hW : (rest.map fun v => v.category).sum ≤ 8) (hRf : 2 + 1 ≤ R.frames) (hRl : 72 ≤ R.locals) (hdg : decode cc pc = .ok (.invokespecial 55, 3)) (kk : ∀ (H1 : Heap) (locs1 : List Loc) (cells1 slots1 : Nat), XSt D s h0 x H1 locs1 cells1 slots1 → W p l e R s m args below meth c H1 locs1 cells1 slots1 Q (F0 m (pc + 3) ls (rest))) : W p l e R s m args below meth c H locs cells slots Q (F0 m pc ls (.int b0 :: rv a :: rest)) := by
  exact X_callI hC hX ha (As := [.int b0]) (m_J10_init l D a b0 h _ hcF) (cwI 1 hC.2.2.2.2.1 (lw_meth q909) rfl rfl rfl (hC.2.2.2.2.1 _ q148) (hC.2.2.2.2.1 _ q907) (hC.2.2.2.2.1 _ q908) rfl (by decide +kernel) ⟨Nat.le_trans (Nat.le_of_ble_eq_true rfl) hRf, Nat.le_trans (Nat.le_of_ble_eq_true rfl) hRl⟩) rfl rfl hl hW hdg kk
theorem iX_X11_58 {p : Program} {l : Launch} {e : Env} {R : Room} {s : State} {m : MethodId} {args : Array Value} {below : List Frame} {meth : Method} {c : Code} {H : Heap} {locs : List Loc} {cells slots nL : Nat} {Q : State → Prop} {D : XD} {h0 h : TH} {cc : ByteArray} {pc : Nat} {ls : Array Slot} {rest : List Value} {h1 : TH} (hC : XCx D cc nL RX11 h0 p R s m args meth c) (hX : XSt D s h0 h H locs cells slots) {a : Nat} {b0 : Int32} {x : Nat} (ht : hT h a = 8) (hcF : F_J10_append D.2.2.2 a b0 h = some (x, h1)) (hl : ls.size = nL) (hW : (rest.map fun v => v.category).sum ≤ 8) (hRf : 2 + 1 ≤ R.frames) (hRl : 64 ≤ R.locals) (hdg : decode cc pc = .ok (.invokevirtual 58, 3)) (kk : ∀ (H1 : Heap) (locs1 : List Loc) (cells1 slots1 : Nat), XSt D s h0 h1 H1 locs1 cells1 slots1 → W p l e R s m args below meth c H1 locs1 cells1 slots1 Q (F0 m (pc + 3) ls (rv x :: rest))) : W p l e R s m args below meth c H locs cells slots Q (F0 m pc ls (.int b0 :: rv a :: rest)) := by
  have q := ht
  exact X_callV hC hX (by rw [q]; decide) (by rw [q]; rfl) (As := [.int b0]) (m_J10_append l D a b0 h _ hcF) (cwV 1 hC.2.2.2.2.1 (lw_V q936 q937 q938 q148 q939) rfl rfl rfl (by decide +kernel) ⟨Nat.le_trans (Nat.le_of_ble_eq_true rfl) hRf, Nat.le_trans (Nat.le_of_ble_eq_true rfl) hRl⟩) rfl rfl hl hW hdg kk
theorem iX_X11_62 {p : Program} {l : Launch} {e : Env} {R : Room} {s : State} {m : MethodId} {args : Array Value} {below : List Frame} {meth : Method} {c : Code} {H : Heap} {locs : List Loc} {cells slots nL : Nat} {Q : State → Prop} {D : XD} {h0 h : TH} {cc : ByteArray} {pc : Nat} {ls : Array Slot} {rest : List Value} {h1 : TH} (hC : XCx D cc nL RX11 h0 p R s m args meth c) (hX : XSt D s h0 h H locs cells slots) {a : Nat} {x : Nat} (ht : hT h a = 8) (hcF : F_J10_toString D.2.2.2 a h = some (x, h1)) (hl : ls.size = nL) (hW : (rest.map fun v => v.category).sum ≤ 8) (hRf : 5 + 1 ≤ R.frames) (hRl : 171 ≤ R.locals) (hdg : decode cc pc = .ok (.invokevirtual 62, 3)) (kk : ∀ (H1 : Heap) (locs1 : List Loc) (cells1 slots1 : Nat), XSt D s h0 h1 H1 locs1 cells1 slots1 → W p l e R s m args below meth c H1 locs1 cells1 slots1 Q (F0 m (pc + 3) ls (rv x :: rest))) : W p l e R s m args below meth c H locs cells slots Q (F0 m pc ls (rv a :: rest)) := by
  have q := ht
  exact X_callV hC hX (by rw [q]; decide) (by rw [q]; rfl) (As := []) (m_J10_toString l D a h _ hcF) (cwV 0 hC.2.2.2.2.1 (lw_V q1014 q1015 q1016 q148 q1017) rfl rfl rfl (by decide +kernel) ⟨Nat.le_trans (Nat.le_of_ble_eq_true rfl) hRf, Nat.le_trans (Nat.le_of_ble_eq_true rfl) hRl⟩) rfl rfl hl hW hdg kk
theorem gX_X11_69 {p : Program} {l : Launch} {e : Env} {R : Room} {s : State} {m : MethodId} {args : Array Value} {below : List Frame} {meth : Method} {c : Code} {H : Heap} {locs : List Loc} {cells slots nL : Nat} {Q : State → Prop} {D : XD} {h0 h : TH} {cc : ByteArray} {pc : Nat} {ls : Array Slot} {rest : List Value} (hC : XCx D cc nL RX11 h0 p R s m args meth c) (hX : XSt D s h0 h H locs cells slots) {a : Nat} (hf : hasF (hT h a) 70 = true) (hdg : decode cc pc = .ok (.getfield 69, 3)) (kk : W p l e R s m args below meth c H locs cells slots Q (F0 m (pc + 3) ls (.int (hI h 70 a) :: rest))) : W p l e R s m args below meth c H locs cells slots Q (F0 m pc ls (rv a :: rest)) :=
  X_geti hC hX 70 hf rfl q867 (fun _ h => h) hdg kk
theorem pX_X11_28 {p : Program} {l : Launch} {e : Env} {R : Room} {s : State} {m : MethodId} {args : Array Value} {below : List Frame} {meth : Method} {c : Code} {H : Heap} {locs : List Loc} {cells slots nL : Nat} {Q : State → Prop} {D : XD} {h0 h : TH} {cc : ByteArray} {pc : Nat} {ls : Array Slot} {rest : List Value} (hC : XCx D cc nL RX11 h0 p R s m args meth c) (hX : XSt D s h0 h H locs cells slots) {a : Nat} {v : Int32} (hf : hasF (hT h a) 67 = true) (hw : hT h a ≤ 24) (hdg : decode cc pc = .ok (.putfield 28, 3)) (kk : ∀ (H1 : Heap) (locs1 : List Loc), XSt D s h0 (uI h 67 a v) H1 locs1 cells slots → W p l e R s m args below meth c H1 locs1 cells slots Q (F0 m (pc + 3) ls rest)) : W p l e R s m args below meth c H locs cells slots Q (F0 m pc ls (.int v :: rv a :: rest)) :=
  X_puti hC hX 67 hf hw rfl rfl q864 (fun _ h => h) ⟨rfl, rfl⟩ hdg kk
/-! BlindCards$Reader.go -/
def F_X11_go_b226 (K : Nat → Nat) (x0 : Nat) (x2 : Int32) (h : TH) : Option TH :=
  gd (hasF (hT h x0) 67 = true) <|
  gd (hasF (hT h x0) 67 = true) <|
  gd (hT h x0 ≤ 24) <|
  lt (uI h 67 x0 ((hI h 67 x0) + x2)) fun h_4 =>
  some h_4
set_option maxHeartbeats 4000000 in
theorem w_X11_go_b226 {p : Program} {l : Launch} {e : Env} {s : State} {m : MethodId} {args : Array Value} {below : List Frame} {meth : Method} {c : Code} {D : XD} {h0 : TH} (hC : XCx D cX11_go 4 RX11 h0 p (xRm 6 171 h0) s m args meth c) (hr : meth.sig.returnType = none) (hnh : c.exceptionTable.isEmpty = true) (hin : meth.name = "go") {x : TH} :
    ∀ (x0 : Nat) (x2 : Int32) (h : TH), F_X11_go_b226 D.2.2.2 x0 x2 h = some x → XJ p l e (xRm 6 171 h0) s m args below meth c D 4 (.returned none) h0 x 226 [(0, rv x0), (2, .int x2)] [] h := by
  have hx := hC.1
  have hb := hC.2.1
  intro x0 x2 h hF H locs cells slots ls hX hl
  rw [F_X11_go_b226] at hF
  refine X_aload_n hx hb dX11_go_226 rfl (lv_at hl 0 rfl) ?_
  refine lv_dup hx hb dX11_go_227 (rv_cat _) ?_
  obtain ⟨h_1, hF⟩ := gd_ok hF
  refine gX_X11_28 hC hX h_1 dX11_go_228 ?_
  refine lv_iload_n hx hb dX11_go_231 rfl (lv_at hl 1 rfl) ?_
  refine lv_iadd hx hb dX11_go_232 ?_
  obtain ⟨h_2, hF⟩ := gd_ok hF
  obtain ⟨h_3, hF⟩ := gd_ok hF
  refine pX_X11_28 hC hX h_2 h_3 dX11_go_233 (fun H locs hX => ?_)
  obtain ⟨h_4, eh_4, hF⟩ := lt_ok hF
  rw [← eh_4] at hX
  exact x_retv hC hX hr (Option.some.inj hF) dX11_go_236
def F_X11_go_b190 (K : Nat → Nat) (k226 : Nat → Int32 → TH → Option TH) (x0 : Nat) (x2 : Int32) (h : TH) : Option TH :=
  if (4 : Int32) < x2 then
    some h
  else
    gd (hT h x0 = 7) <|
    bd (F_X11_isLetter K h x0 x2) fun r_4 =>
    if r_4 = 0 then
      gd (hasF (hT h x0) 68 = true) <|
      gd (hT h x0 ≤ 24) <|
      lt (uI h 68 x0 (2 : Int32)) fun h_8 =>
      k226 x0 x2 h_8
    else
      some h
set_option maxHeartbeats 4000000 in
theorem w_X11_go_b190 {p : Program} {l : Launch} {e : Env} {s : State} {m : MethodId} {args : Array Value} {below : List Frame} {meth : Method} {c : Code} {D : XD} {h0 : TH} (hC : XCx D cX11_go 4 RX11 h0 p (xRm 6 171 h0) s m args meth c) (hr : meth.sig.returnType = none) (hnh : c.exceptionTable.isEmpty = true) (hin : meth.name = "go") {x : TH} (k226 : Nat → Int32 → TH → Option TH) (hk226 : ∀ (x0 : Nat) (x2 : Int32) (h : TH), k226 x0 x2 h = some x → XJ p l e (xRm 6 171 h0) s m args below meth c D 4 (.returned none) h0 x 226 [(0, rv x0), (2, .int x2)] [] h) :
    ∀ (x0 : Nat) (x2 : Int32) (h : TH), F_X11_go_b190 D.2.2.2 k226 x0 x2 h = some x → XJ p l e (xRm 6 171 h0) s m args below meth c D 4 (.returned none) h0 x 190 [(0, rv x0), (2, .int x2)] [] h := by
  have hx := hC.1
  have hb := hC.2.1
  intro x0 x2 h hF H locs cells slots ls hX hl
  rw [F_X11_go_b190] at hF
  refine lv_iload_n hx hb dX11_go_190 rfl (lv_at hl 1 rfl) ?_
  refine lv_iconst (v := 4) hx hb dX11_go_191 (by decide) ?_
  refine lv_icmp_gt (tgt := 203) hx hb dX11_go_192 (by decide) (fun c_1 => ?_) (fun c_1 => ?_)
  · replace hF := it_t hF c_1
    exact x_retv hC hX hr (Option.some.inj hF) dX11_go_203
  · replace hF := it_f hF c_1
    refine X_aload_n hx hb dX11_go_195 rfl (lv_at hl 0 rfl) ?_
    refine lv_iload_n hx hb dX11_go_196 rfl (lv_at hl 1 rfl) ?_
    obtain ⟨h_2, hF⟩ := gd_ok hF
    obtain ⟨r_4, hc_3, hF⟩ := bd_ok hF
    refine iX_X11_49 hC hX h_2 hc_3 hl.1 (Nat.le_of_ble_eq_true rfl) (Nat.le_of_ble_eq_true rfl) (Nat.le_of_ble_eq_true rfl) dX11_go_197 (fun H locs cells slots hX => ?_)
    refine lv_if_eq (tgt := 204) hx hb dX11_go_200 (by decide) (fun c_5 => ?_) (fun c_5 => ?_)
    · replace hF := it_t hF c_5
      refine X_aload_n hx hb dX11_go_204 rfl (lv_at hl 0 rfl) ?_
      refine lv_iconst (v := 2) hx hb dX11_go_205 (by decide) ?_
      obtain ⟨h_6, hF⟩ := gd_ok hF
      obtain ⟨h_7, hF⟩ := gd_ok hF
      refine pX_X11_46 hC hX h_6 h_7 dX11_go_206 (fun H locs hX => ?_)
      obtain ⟨h_8, eh_8, hF⟩ := lt_ok hF
      rw [← eh_8] at hX
      refine lv_goto (tgt := 226) hx hb dX11_go_209 (by decide) ?_
      exact hk226 x0 x2 h_8 hF H locs cells slots ls hX (lv_sub hl [0, 1] rfl)
    · replace hF := it_f hF c_5
      exact x_retv hC hX hr (Option.some.inj hF) dX11_go_203
def F_X11_go_b184 (K : Nat → Nat) (k151 : Nat → Int32 → TH → Option TH) (x0 : Nat) (x2 : Int32) (h : TH) : Option TH :=
  lt (x2 + (1 : Int32)) fun x2_1 =>
  k151 x0 x2_1 h
set_option maxHeartbeats 4000000 in
theorem w_X11_go_b184 {p : Program} {l : Launch} {e : Env} {s : State} {m : MethodId} {args : Array Value} {below : List Frame} {meth : Method} {c : Code} {D : XD} {h0 : TH} (hC : XCx D cX11_go 4 RX11 h0 p (xRm 6 171 h0) s m args meth c) (hr : meth.sig.returnType = none) (hnh : c.exceptionTable.isEmpty = true) (hin : meth.name = "go") {x : TH} (k151 : Nat → Int32 → TH → Option TH) (hk151 : ∀ (x0 : Nat) (x2 : Int32) (h : TH), k151 x0 x2 h = some x → XJ p l e (xRm 6 171 h0) s m args below meth c D 4 (.returned none) h0 x 151 [(0, rv x0), (2, .int x2)] [] h) :
    ∀ (x0 : Nat) (x2 : Int32) (h : TH), F_X11_go_b184 D.2.2.2 k151 x0 x2 h = some x → XJ p l e (xRm 6 171 h0) s m args below meth c D 4 (.returned none) h0 x 184 [(0, rv x0), (2, .int x2)] [] h := by
  have hx := hC.1
  have hb := hC.2.1
  intro x0 x2 h hF H locs cells slots ls hX hl
  rw [F_X11_go_b184] at hF
  obtain ⟨x2_1, ex2_1, hF⟩ := lt_ok hF
  refine lv_iinc (v := x2_1) (lv' := [(2, .int x2_1), (0, rv x0)]) hx hb dX11_go_184 hl (k := 1) rfl (by rw [ex2_1]; rfl) (by decide) rfl (fun ls hl => ?_)
  refine lv_goto (tgt := 151) hx hb dX11_go_187 (by decide) ?_
  exact hk151 x0 x2_1 h hF H locs cells slots ls hX (lv_sub hl [1, 0] rfl)
def F_X11_go_L151 (K : Nat → Nat) (k226 : Nat → Int32 → TH → Option TH) : Nat → Nat → Int32 → TH → Option TH
  | 0, _, _, _ => none
  | fu + 1, x0, x2, h =>
    gd (hT h x0 = 7) <|
    bd (F_X11_isDigit K h x0 x2) fun r_3 =>
    if r_3 = 0 then
      F_X11_go_b190 K k226 x0 x2 h
    else
      if (4 : Int32) ≤ x2 then
        F_X11_go_b184 K (F_X11_go_L151 K k226 fu) x0 x2 h
      else
        gd (hasF (hT h x0) 70 = true) <|
        gd (hT h x0 = 7) <|
        bd (F_X11_here K h x0 x2) fun r_9 =>
        gd (hasF (hT h x0) 70 = true) <|
        gd (hT h x0 ≤ 24) <|
        lt (uI h 70 x0 ((((10 : Int32) * (hI h 70 x0)) + r_9) - (48 : Int32))) fun h_12 =>
        F_X11_go_b184 K (F_X11_go_L151 K k226 fu) x0 x2 h_12
set_option maxHeartbeats 4000000 in
theorem w_X11_go_L151 {p : Program} {l : Launch} {e : Env} {s : State} {m : MethodId} {args : Array Value} {below : List Frame} {meth : Method} {c : Code} {D : XD} {h0 : TH} (hC : XCx D cX11_go 4 RX11 h0 p (xRm 6 171 h0) s m args meth c) (hr : meth.sig.returnType = none) (hnh : c.exceptionTable.isEmpty = true) (hin : meth.name = "go") {x : TH} (k226 : Nat → Int32 → TH → Option TH) (hk226 : ∀ (x0 : Nat) (x2 : Int32) (h : TH), k226 x0 x2 h = some x → XJ p l e (xRm 6 171 h0) s m args below meth c D 4 (.returned none) h0 x 226 [(0, rv x0), (2, .int x2)] [] h) :
    ∀ (fu : Nat) (x0 : Nat) (x2 : Int32) (h : TH), F_X11_go_L151 D.2.2.2 k226 fu x0 x2 h = some x → XJ p l e (xRm 6 171 h0) s m args below meth c D 4 (.returned none) h0 x 151 [(0, rv x0), (2, .int x2)] [] h := by
  have hx := hC.1
  have hb := hC.2.1
  intro fu
  induction fu with
  | zero => intro x0 x2 h hF; exact nm_none hF
  | succ fu ih =>
    intro x0 x2 h hF H locs cells slots ls hX hl
    rw [F_X11_go_L151] at hF
    refine X_aload_n hx hb dX11_go_151 rfl (lv_at hl 0 rfl) ?_
    refine lv_iload_n hx hb dX11_go_152 rfl (lv_at hl 1 rfl) ?_
    obtain ⟨h_1, hF⟩ := gd_ok hF
    obtain ⟨r_3, hc_2, hF⟩ := bd_ok hF
    refine iX_X11_66 hC hX h_1 hc_2 hl.1 (Nat.le_of_ble_eq_true rfl) (Nat.le_of_ble_eq_true rfl) (Nat.le_of_ble_eq_true rfl) dX11_go_153 (fun H locs cells slots hX => ?_)
    refine lv_if_eq (tgt := 190) hx hb dX11_go_156 (by decide) (fun c_4 => ?_) (fun c_4 => ?_)
    · replace hF := it_t hF c_4
      exact w_X11_go_b190 hC hr hnh hin k226 hk226 x0 x2 h hF H locs cells slots ls hX (lv_sub hl [0, 1] rfl)
    · replace hF := it_f hF c_4
      refine lv_iload_n hx hb dX11_go_159 rfl (lv_at hl 1 rfl) ?_
      refine lv_iconst (v := 4) hx hb dX11_go_160 (by decide) ?_
      refine lv_icmp_ge (tgt := 184) hx hb dX11_go_161 (by decide) (fun c_5 => ?_) (fun c_5 => ?_)
      · replace hF := it_t hF c_5
        exact w_X11_go_b184 hC hr hnh hin (F_X11_go_L151 D.2.2.2 k226 fu) ih x0 x2 h hF H locs cells slots ls hX (lv_sub hl [0, 1] rfl)
      · replace hF := it_f hF c_5
        refine X_aload_n hx hb dX11_go_164 rfl (lv_at hl 0 rfl) ?_
        refine lv_bipush (v := 10) hx hb dX11_go_165 (by decide) ?_
        refine X_aload_n hx hb dX11_go_167 rfl (lv_at hl 0 rfl) ?_
        obtain ⟨h_6, hF⟩ := gd_ok hF
        refine gX_X11_69 hC hX h_6 dX11_go_168 ?_
        refine lv_imul hx hb dX11_go_171 ?_
        refine X_aload_n hx hb dX11_go_172 rfl (lv_at hl 0 rfl) ?_
        refine lv_iload_n hx hb dX11_go_173 rfl (lv_at hl 1 rfl) ?_
        obtain ⟨h_7, hF⟩ := gd_ok hF
        obtain ⟨r_9, hc_8, hF⟩ := bd_ok hF
        refine iX_X11_39 hC hX h_7 hc_8 hl.1 (cat4 (Nat.le_of_ble_eq_true rfl)) (Nat.le_of_ble_eq_true rfl) (Nat.le_of_ble_eq_true rfl) dX11_go_174 (fun H locs cells slots hX => ?_)
        refine lv_iadd hx hb dX11_go_177 ?_
        refine lv_bipush (v := 48) hx hb dX11_go_178 (by decide) ?_
        refine lv_isub hx hb dX11_go_180 ?_
        obtain ⟨h_10, hF⟩ := gd_ok hF
        obtain ⟨h_11, hF⟩ := gd_ok hF
        refine pX_X11_69 hC hX h_10 h_11 dX11_go_181 (fun H locs hX => ?_)
        obtain ⟨h_12, eh_12, hF⟩ := lt_ok hF
        rw [← eh_12] at hX
        exact w_X11_go_b184 hC hr hnh hin (F_X11_go_L151 D.2.2.2 k226 fu) ih x0 x2 h_12 hF H locs cells slots ls hX (lv_sub hl [0, 1] rfl)
def F_X11_go_b115 (K : Nat → Nat) (k226 : Nat → Int32 → TH → Option TH) (x0 : Nat) (x2 : Int32) (x3 : Nat) (h : TH) : Option TH :=
  if x2 ≤ (8 : Int32) then
    gd (hT h x3 = 8) <|
    bd2 (F_J10_toString K x3 h) fun r_5 h_4 =>
    gd (hasF (hT h_4 x0) 72 = true) <|
    gd (hT h_4 x0 ≤ 24) <|
    lt (uR h_4 72 x0 r_5) fun h_8 =>
    gd (hasF (hT h_8 x0) 68 = true) <|
    gd (hT h_8 x0 ≤ 24) <|
    lt (uI h_8 68 x0 (1 : Int32)) fun h_11 =>
    k226 x0 x2 h_11
  else
    some h
set_option maxHeartbeats 4000000 in
theorem w_X11_go_b115 {p : Program} {l : Launch} {e : Env} {s : State} {m : MethodId} {args : Array Value} {below : List Frame} {meth : Method} {c : Code} {D : XD} {h0 : TH} (hC : XCx D cX11_go 4 RX11 h0 p (xRm 6 171 h0) s m args meth c) (hr : meth.sig.returnType = none) (hnh : c.exceptionTable.isEmpty = true) (hin : meth.name = "go") {x : TH} (k226 : Nat → Int32 → TH → Option TH) (hk226 : ∀ (x0 : Nat) (x2 : Int32) (h : TH), k226 x0 x2 h = some x → XJ p l e (xRm 6 171 h0) s m args below meth c D 4 (.returned none) h0 x 226 [(0, rv x0), (2, .int x2)] [] h) :
    ∀ (x0 : Nat) (x2 : Int32) (x3 : Nat) (h : TH), F_X11_go_b115 D.2.2.2 k226 x0 x2 x3 h = some x → XJ p l e (xRm 6 171 h0) s m args below meth c D 4 (.returned none) h0 x 115 [(0, rv x0), (2, .int x2), (3, rv x3)] [] h := by
  have hx := hC.1
  have hb := hC.2.1
  intro x0 x2 x3 h hF H locs cells slots ls hX hl
  rw [F_X11_go_b115] at hF
  refine lv_iload_n hx hb dX11_go_115 rfl (lv_at hl 1 rfl) ?_
  refine lv_bipush (v := 8) hx hb dX11_go_116 (by decide) ?_
  refine lv_icmp_le (tgt := 122) hx hb dX11_go_118 (by decide) (fun c_1 => ?_) (fun c_1 => ?_)
  · replace hF := it_t hF c_1
    refine X_aload_n hx hb dX11_go_122 rfl (lv_at hl 0 rfl) ?_
    refine X_aload_n hx hb dX11_go_123 rfl (lv_at hl 2 rfl) ?_
    obtain ⟨h_2, hF⟩ := gd_ok hF
    obtain ⟨r_5, h_4, hc_3, hF⟩ := bd2_ok hF
    refine iX_X11_62 hC hX h_2 hc_3 hl.1 (cat4 (Nat.le_of_ble_eq_true rfl)) (Nat.le_of_ble_eq_true rfl) (Nat.le_of_ble_eq_true rfl) dX11_go_124 (fun H locs cells slots hX => ?_)
    obtain ⟨h_6, hF⟩ := gd_ok hF
    obtain ⟨h_7, hF⟩ := gd_ok hF
    refine pX_X11_17 hC hX h_6 h_7 dX11_go_127 (fun H locs hX => ?_)
    obtain ⟨h_8, eh_8, hF⟩ := lt_ok hF
    rw [← eh_8] at hX
    refine X_aload_n hx hb dX11_go_130 rfl (lv_at hl 0 rfl) ?_
    refine lv_iconst (v := 1) hx hb dX11_go_131 (by decide) ?_
    obtain ⟨h_9, hF⟩ := gd_ok hF
    obtain ⟨h_10, hF⟩ := gd_ok hF
    refine pX_X11_46 hC hX h_9 h_10 dX11_go_132 (fun H locs hX => ?_)
    obtain ⟨h_11, eh_11, hF⟩ := lt_ok hF
    rw [← eh_11] at hX
    refine lv_goto (tgt := 226) hx hb dX11_go_135 (by decide) ?_
    exact hk226 x0 x2 h_11 hF H locs cells slots ls hX (lv_sub hl [0, 1] rfl)
  · replace hF := it_f hF c_1
    exact x_retv hC hX hr (Option.some.inj hF) dX11_go_121
def F_X11_go_b109 (K : Nat → Nat) (k84 : Nat → Int32 → Nat → TH → Option TH) (x0 : Nat) (x2 : Int32) (x3 : Nat) (h : TH) : Option TH :=
  lt (x2 + (1 : Int32)) fun x2_1 =>
  k84 x0 x2_1 x3 h
set_option maxHeartbeats 4000000 in
theorem w_X11_go_b109 {p : Program} {l : Launch} {e : Env} {s : State} {m : MethodId} {args : Array Value} {below : List Frame} {meth : Method} {c : Code} {D : XD} {h0 : TH} (hC : XCx D cX11_go 4 RX11 h0 p (xRm 6 171 h0) s m args meth c) (hr : meth.sig.returnType = none) (hnh : c.exceptionTable.isEmpty = true) (hin : meth.name = "go") {x : TH} (k84 : Nat → Int32 → Nat → TH → Option TH) (hk84 : ∀ (x0 : Nat) (x2 : Int32) (x3 : Nat) (h : TH), k84 x0 x2 x3 h = some x → XJ p l e (xRm 6 171 h0) s m args below meth c D 4 (.returned none) h0 x 84 [(0, rv x0), (2, .int x2), (3, rv x3)] [] h) :
    ∀ (x0 : Nat) (x2 : Int32) (x3 : Nat) (h : TH), F_X11_go_b109 D.2.2.2 k84 x0 x2 x3 h = some x → XJ p l e (xRm 6 171 h0) s m args below meth c D 4 (.returned none) h0 x 109 [(0, rv x0), (2, .int x2), (3, rv x3)] [] h := by
  have hx := hC.1
  have hb := hC.2.1
  intro x0 x2 x3 h hF H locs cells slots ls hX hl
  rw [F_X11_go_b109] at hF
  obtain ⟨x2_1, ex2_1, hF⟩ := lt_ok hF
  refine lv_iinc (v := x2_1) (lv' := [(2, .int x2_1), (0, rv x0), (3, rv x3)]) hx hb dX11_go_109 hl (k := 1) rfl (by rw [ex2_1]; rfl) (by decide) rfl (fun ls hl => ?_)
  refine lv_goto (tgt := 84) hx hb dX11_go_112 (by decide) ?_
  exact hk84 x0 x2_1 x3 h hF H locs cells slots ls hX (lv_sub hl [1, 0, 2] rfl)
def F_X11_go_L84 (K : Nat → Nat) (k226 : Nat → Int32 → TH → Option TH) : Nat → Nat → Int32 → Nat → TH → Option TH
  | 0, _, _, _, _ => none
  | fu + 1, x0, x2, x3, h =>
    gd (hT h x0 = 7) <|
    bd (F_X11_isLetter K h x0 x2) fun r_3 =>
    if r_3 = 0 then
      F_X11_go_b115 K k226 x0 x2 x3 h
    else
      if (8 : Int32) ≤ x2 then
        F_X11_go_b109 K (F_X11_go_L84 K k226 fu) x0 x2 x3 h
      else
        gd (hT h x0 = 7) <|
        bd (F_X11_here K h x0 x2) fun r_8 =>
        gd (hT h x3 = 8) <|
        bd2 (F_J10_append K x3 (UInt32.toInt32 (Int32.toUInt32 r_8 % 65536)) h) fun r_12 h_11 =>
        F_X11_go_b109 K (F_X11_go_L84 K k226 fu) x0 x2 x3 h_11
set_option maxHeartbeats 4000000 in
theorem w_X11_go_L84 {p : Program} {l : Launch} {e : Env} {s : State} {m : MethodId} {args : Array Value} {below : List Frame} {meth : Method} {c : Code} {D : XD} {h0 : TH} (hC : XCx D cX11_go 4 RX11 h0 p (xRm 6 171 h0) s m args meth c) (hr : meth.sig.returnType = none) (hnh : c.exceptionTable.isEmpty = true) (hin : meth.name = "go") {x : TH} (k226 : Nat → Int32 → TH → Option TH) (hk226 : ∀ (x0 : Nat) (x2 : Int32) (h : TH), k226 x0 x2 h = some x → XJ p l e (xRm 6 171 h0) s m args below meth c D 4 (.returned none) h0 x 226 [(0, rv x0), (2, .int x2)] [] h) :
    ∀ (fu : Nat) (x0 : Nat) (x2 : Int32) (x3 : Nat) (h : TH), F_X11_go_L84 D.2.2.2 k226 fu x0 x2 x3 h = some x → XJ p l e (xRm 6 171 h0) s m args below meth c D 4 (.returned none) h0 x 84 [(0, rv x0), (2, .int x2), (3, rv x3)] [] h := by
  have hx := hC.1
  have hb := hC.2.1
  intro fu
  induction fu with
  | zero => intro x0 x2 x3 h hF; exact nm_none hF
  | succ fu ih =>
    intro x0 x2 x3 h hF H locs cells slots ls hX hl
    rw [F_X11_go_L84] at hF
    refine X_aload_n hx hb dX11_go_84 rfl (lv_at hl 0 rfl) ?_
    refine lv_iload_n hx hb dX11_go_85 rfl (lv_at hl 1 rfl) ?_
    obtain ⟨h_1, hF⟩ := gd_ok hF
    obtain ⟨r_3, hc_2, hF⟩ := bd_ok hF
    refine iX_X11_49 hC hX h_1 hc_2 hl.1 (Nat.le_of_ble_eq_true rfl) (Nat.le_of_ble_eq_true rfl) (Nat.le_of_ble_eq_true rfl) dX11_go_86 (fun H locs cells slots hX => ?_)
    refine lv_if_eq (tgt := 115) hx hb dX11_go_89 (by decide) (fun c_4 => ?_) (fun c_4 => ?_)
    · replace hF := it_t hF c_4
      exact w_X11_go_b115 hC hr hnh hin k226 hk226 x0 x2 x3 h hF H locs cells slots ls hX (lv_sub hl [0, 1, 2] rfl)
    · replace hF := it_f hF c_4
      refine lv_iload_n hx hb dX11_go_92 rfl (lv_at hl 1 rfl) ?_
      refine lv_bipush (v := 8) hx hb dX11_go_93 (by decide) ?_
      refine lv_icmp_ge (tgt := 109) hx hb dX11_go_95 (by decide) (fun c_5 => ?_) (fun c_5 => ?_)
      · replace hF := it_t hF c_5
        exact w_X11_go_b109 hC hr hnh hin (F_X11_go_L84 D.2.2.2 k226 fu) ih x0 x2 x3 h hF H locs cells slots ls hX (lv_sub hl [0, 1, 2] rfl)
      · replace hF := it_f hF c_5
        refine X_aload_n hx hb dX11_go_98 rfl (lv_at hl 2 rfl) ?_
        refine X_aload_n hx hb dX11_go_99 rfl (lv_at hl 0 rfl) ?_
        refine lv_iload_n hx hb dX11_go_100 rfl (lv_at hl 1 rfl) ?_
        obtain ⟨h_6, hF⟩ := gd_ok hF
        obtain ⟨r_8, hc_7, hF⟩ := bd_ok hF
        refine iX_X11_39 hC hX h_6 hc_7 hl.1 (cat4 (Nat.le_of_ble_eq_true rfl)) (Nat.le_of_ble_eq_true rfl) (Nat.le_of_ble_eq_true rfl) dX11_go_101 (fun H locs cells slots hX => ?_)
        refine lv_i2c hx hb dX11_go_104 rfl ?_
        obtain ⟨h_9, hF⟩ := gd_ok hF
        obtain ⟨r_12, h_11, hc_10, hF⟩ := bd2_ok hF
        refine iX_X11_58 hC hX h_9 hc_10 hl.1 (Nat.le_of_ble_eq_true rfl) (Nat.le_of_ble_eq_true rfl) (Nat.le_of_ble_eq_true rfl) dX11_go_105 (fun H locs cells slots hX => ?_)
        refine lv_pop hx hb dX11_go_108 (rv_cat _) ?_
        exact w_X11_go_b109 hC hr hnh hin (F_X11_go_L84 D.2.2.2 k226 fu) ih x0 x2 x3 h_11 hF H locs cells slots ls hX (lv_sub hl [0, 1, 2] rfl)
def F_X11_go_b33 (K : Nat → Nat) (x0 : Nat) (h : TH) : Option TH :=
  gd (hasF (hT h x0) 67 = true) <|
  gd (hasF (hT h x0) 69 = true) <|
  gd (hT h x0 ≤ 24) <|
  lt (uI h 69 x0 (hI h 67 x0)) fun h_4 =>
  gd (hT h_4 x0 = 7) <|
  bd (F_X11_here K h_4 x0 (0 : Int32)) fun r_7 =>
  gd (hasF (hT h_4 x0) 68 = true) <|
  gd (hT h_4 x0 ≤ 24) <|
  lt (uI h_4 68 x0 (3 : Int32)) fun h_10 =>
  if 0 ≤ r_7 then
    gd (hT h_10 x0 = 7) <|
    bd (F_X11_isLetter K h_10 x0 (0 : Int32)) fun r_14 =>
    if r_14 = 0 then
      gd (hT h_10 x0 = 7) <|
      bd (F_X11_isDigit K h_10 x0 (0 : Int32)) fun r_18 =>
      if r_18 = 0 then
        bd (F_X11_isSign K h_10 r_7) fun r_21 =>
        if r_21 = 0 then
          F_X11_go_b226 K x0 (0 : Int32) h_10
        else
          gd (hasF (hT h_10 x0) 68 = true) <|
          gd (hT h_10 x0 ≤ 24) <|
          lt (uI h_10 68 x0 r_7) fun h_25 =>
          F_X11_go_b226 K x0 (1 : Int32) h_25
      else
        gd (hasF (hT h_10 x0) 70 = true) <|
        gd (hT h_10 x0 ≤ 24) <|
        lt (uI h_10 70 x0 (0 : Int32)) fun h_28 =>
        F_X11_go_L151 K (F_X11_go_b226 K) MN x0 (0 : Int32) h_28
    else
      gd (hc h_10 + 1 ≤ XC ∧ hs h_10 + 4 ≤ XS) <|
      lt (hz h_10 + 1) fun r_30 =>
      lt (nO h_10 8 4) fun h_31 =>
      gd (r_30 ≠ 0) <|
      bd (F_J10_init K r_30 (8 : Int32) h_31) fun h_34 =>
      F_X11_go_L84 K (F_X11_go_b226 K) MN x0 (0 : Int32) r_30 h_34
  else
    gd (hasF (hT h_10 x0) 68 = true) <|
    gd (hT h_10 x0 ≤ 24) <|
    lt (uI h_10 68 x0 (0 : Int32)) fun h_37 =>
    F_X11_go_b226 K x0 (0 : Int32) h_37
set_option maxHeartbeats 4000000 in
theorem w_X11_go_b33 {p : Program} {l : Launch} {e : Env} {s : State} {m : MethodId} {args : Array Value} {below : List Frame} {meth : Method} {c : Code} {D : XD} {h0 : TH} (hC : XCx D cX11_go 4 RX11 h0 p (xRm 6 171 h0) s m args meth c) (hr : meth.sig.returnType = none) (hnh : c.exceptionTable.isEmpty = true) (hin : meth.name = "go") {x : TH} :
    ∀ (x0 : Nat) (h : TH), F_X11_go_b33 D.2.2.2 x0 h = some x → XJ p l e (xRm 6 171 h0) s m args below meth c D 4 (.returned none) h0 x 33 [(0, rv x0)] [] h := by
  have hx := hC.1
  have hb := hC.2.1
  intro x0 h hF H locs cells slots ls hX hl
  rw [F_X11_go_b33] at hF
  refine X_aload_n hx hb dX11_go_33 rfl (lv_at hl 0 rfl) ?_
  refine X_aload_n hx hb dX11_go_34 rfl (lv_at hl 0 rfl) ?_
  obtain ⟨h_1, hF⟩ := gd_ok hF
  refine gX_X11_28 hC hX h_1 dX11_go_35 ?_
  obtain ⟨h_2, hF⟩ := gd_ok hF
  obtain ⟨h_3, hF⟩ := gd_ok hF
  refine pX_X11_43 hC hX h_2 h_3 dX11_go_38 (fun H locs hX => ?_)
  obtain ⟨h_4, eh_4, hF⟩ := lt_ok hF
  rw [← eh_4] at hX
  refine X_aload_n hx hb dX11_go_41 rfl (lv_at hl 0 rfl) ?_
  refine lv_iconst (v := 0) hx hb dX11_go_42 (by decide) ?_
  obtain ⟨h_5, hF⟩ := gd_ok hF
  obtain ⟨r_7, hc_6, hF⟩ := bd_ok hF
  refine iX_X11_39 hC hX h_5 hc_6 hl.1 (Nat.le_of_ble_eq_true rfl) (Nat.le_of_ble_eq_true rfl) (Nat.le_of_ble_eq_true rfl) dX11_go_43 (fun H locs cells slots hX => ?_)
  refine lv_istore_n (i := 1) hx hb dX11_go_46 rfl hl (by decide) rfl (fun ls hl => ?_)
  replace hl : lv_has ls 4 [(1, .int r_7), (0, rv x0)] := lv_subS hl (List.forall_mem_cons.mpr ⟨Or.inl rfl, (List.forall_mem_cons.mpr ⟨Or.inr ⟨List.mem_of_getElem? (i := 0) rfl, by simp [rv_cat]⟩, (fun _ h => nomatch h)⟩)⟩)
  refine lv_iconst (v := 0) hx hb dX11_go_47 (by decide) ?_
  refine lv_istore_n (lv' := [(2, .int (0 : Int32)), (1, .int r_7), (0, rv x0)]) hx hb dX11_go_48 rfl hl (by decide) rfl (fun ls hl => ?_)
  refine X_aload_n hx hb dX11_go_49 rfl (lv_at hl 2 rfl) ?_
  refine lv_iconst (v := 3) hx hb dX11_go_50 (by decide) ?_
  obtain ⟨h_8, hF⟩ := gd_ok hF
  obtain ⟨h_9, hF⟩ := gd_ok hF
  refine pX_X11_46 hC hX h_8 h_9 dX11_go_51 (fun H locs hX => ?_)
  obtain ⟨h_10, eh_10, hF⟩ := lt_ok hF
  rw [← eh_10] at hX
  refine lv_iload_n hx hb dX11_go_54 rfl (lv_at hl 1 rfl) ?_
  refine lv_if_ge (tgt := 66) hx hb dX11_go_55 (by decide) (fun c_11 => ?_) (fun c_11 => ?_)
  · replace hF := it_t hF c_11
    refine X_aload_n hx hb dX11_go_66 rfl (lv_at hl 2 rfl) ?_
    refine lv_iconst (v := 0) hx hb dX11_go_67 (by decide) ?_
    obtain ⟨h_12, hF⟩ := gd_ok hF
    obtain ⟨r_14, hc_13, hF⟩ := bd_ok hF
    refine iX_X11_49 hC hX h_12 hc_13 hl.1 (Nat.le_of_ble_eq_true rfl) (Nat.le_of_ble_eq_true rfl) (Nat.le_of_ble_eq_true rfl) dX11_go_68 (fun H locs cells slots hX => ?_)
    refine lv_if_eq (tgt := 138) hx hb dX11_go_71 (by decide) (fun c_15 => ?_) (fun c_15 => ?_)
    · replace hF := it_t hF c_15
      refine X_aload_n hx hb dX11_go_138 rfl (lv_at hl 2 rfl) ?_
      refine lv_iconst (v := 0) hx hb dX11_go_139 (by decide) ?_
      obtain ⟨h_16, hF⟩ := gd_ok hF
      obtain ⟨r_18, hc_17, hF⟩ := bd_ok hF
      refine iX_X11_66 hC hX h_16 hc_17 hl.1 (Nat.le_of_ble_eq_true rfl) (Nat.le_of_ble_eq_true rfl) (Nat.le_of_ble_eq_true rfl) dX11_go_140 (fun H locs cells slots hX => ?_)
      refine lv_if_eq (tgt := 212) hx hb dX11_go_143 (by decide) (fun c_19 => ?_) (fun c_19 => ?_)
      · replace hF := it_t hF c_19
        refine lv_iload_n hx hb dX11_go_212 rfl (lv_at hl 1 rfl) ?_
        obtain ⟨r_21, hc_20, hF⟩ := bd_ok hF
        refine iX_X11_72 hC hX hc_20 hl.1 (Nat.le_of_ble_eq_true rfl) (Nat.le_of_ble_eq_true rfl) (Nat.le_of_ble_eq_true rfl) dX11_go_213 (fun H locs cells slots hX => ?_)
        refine lv_if_eq (tgt := 226) hx hb dX11_go_216 (by decide) (fun c_22 => ?_) (fun c_22 => ?_)
        · replace hF := it_t hF c_22
          exact w_X11_go_b226 hC hr hnh hin x0 (0 : Int32) h_10 hF H locs cells slots ls hX (lv_sub hl [2, 0] rfl)
        · replace hF := it_f hF c_22
          refine X_aload_n hx hb dX11_go_219 rfl (lv_at hl 2 rfl) ?_
          refine lv_iload_n hx hb dX11_go_220 rfl (lv_at hl 1 rfl) ?_
          obtain ⟨h_23, hF⟩ := gd_ok hF
          obtain ⟨h_24, hF⟩ := gd_ok hF
          refine pX_X11_46 hC hX h_23 h_24 dX11_go_221 (fun H locs hX => ?_)
          obtain ⟨h_25, eh_25, hF⟩ := lt_ok hF
          rw [← eh_25] at hX
          refine lv_iconst (v := 1) hx hb dX11_go_224 (by decide) ?_
          refine lv_istore_n (lv' := [(2, .int (1 : Int32)), (1, .int r_7), (0, rv x0)]) hx hb dX11_go_225 rfl hl (by decide) rfl (fun ls hl => ?_)
          exact w_X11_go_b226 hC hr hnh hin x0 (1 : Int32) h_25 hF H locs cells slots ls hX (lv_sub hl [2, 0] rfl)
      · replace hF := it_f hF c_19
        refine X_aload_n hx hb dX11_go_146 rfl (lv_at hl 2 rfl) ?_
        refine lv_iconst (v := 0) hx hb dX11_go_147 (by decide) ?_
        obtain ⟨h_26, hF⟩ := gd_ok hF
        obtain ⟨h_27, hF⟩ := gd_ok hF
        refine pX_X11_69 hC hX h_26 h_27 dX11_go_148 (fun H locs hX => ?_)
        obtain ⟨h_28, eh_28, hF⟩ := lt_ok hF
        rw [← eh_28] at hX
        exact w_X11_go_L151 hC hr hnh hin (F_X11_go_b226 D.2.2.2) (w_X11_go_b226 hC hr hnh hin) MN x0 (0 : Int32) h_28 hF H locs cells slots ls hX (lv_sub hl [2, 0] rfl)
    · replace hF := it_f hF c_15
      obtain ⟨h_29, hF⟩ := gd_ok hF
      refine nX_X11_53 hC hX h_29 dX11_go_74 (fun H cells slots hX => ?_)
      refine lv_topr (fun r_30 er_30 => ?_)
      replace hF := lt_at hF er_30
      obtain ⟨h_31, eh_31, hF⟩ := lt_ok hF
      rw [← eh_31] at hX
      refine lv_dup hx hb dX11_go_77 (rv_cat _) ?_
      refine lv_bipush (v := 8) hx hb dX11_go_78 (by decide) ?_
      obtain ⟨h_32, hF⟩ := gd_ok hF
      obtain ⟨h_34, hc_33, hF⟩ := bd_ok hF
      refine iX_X11_55 hC hX h_32 hc_33 hl.1 (cat4 (Nat.le_of_ble_eq_true rfl)) (Nat.le_of_ble_eq_true rfl) (Nat.le_of_ble_eq_true rfl) dX11_go_80 (fun H locs cells slots hX => ?_)
      refine X_astore_n (lv' := [(3, rv r_30), (2, .int (0 : Int32)), (1, .int r_7), (0, rv x0)]) hx hb dX11_go_83 rfl hl (by decide) rfl (fun ls hl => ?_)
      exact w_X11_go_L84 hC hr hnh hin (F_X11_go_b226 D.2.2.2) (w_X11_go_b226 hC hr hnh hin) MN x0 (0 : Int32) r_30 h_34 hF H locs cells slots ls hX (lv_sub hl [3, 1, 0] rfl)
  · replace hF := it_f hF c_11
    refine X_aload_n hx hb dX11_go_58 rfl (lv_at hl 2 rfl) ?_
    refine lv_iconst (v := 0) hx hb dX11_go_59 (by decide) ?_
    obtain ⟨h_35, hF⟩ := gd_ok hF
    obtain ⟨h_36, hF⟩ := gd_ok hF
    refine pX_X11_46 hC hX h_35 h_36 dX11_go_60 (fun H locs hX => ?_)
    obtain ⟨h_37, eh_37, hF⟩ := lt_ok hF
    rw [← eh_37] at hX
    refine lv_goto (tgt := 226) hx hb dX11_go_63 (by decide) ?_
    exact w_X11_go_b226 hC hr hnh hin x0 (0 : Int32) h_37 hF H locs cells slots ls hX (lv_sub hl [2, 0] rfl)
def F_X11_go_b20 (K : Nat → Nat) (k0 : Nat → TH → Option TH) (x0 : Nat) (h : TH) : Option TH :=
  gd (hasF (hT h x0) 67 = true) <|
  gd (hasF (hT h x0) 67 = true) <|
  gd (hT h x0 ≤ 24) <|
  lt (uI h 67 x0 ((hI h 67 x0) + (1 : Int32))) fun h_4 =>
  k0 x0 h_4
set_option maxHeartbeats 4000000 in
theorem w_X11_go_b20 {p : Program} {l : Launch} {e : Env} {s : State} {m : MethodId} {args : Array Value} {below : List Frame} {meth : Method} {c : Code} {D : XD} {h0 : TH} (hC : XCx D cX11_go 4 RX11 h0 p (xRm 6 171 h0) s m args meth c) (hr : meth.sig.returnType = none) (hnh : c.exceptionTable.isEmpty = true) (hin : meth.name = "go") {x : TH} (k0 : Nat → TH → Option TH) (hk0 : ∀ (x0 : Nat) (h : TH), k0 x0 h = some x → XJ p l e (xRm 6 171 h0) s m args below meth c D 4 (.returned none) h0 x 0 [(0, rv x0)] [] h) :
    ∀ (x0 : Nat) (h : TH), F_X11_go_b20 D.2.2.2 k0 x0 h = some x → XJ p l e (xRm 6 171 h0) s m args below meth c D 4 (.returned none) h0 x 20 [(0, rv x0)] [] h := by
  have hx := hC.1
  have hb := hC.2.1
  intro x0 h hF H locs cells slots ls hX hl
  rw [F_X11_go_b20] at hF
  refine X_aload_n hx hb dX11_go_20 rfl (lv_at hl 0 rfl) ?_
  refine lv_dup hx hb dX11_go_21 (rv_cat _) ?_
  obtain ⟨h_1, hF⟩ := gd_ok hF
  refine gX_X11_28 hC hX h_1 dX11_go_22 ?_
  refine lv_iconst (v := 1) hx hb dX11_go_25 (by decide) ?_
  refine lv_iadd hx hb dX11_go_26 ?_
  obtain ⟨h_2, hF⟩ := gd_ok hF
  obtain ⟨h_3, hF⟩ := gd_ok hF
  refine pX_X11_28 hC hX h_2 h_3 dX11_go_27 (fun H locs hX => ?_)
  obtain ⟨h_4, eh_4, hF⟩ := lt_ok hF
  rw [← eh_4] at hX
  refine lv_goto (tgt := 0) hx hb dX11_go_30 (by decide) ?_
  exact hk0 x0 h_4 hF H locs cells slots ls hX (lv_sub hl [0] rfl)
def F_X11_go_L0 (K : Nat → Nat) : Nat → Nat → TH → Option TH
  | 0, _, _ => none
  | fu + 1, x0, h =>
    gd (hT h x0 = 7) <|
    bd (F_X11_here K h x0 (0 : Int32)) fun r_3 =>
    if r_3 = (32 : Int32) then
      F_X11_go_b20 K (F_X11_go_L0 K fu) x0 h
    else
      gd (hT h x0 = 7) <|
      bd (F_X11_here K h x0 (0 : Int32)) fun r_7 =>
      if r_7 = (10 : Int32) then
        F_X11_go_b20 K (F_X11_go_L0 K fu) x0 h
      else
        F_X11_go_b33 K x0 h
set_option maxHeartbeats 4000000 in
theorem w_X11_go_L0 {p : Program} {l : Launch} {e : Env} {s : State} {m : MethodId} {args : Array Value} {below : List Frame} {meth : Method} {c : Code} {D : XD} {h0 : TH} (hC : XCx D cX11_go 4 RX11 h0 p (xRm 6 171 h0) s m args meth c) (hr : meth.sig.returnType = none) (hnh : c.exceptionTable.isEmpty = true) (hin : meth.name = "go") {x : TH} :
    ∀ (fu : Nat) (x0 : Nat) (h : TH), F_X11_go_L0 D.2.2.2 fu x0 h = some x → XJ p l e (xRm 6 171 h0) s m args below meth c D 4 (.returned none) h0 x 0 [(0, rv x0)] [] h := by
  have hx := hC.1
  have hb := hC.2.1
  intro fu
  induction fu with
  | zero => intro x0 h hF; exact nm_none hF
  | succ fu ih =>
    intro x0 h hF H locs cells slots ls hX hl
    rw [F_X11_go_L0] at hF
    refine X_aload_n hx hb dX11_go_0 rfl (lv_at hl 0 rfl) ?_
    refine lv_iconst (v := 0) hx hb dX11_go_1 (by decide) ?_
    obtain ⟨h_1, hF⟩ := gd_ok hF
    obtain ⟨r_3, hc_2, hF⟩ := bd_ok hF
    refine iX_X11_39 hC hX h_1 hc_2 hl.1 (Nat.le_of_ble_eq_true rfl) (Nat.le_of_ble_eq_true rfl) (Nat.le_of_ble_eq_true rfl) dX11_go_2 (fun H locs cells slots hX => ?_)
    refine lv_bipush (v := 32) hx hb dX11_go_5 (by decide) ?_
    refine lv_icmp_eq (tgt := 20) hx hb dX11_go_7 (by decide) (fun c_4 => ?_) (fun c_4 => ?_)
    · replace hF := it_t hF c_4
      exact w_X11_go_b20 hC hr hnh hin (F_X11_go_L0 D.2.2.2 fu) ih x0 h hF H locs cells slots ls hX (lv_sub hl [0] rfl)
    · replace hF := it_f hF c_4
      refine X_aload_n hx hb dX11_go_10 rfl (lv_at hl 0 rfl) ?_
      refine lv_iconst (v := 0) hx hb dX11_go_11 (by decide) ?_
      obtain ⟨h_5, hF⟩ := gd_ok hF
      obtain ⟨r_7, hc_6, hF⟩ := bd_ok hF
      refine iX_X11_39 hC hX h_5 hc_6 hl.1 (Nat.le_of_ble_eq_true rfl) (Nat.le_of_ble_eq_true rfl) (Nat.le_of_ble_eq_true rfl) dX11_go_12 (fun H locs cells slots hX => ?_)
      refine lv_bipush (v := 10) hx hb dX11_go_15 (by decide) ?_
      refine lv_icmp_ne (tgt := 33) hx hb dX11_go_17 (by decide) (fun c_8 => ?_) (fun c_8 => ?_)
      · replace hF := it_f hF c_8
        exact w_X11_go_b33 hC hr hnh hin x0 h hF H locs cells slots ls hX (lv_sub hl [0] rfl)
      · replace hF := it_t hF c_8
        exact w_X11_go_b20 hC hr hnh hin (F_X11_go_L0 D.2.2.2 fu) ih x0 h hF H locs cells slots ls hX (lv_sub hl [0] rfl)
def F_X11_go (K : Nat → Nat) (a0 : Nat) (h : TH) : Option TH :=
  F_X11_go_L0 K MN a0 h
set_option maxHeartbeats 4000000 in
theorem w_X11_go {p : Program} {l : Launch} {e : Env} {s : State} {m : MethodId} {args : Array Value} {below : List Frame} {meth : Method} {c : Code} {D : XD} {h0 : TH} (hC : XCx D cX11_go 4 RX11 h0 p (xRm 6 171 h0) s m args meth c) (hr : meth.sig.returnType = none) (hnh : c.exceptionTable.isEmpty = true) (hin : meth.name = "go") {x : TH} :
    ∀ (a0 : Nat) (h : TH), F_X11_go D.2.2.2 a0 h = some x → XJ p l e (xRm 6 171 h0) s m args below meth c D 4 (.returned none) h0 x 0 [(0, rv a0)] [] h := by
  have hx := hC.1
  have hb := hC.2.1
  intro a0 h hF H locs cells slots ls hX hl
  rw [F_X11_go] at hF
  exact w_X11_go_L0 hC hr hnh hin MN a0 h hF H locs cells slots ls hX (lv_sub hl [0] rfl)
theorem m_X11_go (l : Launch) (D : XD) (a0 : Nat) (h : TH) (x : TH) (hF : F_X11_go D.2.2.2 a0 h = some x) : XMt l yX11_go (ws_ yX11_go cX11_go 4 (none)) 6 171 D [rv a0] h (.returned none) x := by
  refine x_met (by decide +kernel) ?_ ?_
  · simp [lg_sl, rv_cat, cat_i, cat_l]
  intro p e s m below meth c hC hr hnh hin ls hl hX
  replace hl : lv_has ls 4 [(0, rv a0)] := by simpa [lv_args, rv_cat, cat_i, cat_l] using hl
  exact w_X11_go hC hr hnh hin a0 h hF s.heap [] 0 0 ls hX hl
end
