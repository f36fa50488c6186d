set_option maxRecDepth 100000
noncomputable section
theorem pX_X15_7 {p : Program} {l : Launch} {e : Env} {R : Room} {s : State} {m : MethodId} {args : Array Value} {below : List Frame} {meth : Method} {c : Code} {H : Heap} {locs : List Loc} {cells slots nL : Nat} {Q : State → Prop} {D : XD} {h0 h : TH} {cc : ByteArray} {pc : Nat} {ls : Array Slot} {rest : List Value} (hC : XCx D cc nL RX15 h0 p R s m args meth c) (hX : XSt D s h0 h H locs cells slots) (hinit : meth.name = "<init>") {a : Nat} {v : Nat} (hf : hasF (hT h a) 93 = true) (hw : hT h a ≤ 24) (hsep : (93 = 58 ∨ 93 = 63 ∨ 93 = 66 → hR h 49 a = 0) ∧ (93 = 49 → ∀ g, g = 58 ∨ g = 63 ∨ g = 66 → hasF (hT h a) g = true → hR h g a = v)) (hdg : decode cc pc = .ok (.putfield 7, 3)) (kk : ∀ (H1 : Heap) (locs1 : List Loc), XSt D s h0 (uR h 93 a v) H1 locs1 cells slots → W p l e R s m args below meth c H1 locs1 cells slots Q (F0 m (pc + 3) ls rest)) : W p l e R s m args below meth c H locs cells slots Q (F0 m pc ls (rv v :: rv a :: rest)) :=
  X_putrF hC hX hinit 93 hf hw rfl rfl rfl q1248 hsep hdg kk
theorem pX_X15_13 {p : Program} {l : Launch} {e : Env} {R : Room} {s : State} {m : MethodId} {args : Array Value} {below : List Frame} {meth : Method} {c : Code} {H : Heap} {locs : List Loc} {cells slots nL : Nat} {Q : State → Prop} {D : XD} {h0 h : TH} {cc : ByteArray} {pc : Nat} {ls : Array Slot} {rest : List Value} (hC : XCx D cc nL RX15 h0 p R s m args meth c) (hX : XSt D s h0 h H locs cells slots) (hinit : meth.name = "<init>") {a : Nat} {v : Nat} (hf : hasF (hT h a) 94 = true) (hw : hT h a ≤ 24) (hsep : (94 = 58 ∨ 94 = 63 ∨ 94 = 66 → hR h 49 a = 0) ∧ (94 = 49 → ∀ g, g = 58 ∨ g = 63 ∨ g = 66 → hasF (hT h a) g = true → hR h g a = v)) (hdg : decode cc pc = .ok (.putfield 13, 3)) (kk : ∀ (H1 : Heap) (locs1 : List Loc), XSt D s h0 (uR h 94 a v) H1 locs1 cells slots → W p l e R s m args below meth c H1 locs1 cells slots Q (F0 m (pc + 3) ls rest)) : W p l e R s m args below meth c H locs cells slots Q (F0 m pc ls (rv v :: rv a :: rest)) :=
  X_putrF hC hX hinit 94 hf hw rfl rfl rfl q1249 hsep hdg kk
theorem pX_X15_16 {p : Program} {l : Launch} {e : Env} {R : Room} {s : State} {m : MethodId} {args : Array Value} {below : List Frame} {meth : Method} {c : Code} {H : Heap} {locs : List Loc} {cells slots nL : Nat} {Q : State → Prop} {D : XD} {h0 h : TH} {cc : ByteArray} {pc : Nat} {ls : Array Slot} {rest : List Value} (hC : XCx D cc nL RX15 h0 p R s m args meth c) (hX : XSt D s h0 h H locs cells slots) (hinit : meth.name = "<init>") {a : Nat} {v : Int32} (hf : hasF (hT h a) 95 = true) (hw : hT h a ≤ 24) (hg : (Int32.toUInt32 v % 65536).toInt32 = v) (hdg : decode cc pc = .ok (.putfield 16, 3)) (kk : ∀ (H1 : Heap) (locs1 : List Loc), XSt D s h0 (uI h 95 a v) H1 locs1 cells slots → W p l e R s m args below meth c H1 locs1 cells slots Q (F0 m (pc + 3) ls rest)) : W p l e R s m args below meth c H locs cells slots Q (F0 m pc ls (.int v :: rv a :: rest)) :=
  X_putiF hC hX hinit 95 hf hw rfl rfl rfl q1250 (nc_nar hg) hdg kk
/-! BlindCards$Pair.<init> -/
def F_X15_init (K : Nat → Nat) (a0 : Nat) (b0 : Nat) (b1 : Nat) (b2 : Int32) (h : TH) : Option TH :=
  gd (a0 ≠ 0) <|
  gd (hasF (hT h a0) 93 = true) <|
  gd (hT h a0 ≤ 24) <|
  lt (uR h 93 a0 b0) fun h_4 =>
  gd (hasF (hT h_4 a0) 94 = true) <|
  gd (hT h_4 a0 ≤ 24) <|
  lt (uR h_4 94 a0 b1) fun h_7 =>
  gd (hasF (hT h_7 a0) 95 = true) <|
  gd (hT h_7 a0 ≤ 24) <|
  gd ((Int32.toUInt32 b2 % 65536).toInt32 = b2) <|
  lt (uI h_7 95 a0 b2) fun h_11 =>
  some h_11
set_option maxHeartbeats 4000000 in
theorem w_X15_init {p : Program} {l : Launch} {e : Env} {s : State} {m : MethodId} {args : Array Value} {below : List Frame} {meth : Method} {c : Code} {D : XD} {h0 : TH} (hC : XCx D cX15_init 4 RX15 h0 p (xRm 1 30 h0) s m args meth c) (hr : meth.sig.returnType = none) (hnh : c.exceptionTable.isEmpty = true) (hin : meth.name = "<init>") {x : TH} :
    ∀ (a0 : Nat) (b0 : Nat) (b1 : Nat) (b2 : Int32) (h : TH), F_X15_init D.2.2.2 a0 b0 b1 b2 h = some x → XJ p l e (xRm 1 30 h0) s m args below meth c D 4 (.returned none) h0 x 0 [(0, rv a0), (1, rv b0), (2, rv b1), (3, .int b2)] [] h := by
  have hx := hC.1
  have hb := hC.2.1
  intro a0 b0 b1 b2 h hF H locs cells slots ls hX hl
  rw [F_X15_init] at hF
  refine X_aload_n hx hb dX15_init_0 rfl (lv_at hl 0 rfl) ?_
  obtain ⟨h_1, hF⟩ := gd_ok hF
  refine X_objInit hC h_1 q1247 q175 q176 hl.1 (Nat.le_of_ble_eq_true rfl) (objlo (Nat.le_of_ble_eq_true rfl) (Nat.le_of_ble_eq_true rfl)) dX15_init_1 ?_
  refine X_aload_n hx hb dX15_init_4 rfl (lv_at hl 0 rfl) ?_
  refine X_aload_n hx hb dX15_init_5 rfl (lv_at hl 1 rfl) ?_
  obtain ⟨h_2, hF⟩ := gd_ok hF
  obtain ⟨h_3, hF⟩ := gd_ok hF
  refine pX_X15_7 hC hX hin h_2 h_3 ⟨fun q => absurd q (by decide), fun q => absurd q (by decide)⟩ dX15_init_6 (fun H locs hX => ?_)
  obtain ⟨h_4, eh_4, hF⟩ := lt_ok hF
  rw [← eh_4] at hX
  refine X_aload_n hx hb dX15_init_9 rfl (lv_at hl 0 rfl) ?_
  refine X_aload_n hx hb dX15_init_10 rfl (lv_at hl 2 rfl) ?_
  obtain ⟨h_5, hF⟩ := gd_ok hF
  obtain ⟨h_6, hF⟩ := gd_ok hF
  refine pX_X15_13 hC hX hin h_5 h_6 ⟨fun q => absurd q (by decide), fun q => absurd q (by decide)⟩ dX15_init_11 (fun H locs hX => ?_)
  obtain ⟨h_7, eh_7, hF⟩ := lt_ok hF
  rw [← eh_7] at hX
  refine X_aload_n hx hb dX15_init_14 rfl (lv_at hl 0 rfl) ?_
  refine lv_iload_n hx hb dX15_init_15 rfl (lv_at hl 3 rfl) ?_
  obtain ⟨h_8, hF⟩ := gd_ok hF
  obtain ⟨h_9, hF⟩ := gd_ok hF
  obtain ⟨h_10, hF⟩ := gd_ok hF
  refine pX_X15_16 hC hX hin h_8 h_9 h_10 dX15_init_16 (fun H locs hX => ?_)
  obtain ⟨h_11, eh_11, hF⟩ := lt_ok hF
  rw [← eh_11] at hX
  exact x_retv hC hX hr (Option.some.inj hF) dX15_init_19
theorem m_X15_init (l : Launch) (D : XD) (a0 : Nat) (b0 : Nat) (b1 : Nat) (b2 : Int32) (h : TH) (x : TH) (hF : F_X15_init D.2.2.2 a0 b0 b1 b2 h = some x) : XMt l yX15_init (ws_ yX15_init cX15_init 4 (none)) 1 30 D [rv a0, rv b0, rv b1, .int b2] h (.returned none) x := by
  refine x_met (by decide +kernel) ?_ ?_
  · simp [lg_sl, rv_cat, cat_i, cat_l]
  intro p e s m below meth c hC hr hnh hin ls hl hX
  replace hl : lv_has ls 4 [(0, rv a0), (1, rv b0), (2, rv b1), (3, .int b2)] := by simpa [lv_args, rv_cat, cat_i, cat_l] using hl
  exact w_X15_init hC hr hnh hin a0 b0 b1 b2 h hF s.heap [] 0 0 ls hX hl
/-! java/lang/StringLatin1.equals -/
def F_J13_equals_L9 (K : Nat → Nat) (h : TH) : Nat → Nat → Nat → Int32 → Option Int32
  | 0, _, _, _ => none
  | fu + 1, x0, x1, x2 =>
    gd (2 ≤ tkd (hT h x0)) <|
    if (Int32.ofNat (hN h x0)) ≤ x2 then
      some (1 : Int32)
    else
      gd (hT h x0 = 32 ∨ hT h x0 = 42) <|
      gd (inb x2 (hN h x0)) <|
      gd (hT h x1 = 32 ∨ hT h x1 = 42) <|
      gd (inb x2 (hN h x1)) <|
      if (hA h x0 (Int32.toNatClampNeg x2)) = (hA h x1 (Int32.toNatClampNeg x2)) then
        lt (x2 + (1 : Int32)) fun x2_8 =>
        F_J13_equals_L9 K h fu x0 x1 x2_8
      else
        some (0 : Int32)
set_option maxHeartbeats 4000000 in
theorem w_J13_equals_L9 {p : Program} {l : Launch} {e : Env} {s : State} {m : MethodId} {args : Array Value} {below : List Frame} {meth : Method} {c : Code} {D : XD} {h : TH} (hC : XCx D cJ13_equals 3 RJ13 h p (xRm 0 0 h) s m args meth c) (hr : meth.sig.returnType = some .boolean) (hnh : c.exceptionTable.isEmpty = true) (hin : meth.name = "equals") {x : Int32} :
    ∀ (fu : Nat) (x0 : Nat) (x1 : Nat) (x2 : Int32), F_J13_equals_L9 D.2.2.2 h fu x0 x1 x2 = some x → XJ p l e (xRm 0 0 h) s m args below meth c D 3 (.returned (some (.int x))) h h 9 [(0, rv x0), (1, rv x1), (2, .int x2)] [] h := by
  have hx := hC.1
  have hb := hC.2.1
  intro fu
  induction fu with
  | zero => intro x0 x1 x2 hF; exact nm_none hF
  | succ fu ih =>
    intro x0 x1 x2 hF H locs cells slots ls hX hl
    rw [F_J13_equals_L9] at hF
    refine lv_iload_n hx hb dJ13_equals_9 rfl (lv_at hl 2 rfl) ?_
    refine X_aload_n hx hb dJ13_equals_10 rfl (lv_at hl 0 rfl) ?_
    obtain ⟨h_1, hF⟩ := gd_ok hF
    refine X_alen hC hX h_1 dJ13_equals_11 ?_
    refine lv_icmp_ge (tgt := 32) hx hb dJ13_equals_12 (by decide) (fun c_2 => ?_) (fun c_2 => ?_)
    · replace hF := it_t hF c_2
      refine lv_iconst (v := 1) hx hb dJ13_equals_32 (by decide) ?_
      exact x_reti hC hX hr rfl (Option.some.inj hF) rfl dJ13_equals_33
    · replace hF := it_f hF c_2
      refine X_aload_n hx hb dJ13_equals_15 rfl (lv_at hl 0 rfl) ?_
      refine lv_iload_n hx hb dJ13_equals_16 rfl (lv_at hl 2 rfl) ?_
      obtain ⟨h_3, hF⟩ := gd_ok hF
      obtain ⟨h_4, hF⟩ := gd_ok hF
      refine X_bald hC hX h_3 h_4 dJ13_equals_17 ?_
      refine X_aload_n hx hb dJ13_equals_18 rfl (lv_at hl 1 rfl) ?_
      refine lv_iload_n hx hb dJ13_equals_19 rfl (lv_at hl 2 rfl) ?_
      obtain ⟨h_5, hF⟩ := gd_ok hF
      obtain ⟨h_6, hF⟩ := gd_ok hF
      refine X_bald hC hX h_5 h_6 dJ13_equals_20 ?_
      refine lv_icmp_eq (tgt := 26) hx hb dJ13_equals_21 (by decide) (fun c_7 => ?_) (fun c_7 => ?_)
      · replace hF := it_t hF c_7
        obtain ⟨x2_8, ex2_8, hF⟩ := lt_ok hF
        refine lv_iinc (v := x2_8) hx hb dJ13_equals_26 hl (k := 2) rfl (by rw [ex2_8]; rfl) (by decide) rfl (fun ls hl => ?_)
        replace hl : lv_has ls 3 [(2, .int x2_8), (0, rv x0), (1, rv x1)] := lv_subS hl (List.forall_mem_cons.mpr ⟨Or.inl rfl, (List.forall_mem_cons.mpr ⟨Or.inr ⟨List.mem_of_getElem? (i := 0) rfl, rfl⟩, (List.forall_mem_cons.mpr ⟨Or.inr ⟨List.mem_of_getElem? (i := 1) rfl, by simp [rv_cat]⟩, (fun _ h => nomatch h)⟩)⟩)⟩)
        refine lv_goto (tgt := 9) hx hb dJ13_equals_29 (by decide) ?_
        exact ih x0 x1 x2_8 hF H locs cells slots ls hX (lv_sub hl [1, 2, 0] rfl)
      · replace hF := it_f hF c_7
        refine lv_iconst (v := 0) hx hb dJ13_equals_24 (by decide) ?_
        exact x_reti hC hX hr rfl (Option.some.inj hF) rfl dJ13_equals_25
def F_J13_equals (K : Nat → Nat) (h : TH) (b0 : Nat) (b1 : Nat) : Option Int32 :=
  gd (2 ≤ tkd (hT h b0)) <|
  gd (2 ≤ tkd (hT h b1)) <|
  if (Int32.ofNat (hN h b0)) = (Int32.ofNat (hN h b1)) then
    F_J13_equals_L9 K h MN b0 b1 (0 : Int32)
  else
    some (0 : Int32)
set_option maxHeartbeats 4000000 in
theorem w_J13_equals {p : Program} {l : Launch} {e : Env} {s : State} {m : MethodId} {args : Array Value} {below : List Frame} {meth : Method} {c : Code} {D : XD} {h : TH} (hC : XCx D cJ13_equals 3 RJ13 h p (xRm 0 0 h) s m args meth c) (hr : meth.sig.returnType = some .boolean) (hnh : c.exceptionTable.isEmpty = true) (hin : meth.name = "equals") {x : Int32} :
    ∀ (b0 : Nat) (b1 : Nat), F_J13_equals D.2.2.2 h b0 b1 = some x → XJ p l e (xRm 0 0 h) s m args below meth c D 3 (.returned (some (.int x))) h h 0 [(0, rv b0), (1, rv b1)] [] h := by
  have hx := hC.1
  have hb := hC.2.1
  intro b0 b1 hF H locs cells slots ls hX hl
  rw [F_J13_equals] at hF
  refine X_aload_n hx hb dJ13_equals_0 rfl (lv_at hl 0 rfl) ?_
  obtain ⟨h_1, hF⟩ := gd_ok hF
  refine X_alen hC hX h_1 dJ13_equals_1 ?_
  refine X_aload_n hx hb dJ13_equals_2 rfl (lv_at hl 1 rfl) ?_
  obtain ⟨h_2, hF⟩ := gd_ok hF
  refine X_alen hC hX h_2 dJ13_equals_3 ?_
  refine lv_icmp_ne (tgt := 34) hx hb dJ13_equals_4 (by decide) (fun c_3 => ?_) (fun c_3 => ?_)
  · replace hF := it_f hF c_3
    refine lv_iconst (v := 0) hx hb dJ13_equals_34 (by decide) ?_
    exact x_reti hC hX hr rfl (Option.some.inj hF) rfl dJ13_equals_35
  · replace hF := it_t hF c_3
    refine lv_iconst (v := 0) hx hb dJ13_equals_7 (by decide) ?_
    refine lv_istore_n (i := 2) hx hb dJ13_equals_8 rfl hl (by decide) rfl (fun ls hl => ?_)
    replace hl : lv_has ls 3 [(2, .int (0 : Int32)), (0, rv b0), (1, rv b1)] := lv_subS hl (List.forall_mem_cons.mpr ⟨Or.inl rfl, (List.forall_mem_cons.mpr ⟨Or.inr ⟨List.mem_of_getElem? (i := 0) rfl, rfl⟩, (List.forall_mem_cons.mpr ⟨Or.inr ⟨List.mem_of_getElem? (i := 1) rfl, by simp [rv_cat]⟩, (fun _ h => nomatch h)⟩)⟩)⟩)
    exact w_J13_equals_L9 hC hr hnh hin MN b0 b1 (0 : Int32) hF H locs cells slots ls hX (lv_sub hl [1, 2, 0] rfl)
theorem m_J13_equals (l : Launch) (D : XD) (b0 : Nat) (b1 : Nat) (h : TH) (x : Int32) (hF : F_J13_equals D.2.2.2 h b0 b1 = some x) : XMt l yJ13_equals (ws_ yJ13_equals cJ13_equals 3 (some .boolean)) 0 0 D [rv b0, rv b1] h (.returned (some (.int x))) h := by
  refine x_met (by decide +kernel) ?_ ?_
  · simp [lg_sl, rv_cat, cat_i, cat_l]
  intro p e s m below meth c hC hr hnh hin ls hl hX
  replace hl : lv_has ls 3 [(0, rv b0), (1, rv b1)] := by simpa [lv_args, rv_cat, cat_i, cat_l] using hl
  exact w_J13_equals hC hr hnh hin b0 b1 hF s.heap [] 0 0 ls hX hl
theorem gX_J11_15 {p : Program} {l : Launch} {e : Env} {R : Room} {s : State} {m : MethodId} {args : Array Value} {below : List Frame} {meth : Method} {c : Code} {H : Heap} {locs : List Loc} {cells slots nL : Nat} {Q : State → Prop} {D : XD} {h0 h : TH} {cc : ByteArray} {pc : Nat} {ls : Array Slot} {rest : List Value} (hC : XCx D cc nL RJ11 h0 p R s m args meth c) (hX : XSt D s h0 h H locs cells slots) {a : Nat} (hf : hasF (hT h a) 80 = true) (hdg : decode cc pc = .ok (.getfield 15, 3)) (kk : W p l e R s m args below meth c H locs cells slots Q (F0 m (pc + 3) ls (.int (hI h 80 a) :: rest))) : W p l e R s m args below meth c H locs cells slots Q (F0 m pc ls (rv a :: rest)) :=
  X_geti hC hX 80 hf rfl q1065 (fun _ h => h) hdg kk
theorem gX_J11_9 {p : Program} {l : Launch} {e : Env} {R : Room} {s : State} {m : MethodId} {args : Array Value} {below : List Frame} {meth : Method} {c : Code} {H : Heap} {locs : List Loc} {cells slots nL : Nat} {Q : State → Prop} {D : XD} {h0 h : TH} {cc : ByteArray} {pc : Nat} {ls : Array Slot} {rest : List Value} (hC : XCx D cc nL RJ11 h0 p R s m args meth c) (hX : XSt D s h0 h H locs cells slots) {a : Nat} (hf : hasF (hT h a) 79 = true) (hdg : decode cc pc = .ok (.getfield 9, 3)) (kk : W p l e R s m args below meth c H locs cells slots Q (F0 m (pc + 3) ls (rv (hR h 79 a) :: rest))) : W p l e R s m args below meth c H locs cells slots Q (F0 m pc ls (rv a :: rest)) :=
  X_getr hC hX 79 hf rfl (fun q => absurd q (by decide)) q1064 (fun _ h => h) hdg kk
theorem iX_J11_541 {p : Program} {l : Launch} {e : Env} {R : Room} {s : State} {m : MethodId} {args : Array Value} {below : List Frame} {meth : Method} {c : Code} {H : Heap} {locs : List Loc} {cells slots nL : Nat} {Q : State → Prop} {D : XD} {h0 h : TH} {cc : ByteArray} {pc : Nat} {ls : Array Slot} {rest : List Value} (hC : XCx D cc nL RJ11 h0 p R s m args meth c) (hX : XSt D s h0 h H locs cells slots) {b0 : Nat} {b1 : Nat} {x : Int32} (hcF : F_J13_equals D.2.2.2 h b0 b1 = some x) (hl : ls.size = nL) (hW : (rest.map fun v => v.category).sum ≤ 8) (hRf : 0 + 1 ≤ R.frames) (hRl : 22 ≤ R.locals) (hdg : decode cc pc = .ok (.invokestatic 541, 3)) (kk : ∀ (H1 : Heap) (locs1 : List Loc) (cells1 slots1 : Nat), XSt D s h0 h H1 locs1 cells1 slots1 → W p l e R s m args below meth c H1 locs1 cells1 slots1 Q (F0 m (pc + 3) ls (.int x :: rest))) : W p l e R s m args below meth c H locs cells slots Q (F0 m pc ls (rv b1 :: rv b0 :: rest)) := by
  exact X_callS hC hX (As := [rv b0, rv b1]) (m_J13_equals l D b0 b1 h _ hcF) (va_cwS 2 hC.2.2.2.2.1 (lw_S q1098 q1099 q151 q1100) rfl rfl rfl (by decide +kernel) ⟨Nat.le_trans (Nat.le_of_ble_eq_true rfl) hRf, Nat.le_trans (Nat.le_of_ble_eq_true rfl) hRl⟩) rfl rfl hl hW hdg kk
/-! java/lang/String.equals -/
def F_J11_equals_b36 (K : Nat → Nat) (h : TH) (x0 : Nat) (x2 : Nat) : Option Int32 :=
  gd (hasF (hT h x0) 79 = true) <|
  lt (hR h 79 x0) fun r_2 =>
  gd (hasF (hT h x2) 79 = true) <|
  lt (hR h 79 x2) fun r_4 =>
  bd (F_J13_equals K h r_2 r_4) fun r_6 =>
  if r_6 = 0 then
    some (0 : Int32)
  else
    some (1 : Int32)
set_option maxHeartbeats 4000000 in
theorem w_J11_equals_b36 {p : Program} {l : Launch} {e : Env} {s : State} {m : MethodId} {args : Array Value} {below : List Frame} {meth : Method} {c : Code} {D : XD} {h : TH} (hC : XCx D cJ11_equals 3 RJ11 h p (xRm 1 22 h) s m args meth c) (hr : meth.sig.returnType = some .boolean) (hnh : c.exceptionTable.isEmpty = true) (hin : meth.name = "equals") {x : Int32} :
    ∀ (x0 : Nat) (x2 : Nat), F_J11_equals_b36 D.2.2.2 h x0 x2 = some x → XJ p l e (xRm 1 22 h) s m args below meth c D 3 (.returned (some (.int x))) h h 36 [(0, rv x0), (2, rv x2)] [] h := by
  have hx := hC.1
  have hb := hC.2.1
  intro x0 x2 hF H locs cells slots ls hX hl
  rw [F_J11_equals_b36] at hF
  refine X_aload_n hx hb dJ11_equals_36 rfl (lv_at hl 0 rfl) ?_
  obtain ⟨h_1, hF⟩ := gd_ok hF
  refine gX_J11_9 hC hX h_1 dJ11_equals_37 ?_
  refine lv_topr (fun r_2 er_2 => ?_)
  replace hF := lt_at hF er_2
  refine X_aload_n hx hb dJ11_equals_40 rfl (lv_at hl 1 rfl) ?_
  obtain ⟨h_3, hF⟩ := gd_ok hF
  refine gX_J11_9 hC hX h_3 dJ11_equals_41 ?_
  refine lv_topr (fun r_4 er_4 => ?_)
  replace hF := lt_at hF er_4
  obtain ⟨r_6, hc_5, hF⟩ := bd_ok hF
  refine iX_J11_541 hC hX hc_5 hl.1 (Nat.le_of_ble_eq_true rfl) (Nat.le_of_ble_eq_true rfl) (Nat.le_of_ble_eq_true rfl) dJ11_equals_44 (fun H locs cells slots hX => ?_)
  refine lv_if_eq (tgt := 54) hx hb dJ11_equals_47 (by decide) (fun c_7 => ?_) (fun c_7 => ?_)
  · replace hF := it_t hF c_7
    refine lv_iconst (v := 0) hx hb dJ11_equals_54 (by decide) ?_
    exact x_reti hC hX hr rfl (Option.some.inj hF) rfl dJ11_equals_55
  · replace hF := it_f hF c_7
    refine lv_iconst (v := 1) hx hb dJ11_equals_50 (by decide) ?_
    refine lv_goto (tgt := 55) hx hb dJ11_equals_51 (by decide) ?_
    exact x_reti hC hX hr rfl (Option.some.inj hF) rfl dJ11_equals_55
def F_J11_equals (K : Nat → Nat) (h : TH) (a0 : Nat) (b0 : Nat) : Option Int32 :=
  if a0 = b0 then
    some (1 : Int32)
  else
    bd (isI h b0 "java/lang/String") fun r_2 =>
    if r_2 = 0 then
      some (0 : Int32)
    else
      gd (b0 = 0 ∨ castB (hT h b0) "java/lang/String" = true) <|
      if (1 : Int32) = 0 then
        F_J11_equals_b36 K h a0 b0
      else
        gd (hasF (hT h a0) 80 = true) <|
        gd (hasF (hT h b0) 80 = true) <|
        if (hI h 80 a0) = (hI h 80 b0) then
          F_J11_equals_b36 K h a0 b0
        else
          some (0 : Int32)
set_option maxHeartbeats 4000000 in
theorem w_J11_equals {p : Program} {l : Launch} {e : Env} {s : State} {m : MethodId} {args : Array Value} {below : List Frame} {meth : Method} {c : Code} {D : XD} {h : TH} (hC : XCx D cJ11_equals 3 RJ11 h p (xRm 1 22 h) s m args meth c) (hr : meth.sig.returnType = some .boolean) (hnh : c.exceptionTable.isEmpty = true) (hin : meth.name = "equals") {x : Int32} :
    ∀ (a0 : Nat) (b0 : Nat), F_J11_equals D.2.2.2 h a0 b0 = some x → XJ p l e (xRm 1 22 h) s m args below meth c D 3 (.returned (some (.int x))) h h 0 [(0, rv a0), (1, rv b0)] [] h := by
  have hx := hC.1
  have hb := hC.2.1
  intro a0 b0 hF H locs cells slots ls hX hl
  rw [F_J11_equals] at hF
  refine X_aload_n hx hb dJ11_equals_0 rfl (lv_at hl 0 rfl) ?_
  refine X_aload_n hx hb dJ11_equals_1 rfl (lv_at hl 1 rfl) ?_
  refine X_acmp_ne (tgt := 7) hx hb dJ11_equals_2 (by decide) (fun c_1 => ?_) (fun c_1 => ?_)
  · replace hF := it_f hF c_1
    refine X_aload_n hx hb dJ11_equals_7 rfl (lv_at hl 1 rfl) ?_
    obtain ⟨r_2, hc_3, hF⟩ := bd_ok hF
    refine X_inst hC hX hc_3 q1097 dJ11_equals_8 ?_
    refine lv_if_eq (tgt := 54) hx hb dJ11_equals_11 (by decide) (fun c_4 => ?_) (fun c_4 => ?_)
    · replace hF := it_t hF c_4
      refine lv_iconst (v := 0) hx hb dJ11_equals_54 (by decide) ?_
      exact x_reti hC hX hr rfl (Option.some.inj hF) rfl dJ11_equals_55
    · replace hF := it_f hF c_4
      refine X_aload_n hx hb dJ11_equals_14 rfl (lv_at hl 1 rfl) ?_
      obtain ⟨h_5, hF⟩ := gd_ok hF
      refine X_cast hC hX h_5 q1097 dJ11_equals_15 ?_
      refine X_astore_n (i := 2) hx hb dJ11_equals_18 rfl hl (by decide) rfl (fun ls hl => ?_)
      replace hl : lv_has ls 3 [(2, rv b0), (0, rv a0), (1, rv b0)] := lv_subS hl (List.forall_mem_cons.mpr ⟨Or.inl rfl, (List.forall_mem_cons.mpr ⟨Or.inr ⟨List.mem_of_getElem? (i := 0) rfl, rfl⟩, (List.forall_mem_cons.mpr ⟨Or.inr ⟨List.mem_of_getElem? (i := 1) rfl, by simp [rv_cat]⟩, (fun _ h => nomatch h)⟩)⟩)⟩)
      refine sX_J11_38 hC hX dJ11_equals_19 ?_
      refine lv_if_eq (tgt := 36) hx hb dJ11_equals_22 (by decide) (fun c_6 => ?_) (fun c_6 => ?_)
      · replace hF := it_t hF c_6
        exact w_J11_equals_b36 hC hr hnh hin a0 b0 hF H locs cells slots ls hX (lv_sub hl [1, 0] rfl)
      · replace hF := it_f hF c_6
        refine X_aload_n hx hb dJ11_equals_25 rfl (lv_at hl 1 rfl) ?_
        obtain ⟨h_7, hF⟩ := gd_ok hF
        refine gX_J11_15 hC hX h_7 dJ11_equals_26 ?_
        refine X_aload_n hx hb dJ11_equals_29 rfl (lv_at hl 0 rfl) ?_
        obtain ⟨h_8, hF⟩ := gd_ok hF
        refine gX_J11_15 hC hX h_8 dJ11_equals_30 ?_
        refine lv_icmp_ne (tgt := 54) hx hb dJ11_equals_33 (by decide) (fun c_9 => ?_) (fun c_9 => ?_)
        · replace hF := it_f hF c_9
          refine lv_iconst (v := 0) hx hb dJ11_equals_54 (by decide) ?_
          exact x_reti hC hX hr rfl (Option.some.inj hF) rfl dJ11_equals_55
        · replace hF := it_t hF c_9
          exact w_J11_equals_b36 hC hr hnh hin a0 b0 hF H locs cells slots ls hX (lv_sub hl [1, 0] rfl)
  · replace hF := it_t hF c_1
    refine lv_iconst (v := 1) hx hb dJ11_equals_5 (by decide) ?_
    exact x_reti hC hX hr rfl (Option.some.inj hF) rfl dJ11_equals_6
theorem m_J11_equals (l : Launch) (D : XD) (a0 : Nat) (b0 : Nat) (h : TH) (x : Int32) (hF : F_J11_equals D.2.2.2 h a0 b0 = some x) : XMt l yJ11_equals (ws_ yJ11_equals cJ11_equals 3 (some .boolean)) 1 22 D [rv a0, rv b0] h (.returned (some (.int x))) h := by
  refine x_met (by decide +kernel) ?_ ?_
  · simp [lg_sl, rv_cat, cat_i, cat_l]
  intro p e s m below meth c hC hr hnh hin ls hl hX
  replace hl : lv_has ls 3 [(0, rv a0), (1, rv b0)] := by simpa [lv_args, rv_cat, cat_i, cat_l] using hl
  exact w_J11_equals hC hr hnh hin a0 b0 hF s.heap [] 0 0 ls hX hl
theorem gX_X11_46 {p : Program} {l : Launch} {e : Env} {R : Room} {s : State} {m : MethodId} {args : Array Value} {below : List Frame} {meth : Method} {c : Code} {H : Heap} {locs : List Loc} {cells slots nL : Nat} {Q : State → Prop} {D : XD} {h0 h : TH} {cc : ByteArray} {pc : Nat} {ls : Array Slot} {rest : List Value} (hC : XCx D cc nL RX11 h0 p R s m args meth c) (hX : XSt D s h0 h H locs cells slots) {a : Nat} (hf : hasF (hT h a) 68 = true) (hdg : decode cc pc = .ok (.getfield 46, 3)) (kk : W p l e R s m args below meth c H locs cells slots Q (F0 m (pc + 3) ls (.int (hI h 68 a) :: rest))) : W p l e R s m args below meth c H locs cells slots Q (F0 m pc ls (rv a :: rest)) :=
  X_geti hC hX 68 hf rfl q865 (fun _ h => h) hdg kk
theorem gX_X11_17 {p : Program} {l : Launch} {e : Env} {R : Room} {s : State} {m : MethodId} {args : Array Value} {below : List Frame} {meth : Method} {c : Code} {H : Heap} {locs : List Loc} {cells slots nL : Nat} {Q : State → Prop} {D : XD} {h0 h : TH} {cc : ByteArray} {pc : Nat} {ls : Array Slot} {rest : List Value} (hC : XCx D cc nL RX11 h0 p R s m args meth c) (hX : XSt D s h0 h H locs cells slots) {a : Nat} (hf : hasF (hT h a) 72 = true) (hdg : decode cc pc = .ok (.getfield 17, 3)) (kk : W p l e R s m args below meth c H locs cells slots Q (F0 m (pc + 3) ls (rv (hR h 72 a) :: rest))) : W p l e R s m args below meth c H locs cells slots Q (F0 m pc ls (rv a :: rest)) :=
  X_getr hC hX 72 hf rfl (fun q => absurd q (by decide)) q869 (fun _ h => h) hdg kk
theorem iX_X11_80 {p : Program} {l : Launch} {e : Env} {R : Room} {s : State} {m : MethodId} {args : Array Value} {below : List Frame} {meth : Method} {c : Code} {H : Heap} {locs : List Loc} {cells slots nL : Nat} {Q : State → Prop} {D : XD} {h0 h : TH} {cc : ByteArray} {pc : Nat} {ls : Array Slot} {rest : List Value} (hC : XCx D cc nL RX11 h0 p R s m args meth c) (hX : XSt D s h0 h H locs cells slots) {a : Nat} {b0 : Nat} {x : Int32} (ht : hT h a = 9 ∨ hT h a = 41) (hcF : F_J11_equals D.2.2.2 h a b0 = some x) (hl : ls.size = nL) (hW : (rest.map fun v => v.category).sum ≤ 8) (hRf : 1 + 1 ≤ R.frames) (hRl : 44 ≤ R.locals) (hdg : decode cc pc = .ok (.invokevirtual 80, 3)) (kk : ∀ (H1 : Heap) (locs1 : List Loc) (cells1 slots1 : Nat), XSt D s h0 h H1 locs1 cells1 slots1 → W p l e R s m args below meth c H1 locs1 cells1 slots1 Q (F0 m (pc + 3) ls (.int x :: rest))) : W p l e R s m args below meth c H locs cells slots Q (F0 m pc ls (rv b0 :: rv a :: rest)) := by
  rcases ht with q | q
  · exact X_callV hC hX (by rw [q]; decide) (by rw [q]; rfl) (As := [rv b0]) (m_J11_equals l D a b0 h _ hcF) (cwV 1 hC.2.2.2.2.1 (lw_V q1093 q1094 q1095 q149 q1096) rfl rfl rfl (by decide +kernel) ⟨Nat.le_trans (Nat.le_of_ble_eq_true rfl) hRf, Nat.le_trans (Nat.le_of_ble_eq_true rfl) hRl⟩) rfl rfl hl hW hdg kk
  · exact X_callV hC hX (by rw [q]; decide) (by rw [q]; rfl) (As := [rv b0]) (m_J11_equals l D a b0 h _ hcF) (cwV 1 hC.2.2.2.2.1 (lw_V q1093 q1094 q1095 q149 q1096) rfl rfl rfl (by decide +kernel) ⟨Nat.le_trans (Nat.le_of_ble_eq_true rfl) hRf, Nat.le_trans (Nat.le_of_ble_eq_true rfl) hRl⟩) rfl rfl hl hW hdg kk
/-! BlindCards$Reader.is -/
def F_X11_is (K : Nat → Nat) (h : TH) (a0 : Nat) (b0 : Nat) : Option Int32 :=
  gd (hasF (hT h a0) 68 = true) <|
  if (hI h 68 a0) = (1 : Int32) then
    gd (hasF (hT h a0) 72 = true) <|
    lt (hR h 72 a0) fun r_4 =>
    gd (hT h r_4 = 9 ∨ hT h r_4 = 41) <|
    bd (F_J11_equals K h r_4 b0) fun r_7 =>
    if r_7 = 0 then
      some (0 : Int32)
    else
      some (1 : Int32)
  else
    some (0 : Int32)
set_option maxHeartbeats 4000000 in
theorem w_X11_is {p : Program} {l : Launch} {e : Env} {s : State} {m : MethodId} {args : Array Value} {below : List Frame} {meth : Method} {c : Code} {D : XD} {h : TH} (hC : XCx D cX11_is 2 RX11 h p (xRm 2 44 h) s m args meth c) (hr : meth.sig.returnType = some .boolean) (hnh : c.exceptionTable.isEmpty = true) (hin : meth.name = "is") {x : Int32} :
    ∀ (a0 : Nat) (b0 : Nat), F_X11_is D.2.2.2 h a0 b0 = some x → XJ p l e (xRm 2 44 h) s m args below meth c D 2 (.returned (some (.int x))) h h 0 [(0, rv a0), (1, rv b0)] [] h := by
  have hx := hC.1
  have hb := hC.2.1
  intro a0 b0 hF H locs cells slots ls hX hl
  rw [F_X11_is] at hF
  refine X_aload_n hx hb dX11_is_0 rfl (lv_at hl 0 rfl) ?_
  obtain ⟨h_1, hF⟩ := gd_ok hF
  refine gX_X11_46 hC hX h_1 dX11_is_1 ?_
  refine lv_iconst (v := 1) hx hb dX11_is_4 (by decide) ?_
  refine lv_icmp_ne (tgt := 23) hx hb dX11_is_5 (by decide) (fun c_2 => ?_) (fun c_2 => ?_)
  · replace hF := it_f hF c_2
    refine lv_iconst (v := 0) hx hb dX11_is_23 (by decide) ?_
    exact x_reti hC hX hr rfl (Option.some.inj hF) rfl dX11_is_24
  · replace hF := it_t hF c_2
    refine X_aload_n hx hb dX11_is_8 rfl (lv_at hl 0 rfl) ?_
    obtain ⟨h_3, hF⟩ := gd_ok hF
    refine gX_X11_17 hC hX h_3 dX11_is_9 ?_
    refine lv_topr (fun r_4 er_4 => ?_)
    replace hF := lt_at hF er_4
    refine X_aload_n hx hb dX11_is_12 rfl (lv_at hl 1 rfl) ?_
    obtain ⟨h_5, hF⟩ := gd_ok hF
    obtain ⟨r_7, hc_6, hF⟩ := bd_ok hF
    refine iX_X11_80 hC hX h_5 hc_6 hl.1 (Nat.le_of_ble_eq_true rfl) (Nat.le_of_ble_eq_true rfl) (Nat.le_of_ble_eq_true rfl) dX11_is_13 (fun H locs cells slots hX => ?_)
    refine lv_if_eq (tgt := 23) hx hb dX11_is_16 (by decide) (fun c_8 => ?_) (fun c_8 => ?_)
    · replace hF := it_t hF c_8
      refine lv_iconst (v := 0) hx hb dX11_is_23 (by decide) ?_
      exact x_reti hC hX hr rfl (Option.some.inj hF) rfl dX11_is_24
    · replace hF := it_f hF c_8
      refine lv_iconst (v := 1) hx hb dX11_is_19 (by decide) ?_
      refine lv_goto (tgt := 24) hx hb dX11_is_20 (by decide) ?_
      exact x_reti hC hX hr rfl (Option.some.inj hF) rfl dX11_is_24
theorem m_X11_is (l : Launch) (D : XD) (a0 : Nat) (b0 : Nat) (h : TH) (x : Int32) (hF : F_X11_is D.2.2.2 h a0 b0 = some x) : XMt l yX11_is (ws_ yX11_is cX11_is 2 (some .boolean)) 2 44 D [rv a0, rv b0] h (.returned (some (.int x))) h := by
  refine x_met (by decide +kernel) ?_ ?_
  · simp [lg_sl, rv_cat, cat_i, cat_l]
  intro p e s m below meth c hC hr hnh hin ls hl hX
  replace hl : lv_has ls 2 [(0, rv a0), (1, rv b0)] := by simpa [lv_args, rv_cat, cat_i, cat_l] using hl
  exact w_X11_is hC hr hnh hin a0 b0 hF s.heap [] 0 0 ls hX hl
theorem pX_X13_7 {p : Program} {l : Launch} {e : Env} {R : Room} {s : State} {m : MethodId} {args : Array Value} {below : List Frame} {meth : Method} {c : Code} {H : Heap} {locs : List Loc} {cells slots nL : Nat} {Q : State → Prop} {D : XD} {h0 h : TH} {cc : ByteArray} {pc : Nat} {ls : Array Slot} {rest : List Value} (hC : XCx D cc nL RX13 h0 p R s m args meth c) (hX : XSt D s h0 h H locs cells slots) (hinit : meth.name = "<init>") {a : Nat} {v : Nat} (hf : hasF (hT h a) 91 = true) (hw : hT h a ≤ 24) (hsep : (91 = 58 ∨ 91 = 63 ∨ 91 = 66 → hR h 49 a = 0) ∧ (91 = 49 → ∀ g, g = 58 ∨ g = 63 ∨ g = 66 → hasF (hT h a) g = true → hR h g a = v)) (hdg : decode cc pc = .ok (.putfield 7, 3)) (kk : ∀ (H1 : Heap) (locs1 : List Loc), XSt D s h0 (uR h 91 a v) H1 locs1 cells slots → W p l e R s m args below meth c H1 locs1 cells slots Q (F0 m (pc + 3) ls rest)) : W p l e R s m args below meth c H locs cells slots Q (F0 m pc ls (rv v :: rv a :: rest)) :=
  X_putrF hC hX hinit 91 hf hw rfl rfl rfl q1196 hsep hdg kk
/-! BlindCards$Not.<init> -/
def F_X13_init (K : Nat → Nat) (a0 : Nat) (b0 : Nat) (h : TH) : Option TH :=
  gd (a0 ≠ 0) <|
  gd (hasF (hT h a0) 91 = true) <|
  gd (hT h a0 ≤ 24) <|
  lt (uR h 91 a0 b0) fun h_4 =>
  some h_4
set_option maxHeartbeats 4000000 in
theorem w_X13_init {p : Program} {l : Launch} {e : Env} {s : State} {m : MethodId} {args : Array Value} {below : List Frame} {meth : Method} {c : Code} {D : XD} {h0 : TH} (hC : XCx D cX13_init 2 RX13 h0 p (xRm 1 30 h0) s m args meth c) (hr : meth.sig.returnType = none) (hnh : c.exceptionTable.isEmpty = true) (hin : meth.name = "<init>") {x : TH} :
    ∀ (a0 : Nat) (b0 : Nat) (h : TH), F_X13_init D.2.2.2 a0 b0 h = some x → XJ p l e (xRm 1 30 h0) s m args below meth c D 2 (.returned none) h0 x 0 [(0, rv a0), (1, rv b0)] [] h := by
  have hx := hC.1
  have hb := hC.2.1
  intro a0 b0 h hF H locs cells slots ls hX hl
  rw [F_X13_init] at hF
  refine X_aload_n hx hb dX13_init_0 rfl (lv_at hl 0 rfl) ?_
  obtain ⟨h_1, hF⟩ := gd_ok hF
  refine X_objInit hC h_1 q1195 q175 q176 hl.1 (Nat.le_of_ble_eq_true rfl) (objlo (Nat.le_of_ble_eq_true rfl) (Nat.le_of_ble_eq_true rfl)) dX13_init_1 ?_
  refine X_aload_n hx hb dX13_init_4 rfl (lv_at hl 0 rfl) ?_
  refine X_aload_n hx hb dX13_init_5 rfl (lv_at hl 1 rfl) ?_
  obtain ⟨h_2, hF⟩ := gd_ok hF
  obtain ⟨h_3, hF⟩ := gd_ok hF
  refine pX_X13_7 hC hX hin h_2 h_3 ⟨fun q => absurd q (by decide), fun q => absurd q (by decide)⟩ dX13_init_6 (fun H locs hX => ?_)
  obtain ⟨h_4, eh_4, hF⟩ := lt_ok hF
  rw [← eh_4] at hX
  exact x_retv hC hX hr (Option.some.inj hF) dX13_init_9
theorem m_X13_init (l : Launch) (D : XD) (a0 : Nat) (b0 : Nat) (h : TH) (x : TH) (hF : F_X13_init D.2.2.2 a0 b0 h = some x) : XMt l yX13_init (ws_ yX13_init cX13_init 2 (none)) 1 30 D [rv a0, rv b0] h (.returned none) x := by
  refine x_met (by decide +kernel) ?_ ?_
  · simp [lg_sl, rv_cat, cat_i, cat_l]
  intro p e s m below meth c hC hr hnh hin ls hl hX
  replace hl : lv_has ls 2 [(0, rv a0), (1, rv b0)] := by simpa [lv_args, rv_cat, cat_i, cat_l] using hl
  exact w_X13_init hC hr hnh hin a0 b0 h hF s.heap [] 0 0 ls hX hl
theorem iX_X11_86 {p : Program} {l : Launch} {e : Env} {R : Room} {s : State} {m : MethodId} {args : Array Value} {below : List Frame} {meth : Method} {c : Code} {H : Heap} {locs : List Loc} {cells slots nL : Nat} {Q : State → Prop} {D : XD} {h0 h : TH} {cc : ByteArray} {pc : Nat} {ls : Array Slot} {rest : List Value} (hC : XCx D cc nL RX11 h0 p R s m args meth c) (hX : XSt D s h0 h H locs cells slots) {a : Nat} {b0 : Nat} {x : Int32} (ht : hT h a = 7) (hcF : F_X11_is D.2.2.2 h a b0 = some x) (hl : ls.size = nL) (hW : (rest.map fun v => v.category).sum ≤ 8) (hRf : 2 + 1 ≤ R.frames) (hRl : 65 ≤ R.locals) (hdg : decode cc pc = .ok (.invokevirtual 86, 3)) (kk : ∀ (H1 : Heap) (locs1 : List Loc) (cells1 slots1 : Nat), XSt D s h0 h H1 locs1 cells1 slots1 → W p l e R s m args below meth c H1 locs1 cells1 slots1 Q (F0 m (pc + 3) ls (.int x :: rest))) : W p l e R s m args below meth c H locs cells slots Q (F0 m pc ls (rv b0 :: rv a :: rest)) := by
  have q := ht
  exact X_callV hC hX (by rw [q]; decide) (by rw [q]; rfl) (As := [rv b0]) (m_X11_is l D a b0 h _ hcF) (cwV 1 hC.2.2.2.2.1 (lw_V q1089 q1091 qs11 q146 q1092) rfl rfl rfl (by decide +kernel) ⟨Nat.le_trans (Nat.le_of_ble_eq_true rfl) hRf, Nat.le_trans (Nat.le_of_ble_eq_true rfl) hRl⟩) rfl rfl hl hW hdg kk
/-! BlindCards$Reader.isWho -/
def F_X11_isWho (K : Nat → Nat) (h : TH) (a0 : Nat) : Option Int32 :=
  lt ((K 4)) fun r_1 =>
  gd (hT h a0 = 7) <|
  bd (F_X11_is K h a0 r_1) fun r_4 =>
  if r_4 = 0 then
    lt ((K 5)) fun r_6 =>
    gd (hT h a0 = 7) <|
    bd (F_X11_is K h a0 r_6) fun r_9 =>
    if r_9 = 0 then
      lt ((K 6)) fun r_11 =>
      gd (hT h a0 = 7) <|
      bd (F_X11_is K h a0 r_11) fun r_14 =>
      if r_14 = 0 then
        some (0 : Int32)
      else
        some (1 : Int32)
    else
      some (1 : Int32)
  else
    some (1 : Int32)
set_option maxHeartbeats 4000000 in
theorem w_X11_isWho {p : Program} {l : Launch} {e : Env} {s : State} {m : MethodId} {args : Array Value} {below : List Frame} {meth : Method} {c : Code} {D : XD} {h : TH} (hC : XCx D cX11_isWho 1 RX11 h p (xRm 3 65 h) s m args meth c) (hr : meth.sig.returnType = some .boolean) (hnh : c.exceptionTable.isEmpty = true) (hin : meth.name = "isWho") {x : Int32} :
    ∀ (a0 : Nat), F_X11_isWho D.2.2.2 h a0 = some x → XJ p l e (xRm 3 65 h) s m args below meth c D 1 (.returned (some (.int x))) h h 0 [(0, rv a0)] [] h := by
  have hx := hC.1
  have hb := hC.2.1
  intro a0 hF H locs cells slots ls hX hl
  rw [F_X11_isWho] at hF
  refine X_aload_n hx hb dX11_isWho_0 rfl (lv_at hl 0 rfl) ?_
  refine X_ldcS hC (i := 4) (List.mem_of_getElem? (i := 4) rfl) dX11_isWho_1 ?_
  refine lv_topr (fun r_1 er_1 => ?_)
  replace hF := lt_at hF er_1
  obtain ⟨h_2, hF⟩ := gd_ok hF
  obtain ⟨r_4, hc_3, hF⟩ := bd_ok hF
  refine iX_X11_86 hC hX h_2 hc_3 hl.1 (Nat.le_of_ble_eq_true rfl) (Nat.le_of_ble_eq_true rfl) (Nat.le_of_ble_eq_true rfl) dX11_isWho_3 (fun H locs cells slots hX => ?_)
  refine lv_if_ne (tgt := 27) hx hb dX11_isWho_6 (by decide) (fun c_5 => ?_) (fun c_5 => ?_)
  · replace hF := it_f hF c_5
    refine lv_iconst (v := 1) hx hb dX11_isWho_27 (by decide) ?_
    refine lv_goto (tgt := 32) hx hb dX11_isWho_28 (by decide) ?_
    exact x_reti hC hX hr rfl (Option.some.inj hF) rfl dX11_isWho_32
  · replace hF := it_t hF c_5
    refine X_aload_n hx hb dX11_isWho_9 rfl (lv_at hl 0 rfl) ?_
    refine X_ldcS hC (i := 5) (List.mem_of_getElem? (i := 5) rfl) dX11_isWho_10 ?_
    refine lv_topr (fun r_6 er_6 => ?_)
    replace hF := lt_at hF er_6
    obtain ⟨h_7, hF⟩ := gd_ok hF
    obtain ⟨r_9, hc_8, hF⟩ := bd_ok hF
    refine iX_X11_86 hC hX h_7 hc_8 hl.1 (Nat.le_of_ble_eq_true rfl) (Nat.le_of_ble_eq_true rfl) (Nat.le_of_ble_eq_true rfl) dX11_isWho_12 (fun H locs cells slots hX => ?_)
    refine lv_if_ne (tgt := 27) hx hb dX11_isWho_15 (by decide) (fun c_10 => ?_) (fun c_10 => ?_)
    · replace hF := it_f hF c_10
      refine lv_iconst (v := 1) hx hb dX11_isWho_27 (by decide) ?_
      refine lv_goto (tgt := 32) hx hb dX11_isWho_28 (by decide) ?_
      exact x_reti hC hX hr rfl (Option.some.inj hF) rfl dX11_isWho_32
    · replace hF := it_t hF c_10
      refine X_aload_n hx hb dX11_isWho_18 rfl (lv_at hl 0 rfl) ?_
      refine X_ldcS hC (i := 6) (List.mem_of_getElem? (i := 6) rfl) dX11_isWho_19 ?_
      refine lv_topr (fun r_11 er_11 => ?_)
      replace hF := lt_at hF er_11
      obtain ⟨h_12, hF⟩ := gd_ok hF
      obtain ⟨r_14, hc_13, hF⟩ := bd_ok hF
      refine iX_X11_86 hC hX h_12 hc_13 hl.1 (Nat.le_of_ble_eq_true rfl) (Nat.le_of_ble_eq_true rfl) (Nat.le_of_ble_eq_true rfl) dX11_isWho_21 (fun H locs cells slots hX => ?_)
      refine lv_if_eq (tgt := 31) hx hb dX11_isWho_24 (by decide) (fun c_15 => ?_) (fun c_15 => ?_)
      · replace hF := it_t hF c_15
        refine lv_iconst (v := 0) hx hb dX11_isWho_31 (by decide) ?_
        exact x_reti hC hX hr rfl (Option.some.inj hF) rfl dX11_isWho_32
      · replace hF := it_f hF c_15
        refine lv_iconst (v := 1) hx hb dX11_isWho_27 (by decide) ?_
        refine lv_goto (tgt := 32) hx hb dX11_isWho_28 (by decide) ?_
        exact x_reti hC hX hr rfl (Option.some.inj hF) rfl dX11_isWho_32
theorem m_X11_isWho (l : Launch) (D : XD) (a0 : Nat) (h : TH) (x : Int32) (hF : F_X11_isWho D.2.2.2 h a0 = some x) : XMt l yX11_isWho (ws_ yX11_isWho cX11_isWho 1 (some .boolean)) 3 65 D [rv a0] h (.returned (some (.int x))) h := by
  refine x_met (by decide +kernel) ?_ ?_
  · simp [lg_sl, rv_cat, cat_i, cat_l]
  intro p e s m below meth c hC hr hnh hin ls hl hX
  replace hl : lv_has ls 1 [(0, rv a0)] := by simpa [lv_args, rv_cat, cat_i, cat_l] using hl
  exact w_X11_isWho hC hr hnh hin a0 hF s.heap [] 0 0 ls hX hl
theorem pX_J14_7 {p : Program} {l : Launch} {e : Env} {R : Room} {s : State} {m : MethodId} {args : Array Value} {below : List Frame} {meth : Method} {c : Code} {H : Heap} {locs : List Loc} {cells slots nL : Nat} {Q : State → Prop} {D : XD} {h0 h : TH} {cc : ByteArray} {pc : Nat} {ls : Array Slot} {rest : List Value} (hC : XCx D cc nL RJ14 h0 p R s m args meth c) (hX : XSt D s h0 h H locs cells slots) {a : Nat} {v : Nat} (hf : hasF (hT h a) 83 = true) (hw : hT h a ≤ 24) (hdg : decode cc pc = .ok (.putfield 7, 3)) (kk : ∀ (H1 : Heap) (locs1 : List Loc), XSt D s h0 (uR h 83 a v) H1 locs1 cells slots → W p l e R s m args below meth c H1 locs1 cells slots Q (F0 m (pc + 3) ls rest)) : W p l e R s m args below meth c H locs cells slots Q (F0 m pc ls (rv v :: rv a :: rest)) :=
  X_putr hC hX 83 hf hw rfl rfl q1161 (fun _ h => h) hdg kk
theorem sX_J14_13 {p : Program} {l : Launch} {e : Env} {R : Room} {s : State} {m : MethodId} {args : Array Value} {below : List Frame} {meth : Method} {c : Code} {H : Heap} {locs : List Loc} {cells slots nL : Nat} {Q : State → Prop} {D : XD} {h0 h : TH} {cc : ByteArray} {pc : Nat} {ls : Array Slot} {rest : List Value} (hC : XCx D cc nL RJ14 h0 p R s m args meth c) (hX : XSt D s h0 h H locs cells slots) (hdg : decode cc pc = .ok (.getstatic 13, 3)) (kk : W p l e R s m args below meth c H locs cells slots Q (F0 m (pc + 3) ls (rv (D.2.2.2 37) :: rest))) : W p l e R s m args below meth c H locs cells slots Q (F0 m pc ls rest) :=
  X_gets hC hX (q := .inl 37) (List.mem_of_getElem? (i := 7) rfl) q1133 hdg kk
theorem pX_J14_17 {p : Program} {l : Launch} {e : Env} {R : Room} {s : State} {m : MethodId} {args : Array Value} {below : List Frame} {meth : Method} {c : Code} {H : Heap} {locs : List Loc} {cells slots nL : Nat} {Q : State → Prop} {D : XD} {h0 h : TH} {cc : ByteArray} {pc : Nat} {ls : Array Slot} {rest : List Value} (hC : XCx D cc nL RJ14 h0 p R s m args meth c) (hX : XSt D s h0 h H locs cells slots) {a : Nat} {v : Nat} (hf : hasF (hT h a) 84 = true) (hw : hT h a ≤ 24) (hdg : decode cc pc = .ok (.putfield 17, 3)) (kk : ∀ (H1 : Heap) (locs1 : List Loc), XSt D s h0 (uR h 84 a v) H1 locs1 cells slots → W p l e R s m args below meth c H1 locs1 cells slots Q (F0 m (pc + 3) ls rest)) : W p l e R s m args below meth c H locs cells slots Q (F0 m pc ls (rv v :: rv a :: rest)) :=
  X_putr hC hX 84 hf hw rfl rfl q1162 (fun _ h => h) hdg kk
theorem sX_J14_20 {p : Program} {l : Launch} {e : Env} {R : Room} {s : State} {m : MethodId} {args : Array Value} {below : List Frame} {meth : Method} {c : Code} {H : Heap} {locs : List Loc} {cells slots nL : Nat} {Q : State → Prop} {D : XD} {h0 h : TH} {cc : ByteArray} {pc : Nat} {ls : Array Slot} {rest : List Value} (hC : XCx D cc nL RJ14 h0 p R s m args meth c) (hX : XSt D s h0 h H locs cells slots) (hdg : decode cc pc = .ok (.getstatic 20, 3)) (kk : W p l e R s m args below meth c H locs cells slots Q (F0 m (pc + 3) ls (rv (D.2.2.2 38) :: rest))) : W p l e R s m args below meth c H locs cells slots Q (F0 m pc ls rest) :=
  X_gets hC hX (q := .inl 38) (List.mem_of_getElem? (i := 8) rfl) q1135 hdg kk
theorem pX_J14_24 {p : Program} {l : Launch} {e : Env} {R : Room} {s : State} {m : MethodId} {args : Array Value} {below : List Frame} {meth : Method} {c : Code} {H : Heap} {locs : List Loc} {cells slots nL : Nat} {Q : State → Prop} {D : XD} {h0 h : TH} {cc : ByteArray} {pc : Nat} {ls : Array Slot} {rest : List Value} (hC : XCx D cc nL RJ14 h0 p R s m args meth c) (hX : XSt D s h0 h H locs cells slots) {a : Nat} {v : Nat} (hf : hasF (hT h a) 85 = true) (hw : hT h a ≤ 24) (hdg : decode cc pc = .ok (.putfield 24, 3)) (kk : ∀ (H1 : Heap) (locs1 : List Loc), XSt D s h0 (uR h 85 a v) H1 locs1 cells slots → W p l e R s m args below meth c H1 locs1 cells slots Q (F0 m (pc + 3) ls rest)) : W p l e R s m args below meth c H locs cells slots Q (F0 m pc ls (rv v :: rv a :: rest)) :=
  X_putr hC hX 85 hf hw rfl rfl q1163 (fun _ h => h) hdg kk
theorem pX_J14_31 {p : Program} {l : Launch} {e : Env} {R : Room} {s : State} {m : MethodId} {args : Array Value} {below : List Frame} {meth : Method} {c : Code} {H : Heap} {locs : List Loc} {cells slots nL : Nat} {Q : State → Prop} {D : XD} {h0 h : TH} {cc : ByteArray} {pc : Nat} {ls : Array Slot} {rest : List Value} (hC : XCx D cc nL RJ14 h0 p R s m args meth c) (hX : XSt D s h0 h H locs cells slots) {a : Nat} {v : Nat} (hf : hasF (hT h a) 86 = true) (hw : hT h a ≤ 24) (hdg : decode cc pc = .ok (.putfield 31, 3)) (kk : ∀ (H1 : Heap) (locs1 : List Loc), XSt D s h0 (uR h 86 a v) H1 locs1 cells slots → W p l e R s m args below meth c H1 locs1 cells slots Q (F0 m (pc + 3) ls rest)) : W p l e R s m args below meth c H locs cells slots Q (F0 m pc ls (rv v :: rv a :: rest)) :=
  X_putr hC hX 86 hf hw rfl rfl q1160 (fun _ h => h) hdg kk
/-! java/lang/Throwable.<init> -/
def F_J14_init_2 (K : Nat → Nat) (a0 : Nat) (b0 : Nat) (b1 : Nat) (b2 : Int32) (b3 : Int32) (h : TH) : Option TH :=
  gd (a0 ≠ 0) <|
  gd (hasF (hT h a0) 83 = true) <|
  gd (hT h a0 ≤ 24) <|
  lt (uR h 83 a0 a0) fun h_4 =>
  lt ((K 37)) fun r_5 =>
  gd (hasF (hT h_4 a0) 84 = true) <|
  gd (hT h_4 a0 ≤ 24) <|
  lt (uR h_4 84 a0 r_5) fun h_8 =>
  lt ((K 38)) fun r_9 =>
  gd (hasF (hT h_8 a0) 85 = true) <|
  gd (hT h_8 a0 ≤ 24) <|
  lt (uR h_8 85 a0 r_9) fun h_12 =>
  if b3 = 0 then
    gd (hasF (hT h_12 a0) 84 = true) <|
    gd (hT h_12 a0 ≤ 24) <|
    lt (uR h_12 84 a0 0) fun h_16 =>
    gd (hasF (hT h_16 a0) 86 = true) <|
    gd (hT h_16 a0 ≤ 24) <|
    lt (uR h_16 86 a0 b0) fun h_19 =>
    gd (hasF (hT h_19 a0) 83 = true) <|
    gd (hT h_19 a0 ≤ 24) <|
    lt (uR h_19 83 a0 b1) fun h_22 =>
    if b2 = 0 then
      gd (hasF (hT h_22 a0) 85 = true) <|
      gd (hT h_22 a0 ≤ 24) <|
      lt (uR h_22 85 a0 0) fun h_26 =>
      some h_26
    else
      some h_22
  else
    none
set_option maxHeartbeats 4000000 in
theorem w_J14_init_2 {p : Program} {l : Launch} {e : Env} {s : State} {m : MethodId} {args : Array Value} {below : List Frame} {meth : Method} {c : Code} {D : XD} {h0 : TH} (hC : XCx D cJ14_init_2 5 RJ14 h0 p (xRm 1 30 h0) s m args meth c) (hr : meth.sig.returnType = none) (hnh : c.exceptionTable.isEmpty = true) (hin : meth.name = "<init>") {x : TH} :
    ∀ (a0 : Nat) (b0 : Nat) (b1 : Nat) (b2 : Int32) (b3 : Int32) (h : TH), F_J14_init_2 D.2.2.2 a0 b0 b1 b2 b3 h = some x → XJ p l e (xRm 1 30 h0) s m args below meth c D 5 (.returned none) h0 x 0 [(0, rv a0), (1, rv b0), (2, rv b1), (3, .int b2), (4, .int b3)] [] h := by
  have hx := hC.1
  have hb := hC.2.1
  intro a0 b0 b1 b2 b3 h hF H locs cells slots ls hX hl
  rw [F_J14_init_2] at hF
  refine X_aload_n hx hb dJ14_init_2_0 rfl (lv_at hl 0 rfl) ?_
  obtain ⟨h_1, hF⟩ := gd_ok hF
  refine X_objInit hC h_1 q1132 q175 q176 hl.1 (Nat.le_of_ble_eq_true rfl) (objlo (Nat.le_of_ble_eq_true rfl) (Nat.le_of_ble_eq_true rfl)) dJ14_init_2_1 ?_
  refine X_aload_n hx hb dJ14_init_2_4 rfl (lv_at hl 0 rfl) ?_
  refine X_aload_n hx hb dJ14_init_2_5 rfl (lv_at hl 0 rfl) ?_
  obtain ⟨h_2, hF⟩ := gd_ok hF
  obtain ⟨h_3, hF⟩ := gd_ok hF
  refine pX_J14_7 hC hX h_2 h_3 dJ14_init_2_6 (fun H locs hX => ?_)
  obtain ⟨h_4, eh_4, hF⟩ := lt_ok hF
  rw [← eh_4] at hX
  refine X_aload_n hx hb dJ14_init_2_9 rfl (lv_at hl 0 rfl) ?_
  refine sX_J14_13 hC hX dJ14_init_2_10 ?_
  refine lv_topr (fun r_5 er_5 => ?_)
  replace hF := lt_at hF er_5
  obtain ⟨h_6, hF⟩ := gd_ok hF
  obtain ⟨h_7, hF⟩ := gd_ok hF
  refine pX_J14_17 hC hX h_6 h_7 dJ14_init_2_13 (fun H locs hX => ?_)
  obtain ⟨h_8, eh_8, hF⟩ := lt_ok hF
  rw [← eh_8] at hX
  refine X_aload_n hx hb dJ14_init_2_16 rfl (lv_at hl 0 rfl) ?_
  refine sX_J14_20 hC hX dJ14_init_2_17 ?_
  refine lv_topr (fun r_9 er_9 => ?_)
  replace hF := lt_at hF er_9
  obtain ⟨h_10, hF⟩ := gd_ok hF
  obtain ⟨h_11, hF⟩ := gd_ok hF
  refine pX_J14_24 hC hX h_10 h_11 dJ14_init_2_20 (fun H locs hX => ?_)
  obtain ⟨h_12, eh_12, hF⟩ := lt_ok hF
  rw [← eh_12] at hX
  refine lv_iload hx hb dJ14_init_2_23 (lv_at hl 4 rfl) ?_
  refine lv_if_eq (tgt := 36) hx hb dJ14_init_2_25 (by decide) (fun c_13 => ?_) (fun c_13 => ?_)
  · replace hF := it_t hF c_13
    refine X_aload_n hx hb dJ14_init_2_36 rfl (lv_at hl 0 rfl) ?_
    refine X_null hx hb dJ14_init_2_37 ?_
    obtain ⟨h_14, hF⟩ := gd_ok hF
    obtain ⟨h_15, hF⟩ := gd_ok hF
    refine pX_J14_17 hC hX h_14 h_15 dJ14_init_2_38 (fun H locs hX => ?_)
    obtain ⟨h_16, eh_16, hF⟩ := lt_ok hF
    rw [← eh_16] at hX
    refine X_aload_n hx hb dJ14_init_2_41 rfl (lv_at hl 0 rfl) ?_
    refine X_aload_n hx hb dJ14_init_2_42 rfl (lv_at hl 1 rfl) ?_
    obtain ⟨h_17, hF⟩ := gd_ok hF
    obtain ⟨h_18, hF⟩ := gd_ok hF
    refine pX_J14_31 hC hX h_17 h_18 dJ14_init_2_43 (fun H locs hX => ?_)
    obtain ⟨h_19, eh_19, hF⟩ := lt_ok hF
    rw [← eh_19] at hX
    refine X_aload_n hx hb dJ14_init_2_46 rfl (lv_at hl 0 rfl) ?_
    refine X_aload_n hx hb dJ14_init_2_47 rfl (lv_at hl 2 rfl) ?_
    obtain ⟨h_20, hF⟩ := gd_ok hF
    obtain ⟨h_21, hF⟩ := gd_ok hF
    refine pX_J14_7 hC hX h_20 h_21 dJ14_init_2_48 (fun H locs hX => ?_)
    obtain ⟨h_22, eh_22, hF⟩ := lt_ok hF
    rw [← eh_22] at hX
    refine lv_iload_n hx hb dJ14_init_2_51 rfl (lv_at hl 3 rfl) ?_
    refine lv_if_ne (tgt := 60) hx hb dJ14_init_2_52 (by decide) (fun c_23 => ?_) (fun c_23 => ?_)
    · replace hF := it_f hF c_23
      exact x_retv hC hX hr (Option.some.inj hF) dJ14_init_2_60
    · replace hF := it_t hF c_23
      refine X_aload_n hx hb dJ14_init_2_55 rfl (lv_at hl 0 rfl) ?_
      refine X_null hx hb dJ14_init_2_56 ?_
      obtain ⟨h_24, hF⟩ := gd_ok hF
      obtain ⟨h_25, hF⟩ := gd_ok hF
      refine pX_J14_24 hC hX h_24 h_25 dJ14_init_2_57 (fun H locs hX => ?_)
      obtain ⟨h_26, eh_26, hF⟩ := lt_ok hF
      rw [← eh_26] at hX
      exact x_retv hC hX hr (Option.some.inj hF) dJ14_init_2_60
  · replace hF := it_f hF c_13
    refine X_aload_n hx hb dJ14_init_2_28 rfl (lv_at hl 0 rfl) ?_
    exact nm_none hF
theorem m_J14_init_2 (l : Launch) (D : XD) (a0 : Nat) (b0 : Nat) (b1 : Nat) (b2 : Int32) (b3 : Int32) (h : TH) (x : TH) (hF : F_J14_init_2 D.2.2.2 a0 b0 b1 b2 b3 h = some x) : XMt l yJ14_init_2 (ws_ yJ14_init_2 cJ14_init_2 5 (none)) 1 30 D [rv a0, rv b0, rv b1, .int b2, .int b3] h (.returned none) x := by
  refine x_met (by decide +kernel) ?_ ?_
  · simp [lg_sl, rv_cat, cat_i, cat_l]
  intro p e s m below meth c hC hr hnh hin ls hl hX
  replace hl : lv_has ls 5 [(0, rv a0), (1, rv b0), (2, rv b1), (3, .int b2), (4, .int b3)] := by simpa [lv_args, rv_cat, cat_i, cat_l] using hl
  exact w_J14_init_2 hC hr hnh hin a0 b0 b1 b2 b3 h hF s.heap [] 0 0 ls hX hl
theorem iX_J15_16 {p : Program} {l : Launch} {e : Env} {R : Room} {s : State} {m : MethodId} {args : Array Value} {below : List Frame} {meth : Method} {c : Code} {H : Heap} {locs : List Loc} {cells slots nL : Nat} {Q : State → Prop} {D : XD} {h0 h : TH} {cc : ByteArray} {pc : Nat} {ls : Array Slot} {rest : List Value} (hC : XCx D cc nL RJ15 h0 p R s m args meth c) (hX : XSt D s h0 h H locs cells slots) {a : Nat} {b0 : Nat} {b1 : Nat} {b2 : Int32} {b3 : Int32} {x : TH} (ha : a ≠ 0) (hcF : F_J14_init_2 D.2.2.2 a b0 b1 b2 b3 h = some x) (hl : ls.size = nL) (hW : (rest.map fun v => v.category).sum ≤ 8) (hRf : 1 + 1 ≤ R.frames) (hRl : 54 ≤ R.locals) (hdg : decode cc pc = .ok (.invokespecial 16, 3)) (kk : ∀ (H1 : Heap) (locs1 : List Loc) (cells1 slots1 : Nat), XSt D s h0 x H1 locs1 cells1 slots1 → W p l e R s m args below meth c H1 locs1 cells1 slots1 Q (F0 m (pc + 3) ls (rest))) : W p l e R s m args below meth c H locs cells slots Q (F0 m pc ls (.int b3 :: .int b2 :: rv b1 :: rv b0 :: rv a :: rest)) := by
  exact X_callI hC hX ha (As := [rv b0, rv b1, .int b2, .int b3]) (m_J14_init_2 l D a b0 b1 b2 b3 h _ hcF) (cwI 4 hC.2.2.2.2.1 (lw_meth q1154) rfl rfl rfl (hC.2.2.2.2.1 _ q152) (hC.2.2.2.2.1 _ q1152) (hC.2.2.2.2.1 _ q1153) rfl (by decide +kernel) ⟨Nat.le_trans (Nat.le_of_ble_eq_true rfl) hRf, Nat.le_trans (Nat.le_of_ble_eq_true rfl) hRl⟩) rfl rfl hl hW hdg kk
/-! java/lang/Exception.<init> -/
def F_J15_init (K : Nat → Nat) (a0 : Nat) (b0 : Nat) (b1 : Nat) (b2 : Int32) (b3 : Int32) (h : TH) : Option TH :=
  gd (a0 ≠ 0) <|
  bd (F_J14_init_2 K a0 b0 b1 b2 b3 h) fun h_3 =>
  some h_3
set_option maxHeartbeats 4000000 in
theorem w_J15_init {p : Program} {l : Launch} {e : Env} {s : State} {m : MethodId} {args : Array Value} {below : List Frame} {meth : Method} {c : Code} {D : XD} {h0 : TH} (hC : XCx D cJ15_init 5 RJ15 h0 p (xRm 2 54 h0) s m args meth c) (hr : meth.sig.returnType = none) (hnh : c.exceptionTable.isEmpty = true) (hin : meth.name = "<init>") {x : TH} :
    ∀ (a0 : Nat) (b0 : Nat) (b1 : Nat) (b2 : Int32) (b3 : Int32) (h : TH), F_J15_init D.2.2.2 a0 b0 b1 b2 b3 h = some x → XJ p l e (xRm 2 54 h0) s m args below meth c D 5 (.returned none) h0 x 0 [(0, rv a0), (1, rv b0), (2, rv b1), (3, .int b2), (4, .int b3)] [] h := by
  have hx := hC.1
  have hb := hC.2.1
  intro a0 b0 b1 b2 b3 h hF H locs cells slots ls hX hl
  rw [F_J15_init] at hF
  refine X_aload_n hx hb dJ15_init_0 rfl (lv_at hl 0 rfl) ?_
  refine X_aload_n hx hb dJ15_init_1 rfl (lv_at hl 1 rfl) ?_
  refine X_aload_n hx hb dJ15_init_2 rfl (lv_at hl 2 rfl) ?_
  refine lv_iload_n hx hb dJ15_init_3 rfl (lv_at hl 3 rfl) ?_
  refine lv_iload hx hb dJ15_init_4 (lv_at hl 4 rfl) ?_
  obtain ⟨h_1, hF⟩ := gd_ok hF
  obtain ⟨h_3, hc_2, hF⟩ := bd_ok hF
  refine iX_J15_16 hC hX h_1 hc_2 hl.1 (Nat.le_of_ble_eq_true rfl) (Nat.le_of_ble_eq_true rfl) (Nat.le_of_ble_eq_true rfl) dJ15_init_6 (fun H locs cells slots hX => ?_)
  exact x_retv hC hX hr (Option.some.inj hF) dJ15_init_9
theorem m_J15_init (l : Launch) (D : XD) (a0 : Nat) (b0 : Nat) (b1 : Nat) (b2 : Int32) (b3 : Int32) (h : TH) (x : TH) (hF : F_J15_init D.2.2.2 a0 b0 b1 b2 b3 h = some x) : XMt l yJ15_init (ws_ yJ15_init cJ15_init 5 (none)) 2 54 D [rv a0, rv b0, rv b1, .int b2, .int b3] h (.returned none) x := by
  refine x_met (by decide +kernel) ?_ ?_
  · simp [lg_sl, rv_cat, cat_i, cat_l]
  intro p e s m below meth c hC hr hnh hin ls hl hX
  replace hl : lv_has ls 5 [(0, rv a0), (1, rv b0), (2, rv b1), (3, .int b2), (4, .int b3)] := by simpa [lv_args, rv_cat, cat_i, cat_l] using hl
  exact w_J15_init hC hr hnh hin a0 b0 b1 b2 b3 h hF s.heap [] 0 0 ls hX hl
theorem iX_X12_1 {p : Program} {l : Launch} {e : Env} {R : Room} {s : State} {m : MethodId} {args : Array Value} {below : List Frame} {meth : Method} {c : Code} {H : Heap} {locs : List Loc} {cells slots nL : Nat} {Q : State → Prop} {D : XD} {h0 h : TH} {cc : ByteArray} {pc : Nat} {ls : Array Slot} {rest : List Value} (hC : XCx D cc nL RX12 h0 p R s m args meth c) (hX : XSt D s h0 h H locs cells slots) {a : Nat} {b0 : Nat} {b1 : Nat} {b2 : Int32} {b3 : Int32} {x : TH} (ha : a ≠ 0) (hcF : F_J15_init D.2.2.2 a b0 b1 b2 b3 h = some x) (hl : ls.size = nL) (hW : (rest.map fun v => v.category).sum ≤ 8) (hRf : 2 + 1 ≤ R.frames) (hRl : 78 ≤ R.locals) (hdg : decode cc pc = .ok (.invokespecial 1, 3)) (kk : ∀ (H1 : Heap) (locs1 : List Loc) (cells1 slots1 : Nat), XSt D s h0 x H1 locs1 cells1 slots1 → W p l e R s m args below meth c H1 locs1 cells1 slots1 Q (F0 m (pc + 3) ls (rest))) : W p l e R s m args below meth c H locs cells slots Q (F0 m pc ls (.int b3 :: .int b2 :: rv b1 :: rv b0 :: rv a :: rest)) := by
  exact X_callI hC hX ha (As := [rv b0, rv b1, .int b2, .int b3]) (m_J15_init l D a b0 b1 b2 b3 h _ hcF) (cwI 4 hC.2.2.2.2.1 (lw_meth q1151) rfl rfl rfl (hC.2.2.2.2.1 _ q153) (hC.2.2.2.2.1 _ q1149) (hC.2.2.2.2.1 _ q1150) rfl (by decide +kernel) ⟨Nat.le_trans (Nat.le_of_ble_eq_true rfl) hRf, Nat.le_trans (Nat.le_of_ble_eq_true rfl) hRl⟩) rfl rfl hl hW hdg kk
theorem pX_X12_7 {p : Program} {l : Launch} {e : Env} {R : Room} {s : State} {m : MethodId} {args : Array Value} {below : List Frame} {meth : Method} {c : Code} {H : Heap} {locs : List Loc} {cells slots nL : Nat} {Q : State → Prop} {D : XD} {h0 h : TH} {cc : ByteArray} {pc : Nat} {ls : Array Slot} {rest : List Value} (hC : XCx D cc nL RX12 h0 p R s m args meth c) (hX : XSt D s h0 h H locs cells slots) (hinit : meth.name = "<init>") {a : Nat} {v : Int32} (hf : hasF (hT h a) 89 = true) (hw : hT h a ≤ 24) (hdg : decode cc pc = .ok (.putfield 7, 3)) (kk : ∀ (H1 : Heap) (locs1 : List Loc), XSt D s h0 (uI h 89 a v) H1 locs1 cells slots → W p l e R s m args below meth c H1 locs1 cells slots Q (F0 m (pc + 3) ls rest)) : W p l e R s m args below meth c H locs cells slots Q (F0 m pc ls (.int v :: rv a :: rest)) :=
  X_putiF hC hX hinit 89 hf hw rfl rfl rfl q1155 ⟨rfl, rfl⟩ hdg kk
theorem pX_X12_13 {p : Program} {l : Launch} {e : Env} {R : Room} {s : State} {m : MethodId} {args : Array Value} {below : List Frame} {meth : Method} {c : Code} {H : Heap} {locs : List Loc} {cells slots nL : Nat} {Q : State → Prop} {D : XD} {h0 h : TH} {cc : ByteArray} {pc : Nat} {ls : Array Slot} {rest : List Value} (hC : XCx D cc nL RX12 h0 p R s m args meth c) (hX : XSt D s h0 h H locs cells slots) (hinit : meth.name = "<init>") {a : Nat} {v : Int32} (hf : hasF (hT h a) 90 = true) (hw : hT h a ≤ 24) (hdg : decode cc pc = .ok (.putfield 13, 3)) (kk : ∀ (H1 : Heap) (locs1 : List Loc), XSt D s h0 (uI h 90 a v) H1 locs1 cells slots → W p l e R s m args below meth c H1 locs1 cells slots Q (F0 m (pc + 3) ls rest)) : W p l e R s m args below meth c H locs cells slots Q (F0 m pc ls (.int v :: rv a :: rest)) :=
  X_putiF hC hX hinit 90 hf hw rfl rfl rfl q1157 ⟨rfl, rfl⟩ hdg kk
/-! BlindCards$Wrong.<init> -/
def F_X12_init (K : Nat → Nat) (a0 : Nat) (b0 : Int32) (b1 : Int32) (h : TH) : Option TH :=
  gd (a0 ≠ 0) <|
  bd (F_J15_init K a0 0 0 (0 : Int32) (0 : Int32) h) fun h_3 =>
  gd (hasF (hT h_3 a0) 89 = true) <|
  gd (hT h_3 a0 ≤ 24) <|
  lt (uI h_3 89 a0 b0) fun h_6 =>
  gd (hasF (hT h_6 a0) 90 = true) <|
  gd (hT h_6 a0 ≤ 24) <|
  lt (uI h_6 90 a0 b1) fun h_9 =>
  some h_9
set_option maxHeartbeats 4000000 in
theorem w_X12_init {p : Program} {l : Launch} {e : Env} {s : State} {m : MethodId} {args : Array Value} {below : List Frame} {meth : Method} {c : Code} {D : XD} {h0 : TH} (hC : XCx D cX12_init 3 RX12 h0 p (xRm 3 78 h0) s m args meth c) (hr : meth.sig.returnType = none) (hnh : c.exceptionTable.isEmpty = true) (hin : meth.name = "<init>") {x : TH} :
    ∀ (a0 : Nat) (b0 : Int32) (b1 : Int32) (h : TH), F_X12_init D.2.2.2 a0 b0 b1 h = some x → XJ p l e (xRm 3 78 h0) s m args below meth c D 3 (.returned none) h0 x 0 [(0, rv a0), (1, .int b0), (2, .int b1)] [] h := by
  have hx := hC.1
  have hb := hC.2.1
  intro a0 b0 b1 h hF H locs cells slots ls hX hl
  rw [F_X12_init] at hF
  refine X_aload_n hx hb dX12_init_0 rfl (lv_at hl 0 rfl) ?_
  refine X_null hx hb dX12_init_1 ?_
  refine X_null hx hb dX12_init_2 ?_
  refine lv_iconst (v := 0) hx hb dX12_init_3 (by decide) ?_
  refine lv_iconst (v := 0) hx hb dX12_init_4 (by decide) ?_
  obtain ⟨h_1, hF⟩ := gd_ok hF
  obtain ⟨h_3, hc_2, hF⟩ := bd_ok hF
  refine iX_X12_1 hC hX h_1 hc_2 hl.1 (Nat.le_of_ble_eq_true rfl) (Nat.le_of_ble_eq_true rfl) (Nat.le_of_ble_eq_true rfl) dX12_init_5 (fun H locs cells slots hX => ?_)
  refine X_aload_n hx hb dX12_init_8 rfl (lv_at hl 0 rfl) ?_
  refine lv_iload_n hx hb dX12_init_9 rfl (lv_at hl 1 rfl) ?_
  obtain ⟨h_4, hF⟩ := gd_ok hF
  obtain ⟨h_5, hF⟩ := gd_ok hF
  refine pX_X12_7 hC hX hin h_4 h_5 dX12_init_10 (fun H locs hX => ?_)
  obtain ⟨h_6, eh_6, hF⟩ := lt_ok hF
  rw [← eh_6] at hX
  refine X_aload_n hx hb dX12_init_13 rfl (lv_at hl 0 rfl) ?_
  refine lv_iload_n hx hb dX12_init_14 rfl (lv_at hl 2 rfl) ?_
  obtain ⟨h_7, hF⟩ := gd_ok hF
  obtain ⟨h_8, hF⟩ := gd_ok hF
  refine pX_X12_13 hC hX hin h_7 h_8 dX12_init_15 (fun H locs hX => ?_)
  obtain ⟨h_9, eh_9, hF⟩ := lt_ok hF
  rw [← eh_9] at hX
  exact x_retv hC hX hr (Option.some.inj hF) dX12_init_18
theorem m_X12_init (l : Launch) (D : XD) (a0 : Nat) (b0 : Int32) (b1 : Int32) (h : TH) (x : TH) (hF : F_X12_init D.2.2.2 a0 b0 b1 h = some x) : XMt l yX12_init (ws_ yX12_init cX12_init 3 (none)) 3 78 D [rv a0, .int b0, .int b1] h (.returned none) x := by
  refine x_met (by decide +kernel) ?_ ?_
  · simp [lg_sl, rv_cat, cat_i, cat_l]
  intro p e s m below meth c hC hr hnh hin ls hl hX
  replace hl : lv_has ls 3 [(0, rv a0), (1, .int b0), (2, .int b1)] := by simpa [lv_args, rv_cat, cat_i, cat_l] using hl
  exact w_X12_init hC hr hnh hin a0 b0 b1 h hF s.heap [] 0 0 ls hX hl
theorem nX_X11_75 {p : Program} {l : Launch} {e : Env} {R : Room} {s : State} {m : MethodId} {args : Array Value} {below : List Frame} {meth : Method} {c : Code} {H : Heap} {locs : List Loc} {cells slots nL : Nat} {Q : State → Prop} {D : XD} {h0 h : TH} {cc : ByteArray} {pc : Nat} {ls : Array Slot} {rest : List Value} (hC : XCx D cc nL RX11 h0 p R s m args meth c) (hX : XSt D s h0 h H locs cells slots) (hroom : hc h + 1 ≤ XC ∧ hs h + 8 ≤ XS) (hdg : decode cc pc = .ok (.new 75, 3)) (kk : ∀ (H1 : Heap) (cells1 slots1 : Nat), XSt D s h0 (nO h 10 8) H1 locs cells1 slots1 → W p l e R s m args below meth c H1 locs cells1 slots1 Q (F0 m (pc + 3) ls (rv (hz h + 1) :: rest))) : W p l e R s m args below meth c H locs cells slots Q (F0 m pc ls rest) :=
  X_new hC hX 10 ⟨by decide, by decide⟩ rfl q1109 q1110 q154 hroom hdg kk
theorem gX_X11_43 {p : Program} {l : Launch} {e : Env} {R : Room} {s : State} {m : MethodId} {args : Array Value} {below : List Frame} {meth : Method} {c : Code} {H : Heap} {locs : List Loc} {cells slots nL : Nat} {Q : State → Prop} {D : XD} {h0 h : TH} {cc : ByteArray} {pc : Nat} {ls : Array Slot} {rest : List Value} (hC : XCx D cc nL RX11 h0 p R s m args meth c) (hX : XSt D s h0 h H locs cells slots) {a : Nat} (hf : hasF (hT h a) 69 = true) (hdg : decode cc pc = .ok (.getfield 43, 3)) (kk : W p l e R s m args below meth c H locs cells slots Q (F0 m (pc + 3) ls (.int (hI h 69 a) :: rest))) : W p l e R s m args below meth c H locs cells slots Q (F0 m pc ls (rv a :: rest)) :=
  X_geti hC hX 69 hf rfl q866 (fun _ h => h) hdg kk
theorem iX_X11_77 {p : Program} {l : Launch} {e : Env} {R : Room} {s : State} {m : MethodId} {args : Array Value} {below : List Frame} {meth : Method} {c : Code} {H : Heap} {locs : List Loc} {cells slots nL : Nat} {Q : State → Prop} {D : XD} {h0 h : TH} {cc : ByteArray} {pc : Nat} {ls : Array Slot} {rest : List Value} (hC : XCx D cc nL RX11 h0 p R s m args meth c) (hX : XSt D s h0 h H locs cells slots) {a : Nat} {b0 : Int32} {b1 : Int32} {x : TH} (ha : a ≠ 0) (hcF : F_X12_init D.2.2.2 a b0 b1 h = some x) (hl : ls.size = nL) (hW : (rest.map fun v => v.category).sum ≤ 8) (hRf : 3 + 1 ≤ R.frames) (hRl : 100 ≤ R.locals) (hdg : decode cc pc = .ok (.invokespecial 77, 3)) (kk : ∀ (H1 : Heap) (locs1 : List Loc) (cells1 slots1 : Nat), XSt D s h0 x H1 locs1 cells1 slots1 → W p l e R s m args below meth c H1 locs1 cells1 slots1 Q (F0 m (pc + 3) ls (rest))) : W p l e R s m args below meth c H locs cells slots Q (F0 m pc ls (.int b1 :: .int b0 :: rv a :: rest)) := by
  exact X_callI hC hX ha (As := [.int b0, .int b1]) (m_X12_init l D a b0 b1 h _ hcF) (cwI 2 hC.2.2.2.2.1 (lw_meth q1148) rfl rfl rfl (hC.2.2.2.2.1 _ q154) (hC.2.2.2.2.1 _ q1146) (hC.2.2.2.2.1 _ q1147) rfl (by decide +kernel) ⟨Nat.le_trans (Nat.le_of_ble_eq_true rfl) hRf, Nat.le_trans (Nat.le_of_ble_eq_true rfl) hRl⟩) rfl rfl hl hW hdg kk
/-! BlindCards$Reader.wrong -/
def F_X11_wrong_b17 (K : Nat → Nat) (x0 : Nat) (y0 : Int32) (y1 : Nat) (y2 : Nat) (h : TH) : Option (Nat × TH) :=
  gd (hasF (hT h x0) 69 = true) <|
  gd (y1 ≠ 0) <|
  bd (F_X12_init K y1 y0 (hI h 69 x0) h) fun h_4 =>
  some (y2, h_4)
set_option maxHeartbeats 4000000 in
theorem w_X11_wrong_b17 {p : Program} {l : Launch} {e : Env} {s : State} {m : MethodId} {args : Array Value} {below : List Frame} {meth : Method} {c : Code} {D : XD} {h0 : TH} (hC : XCx D cX11_wrong 1 RX11 h0 p (xRm 4 100 h0) s m args meth c) (hr : meth.sig.returnType = some (.object "BlindCards$Wrong")) (hnh : c.exceptionTable.isEmpty = true) (hin : meth.name = "wrong") {x : (Nat × TH)} :
    ∀ (x0 : Nat) (y0 : Int32) (y1 : Nat) (y2 : Nat) (h : TH), F_X11_wrong_b17 D.2.2.2 x0 y0 y1 y2 h = some x → XJ p l e (xRm 4 100 h0) s m args below meth c D 1 (.returned (some (rv x.1))) h0 x.2 17 [(0, rv x0)] [.int y0, rv y1, rv y2] h := by
  have hx := hC.1
  have hb := hC.2.1
  intro x0 y0 y1 y2 h hF H locs cells slots ls hX hl
  rw [F_X11_wrong_b17] at hF
  refine X_aload_n hx hb dX11_wrong_17 rfl (lv_at hl 0 rfl) ?_
  obtain ⟨h_1, hF⟩ := gd_ok hF
  refine gX_X11_43 hC hX h_1 dX11_wrong_18 ?_
  obtain ⟨h_2, hF⟩ := gd_ok hF
  obtain ⟨h_4, hc_3, hF⟩ := bd_ok hF
  refine iX_X11_77 hC hX h_2 hc_3 hl.1 (cat4 (Nat.le_of_ble_eq_true rfl)) (Nat.le_of_ble_eq_true rfl) (Nat.le_of_ble_eq_true rfl) dX11_wrong_21 (fun H locs cells slots hX => ?_)
  exact x_reta hC hX hr (Or.inl ⟨_, rfl⟩) (rt1 hF) (rt2 hF) dX11_wrong_24
def F_X11_wrong (K : Nat → Nat) (a0 : Nat) (h : TH) : Option (Nat × TH) :=
  gd (hc h + 1 ≤ XC ∧ hs h + 8 ≤ XS) <|
  lt (hz h + 1) fun r_2 =>
  lt (nO h 10 8) fun h_3 =>
  gd (hasF (hT h_3 a0) 68 = true) <|
  if (hI h_3 68 a0) = (3 : Int32) then
    F_X11_wrong_b17 K a0 (1 : Int32) r_2 r_2 h_3
  else
    F_X11_wrong_b17 K a0 (2 : Int32) r_2 r_2 h_3
set_option maxHeartbeats 4000000 in
theorem w_X11_wrong {p : Program} {l : Launch} {e : Env} {s : State} {m : MethodId} {args : Array Value} {below : List Frame} {meth : Method} {c : Code} {D : XD} {h0 : TH} (hC : XCx D cX11_wrong 1 RX11 h0 p (xRm 4 100 h0) s m args meth c) (hr : meth.sig.returnType = some (.object "BlindCards$Wrong")) (hnh : c.exceptionTable.isEmpty = true) (hin : meth.name = "wrong") {x : (Nat × TH)} :
    ∀ (a0 : Nat) (h : TH), F_X11_wrong D.2.2.2 a0 h = some x → XJ p l e (xRm 4 100 h0) s m args below meth c D 1 (.returned (some (rv x.1))) h0 x.2 0 [(0, rv a0)] [] h := by
  have hx := hC.1
  have hb := hC.2.1
  intro a0 h hF H locs cells slots ls hX hl
  rw [F_X11_wrong] at hF
  obtain ⟨h_1, hF⟩ := gd_ok hF
  refine nX_X11_75 hC hX h_1 dX11_wrong_0 (fun H cells slots hX => ?_)
  refine lv_topr (fun r_2 er_2 => ?_)
  replace hF := lt_at hF er_2
  obtain ⟨h_3, eh_3, hF⟩ := lt_ok hF
  rw [← eh_3] at hX
  refine lv_dup hx hb dX11_wrong_3 (rv_cat _) ?_
  refine X_aload_n hx hb dX11_wrong_4 rfl (lv_at hl 0 rfl) ?_
  obtain ⟨h_4, hF⟩ := gd_ok hF
  refine gX_X11_46 hC hX h_4 dX11_wrong_5 ?_
  refine lv_iconst (v := 3) hx hb dX11_wrong_8 (by decide) ?_
  refine lv_icmp_ne (tgt := 16) hx hb dX11_wrong_9 (by decide) (fun c_5 => ?_) (fun c_5 => ?_)
  · replace hF := it_f hF c_5
    refine lv_iconst (v := 2) hx hb dX11_wrong_16 (by decide) ?_
    exact w_X11_wrong_b17 hC hr hnh hin a0 (2 : Int32) r_2 r_2 h_3 hF H locs cells slots ls hX (lv_sub hl [0] rfl)
  · replace hF := it_t hF c_5
    refine lv_iconst (v := 1) hx hb dX11_wrong_12 (by decide) ?_
    refine lv_goto (tgt := 17) hx hb dX11_wrong_13 (by decide) ?_
    exact w_X11_wrong_b17 hC hr hnh hin a0 (1 : Int32) r_2 r_2 h_3 hF H locs cells slots ls hX (lv_sub hl [0] rfl)
theorem m_X11_wrong (l : Launch) (D : XD) (a0 : Nat) (h : TH) (x : (Nat × TH)) (hF : F_X11_wrong D.2.2.2 a0 h = some x) : XMt l yX11_wrong (ws_ yX11_wrong cX11_wrong 1 (some (.object "BlindCards$Wrong"))) 4 100 D [rv a0] h (.returned (some (rv x.1))) x.2 := by
  refine x_met (by decide +kernel) ?_ ?_
  · simp [lg_sl, rv_cat, cat_i, cat_l]
  intro p e s m below meth c hC hr hnh hin ls hl hX
  replace hl : lv_has ls 1 [(0, rv a0)] := by simpa [lv_args, rv_cat, cat_i, cat_l] using hl
  exact w_X11_wrong hC hr hnh hin a0 h hF s.heap [] 0 0 ls hX hl
theorem gX_X11_24 {p : Program} {l : Launch} {e : Env} {R : Room} {s : State} {m : MethodId} {args : Array Value} {below : List Frame} {meth : Method} {c : Code} {H : Heap} {locs : List Loc} {cells slots nL : Nat} {Q : State → Prop} {D : XD} {h0 h : TH} {cc : ByteArray} {pc : Nat} {ls : Array Slot} {rest : List Value} (hC : XCx D cc nL RX11 h0 p R s m args meth c) (hX : XSt D s h0 h H locs cells slots) {a : Nat} (hf : hasF (hT h a) 73 = true) (hdg : decode cc pc = .ok (.getfield 24, 3)) (kk : W p l e R s m args below meth c H locs cells slots Q (F0 m (pc + 3) ls (rv (hR h 73 a) :: rest))) : W p l e R s m args below meth c H locs cells slots Q (F0 m pc ls (rv a :: rest)) :=
  X_getr hC hX 73 hf rfl (fun q => absurd q (by decide)) q870 (fun _ h => h) hdg kk
theorem gX_X11_199 {p : Program} {l : Launch} {e : Env} {R : Room} {s : State} {m : MethodId} {args : Array Value} {below : List Frame} {meth : Method} {c : Code} {H : Heap} {locs : List Loc} {cells slots nL : Nat} {Q : State → Prop} {D : XD} {h0 h : TH} {cc : ByteArray} {pc : Nat} {ls : Array Slot} {rest : List Value} (hC : XCx D cc nL RX11 h0 p R s m args meth c) (hX : XSt D s h0 h H locs cells slots) {a : Nat} (hf : hasF (hT h a) 33 = true) (hdg : decode cc pc = .ok (.getfield 199, 3)) (kk : W p l e R s m args below meth c H locs cells slots Q (F0 m (pc + 3) ls (.int (hI h 33 a) :: rest))) : W p l e R s m args below meth c H locs cells slots Q (F0 m pc ls (rv a :: rest)) :=
  X_geti hC hX 33 hf rfl q229 (fun _ h => h) hdg kk
theorem iX_X11_94 {p : Program} {l : Launch} {e : Env} {R : Room} {s : State} {m : MethodId} {args : Array Value} {below : List Frame} {meth : Method} {c : Code} {H : Heap} {locs : List Loc} {cells slots nL : Nat} {Q : State → Prop} {D : XD} {h0 h : TH} {cc : ByteArray} {pc : Nat} {ls : Array Slot} {rest : List Value} (hC : XCx D cc nL RX11 h0 p R s m args meth c) (hX : XSt D s h0 h H locs cells slots) {a : Nat} {x : TH} (ht : hT h a = 7) (hcF : F_X11_go D.2.2.2 a h = some x) (hl : ls.size = nL) (hW : (rest.map fun v => v.category).sum ≤ 8) (hRf : 6 + 1 ≤ R.frames) (hRl : 194 ≤ R.locals) (hdg : decode cc pc = .ok (.invokevirtual 94, 3)) (kk : ∀ (H1 : Heap) (locs1 : List Loc) (cells1 slots1 : Nat), XSt D s h0 x H1 locs1 cells1 slots1 → W p l e R s m args below meth c H1 locs1 cells1 slots1 Q (F0 m (pc + 3) ls (rest))) : W p l e R s m args below meth c H locs cells slots Q (F0 m pc ls (rv a :: rest)) := by
  have q := ht
  exact X_callV hC hX (by rw [q]; decide) (by rw [q]; rfl) (As := []) (m_X11_go l D a h _ hcF) (cwV 0 hC.2.2.2.2.1 (lw_V q893 q895 qs6 q146 q896) rfl rfl rfl (by decide +kernel) ⟨Nat.le_trans (Nat.le_of_ble_eq_true rfl) hRf, Nat.le_trans (Nat.le_of_ble_eq_true rfl) hRl⟩) rfl rfl hl hW hdg kk
theorem iX_X11_90 {p : Program} {l : Launch} {e : Env} {R : Room} {s : State} {m : MethodId} {args : Array Value} {below : List Frame} {meth : Method} {c : Code} {H : Heap} {locs : List Loc} {cells slots nL : Nat} {Q : State → Prop} {D : XD} {h0 h : TH} {cc : ByteArray} {pc : Nat} {ls : Array Slot} {rest : List Value} {h1 : TH} (hC : XCx D cc nL RX11 h0 p R s m args meth c) (hX : XSt D s h0 h H locs cells slots) {a : Nat} {x : Nat} (ht : hT h a = 7) (hcF : F_X11_wrong D.2.2.2 a h = some (x, h1)) (hl : ls.size = nL) (hW : (rest.map fun v => v.category).sum ≤ 8) (hRf : 4 + 1 ≤ R.frames) (hRl : 120 ≤ R.locals) (hdg : decode cc pc = .ok (.invokevirtual 90, 3)) (kk : ∀ (H1 : Heap) (locs1 : List Loc) (cells1 slots1 : Nat), XSt D s h0 h1 H1 locs1 cells1 slots1 → W p l e R s m args below meth c H1 locs1 cells1 slots1 Q (F0 m (pc + 3) ls (rv x :: rest))) : W p l e R s m args below meth c H locs cells slots Q (F0 m pc ls (rv a :: rest)) := by
  have q := ht
  exact X_callV hC hX (by rw [q]; decide) (by rw [q]; rfl) (As := []) (m_X11_wrong l D a h _ hcF) (cwV 0 hC.2.2.2.2.1 (lw_V q1105 q1107 qs13 q146 q1108) rfl rfl rfl (by decide +kernel) ⟨Nat.le_trans (Nat.le_of_ble_eq_true rfl) hRf, Nat.le_trans (Nat.le_of_ble_eq_true rfl) hRl⟩) rfl rfl hl hW hdg kk
/-! BlindCards$Reader.who -/
def F_X11_who_b40 (K : Nat → Nat) (x0 : Nat) (y0 : Int32) (h : TH) : Option ((Int32 ⊕ Nat) × TH) :=
  if 0 ≤ y0 then
    gd (hasF (hT h x0) 73 = true) <|
    lt (hR h 73 x0) fun r_3 =>
    gd (hasF (hT h r_3) 33 = true) <|
    if y0 < (hI h 33 r_3) then
      gd (hT h x0 = 7) <|
      bd (F_X11_go K x0 h) fun h_8 =>
      some (.inl y0, h_8)
    else
      gd (hc h + 1 ≤ XC ∧ hs h + 8 ≤ XS) <|
      lt (hz h + 1) fun r_10 =>
      lt (nO h 10 8) fun h_11 =>
      gd (hasF (hT h_11 x0) 69 = true) <|
      gd (r_10 ≠ 0) <|
      bd (F_X12_init K r_10 (4 : Int32) (hI h_11 69 x0) h_11) fun h_15 =>
      gd (r_10 ≠ 0) <|
      some (.inr r_10, h_15)
  else
    gd (hT h x0 = 7) <|
    bd2 (F_X11_wrong K x0 h) fun r_20 h_19 =>
    gd (r_20 ≠ 0) <|
    some (.inr r_20, h_19)
set_option maxHeartbeats 4000000 in
theorem w_X11_who_b40 {p : Program} {l : Launch} {e : Env} {s : State} {m : MethodId} {args : Array Value} {below : List Frame} {meth : Method} {c : Code} {D : XD} {h0 : TH} (hC : XCx D cX11_who 2 RX11 h0 p (xRm 7 194 h0) s m args meth c) (hr : meth.sig.returnType = some .int) (hnh : c.exceptionTable.isEmpty = true) (hin : meth.name = "who") {x : ((Int32 ⊕ Nat) × TH)} :
    ∀ (x0 : Nat) (y0 : Int32) (h : TH), F_X11_who_b40 D.2.2.2 x0 y0 h = some x → XJ p l e (xRm 7 194 h0) s m args below meth c D 2 (ocI x.1) h0 x.2 40 [(0, rv x0)] [.int y0] h := by
  have hx := hC.1
  have hb := hC.2.1
  intro x0 y0 h hF H locs cells slots ls hX hl
  rw [F_X11_who_b40] at hF
  refine lv_istore_n (i := 1) hx hb dX11_who_40 rfl hl (by decide) rfl (fun ls hl => ?_)
  replace hl : lv_has ls 2 [(1, .int y0), (0, rv x0)] := lv_subS hl (List.forall_mem_cons.mpr ⟨Or.inl rfl, (List.forall_mem_cons.mpr ⟨Or.inr ⟨List.mem_of_getElem? (i := 0) rfl, by simp [rv_cat]⟩, (fun _ h => nomatch h)⟩)⟩)
  refine lv_iload_n hx hb dX11_who_41 rfl (lv_at hl 0 rfl) ?_
  refine lv_if_ge (tgt := 50) hx hb dX11_who_42 (by decide) (fun c_1 => ?_) (fun c_1 => ?_)
  · replace hF := it_t hF c_1
    refine lv_iload_n hx hb dX11_who_50 rfl (lv_at hl 0 rfl) ?_
    refine X_aload_n hx hb dX11_who_51 rfl (lv_at hl 1 rfl) ?_
    obtain ⟨h_2, hF⟩ := gd_ok hF
    refine gX_X11_24 hC hX h_2 dX11_who_52 ?_
    refine lv_topr (fun r_3 er_3 => ?_)
    replace hF := lt_at hF er_3
    obtain ⟨h_4, hF⟩ := gd_ok hF
    refine gX_X11_199 hC hX h_4 dX11_who_55 ?_
    refine lv_icmp_lt (tgt := 74) hx hb dX11_who_58 (by decide) (fun c_5 => ?_) (fun c_5 => ?_)
    · replace hF := it_t hF c_5
      refine X_aload_n hx hb dX11_who_74 rfl (lv_at hl 1 rfl) ?_
      obtain ⟨h_6, hF⟩ := gd_ok hF
      obtain ⟨h_8, hc_7, hF⟩ := bd_ok hF
      refine iX_X11_94 hC hX h_6 hc_7 hl.1 (Nat.le_of_ble_eq_true rfl) (Nat.le_of_ble_eq_true rfl) (Nat.le_of_ble_eq_true rfl) dX11_who_75 (fun H locs cells slots hX => ?_)
      refine lv_iload_n hx hb dX11_who_78 rfl (lv_at hl 0 rfl) ?_
      cases hF
      exact x_reti hC hX hr rfl rfl rfl dX11_who_79
    · replace hF := it_f hF c_5
      obtain ⟨h_9, hF⟩ := gd_ok hF
      refine nX_X11_75 hC hX h_9 dX11_who_61 (fun H cells slots hX => ?_)
      refine lv_topr (fun r_10 er_10 => ?_)
      replace hF := lt_at hF er_10
      obtain ⟨h_11, eh_11, hF⟩ := lt_ok hF
      rw [← eh_11] at hX
      refine lv_dup hx hb dX11_who_64 (rv_cat _) ?_
      refine lv_iconst (v := 4) hx hb dX11_who_65 (by decide) ?_
      refine X_aload_n hx hb dX11_who_66 rfl (lv_at hl 1 rfl) ?_
      obtain ⟨h_12, hF⟩ := gd_ok hF
      refine gX_X11_43 hC hX h_12 dX11_who_67 ?_
      obtain ⟨h_13, hF⟩ := gd_ok hF
      obtain ⟨h_15, hc_14, hF⟩ := bd_ok hF
      refine iX_X11_77 hC hX h_13 hc_14 hl.1 (cat4 (Nat.le_of_ble_eq_true rfl)) (Nat.le_of_ble_eq_true rfl) (Nat.le_of_ble_eq_true rfl) dX11_who_70 (fun H locs cells slots hX => ?_)
      obtain ⟨h_16, hF⟩ := gd_ok hF
      cases hF
      exact x_throw hC hX hnh h_16 rfl rfl dX11_who_73
  · replace hF := it_f hF c_1
    refine X_aload_n hx hb dX11_who_45 rfl (lv_at hl 1 rfl) ?_
    obtain ⟨h_17, hF⟩ := gd_ok hF
    obtain ⟨r_20, h_19, hc_18, hF⟩ := bd2_ok hF
    refine iX_X11_90 hC hX h_17 hc_18 hl.1 (Nat.le_of_ble_eq_true rfl) (Nat.le_of_ble_eq_true rfl) (Nat.le_of_ble_eq_true rfl) dX11_who_46 (fun H locs cells slots hX => ?_)
    obtain ⟨h_21, hF⟩ := gd_ok hF
    cases hF
    exact x_throw hC hX hnh h_21 rfl rfl dX11_who_49
def F_X11_who (K : Nat → Nat) (a0 : Nat) (h : TH) : Option ((Int32 ⊕ Nat) × TH) :=
  lt ((K 4)) fun r_1 =>
  gd (hT h a0 = 7) <|
  bd (F_X11_is K h a0 r_1) fun r_4 =>
  if r_4 = 0 then
    lt ((K 5)) fun r_6 =>
    gd (hT h a0 = 7) <|
    bd (F_X11_is K h a0 r_6) fun r_9 =>
    if r_9 = 0 then
      lt ((K 6)) fun r_11 =>
      gd (hT h a0 = 7) <|
      bd (F_X11_is K h a0 r_11) fun r_14 =>
      if r_14 = 0 then
        F_X11_who_b40 K a0 (-1 : Int32) h
      else
        F_X11_who_b40 K a0 (2 : Int32) h
    else
      F_X11_who_b40 K a0 (1 : Int32) h
  else
    F_X11_who_b40 K a0 (0 : Int32) h
set_option maxHeartbeats 4000000 in
theorem w_X11_who {p : Program} {l : Launch} {e : Env} {s : State} {m : MethodId} {args : Array Value} {below : List Frame} {meth : Method} {c : Code} {D : XD} {h0 : TH} (hC : XCx D cX11_who 2 RX11 h0 p (xRm 7 194 h0) s m args meth c) (hr : meth.sig.returnType = some .int) (hnh : c.exceptionTable.isEmpty = true) (hin : meth.name = "who") {x : ((Int32 ⊕ Nat) × TH)} :
    ∀ (a0 : Nat) (h : TH), F_X11_who D.2.2.2 a0 h = some x → XJ p l e (xRm 7 194 h0) s m args below meth c D 2 (ocI x.1) h0 x.2 0 [(0, rv a0)] [] h := by
  have hx := hC.1
  have hb := hC.2.1
  intro a0 h hF H locs cells slots ls hX hl
  rw [F_X11_who] at hF
  refine X_aload_n hx hb dX11_who_0 rfl (lv_at hl 0 rfl) ?_
  refine X_ldcS hC (i := 4) (List.mem_of_getElem? (i := 4) rfl) dX11_who_1 ?_
  refine lv_topr (fun r_1 er_1 => ?_)
  replace hF := lt_at hF er_1
  obtain ⟨h_2, hF⟩ := gd_ok hF
  obtain ⟨r_4, hc_3, hF⟩ := bd_ok hF
  refine iX_X11_86 hC hX h_2 hc_3 hl.1 (Nat.le_of_ble_eq_true rfl) (Nat.le_of_ble_eq_true rfl) (Nat.le_of_ble_eq_true rfl) dX11_who_3 (fun H locs cells slots hX => ?_)
  refine lv_if_eq (tgt := 13) hx hb dX11_who_6 (by decide) (fun c_5 => ?_) (fun c_5 => ?_)
  · replace hF := it_t hF c_5
    refine X_aload_n hx hb dX11_who_13 rfl (lv_at hl 0 rfl) ?_
    refine X_ldcS hC (i := 5) (List.mem_of_getElem? (i := 5) rfl) dX11_who_14 ?_
    refine lv_topr (fun r_6 er_6 => ?_)
    replace hF := lt_at hF er_6
    obtain ⟨h_7, hF⟩ := gd_ok hF
    obtain ⟨r_9, hc_8, hF⟩ := bd_ok hF
    refine iX_X11_86 hC hX h_7 hc_8 hl.1 (Nat.le_of_ble_eq_true rfl) (Nat.le_of_ble_eq_true rfl) (Nat.le_of_ble_eq_true rfl) dX11_who_16 (fun H locs cells slots hX => ?_)
    refine lv_if_eq (tgt := 26) hx hb dX11_who_19 (by decide) (fun c_10 => ?_) (fun c_10 => ?_)
    · replace hF := it_t hF c_10
      refine X_aload_n hx hb dX11_who_26 rfl (lv_at hl 0 rfl) ?_
      refine X_ldcS hC (i := 6) (List.mem_of_getElem? (i := 6) rfl) dX11_who_27 ?_
      refine lv_topr (fun r_11 er_11 => ?_)
      replace hF := lt_at hF er_11
      obtain ⟨h_12, hF⟩ := gd_ok hF
      obtain ⟨r_14, hc_13, hF⟩ := bd_ok hF
      refine iX_X11_86 hC hX h_12 hc_13 hl.1 (Nat.le_of_ble_eq_true rfl) (Nat.le_of_ble_eq_true rfl) (Nat.le_of_ble_eq_true rfl) dX11_who_29 (fun H locs cells slots hX => ?_)
      refine lv_if_eq (tgt := 39) hx hb dX11_who_32 (by decide) (fun c_15 => ?_) (fun c_15 => ?_)
      · replace hF := it_t hF c_15
        refine lv_iconst (v := -1) hx hb dX11_who_39 (by decide) ?_
        exact w_X11_who_b40 hC hr hnh hin a0 (-1 : Int32) h hF H locs cells slots ls hX (lv_sub hl [0] rfl)
      · replace hF := it_f hF c_15
        refine lv_iconst (v := 2) hx hb dX11_who_35 (by decide) ?_
        refine lv_goto (tgt := 40) hx hb dX11_who_36 (by decide) ?_
        exact w_X11_who_b40 hC hr hnh hin a0 (2 : Int32) h hF H locs cells slots ls hX (lv_sub hl [0] rfl)
    · replace hF := it_f hF c_10
      refine lv_iconst (v := 1) hx hb dX11_who_22 (by decide) ?_
      refine lv_goto (tgt := 40) hx hb dX11_who_23 (by decide) ?_
      exact w_X11_who_b40 hC hr hnh hin a0 (1 : Int32) h hF H locs cells slots ls hX (lv_sub hl [0] rfl)
  · replace hF := it_f hF c_5
    refine lv_iconst (v := 0) hx hb dX11_who_9 (by decide) ?_
    refine lv_goto (tgt := 40) hx hb dX11_who_10 (by decide) ?_
    exact w_X11_who_b40 hC hr hnh hin a0 (0 : Int32) h hF H locs cells slots ls hX (lv_sub hl [0] rfl)
theorem m_X11_who (l : Launch) (D : XD) (a0 : Nat) (h : TH) (x : ((Int32 ⊕ Nat) × TH)) (hF : F_X11_who D.2.2.2 a0 h = some x) : XMt l yX11_who (ws_ yX11_who cX11_who 2 (some .int)) 7 194 D [rv a0] h (ocI x.1) x.2 := by
  refine x_met (by decide +kernel) ?_ ?_
  · simp [lg_sl, rv_cat, cat_i, cat_l]
  intro p e s m below meth c hC hr hnh hin ls hl hX
  replace hl : lv_has ls 2 [(0, rv a0)] := by simpa [lv_args, rv_cat, cat_i, cat_l] using hl
  exact w_X11_who hC hr hnh hin a0 h hF s.heap [] 0 0 ls hX hl
theorem pX_X14_7 {p : Program} {l : Launch} {e : Env} {R : Room} {s : State} {m : MethodId} {args : Array Value} {below : List Frame} {meth : Method} {c : Code} {H : Heap} {locs : List Loc} {cells slots nL : Nat} {Q : State → Prop} {D : XD} {h0 h : TH} {cc : ByteArray} {pc : Nat} {ls : Array Slot} {rest : List Value} (hC : XCx D cc nL RX14 h0 p R s m args meth c) (hX : XSt D s h0 h H locs cells slots) (hinit : meth.name = "<init>") {a : Nat} {v : Int32} (hf : hasF (hT h a) 92 = true) (hw : hT h a ≤ 24) (hdg : decode cc pc = .ok (.putfield 7, 3)) (kk : ∀ (H1 : Heap) (locs1 : List Loc), XSt D s h0 (uI h 92 a v) H1 locs1 cells slots → W p l e R s m args below meth c H1 locs1 cells slots Q (F0 m (pc + 3) ls rest)) : W p l e R s m args below meth c H locs cells slots Q (F0 m pc ls (.int v :: rv a :: rest)) :=
  X_putiF hC hX hinit 92 hf hw rfl rfl rfl q1238 ⟨rfl, rfl⟩ hdg kk
/-! BlindCards$Value.<init> -/
def F_X14_init (K : Nat → Nat) (a0 : Nat) (b0 : Int32) (h : TH) : Option TH :=
  gd (a0 ≠ 0) <|
  gd (hasF (hT h a0) 92 = true) <|
  gd (hT h a0 ≤ 24) <|
  lt (uI h 92 a0 b0) fun h_4 =>
  some h_4
set_option maxHeartbeats 4000000 in
theorem w_X14_init {p : Program} {l : Launch} {e : Env} {s : State} {m : MethodId} {args : Array Value} {below : List Frame} {meth : Method} {c : Code} {D : XD} {h0 : TH} (hC : XCx D cX14_init 2 RX14 h0 p (xRm 1 30 h0) s m args meth c) (hr : meth.sig.returnType = none) (hnh : c.exceptionTable.isEmpty = true) (hin : meth.name = "<init>") {x : TH} :
    ∀ (a0 : Nat) (b0 : Int32) (h : TH), F_X14_init D.2.2.2 a0 b0 h = some x → XJ p l e (xRm 1 30 h0) s m args below meth c D 2 (.returned none) h0 x 0 [(0, rv a0), (1, .int b0)] [] h := by
  have hx := hC.1
  have hb := hC.2.1
  intro a0 b0 h hF H locs cells slots ls hX hl
  rw [F_X14_init] at hF
  refine X_aload_n hx hb dX14_init_0 rfl (lv_at hl 0 rfl) ?_
  obtain ⟨h_1, hF⟩ := gd_ok hF
  refine X_objInit hC h_1 q1237 q175 q176 hl.1 (Nat.le_of_ble_eq_true rfl) (objlo (Nat.le_of_ble_eq_true rfl) (Nat.le_of_ble_eq_true rfl)) dX14_init_1 ?_
  refine X_aload_n hx hb dX14_init_4 rfl (lv_at hl 0 rfl) ?_
  refine lv_iload_n hx hb dX14_init_5 rfl (lv_at hl 1 rfl) ?_
  obtain ⟨h_2, hF⟩ := gd_ok hF
  obtain ⟨h_3, hF⟩ := gd_ok hF
  refine pX_X14_7 hC hX hin h_2 h_3 dX14_init_6 (fun H locs hX => ?_)
  obtain ⟨h_4, eh_4, hF⟩ := lt_ok hF
  rw [← eh_4] at hX
  exact x_retv hC hX hr (Option.some.inj hF) dX14_init_9
theorem m_X14_init (l : Launch) (D : XD) (a0 : Nat) (b0 : Int32) (h : TH) (x : TH) (hF : F_X14_init D.2.2.2 a0 b0 h = some x) : XMt l yX14_init (ws_ yX14_init cX14_init 2 (none)) 1 30 D [rv a0, .int b0] h (.returned none) x := by
  refine x_met (by decide +kernel) ?_ ?_
  · simp [lg_sl, rv_cat, cat_i, cat_l]
  intro p e s m below meth c hC hr hnh hin ls hl hX
  replace hl : lv_has ls 2 [(0, rv a0), (1, .int b0)] := by simpa [lv_args, rv_cat, cat_i, cat_l] using hl
  exact w_X14_init hC hr hnh hin a0 b0 h hF s.heap [] 0 0 ls hX hl
/-! BlindCards$Reader.isShuffle -/
def F_X11_isShuffle (K : Nat → Nat) (h : TH) (a0 : Nat) : Option Int32 :=
  lt ((K 13)) fun r_1 =>
  gd (hT h a0 = 7) <|
  bd (F_X11_is K h a0 r_1) fun r_4 =>
  if r_4 = 0 then
    lt ((K 14)) fun r_6 =>
    gd (hT h a0 = 7) <|
    bd (F_X11_is K h a0 r_6) fun r_9 =>
    if r_9 = 0 then
      lt ((K 15)) fun r_11 =>
      gd (hT h a0 = 7) <|
      bd (F_X11_is K h a0 r_11) fun r_14 =>
      if r_14 = 0 then
        lt ((K 16)) fun r_16 =>
        gd (hT h a0 = 7) <|
        bd (F_X11_is K h a0 r_16) fun r_19 =>
        if r_19 = 0 then
          some (0 : Int32)
        else
          some (1 : Int32)
      else
        some (1 : Int32)
    else
      some (1 : Int32)
  else
    some (1 : Int32)
set_option maxHeartbeats 4000000 in
theorem w_X11_isShuffle {p : Program} {l : Launch} {e : Env} {s : State} {m : MethodId} {args : Array Value} {below : List Frame} {meth : Method} {c : Code} {D : XD} {h : TH} (hC : XCx D cX11_isShuffle 1 RX11 h p (xRm 3 65 h) s m args meth c) (hr : meth.sig.returnType = some .boolean) (hnh : c.exceptionTable.isEmpty = true) (hin : meth.name = "isShuffle") {x : Int32} :
    ∀ (a0 : Nat), F_X11_isShuffle D.2.2.2 h a0 = some x → XJ p l e (xRm 3 65 h) s m args below meth c D 1 (.returned (some (.int x))) h h 0 [(0, rv a0)] [] h := by
  have hx := hC.1
  have hb := hC.2.1
  intro a0 hF H locs cells slots ls hX hl
  rw [F_X11_isShuffle] at hF
  refine X_aload_n hx hb dX11_isShuffle_0 rfl (lv_at hl 0 rfl) ?_
  refine X_ldcS hC (i := 13) (List.mem_of_getElem? (i := 13) rfl) dX11_isShuffle_1 ?_
  refine lv_topr (fun r_1 er_1 => ?_)
  replace hF := lt_at hF er_1
  obtain ⟨h_2, hF⟩ := gd_ok hF
  obtain ⟨r_4, hc_3, hF⟩ := bd_ok hF
  refine iX_X11_86 hC hX h_2 hc_3 hl.1 (Nat.le_of_ble_eq_true rfl) (Nat.le_of_ble_eq_true rfl) (Nat.le_of_ble_eq_true rfl) dX11_isShuffle_3 (fun H locs cells slots hX => ?_)
  refine lv_if_ne (tgt := 36) hx hb dX11_isShuffle_6 (by decide) (fun c_5 => ?_) (fun c_5 => ?_)
  · replace hF := it_f hF c_5
    refine lv_iconst (v := 1) hx hb dX11_isShuffle_36 (by decide) ?_
    refine lv_goto (tgt := 41) hx hb dX11_isShuffle_37 (by decide) ?_
    exact x_reti hC hX hr rfl (Option.some.inj hF) rfl dX11_isShuffle_41
  · replace hF := it_t hF c_5
    refine X_aload_n hx hb dX11_isShuffle_9 rfl (lv_at hl 0 rfl) ?_
    refine X_ldcS hC (i := 14) (List.mem_of_getElem? (i := 14) rfl) dX11_isShuffle_10 ?_
    refine lv_topr (fun r_6 er_6 => ?_)
    replace hF := lt_at hF er_6
    obtain ⟨h_7, hF⟩ := gd_ok hF
    obtain ⟨r_9, hc_8, hF⟩ := bd_ok hF
    refine iX_X11_86 hC hX h_7 hc_8 hl.1 (Nat.le_of_ble_eq_true rfl) (Nat.le_of_ble_eq_true rfl) (Nat.le_of_ble_eq_true rfl) dX11_isShuffle_12 (fun H locs cells slots hX => ?_)
    refine lv_if_ne (tgt := 36) hx hb dX11_isShuffle_15 (by decide) (fun c_10 => ?_) (fun c_10 => ?_)
    · replace hF := it_f hF c_10
      refine lv_iconst (v := 1) hx hb dX11_isShuffle_36 (by decide) ?_
      refine lv_goto (tgt := 41) hx hb dX11_isShuffle_37 (by decide) ?_
      exact x_reti hC hX hr rfl (Option.some.inj hF) rfl dX11_isShuffle_41
    · replace hF := it_t hF c_10
      refine X_aload_n hx hb dX11_isShuffle_18 rfl (lv_at hl 0 rfl) ?_
      refine X_ldcS hC (i := 15) (List.mem_of_getElem? (i := 15) rfl) dX11_isShuffle_19 ?_
      refine lv_topr (fun r_11 er_11 => ?_)
      replace hF := lt_at hF er_11
      obtain ⟨h_12, hF⟩ := gd_ok hF
      obtain ⟨r_14, hc_13, hF⟩ := bd_ok hF
      refine iX_X11_86 hC hX h_12 hc_13 hl.1 (Nat.le_of_ble_eq_true rfl) (Nat.le_of_ble_eq_true rfl) (Nat.le_of_ble_eq_true rfl) dX11_isShuffle_21 (fun H locs cells slots hX => ?_)
      refine lv_if_ne (tgt := 36) hx hb dX11_isShuffle_24 (by decide) (fun c_15 => ?_) (fun c_15 => ?_)
      · replace hF := it_f hF c_15
        refine lv_iconst (v := 1) hx hb dX11_isShuffle_36 (by decide) ?_
        refine lv_goto (tgt := 41) hx hb dX11_isShuffle_37 (by decide) ?_
        exact x_reti hC hX hr rfl (Option.some.inj hF) rfl dX11_isShuffle_41
      · replace hF := it_t hF c_15
        refine X_aload_n hx hb dX11_isShuffle_27 rfl (lv_at hl 0 rfl) ?_
        refine X_ldcS hC (i := 16) (List.mem_of_getElem? (i := 16) rfl) dX11_isShuffle_28 ?_
        refine lv_topr (fun r_16 er_16 => ?_)
        replace hF := lt_at hF er_16
        obtain ⟨h_17, hF⟩ := gd_ok hF
        obtain ⟨r_19, hc_18, hF⟩ := bd_ok hF
        refine iX_X11_86 hC hX h_17 hc_18 hl.1 (Nat.le_of_ble_eq_true rfl) (Nat.le_of_ble_eq_true rfl) (Nat.le_of_ble_eq_true rfl) dX11_isShuffle_30 (fun H locs cells slots hX => ?_)
        refine lv_if_eq (tgt := 40) hx hb dX11_isShuffle_33 (by decide) (fun c_20 => ?_) (fun c_20 => ?_)
        · replace hF := it_t hF c_20
          refine lv_iconst (v := 0) hx hb dX11_isShuffle_40 (by decide) ?_
          exact x_reti hC hX hr rfl (Option.some.inj hF) rfl dX11_isShuffle_41
        · replace hF := it_f hF c_20
          refine lv_iconst (v := 1) hx hb dX11_isShuffle_36 (by decide) ?_
          refine lv_goto (tgt := 41) hx hb dX11_isShuffle_37 (by decide) ?_
          exact x_reti hC hX hr rfl (Option.some.inj hF) rfl dX11_isShuffle_41
theorem m_X11_isShuffle (l : Launch) (D : XD) (a0 : Nat) (h : TH) (x : Int32) (hF : F_X11_isShuffle D.2.2.2 h a0 = some x) : XMt l yX11_isShuffle (ws_ yX11_isShuffle cX11_isShuffle 1 (some .boolean)) 3 65 D [rv a0] h (.returned (some (.int x))) h := by
  refine x_met (by decide +kernel) ?_ ?_
  · simp [lg_sl, rv_cat, cat_i, cat_l]
  intro p e s m below meth c hC hr hnh hin ls hl hX
  replace hl : lv_has ls 1 [(0, rv a0)] := by simpa [lv_args, rv_cat, cat_i, cat_l] using hl
  exact w_X11_isShuffle hC hr hnh hin a0 hF s.heap [] 0 0 ls hX hl
theorem iX_X11_210 {p : Program} {l : Launch} {e : Env} {R : Room} {s : State} {m : MethodId} {args : Array Value} {below : List Frame} {meth : Method} {c : Code} {H : Heap} {locs : List Loc} {cells slots nL : Nat} {Q : State → Prop} {D : XD} {h0 h : TH} {cc : ByteArray} {pc : Nat} {ls : Array Slot} {rest : List Value} (hC : XCx D cc nL RX11 h0 p R s m args meth c) (hX : XSt D s h0 h H locs cells slots) {a : Nat} {x : Int32} (ht : hT h a = 7) (hcF : F_X11_isShuffle D.2.2.2 h a = some x) (hl : ls.size = nL) (hW : (rest.map fun v => v.category).sum ≤ 8) (hRf : 3 + 1 ≤ R.frames) (hRl : 85 ≤ R.locals) (hdg : decode cc pc = .ok (.invokevirtual 210, 3)) (kk : ∀ (H1 : Heap) (locs1 : List Loc) (cells1 slots1 : Nat), XSt D s h0 h H1 locs1 cells1 slots1 → W p l e R s m args below meth c H1 locs1 cells1 slots1 Q (F0 m (pc + 3) ls (.int x :: rest))) : W p l e R s m args below meth c H locs cells slots Q (F0 m pc ls (rv a :: rest)) := by
  have q := ht
  exact X_callV hC hX (by rw [q]; decide) (by rw [q]; rfl) (As := []) (m_X11_isShuffle l D a h _ hcF) (cwV 0 hC.2.2.2.2.1 (lw_V q1271 q1273 qs25 q146 q1274) rfl rfl rfl (by decide +kernel) ⟨Nat.le_trans (Nat.le_of_ble_eq_true rfl) hRf, Nat.le_trans (Nat.le_of_ble_eq_true rfl) hRl⟩) rfl rfl hl hW hdg kk
/-! BlindCards$Reader.isMove -/
def F_X11_isMove (K : Nat → Nat) (h : TH) (a0 : Nat) : Option Int32 :=
  lt ((K 11)) fun r_1 =>
  gd (hT h a0 = 7) <|
  bd (F_X11_is K h a0 r_1) fun r_4 =>
  if r_4 = 0 then
    lt ((K 12)) fun r_6 =>
    gd (hT h a0 = 7) <|
    bd (F_X11_is K h a0 r_6) fun r_9 =>
    if r_9 = 0 then
      gd (hT h a0 = 7) <|
      bd (F_X11_isShuffle K h a0) fun r_13 =>
      if r_13 = 0 then
        some (0 : Int32)
      else
        some (1 : Int32)
    else
      some (1 : Int32)
  else
    some (1 : Int32)
set_option maxHeartbeats 4000000 in
theorem w_X11_isMove {p : Program} {l : Launch} {e : Env} {s : State} {m : MethodId} {args : Array Value} {below : List Frame} {meth : Method} {c : Code} {D : XD} {h : TH} (hC : XCx D cX11_isMove 1 RX11 h p (xRm 4 85 h) s m args meth c) (hr : meth.sig.returnType = some .boolean) (hnh : c.exceptionTable.isEmpty = true) (hin : meth.name = "isMove") {x : Int32} :
    ∀ (a0 : Nat), F_X11_isMove D.2.2.2 h a0 = some x → XJ p l e (xRm 4 85 h) s m args below meth c D 1 (.returned (some (.int x))) h h 0 [(0, rv a0)] [] h := by
  have hx := hC.1
  have hb := hC.2.1
  intro a0 hF H locs cells slots ls hX hl
  rw [F_X11_isMove] at hF
  refine X_aload_n hx hb dX11_isMove_0 rfl (lv_at hl 0 rfl) ?_
  refine X_ldcS hC (i := 11) (List.mem_of_getElem? (i := 11) rfl) dX11_isMove_1 ?_
  refine lv_topr (fun r_1 er_1 => ?_)
  replace hF := lt_at hF er_1
  obtain ⟨h_2, hF⟩ := gd_ok hF
  obtain ⟨r_4, hc_3, hF⟩ := bd_ok hF
  refine iX_X11_86 hC hX h_2 hc_3 hl.1 (Nat.le_of_ble_eq_true rfl) (Nat.le_of_ble_eq_true rfl) (Nat.le_of_ble_eq_true rfl) dX11_isMove_3 (fun H locs cells slots hX => ?_)
  refine lv_if_ne (tgt := 25) hx hb dX11_isMove_6 (by decide) (fun c_5 => ?_) (fun c_5 => ?_)
  · replace hF := it_f hF c_5
    refine lv_iconst (v := 1) hx hb dX11_isMove_25 (by decide) ?_
    refine lv_goto (tgt := 30) hx hb dX11_isMove_26 (by decide) ?_
    exact x_reti hC hX hr rfl (Option.some.inj hF) rfl dX11_isMove_30
  · replace hF := it_t hF c_5
    refine X_aload_n hx hb dX11_isMove_9 rfl (lv_at hl 0 rfl) ?_
    refine X_ldcS hC (i := 12) (List.mem_of_getElem? (i := 12) rfl) dX11_isMove_10 ?_
    refine lv_topr (fun r_6 er_6 => ?_)
    replace hF := lt_at hF er_6
    obtain ⟨h_7, hF⟩ := gd_ok hF
    obtain ⟨r_9, hc_8, hF⟩ := bd_ok hF
    refine iX_X11_86 hC hX h_7 hc_8 hl.1 (Nat.le_of_ble_eq_true rfl) (Nat.le_of_ble_eq_true rfl) (Nat.le_of_ble_eq_true rfl) dX11_isMove_12 (fun H locs cells slots hX => ?_)
    refine lv_if_ne (tgt := 25) hx hb dX11_isMove_15 (by decide) (fun c_10 => ?_) (fun c_10 => ?_)
    · replace hF := it_f hF c_10
      refine lv_iconst (v := 1) hx hb dX11_isMove_25 (by decide) ?_
      refine lv_goto (tgt := 30) hx hb dX11_isMove_26 (by decide) ?_
      exact x_reti hC hX hr rfl (Option.some.inj hF) rfl dX11_isMove_30
    · replace hF := it_t hF c_10
      refine X_aload_n hx hb dX11_isMove_18 rfl (lv_at hl 0 rfl) ?_
      obtain ⟨h_11, hF⟩ := gd_ok hF
      obtain ⟨r_13, hc_12, hF⟩ := bd_ok hF
      refine iX_X11_210 hC hX h_11 hc_12 hl.1 (Nat.le_of_ble_eq_true rfl) (Nat.le_of_ble_eq_true rfl) (Nat.le_of_ble_eq_true rfl) dX11_isMove_19 (fun H locs cells slots hX => ?_)
      refine lv_if_eq (tgt := 29) hx hb dX11_isMove_22 (by decide) (fun c_14 => ?_) (fun c_14 => ?_)
      · replace hF := it_t hF c_14
        refine lv_iconst (v := 0) hx hb dX11_isMove_29 (by decide) ?_
        exact x_reti hC hX hr rfl (Option.some.inj hF) rfl dX11_isMove_30
      · replace hF := it_f hF c_14
        refine lv_iconst (v := 1) hx hb dX11_isMove_25 (by decide) ?_
        refine lv_goto (tgt := 30) hx hb dX11_isMove_26 (by decide) ?_
        exact x_reti hC hX hr rfl (Option.some.inj hF) rfl dX11_isMove_30
theorem m_X11_isMove (l : Launch) (D : XD) (a0 : Nat) (h : TH) (x : Int32) (hF : F_X11_isMove D.2.2.2 h a0 = some x) : XMt l yX11_isMove (ws_ yX11_isMove cX11_isMove 1 (some .boolean)) 4 85 D [rv a0] h (.returned (some (.int x))) h := by
  refine x_met (by decide +kernel) ?_ ?_
  · simp [lg_sl, rv_cat, cat_i, cat_l]
  intro p e s m below meth c hC hr hnh hin ls hl hX
  replace hl : lv_has ls 1 [(0, rv a0)] := by simpa [lv_args, rv_cat, cat_i, cat_l] using hl
  exact w_X11_isMove hC hr hnh hin a0 hF s.heap [] 0 0 ls hX hl
/-! BlindCards$Step.<init> -/
def F_X6_init (K : Nat → Nat) (h : TH) (a0 : Nat) : Option Unit :=
  gd (a0 ≠ 0) <|
  some ()
set_option maxHeartbeats 4000000 in
theorem w_X6_init {p : Program} {l : Launch} {e : Env} {s : State} {m : MethodId} {args : Array Value} {below : List Frame} {meth : Method} {c : Code} {D : XD} {h : TH} (hC : XCx D cX6_init 1 RX6 h p (xRm 1 30 h) s m args meth c) (hr : meth.sig.returnType = none) (hnh : c.exceptionTable.isEmpty = true) (hin : meth.name = "<init>") {x : Unit} :
    ∀ (a0 : Nat), F_X6_init D.2.2.2 h a0 = some x → XJ p l e (xRm 1 30 h) s m args below meth c D 1 (.returned none) h h 0 [(0, rv a0)] [] h := by
  have hx := hC.1
  have hb := hC.2.1
  intro a0 hF H locs cells slots ls hX hl
  rw [F_X6_init] at hF
  refine X_aload_n hx hb dX6_init_0 rfl (lv_at hl 0 rfl) ?_
  obtain ⟨h_1, hF⟩ := gd_ok hF
  refine X_objInit hC h_1 q1304 q175 q176 hl.1 (Nat.le_of_ble_eq_true rfl) (objlo (Nat.le_of_ble_eq_true rfl) (Nat.le_of_ble_eq_true rfl)) dX6_init_1 ?_
  exact x_retv hC hX hr rfl dX6_init_4
theorem m_X6_init (l : Launch) (D : XD) (a0 : Nat) (h : TH) (x : Unit) (hF : F_X6_init D.2.2.2 h a0 = some x) : XMt l yX6_init (ws_ yX6_init cX6_init 1 (none)) 1 30 D [rv a0] h (.returned none) h := by
  refine x_met (by decide +kernel) ?_ ?_
  · simp [lg_sl, rv_cat, cat_i, cat_l]
  intro p e s m below meth c hC hr hnh hin ls hl hX
  replace hl : lv_has ls 1 [(0, rv a0)] := by simpa [lv_args, rv_cat, cat_i, cat_l] using hl
  exact w_X6_init hC hr hnh hin a0 hF s.heap [] 0 0 ls hX hl
theorem iX_X7_3 {p : Program} {l : Launch} {e : Env} {R : Room} {s : State} {m : MethodId} {args : Array Value} {below : List Frame} {meth : Method} {c : Code} {H : Heap} {locs : List Loc} {cells slots nL : Nat} {Q : State → Prop} {D : XD} {h0 h : TH} {cc : ByteArray} {pc : Nat} {ls : Array Slot} {rest : List Value} (hC : XCx D cc nL RX7 h0 p R s m args meth c) (hX : XSt D s h0 h H locs cells slots) {a : Nat} {x : Unit} (ha : a ≠ 0) (hcF : F_X6_init D.2.2.2 h a = some x) (hl : ls.size = nL) (hW : (rest.map fun v => v.category).sum ≤ 8) (hRf : 1 + 1 ≤ R.frames) (hRl : 50 ≤ R.locals) (hdg : decode cc pc = .ok (.invokespecial 3, 3)) (kk : ∀ (H1 : Heap) (locs1 : List Loc) (cells1 slots1 : Nat), XSt D s h0 h H1 locs1 cells1 slots1 → W p l e R s m args below meth c H1 locs1 cells1 slots1 Q (F0 m (pc + 3) ls (rest))) : W p l e R s m args below meth c H locs cells slots Q (F0 m pc ls (rv a :: rest)) := by
  exact X_callIN hC hX ha (As := []) (m_X6_init l D a h _ hcF) ⟨va_cnB 0 hC.2.2.2.2.1 (lw_meth q1303) rfl rfl rfl (xm14 hC.2.2.2.2.2.2.1) (hC.2.2.2.2.1 _ q140) (by decide +kernel) ⟨Nat.le_trans (Nat.le_of_ble_eq_true rfl) hRf, Nat.le_trans (Nat.le_of_ble_eq_true rfl) hRl⟩, rfl, hC.2.2.2.2.1 _ q1302⟩ rfl rfl hl hW hdg kk
/-! BlindCards$Move.<init> -/
def F_X7_init (K : Nat → Nat) (h : TH) (a0 : Nat) : Option Unit :=
  gd (a0 ≠ 0) <|
  bd (F_X6_init K h a0) fun u_3 =>
  some ()
set_option maxHeartbeats 4000000 in
theorem w_X7_init {p : Program} {l : Launch} {e : Env} {s : State} {m : MethodId} {args : Array Value} {below : List Frame} {meth : Method} {c : Code} {D : XD} {h : TH} (hC : XCx D cX7_init 1 RX7 h p (xRm 2 50 h) s m args meth c) (hr : meth.sig.returnType = none) (hnh : c.exceptionTable.isEmpty = true) (hin : meth.name = "<init>") {x : Unit} :
    ∀ (a0 : Nat), F_X7_init D.2.2.2 h a0 = some x → XJ p l e (xRm 2 50 h) s m args below meth c D 1 (.returned none) h h 0 [(0, rv a0)] [] h := by
  have hx := hC.1
  have hb := hC.2.1
  intro a0 hF H locs cells slots ls hX hl
  rw [F_X7_init] at hF
  refine X_aload_n hx hb dX7_init_0 rfl (lv_at hl 0 rfl) ?_
  obtain ⟨h_1, hF⟩ := gd_ok hF
  obtain ⟨u_3, hc_2, hF⟩ := bd_ok hF
  refine iX_X7_3 hC hX h_1 hc_2 hl.1 (Nat.le_of_ble_eq_true rfl) (Nat.le_of_ble_eq_true rfl) (Nat.le_of_ble_eq_true rfl) dX7_init_1 (fun H locs cells slots hX => ?_)
  exact x_retv hC hX hr rfl dX7_init_4
theorem m_X7_init (l : Launch) (D : XD) (a0 : Nat) (h : TH) (x : Unit) (hF : F_X7_init D.2.2.2 h a0 = some x) : XMt l yX7_init (ws_ yX7_init cX7_init 1 (none)) 2 50 D [rv a0] h (.returned none) h := by
  refine x_met (by decide +kernel) ?_ ?_
  · simp [lg_sl, rv_cat, cat_i, cat_l]
  intro p e s m below meth c hC hr hnh hin ls hl hX
  replace hl : lv_has ls 1 [(0, rv a0)] := by simpa [lv_args, rv_cat, cat_i, cat_l] using hl
  exact w_X7_init hC hr hnh hin a0 hF s.heap [] 0 0 ls hX hl
theorem iX_X8_1 {p : Program} {l : Launch} {e : Env} {R : Room} {s : State} {m : MethodId} {args : Array Value} {below : List Frame} {meth : Method} {c : Code} {H : Heap} {locs : List Loc} {cells slots nL : Nat} {Q : State → Prop} {D : XD} {h0 h : TH} {cc : ByteArray} {pc : Nat} {ls : Array Slot} {rest : List Value} (hC : XCx D cc nL RX8 h0 p R s m args meth c) (hX : XSt D s h0 h H locs cells slots) {a : Nat} {x : Unit} (ha : a ≠ 0) (hcF : F_X7_init D.2.2.2 h a = some x) (hl : ls.size = nL) (hW : (rest.map fun v => v.category).sum ≤ 8) (hRf : 2 + 1 ≤ R.frames) (hRl : 70 ≤ R.locals) (hdg : decode cc pc = .ok (.invokespecial 1, 3)) (kk : ∀ (H1 : Heap) (locs1 : List Loc) (cells1 slots1 : Nat), XSt D s h0 h H1 locs1 cells1 slots1 → W p l e R s m args below meth c H1 locs1 cells1 slots1 Q (F0 m (pc + 3) ls (rest))) : W p l e R s m args below meth c H locs cells slots Q (F0 m pc ls (rv a :: rest)) := by
  exact X_callIN hC hX ha (As := []) (m_X7_init l D a h _ hcF) ⟨va_cnB 0 hC.2.2.2.2.1 (lw_meth q1300) rfl rfl rfl (xm15 hC.2.2.2.2.2.2.1) (hC.2.2.2.2.1 _ q141) (by decide +kernel) ⟨Nat.le_trans (Nat.le_of_ble_eq_true rfl) hRf, Nat.le_trans (Nat.le_of_ble_eq_true rfl) hRl⟩, rfl, hC.2.2.2.2.1 _ q1299⟩ rfl rfl hl hW hdg kk
theorem pX_X8_7 {p : Program} {l : Launch} {e : Env} {R : Room} {s : State} {m : MethodId} {args : Array Value} {below : List Frame} {meth : Method} {c : Code} {H : Heap} {locs : List Loc} {cells slots nL : Nat} {Q : State → Prop} {D : XD} {h0 h : TH} {cc : ByteArray} {pc : Nat} {ls : Array Slot} {rest : List Value} (hC : XCx D cc nL RX8 h0 p R s m args meth c) (hX : XSt D s h0 h H locs cells slots) (hinit : meth.name = "<init>") {a : Nat} {v : Int32} (hf : hasF (hT h a) 98 = true) (hw : hT h a ≤ 24) (hdg : decode cc pc = .ok (.putfield 7, 3)) (kk : ∀ (H1 : Heap) (locs1 : List Loc), XSt D s h0 (uI h 98 a v) H1 locs1 cells slots → W p l e R s m args below meth c H1 locs1 cells slots Q (F0 m (pc + 3) ls rest)) : W p l e R s m args below meth c H locs cells slots Q (F0 m pc ls (.int v :: rv a :: rest)) :=
  X_putiF hC hX hinit 98 hf hw rfl rfl rfl q1332 ⟨rfl, rfl⟩ hdg kk
theorem pX_X8_13 {p : Program} {l : Launch} {e : Env} {R : Room} {s : State} {m : MethodId} {args : Array Value} {below : List Frame} {meth : Method} {c : Code} {H : Heap} {locs : List Loc} {cells slots nL : Nat} {Q : State → Prop} {D : XD} {h0 h : TH} {cc : ByteArray} {pc : Nat} {ls : Array Slot} {rest : List Value} (hC : XCx D cc nL RX8 h0 p R s m args meth c) (hX : XSt D s h0 h H locs cells slots) (hinit : meth.name = "<init>") {a : Nat} {v : Int32} (hf : hasF (hT h a) 99 = true) (hw : hT h a ≤ 24) (hdg : decode cc pc = .ok (.putfield 13, 3)) (kk : ∀ (H1 : Heap) (locs1 : List Loc), XSt D s h0 (uI h 99 a v) H1 locs1 cells slots → W p l e R s m args below meth c H1 locs1 cells slots Q (F0 m (pc + 3) ls rest)) : W p l e R s m args below meth c H locs cells slots Q (F0 m pc ls (.int v :: rv a :: rest)) :=
  X_putiF hC hX hinit 99 hf hw rfl rfl rfl q1335 ⟨rfl, rfl⟩ hdg kk
theorem pX_X8_16 {p : Program} {l : Launch} {e : Env} {R : Room} {s : State} {m : MethodId} {args : Array Value} {below : List Frame} {meth : Method} {c : Code} {H : Heap} {locs : List Loc} {cells slots nL : Nat} {Q : State → Prop} {D : XD} {h0 h : TH} {cc : ByteArray} {pc : Nat} {ls : Array Slot} {rest : List Value} (hC : XCx D cc nL RX8 h0 p R s m args meth c) (hX : XSt D s h0 h H locs cells slots) (hinit : meth.name = "<init>") {a : Nat} {v : Int32} (hf : hasF (hT h a) 100 = true) (hw : hT h a ≤ 24) (hdg : decode cc pc = .ok (.putfield 16, 3)) (kk : ∀ (H1 : Heap) (locs1 : List Loc), XSt D s h0 (uI h 100 a v) H1 locs1 cells slots → W p l e R s m args below meth c H1 locs1 cells slots Q (F0 m (pc + 3) ls rest)) : W p l e R s m args below meth c H locs cells slots Q (F0 m pc ls (.int v :: rv a :: rest)) :=
  X_putiF hC hX hinit 100 hf hw rfl rfl rfl q1338 ⟨rfl, rfl⟩ hdg kk
/-! BlindCards$Cut.<init> -/
def F_X8_init (K : Nat → Nat) (a0 : Nat) (b0 : Int32) (b1 : Int32) (b2 : Int32) (h : TH) : Option TH :=
  gd (a0 ≠ 0) <|
  bd (F_X7_init K h a0) fun u_3 =>
  gd (hasF (hT h a0) 98 = true) <|
  gd (hT h a0 ≤ 24) <|
  lt (uI h 98 a0 b0) fun h_6 =>
  gd (hasF (hT h_6 a0) 99 = true) <|
  gd (hT h_6 a0 ≤ 24) <|
  lt (uI h_6 99 a0 b1) fun h_9 =>
  gd (hasF (hT h_9 a0) 100 = true) <|
  gd (hT h_9 a0 ≤ 24) <|
  lt (uI h_9 100 a0 b2) fun h_12 =>
  some h_12
set_option maxHeartbeats 4000000 in
theorem w_X8_init {p : Program} {l : Launch} {e : Env} {s : State} {m : MethodId} {args : Array Value} {below : List Frame} {meth : Method} {c : Code} {D : XD} {h0 : TH} (hC : XCx D cX8_init 4 RX8 h0 p (xRm 3 70 h0) s m args meth c) (hr : meth.sig.returnType = none) (hnh : c.exceptionTable.isEmpty = true) (hin : meth.name = "<init>") {x : TH} :
    ∀ (a0 : Nat) (b0 : Int32) (b1 : Int32) (b2 : Int32) (h : TH), F_X8_init D.2.2.2 a0 b0 b1 b2 h = some x → XJ p l e (xRm 3 70 h0) s m args below meth c D 4 (.returned none) h0 x 0 [(0, rv a0), (1, .int b0), (2, .int b1), (3, .int b2)] [] h := by
  have hx := hC.1
  have hb := hC.2.1
  intro a0 b0 b1 b2 h hF H locs cells slots ls hX hl
  rw [F_X8_init] at hF
  refine X_aload_n hx hb dX8_init_0 rfl (lv_at hl 0 rfl) ?_
  obtain ⟨h_1, hF⟩ := gd_ok hF
  obtain ⟨u_3, hc_2, hF⟩ := bd_ok hF
  refine iX_X8_1 hC hX h_1 hc_2 hl.1 (Nat.le_of_ble_eq_true rfl) (Nat.le_of_ble_eq_true rfl) (Nat.le_of_ble_eq_true rfl) dX8_init_1 (fun H locs cells slots hX => ?_)
  refine X_aload_n hx hb dX8_init_4 rfl (lv_at hl 0 rfl) ?_
  refine lv_iload_n hx hb dX8_init_5 rfl (lv_at hl 1 rfl) ?_
  obtain ⟨h_4, hF⟩ := gd_ok hF
  obtain ⟨h_5, hF⟩ := gd_ok hF
  refine pX_X8_7 hC hX hin h_4 h_5 dX8_init_6 (fun H locs hX => ?_)
  obtain ⟨h_6, eh_6, hF⟩ := lt_ok hF
  rw [← eh_6] at hX
  refine X_aload_n hx hb dX8_init_9 rfl (lv_at hl 0 rfl) ?_
  refine lv_iload_n hx hb dX8_init_10 rfl (lv_at hl 2 rfl) ?_
  obtain ⟨h_7, hF⟩ := gd_ok hF
  obtain ⟨h_8, hF⟩ := gd_ok hF
  refine pX_X8_13 hC hX hin h_7 h_8 dX8_init_11 (fun H locs hX => ?_)
  obtain ⟨h_9, eh_9, hF⟩ := lt_ok hF
  rw [← eh_9] at hX
  refine X_aload_n hx hb dX8_init_14 rfl (lv_at hl 0 rfl) ?_
  refine lv_iload_n hx hb dX8_init_15 rfl (lv_at hl 3 rfl) ?_
  obtain ⟨h_10, hF⟩ := gd_ok hF
  obtain ⟨h_11, hF⟩ := gd_ok hF
  refine pX_X8_16 hC hX hin h_10 h_11 dX8_init_16 (fun H locs hX => ?_)
  obtain ⟨h_12, eh_12, hF⟩ := lt_ok hF
  rw [← eh_12] at hX
  exact x_retv hC hX hr (Option.some.inj hF) dX8_init_19
theorem m_X8_init (l : Launch) (D : XD) (a0 : Nat) (b0 : Int32) (b1 : Int32) (b2 : Int32) (h : TH) (x : TH) (hF : F_X8_init D.2.2.2 a0 b0 b1 b2 h = some x) : XMt l yX8_init (ws_ yX8_init cX8_init 4 (none)) 3 70 D [rv a0, .int b0, .int b1, .int b2] h (.returned none) x := by
  refine x_met (by decide +kernel) ?_ ?_
  · simp [lg_sl, rv_cat, cat_i, cat_l]
  intro p e s m below meth c hC hr hnh hin ls hl hX
  replace hl : lv_has ls 4 [(0, rv a0), (1, .int b0), (2, .int b1), (3, .int b2)] := by simpa [lv_args, rv_cat, cat_i, cat_l] using hl
  exact w_X8_init hC hr hnh hin a0 b0 b1 b2 h hF s.heap [] 0 0 ls hX hl
theorem iX_X17_1 {p : Program} {l : Launch} {e : Env} {R : Room} {s : State} {m : MethodId} {args : Array Value} {below : List Frame} {meth : Method} {c : Code} {H : Heap} {locs : List Loc} {cells slots nL : Nat} {Q : State → Prop} {D : XD} {h0 h : TH} {cc : ByteArray} {pc : Nat} {ls : Array Slot} {rest : List Value} (hC : XCx D cc nL RX17 h0 p R s m args meth c) (hX : XSt D s h0 h H locs cells slots) {a : Nat} {b0 : Int32} {b1 : Int32} {b2 : Int32} {x : TH} (ha : a ≠ 0) (hcF : F_X8_init D.2.2.2 a b0 b1 b2 h = some x) (hl : ls.size = nL) (hW : (rest.map fun v => v.category).sum ≤ 8) (hRf : 3 + 1 ≤ R.frames) (hRl : 93 ≤ R.locals) (hdg : decode cc pc = .ok (.invokespecial 1, 3)) (kk : ∀ (H1 : Heap) (locs1 : List Loc) (cells1 slots1 : Nat), XSt D s h0 x H1 locs1 cells1 slots1 → W p l e R s m args below meth c H1 locs1 cells1 slots1 Q (F0 m (pc + 3) ls (rest))) : W p l e R s m args below meth c H locs cells slots Q (F0 m pc ls (.int b2 :: .int b1 :: .int b0 :: rv a :: rest)) := by
  exact X_callI hC hX ha (As := [.int b0, .int b1, .int b2]) (m_X8_init l D a b0 b1 b2 h _ hcF) (cwI 3 hC.2.2.2.2.1 (lw_meth q1330) rfl rfl rfl (hC.2.2.2.2.1 _ q142) (hC.2.2.2.2.1 _ q1328) (hC.2.2.2.2.1 _ q1329) rfl (by decide +kernel) ⟨Nat.le_trans (Nat.le_of_ble_eq_true rfl) hRf, Nat.le_trans (Nat.le_of_ble_eq_true rfl) hRl⟩) rfl rfl hl hW hdg kk
/-! BlindCards$Halves.<init> -/
def F_X17_init (K : Nat → Nat) (a0 : Nat) (b0 : Int32) (b1 : Int32) (h : TH) : Option TH :=
  gd (a0 ≠ 0) <|
  bd (F_X8_init K a0 b0 b1 (((b1 - b0) + (1 : Int32)) / (2 : Int32)) h) fun h_3 =>
  some h_3
set_option maxHeartbeats 4000000 in
theorem w_X17_init {p : Program} {l : Launch} {e : Env} {s : State} {m : MethodId} {args : Array Value} {below : List Frame} {meth : Method} {c : Code} {D : XD} {h0 : TH} (hC : XCx D cX17_init 3 RX17 h0 p (xRm 4 93 h0) s m args meth c) (hr : meth.sig.returnType = none) (hnh : c.exceptionTable.isEmpty = true) (hin : meth.name = "<init>") {x : TH} :
    ∀ (a0 : Nat) (b0 : Int32) (b1 : Int32) (h : TH), F_X17_init D.2.2.2 a0 b0 b1 h = some x → XJ p l e (xRm 4 93 h0) s m args below meth c D 3 (.returned none) h0 x 0 [(0, rv a0), (1, .int b0), (2, .int b1)] [] h := by
  have hx := hC.1
  have hb := hC.2.1
  intro a0 b0 b1 h hF H locs cells slots ls hX hl
  rw [F_X17_init] at hF
  refine X_aload_n hx hb dX17_init_0 rfl (lv_at hl 0 rfl) ?_
  refine lv_iload_n hx hb dX17_init_1 rfl (lv_at hl 1 rfl) ?_
  refine lv_iload_n hx hb dX17_init_2 rfl (lv_at hl 2 rfl) ?_
  refine lv_iload_n hx hb dX17_init_3 rfl (lv_at hl 2 rfl) ?_
  refine lv_iload_n hx hb dX17_init_4 rfl (lv_at hl 1 rfl) ?_
  refine lv_isub hx hb dX17_init_5 ?_
  refine lv_iconst (v := 1) hx hb dX17_init_6 (by decide) ?_
  refine lv_iadd hx hb dX17_init_7 ?_
  refine lv_iconst (v := 2) hx hb dX17_init_8 (by decide) ?_
  refine lv_idiv hx hb dX17_init_9 (by decide) ?_
  obtain ⟨h_1, hF⟩ := gd_ok hF
  obtain ⟨h_3, hc_2, hF⟩ := bd_ok hF
  refine iX_X17_1 hC hX h_1 hc_2 hl.1 (Nat.le_of_ble_eq_true rfl) (Nat.le_of_ble_eq_true rfl) (Nat.le_of_ble_eq_true rfl) dX17_init_10 (fun H locs cells slots hX => ?_)
  exact x_retv hC hX hr (Option.some.inj hF) dX17_init_13
theorem m_X17_init (l : Launch) (D : XD) (a0 : Nat) (b0 : Int32) (b1 : Int32) (h : TH) (x : TH) (hF : F_X17_init D.2.2.2 a0 b0 b1 h = some x) : XMt l yX17_init (ws_ yX17_init cX17_init 3 (none)) 4 93 D [rv a0, .int b0, .int b1] h (.returned none) x := by
  refine x_met (by decide +kernel) ?_ ?_
  · simp [lg_sl, rv_cat, cat_i, cat_l]
  intro p e s m below meth c hC hr hnh hin ls hl hX
  replace hl : lv_has ls 3 [(0, rv a0), (1, .int b0), (2, .int b1)] := by simpa [lv_args, rv_cat, cat_i, cat_l] using hl
  exact w_X17_init hC hr hnh hin a0 b0 b1 h hF s.heap [] 0 0 ls hX hl
theorem iX_X9_1 {p : Program} {l : Launch} {e : Env} {R : Room} {s : State} {m : MethodId} {args : Array Value} {below : List Frame} {meth : Method} {c : Code} {H : Heap} {locs : List Loc} {cells slots nL : Nat} {Q : State → Prop} {D : XD} {h0 h : TH} {cc : ByteArray} {pc : Nat} {ls : Array Slot} {rest : List Value} (hC : XCx D cc nL RX9 h0 p R s m args meth c) (hX : XSt D s h0 h H locs cells slots) {a : Nat} {b0 : Int32} {b1 : Int32} {b2 : Int32} {x : TH} (ha : a ≠ 0) (hcF : F_X8_init D.2.2.2 a b0 b1 b2 h = some x) (hl : ls.size = nL) (hW : (rest.map fun v => v.category).sum ≤ 8) (hRf : 3 + 1 ≤ R.frames) (hRl : 93 ≤ R.locals) (hdg : decode cc pc = .ok (.invokespecial 1, 3)) (kk : ∀ (H1 : Heap) (locs1 : List Loc) (cells1 slots1 : Nat), XSt D s h0 x H1 locs1 cells1 slots1 → W p l e R s m args below meth c H1 locs1 cells1 slots1 Q (F0 m (pc + 3) ls (rest))) : W p l e R s m args below meth c H locs cells slots Q (F0 m pc ls (.int b2 :: .int b1 :: .int b0 :: rv a :: rest)) := by
  exact X_callI hC hX ha (As := [.int b0, .int b1, .int b2]) (m_X8_init l D a b0 b1 b2 h _ hcF) (cwI 3 hC.2.2.2.2.1 (lw_meth q1330) rfl rfl rfl (hC.2.2.2.2.1 _ q142) (hC.2.2.2.2.1 _ q1358) (hC.2.2.2.2.1 _ q1329) rfl (by decide +kernel) ⟨Nat.le_trans (Nat.le_of_ble_eq_true rfl) hRf, Nat.le_trans (Nat.le_of_ble_eq_true rfl) hRl⟩) rfl rfl hl hW hdg kk
/-! BlindCards$Mix.<init> -/
def F_X9_init (K : Nat → Nat) (a0 : Nat) (b0 : Int32) (b1 : Int32) (h : TH) : Option TH :=
  gd (a0 ≠ 0) <|
  bd (F_X8_init K a0 b0 b1 (1 : Int32) h) fun h_3 =>
  some h_3
set_option maxHeartbeats 4000000 in
theorem w_X9_init {p : Program} {l : Launch} {e : Env} {s : State} {m : MethodId} {args : Array Value} {below : List Frame} {meth : Method} {c : Code} {D : XD} {h0 : TH} (hC : XCx D cX9_init 3 RX9 h0 p (xRm 4 93 h0) s m args meth c) (hr : meth.sig.returnType = none) (hnh : c.exceptionTable.isEmpty = true) (hin : meth.name = "<init>") {x : TH} :
    ∀ (a0 : Nat) (b0 : Int32) (b1 : Int32) (h : TH), F_X9_init D.2.2.2 a0 b0 b1 h = some x → XJ p l e (xRm 4 93 h0) s m args below meth c D 3 (.returned none) h0 x 0 [(0, rv a0), (1, .int b0), (2, .int b1)] [] h := by
  have hx := hC.1
  have hb := hC.2.1
  intro a0 b0 b1 h hF H locs cells slots ls hX hl
  rw [F_X9_init] at hF
  refine X_aload_n hx hb dX9_init_0 rfl (lv_at hl 0 rfl) ?_
  refine lv_iload_n hx hb dX9_init_1 rfl (lv_at hl 1 rfl) ?_
  refine lv_iload_n hx hb dX9_init_2 rfl (lv_at hl 2 rfl) ?_
  refine lv_iconst (v := 1) hx hb dX9_init_3 (by decide) ?_
  obtain ⟨h_1, hF⟩ := gd_ok hF
  obtain ⟨h_3, hc_2, hF⟩ := bd_ok hF
  refine iX_X9_1 hC hX h_1 hc_2 hl.1 (Nat.le_of_ble_eq_true rfl) (Nat.le_of_ble_eq_true rfl) (Nat.le_of_ble_eq_true rfl) dX9_init_4 (fun H locs cells slots hX => ?_)
  exact x_retv hC hX hr (Option.some.inj hF) dX9_init_7
theorem m_X9_init (l : Launch) (D : XD) (a0 : Nat) (b0 : Int32) (b1 : Int32) (h : TH) (x : TH) (hF : F_X9_init D.2.2.2 a0 b0 b1 h = some x) : XMt l yX9_init (ws_ yX9_init cX9_init 3 (none)) 4 93 D [rv a0, .int b0, .int b1] h (.returned none) x := by
  refine x_met (by decide +kernel) ?_ ?_
  · simp [lg_sl, rv_cat, cat_i, cat_l]
  intro p e s m below meth c hC hr hnh hin ls hl hX
  replace hl : lv_has ls 3 [(0, rv a0), (1, .int b0), (2, .int b1)] := by simpa [lv_args, rv_cat, cat_i, cat_l] using hl
  exact w_X9_init hC hr hnh hin a0 b0 b1 h hF s.heap [] 0 0 ls hX hl
/-! BlindCards$Reader.key -/
def F_X11_key (K : Nat → Nat) (a0 : Nat) (b0 : Nat) (h : TH) : Option ((Unit ⊕ Nat) × TH) :=
  gd (hT h a0 = 7) <|
  bd (F_X11_is K h a0 b0) fun r_3 =>
  if r_3 = 0 then
    gd (hT h a0 = 7) <|
    bd2 (F_X11_wrong K a0 h) fun r_11 h_10 =>
    gd (r_11 ≠ 0) <|
    some (.inr r_11, h_10)
  else
    gd (hT h a0 = 7) <|
    bd (F_X11_go K a0 h) fun h_7 =>
    some (.inl (), h_7)
set_option maxHeartbeats 4000000 in
theorem w_X11_key {p : Program} {l : Launch} {e : Env} {s : State} {m : MethodId} {args : Array Value} {below : List Frame} {meth : Method} {c : Code} {D : XD} {h0 : TH} (hC : XCx D cX11_key 2 RX11 h0 p (xRm 7 194 h0) s m args meth c) (hr : meth.sig.returnType = none) (hnh : c.exceptionTable.isEmpty = true) (hin : meth.name = "key") {x : ((Unit ⊕ Nat) × TH)} :
    ∀ (a0 : Nat) (b0 : Nat) (h : TH), F_X11_key D.2.2.2 a0 b0 h = some x → XJ p l e (xRm 7 194 h0) s m args below meth c D 2 (ocV x.1) h0 x.2 0 [(0, rv a0), (1, rv b0)] [] h := by
  have hx := hC.1
  have hb := hC.2.1
  intro a0 b0 h hF H locs cells slots ls hX hl
  rw [F_X11_key] at hF
  refine X_aload_n hx hb dX11_key_0 rfl (lv_at hl 0 rfl) ?_
  refine X_aload_n hx hb dX11_key_1 rfl (lv_at hl 1 rfl) ?_
  obtain ⟨h_1, hF⟩ := gd_ok hF
  obtain ⟨r_3, hc_2, hF⟩ := bd_ok hF
  refine iX_X11_86 hC hX h_1 hc_2 hl.1 (Nat.le_of_ble_eq_true rfl) (Nat.le_of_ble_eq_true rfl) (Nat.le_of_ble_eq_true rfl) dX11_key_2 (fun H locs cells slots hX => ?_)
  refine lv_if_ne (tgt := 13) hx hb dX11_key_5 (by decide) (fun c_4 => ?_) (fun c_4 => ?_)
  · replace hF := it_f hF c_4
    refine X_aload_n hx hb dX11_key_13 rfl (lv_at hl 0 rfl) ?_
    obtain ⟨h_5, hF⟩ := gd_ok hF
    obtain ⟨h_7, hc_6, hF⟩ := bd_ok hF
    refine iX_X11_94 hC hX h_5 hc_6 hl.1 (Nat.le_of_ble_eq_true rfl) (Nat.le_of_ble_eq_true rfl) (Nat.le_of_ble_eq_true rfl) dX11_key_14 (fun H locs cells slots hX => ?_)
    cases hF
    exact x_retv hC hX hr rfl dX11_key_17
  · replace hF := it_t hF c_4
    refine X_aload_n hx hb dX11_key_8 rfl (lv_at hl 0 rfl) ?_
    obtain ⟨h_8, hF⟩ := gd_ok hF
    obtain ⟨r_11, h_10, hc_9, hF⟩ := bd2_ok hF
    refine iX_X11_90 hC hX h_8 hc_9 hl.1 (Nat.le_of_ble_eq_true rfl) (Nat.le_of_ble_eq_true rfl) (Nat.le_of_ble_eq_true rfl) dX11_key_9 (fun H locs cells slots hX => ?_)
    obtain ⟨h_12, hF⟩ := gd_ok hF
    cases hF
    exact x_throw hC hX hnh h_12 rfl rfl dX11_key_12
theorem m_X11_key (l : Launch) (D : XD) (a0 : Nat) (b0 : Nat) (h : TH) (x : ((Unit ⊕ Nat) × TH)) (hF : F_X11_key D.2.2.2 a0 b0 h = some x) : XMt l yX11_key (ws_ yX11_key cX11_key 2 (none)) 7 194 D [rv a0, rv b0] h (ocV x.1) x.2 := by
  refine x_met (by decide +kernel) ?_ ?_
  · simp [lg_sl, rv_cat, cat_i, cat_l]
  intro p e s m below meth c hC hr hnh hin ls hl hX
  replace hl : lv_has ls 2 [(0, rv a0), (1, rv b0)] := by simpa [lv_args, rv_cat, cat_i, cat_l] using hl
  exact w_X11_key hC hr hnh hin a0 b0 h hF s.heap [] 0 0 ls hX hl
/-! BlindCards$Reader.number -/
def F_X11_number_b29 (K : Nat → Nat) (x0 : Nat) (h : TH) : Option ((Int32 ⊕ Nat) × TH) :=
  gd (hc h + 1 ≤ XC ∧ hs h + 8 ≤ XS) <|
  lt (hz h + 1) fun r_2 =>
  lt (nO h 10 8) fun h_3 =>
  gd (hasF (hT h_3 x0) 69 = true) <|
  gd (r_2 ≠ 0) <|
  bd (F_X12_init K r_2 (4 : Int32) (hI h_3 69 x0) h_3) fun h_7 =>
  gd (r_2 ≠ 0) <|
  some (.inr r_2, h_7)
set_option maxHeartbeats 4000000 in
theorem w_X11_number_b29 {p : Program} {l : Launch} {e : Env} {s : State} {m : MethodId} {args : Array Value} {below : List Frame} {meth : Method} {c : Code} {D : XD} {h0 : TH} (hC : XCx D cX11_number 4 RX11 h0 p (xRm 7 194 h0) s m args meth c) (hr : meth.sig.returnType = some .int) (hnh : c.exceptionTable.isEmpty = true) (hin : meth.name = "number") {x : ((Int32 ⊕ Nat) × TH)} :
    ∀ (x0 : Nat) (h : TH), F_X11_number_b29 D.2.2.2 x0 h = some x → XJ p l e (xRm 7 194 h0) s m args below meth c D 4 (ocI x.1) h0 x.2 29 [(0, rv x0)] [] h := by
  have hx := hC.1
  have hb := hC.2.1
  intro x0 h hF H locs cells slots ls hX hl
  rw [F_X11_number_b29] at hF
  obtain ⟨h_1, hF⟩ := gd_ok hF
  refine nX_X11_75 hC hX h_1 dX11_number_29 (fun H cells slots hX => ?_)
  refine lv_topr (fun r_2 er_2 => ?_)
  replace hF := lt_at hF er_2
  obtain ⟨h_3, eh_3, hF⟩ := lt_ok hF
  rw [← eh_3] at hX
  refine lv_dup hx hb dX11_number_32 (rv_cat _) ?_
  refine lv_iconst (v := 4) hx hb dX11_number_33 (by decide) ?_
  refine X_aload_n hx hb dX11_number_34 rfl (lv_at hl 0 rfl) ?_
  obtain ⟨h_4, hF⟩ := gd_ok hF
  refine gX_X11_43 hC hX h_4 dX11_number_35 ?_
  obtain ⟨h_5, hF⟩ := gd_ok hF
  obtain ⟨h_7, hc_6, hF⟩ := bd_ok hF
  refine iX_X11_77 hC hX h_5 hc_6 hl.1 (cat4 (Nat.le_of_ble_eq_true rfl)) (Nat.le_of_ble_eq_true rfl) (Nat.le_of_ble_eq_true rfl) dX11_number_38 (fun H locs cells slots hX => ?_)
  obtain ⟨h_8, hF⟩ := gd_ok hF
  cases hF
  exact x_throw hC hX hnh h_8 rfl rfl dX11_number_41
def F_X11_number (K : Nat → Nat) (a0 : Nat) (b0 : Int32) (b1 : Int32) (h : TH) : Option ((Int32 ⊕ Nat) × TH) :=
  gd (hasF (hT h a0) 68 = true) <|
  if (hI h 68 a0) = (2 : Int32) then
    gd (hasF (hT h a0) 70 = true) <|
    if (hI h 70 a0) < b0 then
      F_X11_number_b29 K a0 h
    else
      gd (hasF (hT h a0) 70 = true) <|
      if (hI h 70 a0) ≤ b1 then
        gd (hasF (hT h a0) 70 = true) <|
        lt ((hI h 70 a0)) fun x_8 =>
        gd (hT h a0 = 7) <|
        bd (F_X11_go K a0 h) fun h_11 =>
        some (.inl x_8, h_11)
      else
        F_X11_number_b29 K a0 h
  else
    gd (hT h a0 = 7) <|
    bd2 (F_X11_wrong K a0 h) fun r_15 h_14 =>
    gd (r_15 ≠ 0) <|
    some (.inr r_15, h_14)
set_option maxHeartbeats 4000000 in
theorem w_X11_number {p : Program} {l : Launch} {e : Env} {s : State} {m : MethodId} {args : Array Value} {below : List Frame} {meth : Method} {c : Code} {D : XD} {h0 : TH} (hC : XCx D cX11_number 4 RX11 h0 p (xRm 7 194 h0) s m args meth c) (hr : meth.sig.returnType = some .int) (hnh : c.exceptionTable.isEmpty = true) (hin : meth.name = "number") {x : ((Int32 ⊕ Nat) × TH)} :
    ∀ (a0 : Nat) (b0 : Int32) (b1 : Int32) (h : TH), F_X11_number D.2.2.2 a0 b0 b1 h = some x → XJ p l e (xRm 7 194 h0) s m args below meth c D 4 (ocI x.1) h0 x.2 0 [(0, rv a0), (1, .int b0), (2, .int b1)] [] h := by
  have hx := hC.1
  have hb := hC.2.1
  intro a0 b0 b1 h hF H locs cells slots ls hX hl
  rw [F_X11_number] at hF
  refine X_aload_n hx hb dX11_number_0 rfl (lv_at hl 0 rfl) ?_
  obtain ⟨h_1, hF⟩ := gd_ok hF
  refine gX_X11_46 hC hX h_1 dX11_number_1 ?_
  refine lv_iconst (v := 2) hx hb dX11_number_4 (by decide) ?_
  refine lv_icmp_eq (tgt := 13) hx hb dX11_number_5 (by decide) (fun c_2 => ?_) (fun c_2 => ?_)
  · replace hF := it_t hF c_2
    refine X_aload_n hx hb dX11_number_13 rfl (lv_at hl 0 rfl) ?_
    obtain ⟨h_3, hF⟩ := gd_ok hF
    refine gX_X11_69 hC hX h_3 dX11_number_14 ?_
    refine lv_iload_n hx hb dX11_number_17 rfl (lv_at hl 1 rfl) ?_
    refine lv_icmp_lt (tgt := 29) hx hb dX11_number_18 (by decide) (fun c_4 => ?_) (fun c_4 => ?_)
    · replace hF := it_t hF c_4
      exact w_X11_number_b29 hC hr hnh hin a0 h hF H locs cells slots ls hX (lv_sub hl [0] rfl)
    · replace hF := it_f hF c_4
      refine X_aload_n hx hb dX11_number_21 rfl (lv_at hl 0 rfl) ?_
      obtain ⟨h_5, hF⟩ := gd_ok hF
      refine gX_X11_69 hC hX h_5 dX11_number_22 ?_
      refine lv_iload_n hx hb dX11_number_25 rfl (lv_at hl 2 rfl) ?_
      refine lv_icmp_le (tgt := 42) hx hb dX11_number_26 (by decide) (fun c_6 => ?_) (fun c_6 => ?_)
      · replace hF := it_t hF c_6
        refine X_aload_n hx hb dX11_number_42 rfl (lv_at hl 0 rfl) ?_
        obtain ⟨h_7, hF⟩ := gd_ok hF
        refine gX_X11_69 hC hX h_7 dX11_number_43 ?_
        refine lv_topi (fun x_8 ex_8 => ?_)
        replace hF := lt_at hF ex_8
        refine lv_istore_n (lv' := [(3, .int x_8), (0, rv a0), (1, .int b0), (2, .int b1)]) hx hb dX11_number_46 rfl hl (by decide) rfl (fun ls hl => ?_)
        refine X_aload_n hx hb dX11_number_47 rfl (lv_at hl 1 rfl) ?_
        obtain ⟨h_9, hF⟩ := gd_ok hF
        obtain ⟨h_11, hc_10, hF⟩ := bd_ok hF
        refine iX_X11_94 hC hX h_9 hc_10 hl.1 (Nat.le_of_ble_eq_true rfl) (Nat.le_of_ble_eq_true rfl) (Nat.le_of_ble_eq_true rfl) dX11_number_48 (fun H locs cells slots hX => ?_)
        refine lv_iload_n hx hb dX11_number_51 rfl (lv_at hl 0 rfl) ?_
        cases hF
        exact x_reti hC hX hr rfl rfl rfl dX11_number_52
      · replace hF := it_f hF c_6
        exact w_X11_number_b29 hC hr hnh hin a0 h hF H locs cells slots ls hX (lv_sub hl [0] rfl)
  · replace hF := it_f hF c_2
    refine X_aload_n hx hb dX11_number_8 rfl (lv_at hl 0 rfl) ?_
    obtain ⟨h_12, hF⟩ := gd_ok hF
    obtain ⟨r_15, h_14, hc_13, hF⟩ := bd2_ok hF
    refine iX_X11_90 hC hX h_12 hc_13 hl.1 (Nat.le_of_ble_eq_true rfl) (Nat.le_of_ble_eq_true rfl) (Nat.le_of_ble_eq_true rfl) dX11_number_9 (fun H locs cells slots hX => ?_)
    obtain ⟨h_16, hF⟩ := gd_ok hF
    cases hF
    exact x_throw hC hX hnh h_16 rfl rfl dX11_number_12
theorem m_X11_number (l : Launch) (D : XD) (a0 : Nat) (b0 : Int32) (b1 : Int32) (h : TH) (x : ((Int32 ⊕ Nat) × TH)) (hF : F_X11_number D.2.2.2 a0 b0 b1 h = some x) : XMt l yX11_number (ws_ yX11_number cX11_number 4 (some .int)) 7 194 D [rv a0, .int b0, .int b1] h (ocI x.1) x.2 := by
  refine x_met (by decide +kernel) ?_ ?_
  · simp [lg_sl, rv_cat, cat_i, cat_l]
  intro p e s m below meth c hC hr hnh hin ls hl hX
  replace hl : lv_has ls 4 [(0, rv a0), (1, .int b0), (2, .int b1)] := by simpa [lv_args, rv_cat, cat_i, cat_l] using hl
  exact w_X11_number hC hr hnh hin a0 b0 b1 h hF s.heap [] 0 0 ls hX hl
theorem iX_X11_196 {p : Program} {l : Launch} {e : Env} {R : Room} {s : State} {m : MethodId} {args : Array Value} {below : List Frame} {meth : Method} {c : Code} {H : Heap} {locs : List Loc} {cells slots nL : Nat} {Q : State → Prop} {D : XD} {h0 h : TH} {cc : ByteArray} {pc : Nat} {ls : Array Slot} {rest : List Value} {h1 : TH} (hC : XCx D cc nL RX11 h0 p R s m args meth c) (hX : XSt D s h0 h H locs cells slots) {a : Nat} {b0 : Int32} {b1 : Int32} {x : Int32} (ht : hT h a = 7) (hcF : F_X11_number D.2.2.2 a b0 b1 h = some (.inl x, h1)) (hl : ls.size = nL) (hW : (rest.map fun v => v.category).sum ≤ 8) (hRf : 7 + 1 ≤ R.frames) (hRl : 217 ≤ R.locals) (hdg : decode cc pc = .ok (.invokevirtual 196, 3)) (kk : ∀ (H1 : Heap) (locs1 : List Loc) (cells1 slots1 : Nat), XSt D s h0 h1 H1 locs1 cells1 slots1 → W p l e R s m args below meth c H1 locs1 cells1 slots1 Q (F0 m (pc + 3) ls (.int x :: rest))) : W p l e R s m args below meth c H locs cells slots Q (F0 m pc ls (.int b1 :: .int b0 :: rv a :: rest)) := by
  have q := ht
  exact X_callV hC hX (by rw [q]; decide) (by rw [q]; rfl) (As := [.int b0, .int b1]) (m_X11_number l D a b0 b1 h _ hcF) (cwV 2 hC.2.2.2.2.1 (lw_V q1101 q1103 qs12 q146 q1104) rfl rfl rfl (by decide +kernel) ⟨Nat.le_trans (Nat.le_of_ble_eq_true rfl) hRf, Nat.le_trans (Nat.le_of_ble_eq_true rfl) hRl⟩) rfl rfl hl hW hdg kk
theorem iX_X11_196_t {p : Program} {l : Launch} {e : Env} {R : Room} {s : State} {m : MethodId} {args : Array Value} {below : List Frame} {meth : Method} {c : Code} {H : Heap} {locs : List Loc} {cells slots nL : Nat} {D : XD} {h0 h : TH} {cc : ByteArray} {pc : Nat} {ls : Array Slot} {rest : List Value} {h1 : TH} (hC : XCx D cc nL RX11 h0 p R s m args meth c) (hX : XSt D s h0 h H locs cells slots) (hnh : c.exceptionTable.isEmpty = true) {a : Nat} {b0 : Int32} {b1 : Int32} {x : Nat} (ht : hT h a = 7) (hcF : F_X11_number D.2.2.2 a b0 b1 h = some (.inr x, h1)) (hl : ls.size = nL) (hW : (rest.map fun v => v.category).sum ≤ 8) (hRf : 7 + 1 ≤ R.frames) (hRl : 217 ≤ R.locals) (hdg : decode cc pc = .ok (.invokevirtual 196, 3)) : W p l e R s m args below meth c H locs cells slots (XMQ below D (.threw (x - 1)) h0 h1 s) (F0 m pc ls (.int b1 :: .int b0 :: rv a :: rest)) := by
  have q := ht
  exact X_callVT hC hX hnh (by rw [q]; decide) (by rw [q]; rfl) (As := [.int b0, .int b1]) (m_X11_number l D a b0 b1 h _ hcF) (cwV 2 hC.2.2.2.2.1 (lw_V q1101 q1103 qs12 q146 q1104) rfl rfl rfl (by decide +kernel) ⟨Nat.le_trans (Nat.le_of_ble_eq_true rfl) hRf, Nat.le_trans (Nat.le_of_ble_eq_true rfl) hRl⟩) rfl rfl hl hW hdg rfl
/-! BlindCards$Reader.place -/
def F_X11_place (K : Nat → Nat) (a0 : Nat) (h : TH) : Option ((Int32 ⊕ Nat) × TH) :=
  gd (hT h a0 = 7) <|
  bt (F_X11_number K a0 (0 : Int32) (7 : Int32) h) fun r_3 h_4 =>
  some (.inl r_3, h_4)
set_option maxHeartbeats 4000000 in
theorem w_X11_place {p : Program} {l : Launch} {e : Env} {s : State} {m : MethodId} {args : Array Value} {below : List Frame} {meth : Method} {c : Code} {D : XD} {h0 : TH} (hC : XCx D cX11_place 1 RX11 h0 p (xRm 8 217 h0) s m args meth c) (hr : meth.sig.returnType = some .int) (hnh : c.exceptionTable.isEmpty = true) (hin : meth.name = "place") {x : ((Int32 ⊕ Nat) × TH)} :
    ∀ (a0 : Nat) (h : TH), F_X11_place D.2.2.2 a0 h = some x → XJ p l e (xRm 8 217 h0) s m args below meth c D 1 (ocI x.1) h0 x.2 0 [(0, rv a0)] [] h := by
  have hx := hC.1
  have hb := hC.2.1
  intro a0 h hF H locs cells slots ls hX hl
  rw [F_X11_place] at hF
  refine X_aload_n hx hb dX11_place_0 rfl (lv_at hl 0 rfl) ?_
  refine lv_iconst (v := 0) hx hb dX11_place_1 (by decide) ?_
  refine lv_bipush (v := 7) hx hb dX11_place_2 (by decide) ?_
  obtain ⟨h_1, hF⟩ := gd_ok hF
  rcases bt_ok hF with ⟨r_3, h_4, hc_2, hF⟩ | ⟨z_5, h_4, hc_2, hxx⟩
  rotate_left
  · subst hxx
    exact iX_X11_196_t hC hX hnh h_1 hc_2 hl.1 (Nat.le_of_ble_eq_true rfl) (Nat.le_of_ble_eq_true rfl) (Nat.le_of_ble_eq_true rfl) dX11_place_4
  refine iX_X11_196 hC hX h_1 hc_2 hl.1 (Nat.le_of_ble_eq_true rfl) (Nat.le_of_ble_eq_true rfl) (Nat.le_of_ble_eq_true rfl) dX11_place_4 (fun H locs cells slots hX => ?_)
  cases hF
  exact x_reti hC hX hr rfl rfl rfl dX11_place_7
theorem m_X11_place (l : Launch) (D : XD) (a0 : Nat) (h : TH) (x : ((Int32 ⊕ Nat) × TH)) (hF : F_X11_place D.2.2.2 a0 h = some x) : XMt l yX11_place (ws_ yX11_place cX11_place 1 (some .int)) 8 217 D [rv a0] h (ocI x.1) x.2 := by
  refine x_met (by decide +kernel) ?_ ?_
  · simp [lg_sl, rv_cat, cat_i, cat_l]
  intro p e s m below meth c hC hr hnh hin ls hl hX
  replace hl : lv_has ls 1 [(0, rv a0)] := by simpa [lv_args, rv_cat, cat_i, cat_l] using hl
  exact w_X11_place hC hr hnh hin a0 h hF s.heap [] 0 0 ls hX hl
theorem iX_X16_3 {p : Program} {l : Launch} {e : Env} {R : Room} {s : State} {m : MethodId} {args : Array Value} {below : List Frame} {meth : Method} {c : Code} {H : Heap} {locs : List Loc} {cells slots nL : Nat} {Q : State → Prop} {D : XD} {h0 h : TH} {cc : ByteArray} {pc : Nat} {ls : Array Slot} {rest : List Value} (hC : XCx D cc nL RX16 h0 p R s m args meth c) (hX : XSt D s h0 h H locs cells slots) {a : Nat} {x : Unit} (ha : a ≠ 0) (hcF : F_X7_init D.2.2.2 h a = some x) (hl : ls.size = nL) (hW : (rest.map fun v => v.category).sum ≤ 8) (hRf : 2 + 1 ≤ R.frames) (hRl : 70 ≤ R.locals) (hdg : decode cc pc = .ok (.invokespecial 3, 3)) (kk : ∀ (H1 : Heap) (locs1 : List Loc) (cells1 slots1 : Nat), XSt D s h0 h H1 locs1 cells1 slots1 → W p l e R s m args below meth c H1 locs1 cells1 slots1 Q (F0 m (pc + 3) ls (rest))) : W p l e R s m args below meth c H locs cells slots Q (F0 m pc ls (rv a :: rest)) := by
  exact X_callIN hC hX ha (As := []) (m_X7_init l D a h _ hcF) ⟨va_cnB 0 hC.2.2.2.2.1 (lw_meth q1300) rfl rfl rfl (xm13 hC.2.2.2.2.2.2.1) (hC.2.2.2.2.1 _ q141) (by decide +kernel) ⟨Nat.le_trans (Nat.le_of_ble_eq_true rfl) hRf, Nat.le_trans (Nat.le_of_ble_eq_true rfl) hRl⟩, rfl, hC.2.2.2.2.1 _ q1299⟩ rfl rfl hl hW hdg kk
theorem pX_X16_9 {p : Program} {l : Launch} {e : Env} {R : Room} {s : State} {m : MethodId} {args : Array Value} {below : List Frame} {meth : Method} {c : Code} {H : Heap} {locs : List Loc} {cells slots nL : Nat} {Q : State → Prop} {D : XD} {h0 h : TH} {cc : ByteArray} {pc : Nat} {ls : Array Slot} {rest : List Value} (hC : XCx D cc nL RX16 h0 p R s m args meth c) (hX : XSt D s h0 h H locs cells slots) (hinit : meth.name = "<init>") {a : Nat} {v : Nat} (hf : hasF (hT h a) 96 = true) (hw : hT h a ≤ 24) (hsep : (96 = 58 ∨ 96 = 63 ∨ 96 = 66 → hR h 49 a = 0) ∧ (96 = 49 → ∀ g, g = 58 ∨ g = 63 ∨ g = 66 → hasF (hT h a) g = true → hR h g a = v)) (hdg : decode cc pc = .ok (.putfield 9, 3)) (kk : ∀ (H1 : Heap) (locs1 : List Loc), XSt D s h0 (uR h 96 a v) H1 locs1 cells slots → W p l e R s m args below meth c H1 locs1 cells slots Q (F0 m (pc + 3) ls rest)) : W p l e R s m args below meth c H locs cells slots Q (F0 m pc ls (rv v :: rv a :: rest)) :=
  X_putrF hC hX hinit 96 hf hw rfl rfl rfl q1305 hsep hdg kk
theorem pX_X16_15 {p : Program} {l : Launch} {e : Env} {R : Room} {s : State} {m : MethodId} {args : Array Value} {below : List Frame} {meth : Method} {c : Code} {H : Heap} {locs : List Loc} {cells slots nL : Nat} {Q : State → Prop} {D : XD} {h0 h : TH} {cc : ByteArray} {pc : Nat} {ls : Array Slot} {rest : List Value} (hC : XCx D cc nL RX16 h0 p R s m args meth c) (hX : XSt D s h0 h H locs cells slots) (hinit : meth.name = "<init>") {a : Nat} {v : Int32} (hf : hasF (hT h a) 97 = true) (hw : hT h a ≤ 24) (hdg : decode cc pc = .ok (.putfield 15, 3)) (kk : ∀ (H1 : Heap) (locs1 : List Loc), XSt D s h0 (uI h 97 a v) H1 locs1 cells slots → W p l e R s m args below meth c H1 locs1 cells slots Q (F0 m (pc + 3) ls rest)) : W p l e R s m args below meth c H locs cells slots Q (F0 m pc ls (.int v :: rv a :: rest)) :=
  X_putiF hC hX hinit 97 hf hw rfl rfl rfl q1307 ⟨rfl, rfl⟩ hdg kk
/-! BlindCards$Told.<init> -/
def F_X16_init_L19 (K : Nat → Nat) : Nat → Nat → Int32 → TH → Option TH
  | 0, _, _, _ => none
  | fu + 1, x0, x2, h =>
    if (8 : Int32) ≤ x2 then
      some h
    else
      gd (hasF (hT h x0) 96 = true) <|
      lt (hR h 96 x0) fun r_3 =>
      gd (hT h r_3 = 31) <|
      gd (inb x2 (hN h r_3)) <|
      lt (uA h r_3 (Int32.toNatClampNeg x2) x2) fun h_6 =>
      lt (x2 + (1 : Int32)) fun x2_7 =>
      F_X16_init_L19 K fu x0 x2_7 h_6
set_option maxHeartbeats 4000000 in
theorem w_X16_init_L19 {p : Program} {l : Launch} {e : Env} {s : State} {m : MethodId} {args : Array Value} {below : List Frame} {meth : Method} {c : Code} {D : XD} {h0 : TH} (hC : XCx D cX16_init 3 RX16 h0 p (xRm 3 70 h0) s m args meth c) (hr : meth.sig.returnType = none) (hnh : c.exceptionTable.isEmpty = true) (hin : meth.name = "<init>") {x : TH} :
    ∀ (fu : Nat) (x0 : Nat) (x2 : Int32) (h : TH), F_X16_init_L19 D.2.2.2 fu x0 x2 h = some x → XJ p l e (xRm 3 70 h0) s m args below meth c D 3 (.returned none) h0 x 19 [(0, rv x0), (2, .int x2)] [] h := by
  have hx := hC.1
  have hb := hC.2.1
  intro fu
  induction fu with
  | zero => intro x0 x2 h hF; exact nm_none hF
  | succ fu ih =>
    intro x0 x2 h hF H locs cells slots ls hX hl
    rw [F_X16_init_L19] at hF
    refine lv_iload_n hx hb dX16_init_19 rfl (lv_at hl 1 rfl) ?_
    refine lv_bipush (v := 8) hx hb dX16_init_20 (by decide) ?_
    refine lv_icmp_ge (tgt := 38) hx hb dX16_init_22 (by decide) (fun c_1 => ?_) (fun c_1 => ?_)
    · replace hF := it_t hF c_1
      exact x_retv hC hX hr (Option.some.inj hF) dX16_init_38
    · replace hF := it_f hF c_1
      refine X_aload_n hx hb dX16_init_25 rfl (lv_at hl 0 rfl) ?_
      obtain ⟨h_2, hF⟩ := gd_ok hF
      refine gX_X16_9 hC hX h_2 dX16_init_26 ?_
      refine lv_topr (fun r_3 er_3 => ?_)
      replace hF := lt_at hF er_3
      refine lv_iload_n hx hb dX16_init_29 rfl (lv_at hl 1 rfl) ?_
      refine lv_iload_n hx hb dX16_init_30 rfl (lv_at hl 1 rfl) ?_
      obtain ⟨h_4, hF⟩ := gd_ok hF
      obtain ⟨h_5, hF⟩ := gd_ok hF
      refine X_iast hC hX h_4 h_5 dX16_init_31 (fun H locs hX => ?_)
      obtain ⟨h_6, eh_6, hF⟩ := lt_ok hF
      rw [← eh_6] at hX
      obtain ⟨x2_7, ex2_7, hF⟩ := lt_ok hF
      refine lv_iinc (v := x2_7) (lv' := [(2, .int x2_7), (0, rv x0)]) hx hb dX16_init_32 hl (k := 1) rfl (by rw [ex2_7]; rfl) (by decide) rfl (fun ls hl => ?_)
      refine lv_goto (tgt := 19) hx hb dX16_init_35 (by decide) ?_
      exact ih x0 x2_7 h_6 hF H locs cells slots ls hX (lv_sub hl [1, 0] rfl)
def F_X16_init (K : Nat → Nat) (a0 : Nat) (b0 : Int32) (h : TH) : Option TH :=
  gd (a0 ≠ 0) <|
  bd (F_X7_init K h a0) fun u_3 =>
  gd (¬ (8 : Int32) < 0) <|
  gd (Int32.toNatClampNeg (8 : Int32) ≤ 67108864) <|
  gd (hc h + 1 ≤ XC ∧ hs h + Int32.toNatClampNeg (8 : Int32) ≤ XS) <|
  lt (hz h + 1) fun r_7 =>
  lt (nA h 31 (Int32.toNatClampNeg (8 : Int32))) fun h_8 =>
  gd (hasF (hT h_8 a0) 96 = true) <|
  gd (hT h_8 a0 ≤ 24) <|
  lt (uR h_8 96 a0 r_7) fun h_11 =>
  gd (hasF (hT h_11 a0) 97 = true) <|
  gd (hT h_11 a0 ≤ 24) <|
  lt (uI h_11 97 a0 b0) fun h_14 =>
  F_X16_init_L19 K MN a0 (0 : Int32) h_14
set_option maxHeartbeats 4000000 in
theorem w_X16_init {p : Program} {l : Launch} {e : Env} {s : State} {m : MethodId} {args : Array Value} {below : List Frame} {meth : Method} {c : Code} {D : XD} {h0 : TH} (hC : XCx D cX16_init 3 RX16 h0 p (xRm 3 70 h0) s m args meth c) (hr : meth.sig.returnType = none) (hnh : c.exceptionTable.isEmpty = true) (hin : meth.name = "<init>") {x : TH} :
    ∀ (a0 : Nat) (b0 : Int32) (h : TH), F_X16_init D.2.2.2 a0 b0 h = some x → XJ p l e (xRm 3 70 h0) s m args below meth c D 3 (.returned none) h0 x 0 [(0, rv a0), (1, .int b0)] [] h := by
  have hx := hC.1
  have hb := hC.2.1
  intro a0 b0 h hF H locs cells slots ls hX hl
  rw [F_X16_init] at hF
  refine X_aload_n hx hb dX16_init_0 rfl (lv_at hl 0 rfl) ?_
  obtain ⟨h_1, hF⟩ := gd_ok hF
  obtain ⟨u_3, hc_2, hF⟩ := bd_ok hF
  refine iX_X16_3 hC hX h_1 hc_2 hl.1 (Nat.le_of_ble_eq_true rfl) (Nat.le_of_ble_eq_true rfl) (Nat.le_of_ble_eq_true rfl) dX16_init_1 (fun H locs cells slots hX => ?_)
  refine X_aload_n hx hb dX16_init_4 rfl (lv_at hl 0 rfl) ?_
  refine lv_bipush (v := 8) hx hb dX16_init_5 (by decide) ?_
  obtain ⟨h_4, hF⟩ := gd_ok hF
  obtain ⟨h_5, hF⟩ := gd_ok hF
  obtain ⟨h_6, hF⟩ := gd_ok hF
  refine X_newa hC hX (atype := .int) 31 (Or.inl rfl) rfl q216 h_4 h_5 h_6 dX16_init_7 (fun H cells slots hX => ?_)
  refine lv_topr (fun r_7 er_7 => ?_)
  replace hF := lt_at hF er_7
  obtain ⟨h_8, eh_8, hF⟩ := lt_ok hF
  rw [← eh_8] at hX
  obtain ⟨h_9, hF⟩ := gd_ok hF
  obtain ⟨h_10, hF⟩ := gd_ok hF
  refine pX_X16_9 hC hX hin h_9 h_10 ⟨fun q => absurd q (by decide), fun q => absurd q (by decide)⟩ dX16_init_9 (fun H locs hX => ?_)
  obtain ⟨h_11, eh_11, hF⟩ := lt_ok hF
  rw [← eh_11] at hX
  refine X_aload_n hx hb dX16_init_12 rfl (lv_at hl 0 rfl) ?_
  refine lv_iload_n hx hb dX16_init_13 rfl (lv_at hl 1 rfl) ?_
  obtain ⟨h_12, hF⟩ := gd_ok hF
  obtain ⟨h_13, hF⟩ := gd_ok hF
  refine pX_X16_15 hC hX hin h_12 h_13 dX16_init_14 (fun H locs hX => ?_)
  obtain ⟨h_14, eh_14, hF⟩ := lt_ok hF
  rw [← eh_14] at hX
  refine lv_iconst (v := 0) hx hb dX16_init_17 (by decide) ?_
  refine lv_istore_n (lv' := [(2, .int (0 : Int32)), (0, rv a0), (1, .int b0)]) hx hb dX16_init_18 rfl hl (by decide) rfl (fun ls hl => ?_)
  exact w_X16_init_L19 hC hr hnh hin MN a0 (0 : Int32) h_14 hF H locs cells slots ls hX (lv_sub hl [1, 0] rfl)
theorem m_X16_init (l : Launch) (D : XD) (a0 : Nat) (b0 : Int32) (h : TH) (x : TH) (hF : F_X16_init D.2.2.2 a0 b0 h = some x) : XMt l yX16_init (ws_ yX16_init cX16_init 3 (none)) 3 70 D [rv a0, .int b0] h (.returned none) x := by
  refine x_met (by decide +kernel) ?_ ?_
  · simp [lg_sl, rv_cat, cat_i, cat_l]
  intro p e s m below meth c hC hr hnh hin ls hl hX
  replace hl : lv_has ls 3 [(0, rv a0), (1, .int b0)] := by simpa [lv_args, rv_cat, cat_i, cat_l] using hl
  exact w_X16_init hC hr hnh hin a0 b0 h hF s.heap [] 0 0 ls hX hl
theorem iX_X11_271 {p : Program} {l : Launch} {e : Env} {R : Room} {s : State} {m : MethodId} {args : Array Value} {below : List Frame} {meth : Method} {c : Code} {H : Heap} {locs : List Loc} {cells slots nL : Nat} {Q : State → Prop} {D : XD} {h0 h : TH} {cc : ByteArray} {pc : Nat} {ls : Array Slot} {rest : List Value} {h1 : TH} (hC : XCx D cc nL RX11 h0 p R s m args meth c) (hX : XSt D s h0 h H locs cells slots) {a : Nat} {x : Int32} (ht : hT h a = 7) (hcF : F_X11_place D.2.2.2 a h = some (.inl x, h1)) (hl : ls.size = nL) (hW : (rest.map fun v => v.category).sum ≤ 8) (hRf : 8 + 1 ≤ R.frames) (hRl : 237 ≤ R.locals) (hdg : decode cc pc = .ok (.invokevirtual 271, 3)) (kk : ∀ (H1 : Heap) (locs1 : List Loc) (cells1 slots1 : Nat), XSt D s h0 h1 H1 locs1 cells1 slots1 → W p l e R s m args below meth c H1 locs1 cells1 slots1 Q (F0 m (pc + 3) ls (.int x :: rest))) : W p l e R s m args below meth c H locs cells slots Q (F0 m pc ls (rv a :: rest)) := by
  have q := ht
  exact X_callV hC hX (by rw [q]; decide) (by rw [q]; rfl) (As := []) (m_X11_place l D a h _ hcF) (cwV 0 hC.2.2.2.2.1 (lw_V q1288 q1290 qs28 q146 q1291) rfl rfl rfl (by decide +kernel) ⟨Nat.le_trans (Nat.le_of_ble_eq_true rfl) hRf, Nat.le_trans (Nat.le_of_ble_eq_true rfl) hRl⟩) rfl rfl hl hW hdg kk
theorem iX_X11_271_t {p : Program} {l : Launch} {e : Env} {R : Room} {s : State} {m : MethodId} {args : Array Value} {below : List Frame} {meth : Method} {c : Code} {H : Heap} {locs : List Loc} {cells slots nL : Nat} {D : XD} {h0 h : TH} {cc : ByteArray} {pc : Nat} {ls : Array Slot} {rest : List Value} {h1 : TH} (hC : XCx D cc nL RX11 h0 p R s m args meth c) (hX : XSt D s h0 h H locs cells slots) (hnh : c.exceptionTable.isEmpty = true) {a : Nat} {x : Nat} (ht : hT h a = 7) (hcF : F_X11_place D.2.2.2 a h = some (.inr x, h1)) (hl : ls.size = nL) (hW : (rest.map fun v => v.category).sum ≤ 8) (hRf : 8 + 1 ≤ R.frames) (hRl : 237 ≤ R.locals) (hdg : decode cc pc = .ok (.invokevirtual 271, 3)) : W p l e R s m args below meth c H locs cells slots (XMQ below D (.threw (x - 1)) h0 h1 s) (F0 m pc ls (rv a :: rest)) := by
  have q := ht
  exact X_callVT hC hX hnh (by rw [q]; decide) (by rw [q]; rfl) (As := []) (m_X11_place l D a h _ hcF) (cwV 0 hC.2.2.2.2.1 (lw_V q1288 q1290 qs28 q146 q1291) rfl rfl rfl (by decide +kernel) ⟨Nat.le_trans (Nat.le_of_ble_eq_true rfl) hRf, Nat.le_trans (Nat.le_of_ble_eq_true rfl) hRl⟩) rfl rfl hl hW hdg rfl
theorem nX_X11_284 {p : Program} {l : Launch} {e : Env} {R : Room} {s : State} {m : MethodId} {args : Array Value} {below : List Frame} {meth : Method} {c : Code} {H : Heap} {locs : List Loc} {cells slots nL : Nat} {Q : State → Prop} {D : XD} {h0 h : TH} {cc : ByteArray} {pc : Nat} {ls : Array Slot} {rest : List Value} (hC : XCx D cc nL RX11 h0 p R s m args meth c) (hX : XSt D s h0 h H locs cells slots) (hroom : hc h + 1 ≤ XC ∧ hs h + 2 ≤ XS) (hdg : decode cc pc = .ok (.new 284, 3)) (kk : ∀ (H1 : Heap) (cells1 slots1 : Nat), XSt D s h0 (nO h 14 2) H1 locs cells1 slots1 → W p l e R s m args below meth c H1 locs cells1 slots1 Q (F0 m (pc + 3) ls (rv (hz h + 1) :: rest))) : W p l e R s m args below meth c H locs cells slots Q (F0 m pc ls rest) :=
  X_new hC hX 14 ⟨by decide, by decide⟩ rfl q1292 q1293 q160 hroom hdg kk
theorem iX_X11_291 {p : Program} {l : Launch} {e : Env} {R : Room} {s : State} {m : MethodId} {args : Array Value} {below : List Frame} {meth : Method} {c : Code} {H : Heap} {locs : List Loc} {cells slots nL : Nat} {Q : State → Prop} {D : XD} {h0 h : TH} {cc : ByteArray} {pc : Nat} {ls : Array Slot} {rest : List Value} (hC : XCx D cc nL RX11 h0 p R s m args meth c) (hX : XSt D s h0 h H locs cells slots) {a : Nat} {b0 : Int32} {x : TH} (ha : a ≠ 0) (hcF : F_X16_init D.2.2.2 a b0 h = some x) (hl : ls.size = nL) (hW : (rest.map fun v => v.category).sum ≤ 8) (hRf : 3 + 1 ≤ R.frames) (hRl : 92 ≤ R.locals) (hdg : decode cc pc = .ok (.invokespecial 291, 3)) (kk : ∀ (H1 : Heap) (locs1 : List Loc) (cells1 slots1 : Nat), XSt D s h0 x H1 locs1 cells1 slots1 → W p l e R s m args below meth c H1 locs1 cells1 slots1 Q (F0 m (pc + 3) ls (rest))) : W p l e R s m args below meth c H locs cells slots Q (F0 m pc ls (.int b0 :: rv a :: rest)) := by
  exact X_callI hC hX ha (As := [.int b0]) (m_X16_init l D a b0 h _ hcF) (cwI 1 hC.2.2.2.2.1 (lw_meth q1297) rfl rfl rfl (hC.2.2.2.2.1 _ q160) (hC.2.2.2.2.1 _ q1295) (hC.2.2.2.2.1 _ q1296) rfl (by decide +kernel) ⟨Nat.le_trans (Nat.le_of_ble_eq_true rfl) hRf, Nat.le_trans (Nat.le_of_ble_eq_true rfl) hRl⟩) rfl rfl hl hW hdg kk
theorem gX_X11_292 {p : Program} {l : Launch} {e : Env} {R : Room} {s : State} {m : MethodId} {args : Array Value} {below : List Frame} {meth : Method} {c : Code} {H : Heap} {locs : List Loc} {cells slots nL : Nat} {Q : State → Prop} {D : XD} {h0 h : TH} {cc : ByteArray} {pc : Nat} {ls : Array Slot} {rest : List Value} (hC : XCx D cc nL RX11 h0 p R s m args meth c) (hX : XSt D s h0 h H locs cells slots) {a : Nat} (hf : hasF (hT h a) 96 = true) (hdg : decode cc pc = .ok (.getfield 292, 3)) (kk : W p l e R s m args below meth c H locs cells slots Q (F0 m (pc + 3) ls (rv (hR h 96 a) :: rest))) : W p l e R s m args below meth c H locs cells slots Q (F0 m pc ls (rv a :: rest)) :=
  X_getrN hC hX 96 hf rfl (fun q => absurd q (by decide)) (List.mem_of_getElem? (i := 10) rfl) hdg kk
/-! BlindCards$Reader.row -/
def F_X11_row_L117 (K : Nat → Nat) : Nat → Nat → Int32 → Nat → Int32 → TH → Option ((Nat ⊕ Nat) × TH)
  | 0, _, _, _, _, _ => none
  | fu + 1, x1, x2, x5, x6, h =>
    if x2 ≤ x6 then
      some (.inl x5, h)
    else
      gd (hasF (hT h x5) 96 = true) <|
      lt (hR h 96 x5) fun r_3 =>
      gd (hT h x1 = 31 ∨ hT h x1 = 43) <|
      gd (inb x6 (hN h x1)) <|
      gd (hT h r_3 = 31) <|
      gd (inb (hA h x1 (Int32.toNatClampNeg x6)) (hN h r_3)) <|
      lt (uA h r_3 (Int32.toNatClampNeg (hA h x1 (Int32.toNatClampNeg x6))) x6) fun h_8 =>
      lt (x6 + (1 : Int32)) fun x6_9 =>
      F_X11_row_L117 K fu x1 x2 x5 x6_9 h_8
set_option maxHeartbeats 4000000 in
theorem w_X11_row_L117 {p : Program} {l : Launch} {e : Env} {s : State} {m : MethodId} {args : Array Value} {below : List Frame} {meth : Method} {c : Code} {D : XD} {h0 : TH} (hC : XCx D cX11_row 7 RX11 h0 p (xRm 9 237 h0) s m args meth c) (hr : meth.sig.returnType = some (.object "BlindCards$Move")) (hnh : c.exceptionTable.isEmpty = true) (hin : meth.name = "row") {x : ((Nat ⊕ Nat) × TH)} :
    ∀ (fu : Nat) (x1 : Nat) (x2 : Int32) (x5 : Nat) (x6 : Int32) (h : TH), F_X11_row_L117 D.2.2.2 fu x1 x2 x5 x6 h = some x → XJ p l e (xRm 9 237 h0) s m args below meth c D 7 (ocR x.1) h0 x.2 117 [(1, rv x1), (2, .int x2), (5, rv x5), (6, .int x6)] [] h := by
  have hx := hC.1
  have hb := hC.2.1
  intro fu
  induction fu with
  | zero => intro x1 x2 x5 x6 h hF; exact nm_none hF
  | succ fu ih =>
    intro x1 x2 x5 x6 h hF H locs cells slots ls hX hl
    rw [F_X11_row_L117] at hF
    refine lv_iload hx hb dX11_row_117 (lv_at hl 3 rfl) ?_
    refine lv_iload_n hx hb dX11_row_119 rfl (lv_at hl 1 rfl) ?_
    refine lv_icmp_ge (tgt := 141) hx hb dX11_row_120 (by decide) (fun c_1 => ?_) (fun c_1 => ?_)
    · replace hF := it_t hF c_1
      refine X_aload hx hb dX11_row_141 (lv_at hl 2 rfl) ?_
      cases hF
      exact x_reta hC hX hr (Or.inl ⟨_, rfl⟩) rfl rfl dX11_row_143
    · replace hF := it_f hF c_1
      refine X_aload hx hb dX11_row_123 (lv_at hl 2 rfl) ?_
      obtain ⟨h_2, hF⟩ := gd_ok hF
      refine gX_X11_292 hC hX h_2 dX11_row_125 ?_
      refine lv_topr (fun r_3 er_3 => ?_)
      replace hF := lt_at hF er_3
      refine X_aload_n hx hb dX11_row_128 rfl (lv_at hl 0 rfl) ?_
      refine lv_iload hx hb dX11_row_129 (lv_at hl 3 rfl) ?_
      obtain ⟨h_4, hF⟩ := gd_ok hF
      obtain ⟨h_5, hF⟩ := gd_ok hF
      refine X_iald hC hX h_4 h_5 dX11_row_131 ?_
      refine lv_iload hx hb dX11_row_132 (lv_at hl 3 rfl) ?_
      obtain ⟨h_6, hF⟩ := gd_ok hF
      obtain ⟨h_7, hF⟩ := gd_ok hF
      refine X_iast hC hX h_6 h_7 dX11_row_134 (fun H locs hX => ?_)
      obtain ⟨h_8, eh_8, hF⟩ := lt_ok hF
      rw [← eh_8] at hX
      obtain ⟨x6_9, ex6_9, hF⟩ := lt_ok hF
      refine lv_iinc (v := x6_9) hx hb dX11_row_135 hl (k := 3) rfl (by rw [ex6_9]; rfl) (by decide) rfl (fun ls hl => ?_)
      replace hl : lv_has ls 7 [(6, .int x6_9), (1, rv x1), (2, .int x2), (5, rv x5)] := lv_subS hl (List.forall_mem_cons.mpr ⟨Or.inl rfl, (List.forall_mem_cons.mpr ⟨Or.inr ⟨List.mem_of_getElem? (i := 0) rfl, rfl⟩, (List.forall_mem_cons.mpr ⟨Or.inr ⟨List.mem_of_getElem? (i := 1) rfl, rfl⟩, (List.forall_mem_cons.mpr ⟨Or.inr ⟨List.mem_of_getElem? (i := 2) rfl, by simp [rv_cat]⟩, (fun _ h => nomatch h)⟩)⟩)⟩)⟩)
      refine lv_goto (tgt := 117) hx hb dX11_row_138 (by decide) ?_
      exact ih x1 x2 x5 x6_9 h_8 hF H locs cells slots ls hX (lv_sub hl [1, 2, 3, 0] rfl)
def F_X11_row_b84 (K : Nat → Nat) (x1 : Nat) (x2 : Int32) (x3 : Int32) (x4 : Int32) (h : TH) : Option ((Nat ⊕ Nat) × TH) :=
  if x3 = (((1 : Int32) <<< (x2 &&& 31)) - (1 : Int32)) then
    gd (hc h + 1 ≤ XC ∧ hs h + 2 ≤ XS) <|
    lt (hz h + 1) fun r_3 =>
    lt (nO h 14 2) fun h_4 =>
    gd (r_3 ≠ 0) <|
    bd (F_X16_init K r_3 x2 h_4) fun h_7 =>
    F_X11_row_L117 K MN x1 x2 r_3 (0 : Int32) h_7
  else
    gd (hc h + 1 ≤ XC ∧ hs h + 8 ≤ XS) <|
    lt (hz h + 1) fun r_9 =>
    lt (nO h 10 8) fun h_10 =>
    gd (r_9 ≠ 0) <|
    bd (F_X12_init K r_9 (4 : Int32) x4 h_10) fun h_13 =>
    gd (r_9 ≠ 0) <|
    some (.inr r_9, h_13)
set_option maxHeartbeats 4000000 in
theorem w_X11_row_b84 {p : Program} {l : Launch} {e : Env} {s : State} {m : MethodId} {args : Array Value} {below : List Frame} {meth : Method} {c : Code} {D : XD} {h0 : TH} (hC : XCx D cX11_row 7 RX11 h0 p (xRm 9 237 h0) s m args meth c) (hr : meth.sig.returnType = some (.object "BlindCards$Move")) (hnh : c.exceptionTable.isEmpty = true) (hin : meth.name = "row") {x : ((Nat ⊕ Nat) × TH)} :
    ∀ (x1 : Nat) (x2 : Int32) (x3 : Int32) (x4 : Int32) (h : TH), F_X11_row_b84 D.2.2.2 x1 x2 x3 x4 h = some x → XJ p l e (xRm 9 237 h0) s m args below meth c D 7 (ocR x.1) h0 x.2 84 [(1, rv x1), (2, .int x2), (3, .int x3), (4, .int x4)] [] h := by
  have hx := hC.1
  have hb := hC.2.1
  intro x1 x2 x3 x4 h hF H locs cells slots ls hX hl
  rw [F_X11_row_b84] at hF
  refine lv_iload_n hx hb dX11_row_84 rfl (lv_at hl 2 rfl) ?_
  refine lv_iconst (v := 1) hx hb dX11_row_85 (by decide) ?_
  refine lv_iload_n hx hb dX11_row_86 rfl (lv_at hl 1 rfl) ?_
  refine lv_ishl hx hb dX11_row_87 ?_
  refine lv_iconst (v := 1) hx hb dX11_row_88 (by decide) ?_
  refine lv_isub hx hb dX11_row_89 ?_
  refine lv_icmp_eq (tgt := 104) hx hb dX11_row_90 (by decide) (fun c_1 => ?_) (fun c_1 => ?_)
  · replace hF := it_t hF c_1
    obtain ⟨h_2, hF⟩ := gd_ok hF
    refine nX_X11_284 hC hX h_2 dX11_row_104 (fun H cells slots hX => ?_)
    refine lv_topr (fun r_3 er_3 => ?_)
    replace hF := lt_at hF er_3
    obtain ⟨h_4, eh_4, hF⟩ := lt_ok hF
    rw [← eh_4] at hX
    refine lv_dup hx hb dX11_row_107 (rv_cat _) ?_
    refine lv_iload_n hx hb dX11_row_108 rfl (lv_at hl 1 rfl) ?_
    obtain ⟨h_5, hF⟩ := gd_ok hF
    obtain ⟨h_7, hc_6, hF⟩ := bd_ok hF
    refine iX_X11_291 hC hX h_5 hc_6 hl.1 (cat4 (Nat.le_of_ble_eq_true rfl)) (Nat.le_of_ble_eq_true rfl) (Nat.le_of_ble_eq_true rfl) dX11_row_109 (fun H locs cells slots hX => ?_)
    refine X_astore (lv' := [(5, rv r_3), (1, rv x1), (2, .int x2), (3, .int x3), (4, .int x4)]) hx hb dX11_row_112 hl (by decide) rfl (fun ls hl => ?_)
    refine lv_iconst (v := 0) hx hb dX11_row_114 (by decide) ?_
    refine lv_istore (i := 6) hx hb dX11_row_115 hl (by decide) rfl (fun ls hl => ?_)
    replace hl : lv_has ls 7 [(6, .int (0 : Int32)), (5, rv r_3), (1, rv x1), (2, .int x2), (3, .int x3), (4, .int x4)] := lv_subS hl (List.forall_mem_cons.mpr ⟨Or.inl rfl, (List.forall_mem_cons.mpr ⟨Or.inr ⟨List.mem_of_getElem? (i := 0) rfl, by simp [rv_cat]⟩, (List.forall_mem_cons.mpr ⟨Or.inr ⟨List.mem_of_getElem? (i := 1) rfl, rfl⟩, (List.forall_mem_cons.mpr ⟨Or.inr ⟨List.mem_of_getElem? (i := 2) rfl, rfl⟩, (List.forall_mem_cons.mpr ⟨Or.inr ⟨List.mem_of_getElem? (i := 3) rfl, rfl⟩, (List.forall_mem_cons.mpr ⟨Or.inr ⟨List.mem_of_getElem? (i := 4) rfl, rfl⟩, (fun _ h => nomatch h)⟩)⟩)⟩)⟩)⟩)⟩)
    exact w_X11_row_L117 hC hr hnh hin MN x1 x2 r_3 (0 : Int32) h_7 hF H locs cells slots ls hX (lv_sub hl [2, 3, 1, 0] rfl)
  · replace hF := it_f hF c_1
    obtain ⟨h_8, hF⟩ := gd_ok hF
    refine nX_X11_75 hC hX h_8 dX11_row_93 (fun H cells slots hX => ?_)
    refine lv_topr (fun r_9 er_9 => ?_)
    replace hF := lt_at hF er_9
    obtain ⟨h_10, eh_10, hF⟩ := lt_ok hF
    rw [← eh_10] at hX
    refine lv_dup hx hb dX11_row_96 (rv_cat _) ?_
    refine lv_iconst (v := 4) hx hb dX11_row_97 (by decide) ?_
    refine lv_iload hx hb dX11_row_98 (lv_at hl 3 rfl) ?_
    obtain ⟨h_11, hF⟩ := gd_ok hF
    obtain ⟨h_13, hc_12, hF⟩ := bd_ok hF
    refine iX_X11_77 hC hX h_11 hc_12 hl.1 (cat4 (Nat.le_of_ble_eq_true rfl)) (Nat.le_of_ble_eq_true rfl) (Nat.le_of_ble_eq_true rfl) dX11_row_100 (fun H locs cells slots hX => ?_)
    obtain ⟨h_14, hF⟩ := gd_ok hF
    cases hF
    exact x_throw hC hX hnh h_14 rfl rfl dX11_row_103
def F_X11_row_b54 (K : Nat → Nat) (x4 : Int32) (h : TH) : Option ((Nat ⊕ Nat) × TH) :=
  gd (hc h + 1 ≤ XC ∧ hs h + 8 ≤ XS) <|
  lt (hz h + 1) fun r_2 =>
  lt (nO h 10 8) fun h_3 =>
  gd (r_2 ≠ 0) <|
  bd (F_X12_init K r_2 (4 : Int32) x4 h_3) fun h_6 =>
  gd (r_2 ≠ 0) <|
  some (.inr r_2, h_6)
set_option maxHeartbeats 4000000 in
theorem w_X11_row_b54 {p : Program} {l : Launch} {e : Env} {s : State} {m : MethodId} {args : Array Value} {below : List Frame} {meth : Method} {c : Code} {D : XD} {h0 : TH} (hC : XCx D cX11_row 7 RX11 h0 p (xRm 9 237 h0) s m args meth c) (hr : meth.sig.returnType = some (.object "BlindCards$Move")) (hnh : c.exceptionTable.isEmpty = true) (hin : meth.name = "row") {x : ((Nat ⊕ Nat) × TH)} :
    ∀ (x4 : Int32) (h : TH), F_X11_row_b54 D.2.2.2 x4 h = some x → XJ p l e (xRm 9 237 h0) s m args below meth c D 7 (ocR x.1) h0 x.2 54 [(4, .int x4)] [] h := by
  have hx := hC.1
  have hb := hC.2.1
  intro x4 h hF H locs cells slots ls hX hl
  rw [F_X11_row_b54] at hF
  obtain ⟨h_1, hF⟩ := gd_ok hF
  refine nX_X11_75 hC hX h_1 dX11_row_54 (fun H cells slots hX => ?_)
  refine lv_topr (fun r_2 er_2 => ?_)
  replace hF := lt_at hF er_2
  obtain ⟨h_3, eh_3, hF⟩ := lt_ok hF
  rw [← eh_3] at hX
  refine lv_dup hx hb dX11_row_57 (rv_cat _) ?_
  refine lv_iconst (v := 4) hx hb dX11_row_58 (by decide) ?_
  refine lv_iload hx hb dX11_row_59 (lv_at hl 0 rfl) ?_
  obtain ⟨h_4, hF⟩ := gd_ok hF
  obtain ⟨h_6, hc_5, hF⟩ := bd_ok hF
  refine iX_X11_77 hC hX h_4 hc_5 hl.1 (cat4 (Nat.le_of_ble_eq_true rfl)) (Nat.le_of_ble_eq_true rfl) (Nat.le_of_ble_eq_true rfl) dX11_row_61 (fun H locs cells slots hX => ?_)
  obtain ⟨h_7, hF⟩ := gd_ok hF
  cases hF
  exact x_throw hC hX hnh h_7 rfl rfl dX11_row_64
def F_X11_row_b25 (K : Nat → Nat) (x0 : Nat) (h : TH) : Option ((Nat ⊕ Nat) × TH) :=
  gd (hT h x0 = 7) <|
  bd2 (F_X11_wrong K x0 h) fun r_4 h_3 =>
  gd (r_4 ≠ 0) <|
  some (.inr r_4, h_3)
set_option maxHeartbeats 4000000 in
theorem w_X11_row_b25 {p : Program} {l : Launch} {e : Env} {s : State} {m : MethodId} {args : Array Value} {below : List Frame} {meth : Method} {c : Code} {D : XD} {h0 : TH} (hC : XCx D cX11_row 7 RX11 h0 p (xRm 9 237 h0) s m args meth c) (hr : meth.sig.returnType = some (.object "BlindCards$Move")) (hnh : c.exceptionTable.isEmpty = true) (hin : meth.name = "row") {x : ((Nat ⊕ Nat) × TH)} :
    ∀ (x0 : Nat) (h : TH), F_X11_row_b25 D.2.2.2 x0 h = some x → XJ p l e (xRm 9 237 h0) s m args below meth c D 7 (ocR x.1) h0 x.2 25 [(0, rv x0)] [] h := by
  have hx := hC.1
  have hb := hC.2.1
  intro x0 h hF H locs cells slots ls hX hl
  rw [F_X11_row_b25] at hF
  refine X_aload_n hx hb dX11_row_25 rfl (lv_at hl 0 rfl) ?_
  obtain ⟨h_1, hF⟩ := gd_ok hF
  obtain ⟨r_4, h_3, hc_2, hF⟩ := bd2_ok hF
  refine iX_X11_90 hC hX h_1 hc_2 hl.1 (Nat.le_of_ble_eq_true rfl) (Nat.le_of_ble_eq_true rfl) (Nat.le_of_ble_eq_true rfl) dX11_row_26 (fun H locs cells slots hX => ?_)
  obtain ⟨h_5, hF⟩ := gd_ok hF
  cases hF
  exact x_throw hC hX hnh h_5 rfl rfl dX11_row_29
def F_X11_row_L19 (K : Nat → Nat) : Nat → Nat → Nat → Int32 → Int32 → TH → Option ((Nat ⊕ Nat) × TH)
  | 0, _, _, _, _, _ => none
  | fu + 1, x0, x1, x2, x3, h =>
    if x2 = (8 : Int32) then
      F_X11_row_b25 K x0 h
    else
      gd (hasF (hT h x0) 69 = true) <|
      lt ((hI h 69 x0)) fun x_3 =>
      gd (hT h x0 = 7) <|
      bt (F_X11_place K x0 h) fun r_6 h_7 =>
      gd (hT h_7 x1 = 31) <|
      gd (inb x2 (hN h_7 x1)) <|
      lt (uA h_7 x1 (Int32.toNatClampNeg x2) r_6) fun h_11 =>
      gd (hT h_11 x1 = 31 ∨ hT h_11 x1 = 43) <|
      gd (inb x2 (hN h_11 x1)) <|
      if ((x3 >>> ((hA h_11 x1 (Int32.toNatClampNeg x2)) &&& 31)) &&& (1 : Int32)) = (1 : Int32) then
        F_X11_row_b54 K x_3 h_11
      else
        gd (hT h_11 x1 = 31 ∨ hT h_11 x1 = 43) <|
        gd (inb x2 (hN h_11 x1)) <|
        lt ((x3 ||| ((1 : Int32) <<< ((hA h_11 x1 (Int32.toNatClampNeg x2)) &&& 31)))) fun x_17 =>
        lt (x2 + (1 : Int32)) fun x2_18 =>
        gd (hasF (hT h_11 x0) 68 = true) <|
        if (hI h_11 68 x0) = (2 : Int32) then
          F_X11_row_L19 K fu x0 x1 x2_18 x_17 h_11
        else
          F_X11_row_b84 K x1 x2_18 x_17 x_3 h_11
set_option maxHeartbeats 4000000 in
theorem w_X11_row_L19 {p : Program} {l : Launch} {e : Env} {s : State} {m : MethodId} {args : Array Value} {below : List Frame} {meth : Method} {c : Code} {D : XD} {h0 : TH} (hC : XCx D cX11_row 7 RX11 h0 p (xRm 9 237 h0) s m args meth c) (hr : meth.sig.returnType = some (.object "BlindCards$Move")) (hnh : c.exceptionTable.isEmpty = true) (hin : meth.name = "row") {x : ((Nat ⊕ Nat) × TH)} :
    ∀ (fu : Nat) (x0 : Nat) (x1 : Nat) (x2 : Int32) (x3 : Int32) (h : TH), F_X11_row_L19 D.2.2.2 fu x0 x1 x2 x3 h = some x → XJ p l e (xRm 9 237 h0) s m args below meth c D 7 (ocR x.1) h0 x.2 19 [(0, rv x0), (1, rv x1), (2, .int x2), (3, .int x3)] [] h := by
  have hx := hC.1
  have hb := hC.2.1
  intro fu
  induction fu with
  | zero => intro x0 x1 x2 x3 h hF; exact nm_none hF
  | succ fu ih =>
    intro x0 x1 x2 x3 h hF H locs cells slots ls hX hl
    rw [F_X11_row_L19] at hF
    refine lv_iload_n hx hb dX11_row_19 rfl (lv_at hl 2 rfl) ?_
    refine lv_bipush (v := 8) hx hb dX11_row_20 (by decide) ?_
    refine lv_icmp_ne (tgt := 30) hx hb dX11_row_22 (by decide) (fun c_1 => ?_) (fun c_1 => ?_)
    · replace hF := it_f hF c_1
      refine X_aload_n hx hb dX11_row_30 rfl (lv_at hl 0 rfl) ?_
      obtain ⟨h_2, hF⟩ := gd_ok hF
      refine gX_X11_43 hC hX h_2 dX11_row_31 ?_
      refine lv_topi (fun x_3 ex_3 => ?_)
      replace hF := lt_at hF ex_3
      refine lv_istore (lv' := [(4, .int x_3), (0, rv x0), (1, rv x1), (2, .int x2), (3, .int x3)]) hx hb dX11_row_34 hl (by decide) rfl (fun ls hl => ?_)
      refine X_aload_n hx hb dX11_row_36 rfl (lv_at hl 2 rfl) ?_
      refine lv_iload_n hx hb dX11_row_37 rfl (lv_at hl 3 rfl) ?_
      refine X_aload_n hx hb dX11_row_38 rfl (lv_at hl 1 rfl) ?_
      obtain ⟨h_4, hF⟩ := gd_ok hF
      rcases bt_ok hF with ⟨r_6, h_7, hc_5, hF⟩ | ⟨z_8, h_7, hc_5, hxx⟩
      rotate_left
      · subst hxx
        exact iX_X11_271_t hC hX hnh h_4 hc_5 hl.1 (cat4 (Nat.le_of_ble_eq_true rfl)) (Nat.le_of_ble_eq_true rfl) (Nat.le_of_ble_eq_true rfl) dX11_row_39
      refine iX_X11_271 hC hX h_4 hc_5 hl.1 (cat4 (Nat.le_of_ble_eq_true rfl)) (Nat.le_of_ble_eq_true rfl) (Nat.le_of_ble_eq_true rfl) dX11_row_39 (fun H locs cells slots hX => ?_)
      obtain ⟨h_9, hF⟩ := gd_ok hF
      obtain ⟨h_10, hF⟩ := gd_ok hF
      refine X_iast hC hX h_9 h_10 dX11_row_42 (fun H locs hX => ?_)
      obtain ⟨h_11, eh_11, hF⟩ := lt_ok hF
      rw [← eh_11] at hX
      refine lv_iload_n hx hb dX11_row_43 rfl (lv_at hl 4 rfl) ?_
      refine X_aload_n hx hb dX11_row_44 rfl (lv_at hl 2 rfl) ?_
      refine lv_iload_n hx hb dX11_row_45 rfl (lv_at hl 3 rfl) ?_
      obtain ⟨h_12, hF⟩ := gd_ok hF
      obtain ⟨h_13, hF⟩ := gd_ok hF
      refine X_iald hC hX h_12 h_13 dX11_row_46 ?_
      refine lv_ishr hx hb dX11_row_47 ?_
      refine lv_iconst (v := 1) hx hb dX11_row_48 (by decide) ?_
      refine lv_iand hx hb dX11_row_49 ?_
      refine lv_iconst (v := 1) hx hb dX11_row_50 (by decide) ?_
      refine lv_icmp_ne (tgt := 65) hx hb dX11_row_51 (by decide) (fun c_14 => ?_) (fun c_14 => ?_)
      · replace hF := it_f hF c_14
        refine lv_iload_n hx hb dX11_row_65 rfl (lv_at hl 4 rfl) ?_
        refine lv_iconst (v := 1) hx hb dX11_row_66 (by decide) ?_
        refine X_aload_n hx hb dX11_row_67 rfl (lv_at hl 2 rfl) ?_
        refine lv_iload_n hx hb dX11_row_68 rfl (lv_at hl 3 rfl) ?_
        obtain ⟨h_15, hF⟩ := gd_ok hF
        obtain ⟨h_16, hF⟩ := gd_ok hF
        refine X_iald hC hX h_15 h_16 dX11_row_69 ?_
        refine lv_ishl hx hb dX11_row_70 ?_
        refine lv_ior hx hb dX11_row_71 ?_
        refine lv_topi (fun x_17 ex_17 => ?_)
        replace hF := lt_at hF ex_17
        refine lv_istore_n (lv' := [(3, .int x_17), (4, .int x_3), (0, rv x0), (1, rv x1), (2, .int x2)]) hx hb dX11_row_72 rfl hl (by decide) rfl (fun ls hl => ?_)
        obtain ⟨x2_18, ex2_18, hF⟩ := lt_ok hF
        refine lv_iinc (v := x2_18) hx hb dX11_row_73 hl (k := 4) rfl (by rw [ex2_18]; rfl) (by decide) rfl (fun ls hl => ?_)
        replace hl : lv_has ls 7 [(2, .int x2_18), (3, .int x_17), (4, .int x_3), (0, rv x0), (1, rv x1)] := lv_subS hl (List.forall_mem_cons.mpr ⟨Or.inl rfl, (List.forall_mem_cons.mpr ⟨Or.inr ⟨List.mem_of_getElem? (i := 0) rfl, rfl⟩, (List.forall_mem_cons.mpr ⟨Or.inr ⟨List.mem_of_getElem? (i := 1) rfl, rfl⟩, (List.forall_mem_cons.mpr ⟨Or.inr ⟨List.mem_of_getElem? (i := 2) rfl, rfl⟩, (List.forall_mem_cons.mpr ⟨Or.inr ⟨List.mem_of_getElem? (i := 3) rfl, by simp [rv_cat]⟩, (fun _ h => nomatch h)⟩)⟩)⟩)⟩)⟩)
        refine X_aload_n hx hb dX11_row_76 rfl (lv_at hl 3 rfl) ?_
        obtain ⟨h_19, hF⟩ := gd_ok hF
        refine gX_X11_46 hC hX h_19 dX11_row_77 ?_
        refine lv_iconst (v := 2) hx hb dX11_row_80 (by decide) ?_
        refine lv_icmp_eq (tgt := 19) hx hb dX11_row_81 (by decide) (fun c_20 => ?_) (fun c_20 => ?_)
        · replace hF := it_t hF c_20
          exact ih x0 x1 x2_18 x_17 h_11 hF H locs cells slots ls hX (lv_sub hl [3, 4, 0, 1] rfl)
        · replace hF := it_f hF c_20
          exact w_X11_row_b84 hC hr hnh hin x1 x2_18 x_17 x_3 h_11 hF H locs cells slots ls hX (lv_sub hl [4, 0, 1, 2] rfl)
      · replace hF := it_t hF c_14
        exact w_X11_row_b54 hC hr hnh hin x_3 h_11 hF H locs cells slots ls hX (lv_sub hl [0] rfl)
    · replace hF := it_t hF c_1
      exact w_X11_row_b25 hC hr hnh hin x0 h hF H locs cells slots ls hX (lv_sub hl [0] rfl)
def F_X11_row (K : Nat → Nat) (a0 : Nat) (h : TH) : Option ((Nat ⊕ Nat) × TH) :=
  gd (hT h a0 = 7) <|
  bd (F_X11_go K a0 h) fun h_3 =>
  gd (¬ (8 : Int32) < 0) <|
  gd (Int32.toNatClampNeg (8 : Int32) ≤ 67108864) <|
  gd (hc h_3 + 1 ≤ XC ∧ hs h_3 + Int32.toNatClampNeg (8 : Int32) ≤ XS) <|
  lt (hz h_3 + 1) fun r_7 =>
  lt (nA h_3 31 (Int32.toNatClampNeg (8 : Int32))) fun h_8 =>
  gd (hasF (hT h_8 a0) 69 = true) <|
  lt ((hI h_8 69 a0)) fun x_10 =>
  F_X11_row_L19 K MN a0 r_7 (0 : Int32) (0 : Int32) h_8
set_option maxHeartbeats 4000000 in
theorem w_X11_row {p : Program} {l : Launch} {e : Env} {s : State} {m : MethodId} {args : Array Value} {below : List Frame} {meth : Method} {c : Code} {D : XD} {h0 : TH} (hC : XCx D cX11_row 7 RX11 h0 p (xRm 9 237 h0) s m args meth c) (hr : meth.sig.returnType = some (.object "BlindCards$Move")) (hnh : c.exceptionTable.isEmpty = true) (hin : meth.name = "row") {x : ((Nat ⊕ Nat) × TH)} :
    ∀ (a0 : Nat) (h : TH), F_X11_row D.2.2.2 a0 h = some x → XJ p l e (xRm 9 237 h0) s m args below meth c D 7 (ocR x.1) h0 x.2 0 [(0, rv a0)] [] h := by
  have hx := hC.1
  have hb := hC.2.1
  intro a0 h hF H locs cells slots ls hX hl
  rw [F_X11_row] at hF
  refine X_aload_n hx hb dX11_row_0 rfl (lv_at hl 0 rfl) ?_
  obtain ⟨h_1, hF⟩ := gd_ok hF
  obtain ⟨h_3, hc_2, hF⟩ := bd_ok hF
  refine iX_X11_94 hC hX h_1 hc_2 hl.1 (Nat.le_of_ble_eq_true rfl) (Nat.le_of_ble_eq_true rfl) (Nat.le_of_ble_eq_true rfl) dX11_row_1 (fun H locs cells slots hX => ?_)
  refine lv_bipush (v := 8) hx hb dX11_row_4 (by decide) ?_
  obtain ⟨h_4, hF⟩ := gd_ok hF
  obtain ⟨h_5, hF⟩ := gd_ok hF
  obtain ⟨h_6, hF⟩ := gd_ok hF
  refine X_newa hC hX (atype := .int) 31 (Or.inl rfl) rfl q216 h_4 h_5 h_6 dX11_row_6 (fun H cells slots hX => ?_)
  refine lv_topr (fun r_7 er_7 => ?_)
  replace hF := lt_at hF er_7
  obtain ⟨h_8, eh_8, hF⟩ := lt_ok hF
  rw [← eh_8] at hX
  refine X_astore_n (i := 1) hx hb dX11_row_8 rfl hl (by decide) rfl (fun ls hl => ?_)
  replace hl : lv_has ls 7 [(1, rv r_7), (0, rv a0)] := lv_subS hl (List.forall_mem_cons.mpr ⟨Or.inl rfl, (List.forall_mem_cons.mpr ⟨Or.inr ⟨List.mem_of_getElem? (i := 0) rfl, by simp [rv_cat]⟩, (fun _ h => nomatch h)⟩)⟩)
  refine lv_iconst (v := 0) hx hb dX11_row_9 (by decide) ?_
  refine lv_istore_n (i := 2) hx hb dX11_row_10 rfl hl (by decide) rfl (fun ls hl => ?_)
  replace hl : lv_has ls 7 [(2, .int (0 : Int32)), (1, rv r_7), (0, rv a0)] := lv_subS hl (List.forall_mem_cons.mpr ⟨Or.inl rfl, (List.forall_mem_cons.mpr ⟨Or.inr ⟨List.mem_of_getElem? (i := 0) rfl, by simp [rv_cat]⟩, (List.forall_mem_cons.mpr ⟨Or.inr ⟨List.mem_of_getElem? (i := 1) rfl, rfl⟩, (fun _ h => nomatch h)⟩)⟩)⟩)
  refine lv_iconst (v := 0) hx hb dX11_row_11 (by decide) ?_
  refine lv_istore_n (lv' := [(3, .int (0 : Int32)), (2, .int (0 : Int32)), (1, rv r_7), (0, rv a0)]) hx hb dX11_row_12 rfl hl (by decide) rfl (fun ls hl => ?_)
  refine X_aload_n hx hb dX11_row_13 rfl (lv_at hl 3 rfl) ?_
  obtain ⟨h_9, hF⟩ := gd_ok hF
  refine gX_X11_43 hC hX h_9 dX11_row_14 ?_
  refine lv_topi (fun x_10 ex_10 => ?_)
  replace hF := lt_at hF ex_10
  refine lv_istore (lv' := [(4, .int x_10), (3, .int (0 : Int32)), (2, .int (0 : Int32)), (1, rv r_7), (0, rv a0)]) hx hb dX11_row_17 hl (by decide) rfl (fun ls hl => ?_)
  exact w_X11_row_L19 hC hr hnh hin MN a0 r_7 (0 : Int32) (0 : Int32) h_8 hF H locs cells slots ls hX (lv_sub hl [4, 3, 2, 1] rfl)
theorem m_X11_row (l : Launch) (D : XD) (a0 : Nat) (h : TH) (x : ((Nat ⊕ Nat) × TH)) (hF : F_X11_row D.2.2.2 a0 h = some x) : XMt l yX11_row (ws_ yX11_row cX11_row 7 (some (.object "BlindCards$Move"))) 9 237 D [rv a0] h (ocR x.1) x.2 := by
  refine x_met (by decide +kernel) ?_ ?_
  · simp [lg_sl, rv_cat, cat_i, cat_l]
  intro p e s m below meth c hC hr hnh hin ls hl hX
  replace hl : lv_has ls 7 [(0, rv a0)] := by simpa [lv_args, rv_cat, cat_i, cat_l] using hl
  exact w_X11_row hC hr hnh hin a0 h hF s.heap [] 0 0 ls hX hl
theorem iX_X11_286 {p : Program} {l : Launch} {e : Env} {R : Room} {s : State} {m : MethodId} {args : Array Value} {below : List Frame} {meth : Method} {c : Code} {H : Heap} {locs : List Loc} {cells slots nL : Nat} {Q : State → Prop} {D : XD} {h0 h : TH} {cc : ByteArray} {pc : Nat} {ls : Array Slot} {rest : List Value} (hC : XCx D cc nL RX11 h0 p R s m args meth c) (hX : XSt D s h0 h H locs cells slots) {b0 : Int32} {b1 : Int32} {x : Int32} (hcF : F_J4_max D.2.2.2 h b0 b1 = some x) (hl : ls.size = nL) (hW : (rest.map fun v => v.category).sum ≤ 8) (hRf : 0 + 1 ≤ R.frames) (hRl : 21 ≤ R.locals) (hdg : decode cc pc = .ok (.invokestatic 286, 3)) (kk : ∀ (H1 : Heap) (locs1 : List Loc) (cells1 slots1 : Nat), XSt D s h0 h H1 locs1 cells1 slots1 → W p l e R s m args below meth c H1 locs1 cells1 slots1 Q (F0 m (pc + 3) ls (.int x :: rest))) : W p l e R s m args below meth c H locs cells slots Q (F0 m pc ls (.int b1 :: .int b0 :: rest)) := by
  exact X_callS hC hX (As := [.int b0, .int b1]) (m_J4_max l D b0 b1 h _ hcF) (va_cwS 2 hC.2.2.2.2.1 (lw_S q1294 q414 q135 q415) rfl rfl rfl (by decide +kernel) ⟨Nat.le_trans (Nat.le_of_ble_eq_true rfl) hRf, Nat.le_trans (Nat.le_of_ble_eq_true rfl) hRl⟩) rfl rfl hl hW hdg kk
/-! BlindCards$Reader.swap -/
def F_X11_swap (K : Nat → Nat) (a0 : Nat) (h : TH) : Option ((Nat ⊕ Nat) × TH) :=
  gd (hT h a0 = 7) <|
  bd (F_X11_go K a0 h) fun h_3 =>
  gd (hT h_3 a0 = 7) <|
  bt (F_X11_place K a0 h_3) fun r_6 h_7 =>
  gd (hasF (hT h_7 a0) 69 = true) <|
  lt ((hI h_7 69 a0)) fun x_10 =>
  gd (hT h_7 a0 = 7) <|
  bt (F_X11_place K a0 h_7) fun r_13 h_14 =>
  if r_6 = r_13 then
    gd (hc h_14 + 1 ≤ XC ∧ hs h_14 + 8 ≤ XS) <|
    lt (hz h_14 + 1) fun r_36 =>
    lt (nO h_14 10 8) fun h_37 =>
    gd (r_36 ≠ 0) <|
    bd (F_X12_init K r_36 (4 : Int32) x_10 h_37) fun h_40 =>
    gd (r_36 ≠ 0) <|
    some (.inr r_36, h_40)
  else
    gd (hc h_14 + 1 ≤ XC ∧ hs h_14 + 2 ≤ XS) <|
    lt (hz h_14 + 1) fun r_18 =>
    lt (nO h_14 14 2) fun h_19 =>
    bd (F_J4_max K h_19 r_6 r_13) fun r_21 =>
    gd (r_18 ≠ 0) <|
    bd (F_X16_init K r_18 (r_21 + (1 : Int32)) h_19) fun h_24 =>
    gd (hasF (hT h_24 r_18) 96 = true) <|
    lt (hR h_24 96 r_18) fun r_26 =>
    gd (hT h_24 r_26 = 31) <|
    gd (inb r_6 (hN h_24 r_26)) <|
    lt (uA h_24 r_26 (Int32.toNatClampNeg r_6) r_13) fun h_29 =>
    gd (hasF (hT h_29 r_18) 96 = true) <|
    lt (hR h_29 96 r_18) fun r_31 =>
    gd (hT h_29 r_31 = 31) <|
    gd (inb r_13 (hN h_29 r_31)) <|
    lt (uA h_29 r_31 (Int32.toNatClampNeg r_13) r_6) fun h_34 =>
    some (.inl r_18, h_34)
set_option maxHeartbeats 4000000 in
theorem w_X11_swap {p : Program} {l : Launch} {e : Env} {s : State} {m : MethodId} {args : Array Value} {below : List Frame} {meth : Method} {c : Code} {D : XD} {h0 : TH} (hC : XCx D cX11_swap 5 RX11 h0 p (xRm 9 237 h0) s m args meth c) (hr : meth.sig.returnType = some (.object "BlindCards$Move")) (hnh : c.exceptionTable.isEmpty = true) (hin : meth.name = "swap") {x : ((Nat ⊕ Nat) × TH)} :
    ∀ (a0 : Nat) (h : TH), F_X11_swap D.2.2.2 a0 h = some x → XJ p l e (xRm 9 237 h0) s m args below meth c D 5 (ocR x.1) h0 x.2 0 [(0, rv a0)] [] h := by
  have hx := hC.1
  have hb := hC.2.1
  intro a0 h hF H locs cells slots ls hX hl
  rw [F_X11_swap] at hF
  refine X_aload_n hx hb dX11_swap_0 rfl (lv_at hl 0 rfl) ?_
  obtain ⟨h_1, hF⟩ := gd_ok hF
  obtain ⟨h_3, hc_2, hF⟩ := bd_ok hF
  refine iX_X11_94 hC hX h_1 hc_2 hl.1 (Nat.le_of_ble_eq_true rfl) (Nat.le_of_ble_eq_true rfl) (Nat.le_of_ble_eq_true rfl) dX11_swap_1 (fun H locs cells slots hX => ?_)
  refine X_aload_n hx hb dX11_swap_4 rfl (lv_at hl 0 rfl) ?_
  obtain ⟨h_4, hF⟩ := gd_ok hF
  rcases bt_ok hF with ⟨r_6, h_7, hc_5, hF⟩ | ⟨z_8, h_7, hc_5, hxx⟩
  rotate_left
  · subst hxx
    exact iX_X11_271_t hC hX hnh h_4 hc_5 hl.1 (Nat.le_of_ble_eq_true rfl) (Nat.le_of_ble_eq_true rfl) (Nat.le_of_ble_eq_true rfl) dX11_swap_5
  refine iX_X11_271 hC hX h_4 hc_5 hl.1 (Nat.le_of_ble_eq_true rfl) (Nat.le_of_ble_eq_true rfl) (Nat.le_of_ble_eq_true rfl) dX11_swap_5 (fun H locs cells slots hX => ?_)
  refine lv_istore_n (i := 1) hx hb dX11_swap_8 rfl hl (by decide) rfl (fun ls hl => ?_)
  replace hl : lv_has ls 5 [(1, .int r_6), (0, rv a0)] := lv_subS hl (List.forall_mem_cons.mpr ⟨Or.inl rfl, (List.forall_mem_cons.mpr ⟨Or.inr ⟨List.mem_of_getElem? (i := 0) rfl, by simp [rv_cat]⟩, (fun _ h => nomatch h)⟩)⟩)
  refine X_aload_n hx hb dX11_swap_9 rfl (lv_at hl 1 rfl) ?_
  obtain ⟨h_9, hF⟩ := gd_ok hF
  refine gX_X11_43 hC hX h_9 dX11_swap_10 ?_
  refine lv_topi (fun x_10 ex_10 => ?_)
  replace hF := lt_at hF ex_10
  refine lv_istore_n (lv' := [(2, .int x_10), (1, .int r_6), (0, rv a0)]) hx hb dX11_swap_13 rfl hl (by decide) rfl (fun ls hl => ?_)
  refine X_aload_n hx hb dX11_swap_14 rfl (lv_at hl 2 rfl) ?_
  obtain ⟨h_11, hF⟩ := gd_ok hF
  rcases bt_ok hF with ⟨r_13, h_14, hc_12, hF⟩ | ⟨z_15, h_14, hc_12, hxx⟩
  rotate_left
  · subst hxx
    exact iX_X11_271_t hC hX hnh h_11 hc_12 hl.1 (Nat.le_of_ble_eq_true rfl) (Nat.le_of_ble_eq_true rfl) (Nat.le_of_ble_eq_true rfl) dX11_swap_15
  refine iX_X11_271 hC hX h_11 hc_12 hl.1 (Nat.le_of_ble_eq_true rfl) (Nat.le_of_ble_eq_true rfl) (Nat.le_of_ble_eq_true rfl) dX11_swap_15 (fun H locs cells slots hX => ?_)
  refine lv_istore_n (lv' := [(3, .int r_13), (2, .int x_10), (1, .int r_6), (0, rv a0)]) hx hb dX11_swap_18 rfl hl (by decide) rfl (fun ls hl => ?_)
  refine lv_iload_n hx hb dX11_swap_19 rfl (lv_at hl 2 rfl) ?_
  refine lv_iload_n hx hb dX11_swap_20 rfl (lv_at hl 0 rfl) ?_
  refine lv_icmp_ne (tgt := 34) hx hb dX11_swap_21 (by decide) (fun c_16 => ?_) (fun c_16 => ?_)
  · replace hF := it_f hF c_16
    obtain ⟨h_17, hF⟩ := gd_ok hF
    refine nX_X11_284 hC hX h_17 dX11_swap_34 (fun H cells slots hX => ?_)
    refine lv_topr (fun r_18 er_18 => ?_)
    replace hF := lt_at hF er_18
    obtain ⟨h_19, eh_19, hF⟩ := lt_ok hF
    rw [← eh_19] at hX
    refine lv_dup hx hb dX11_swap_37 (rv_cat _) ?_
    refine lv_iload_n hx hb dX11_swap_38 rfl (lv_at hl 2 rfl) ?_
    refine lv_iload_n hx hb dX11_swap_39 rfl (lv_at hl 0 rfl) ?_
    obtain ⟨r_21, hc_20, hF⟩ := bd_ok hF
    refine iX_X11_286 hC hX hc_20 hl.1 (cat4 (Nat.le_of_ble_eq_true rfl)) (Nat.le_of_ble_eq_true rfl) (Nat.le_of_ble_eq_true rfl) dX11_swap_40 (fun H locs cells slots hX => ?_)
    refine lv_iconst (v := 1) hx hb dX11_swap_43 (by decide) ?_
    refine lv_iadd hx hb dX11_swap_44 ?_
    obtain ⟨h_22, hF⟩ := gd_ok hF
    obtain ⟨h_24, hc_23, hF⟩ := bd_ok hF
    refine iX_X11_291 hC hX h_22 hc_23 hl.1 (cat4 (Nat.le_of_ble_eq_true rfl)) (Nat.le_of_ble_eq_true rfl) (Nat.le_of_ble_eq_true rfl) dX11_swap_45 (fun H locs cells slots hX => ?_)
    refine X_astore (lv' := [(4, rv r_18), (3, .int r_13), (2, .int x_10), (1, .int r_6), (0, rv a0)]) hx hb dX11_swap_48 hl (by decide) rfl (fun ls hl => ?_)
    refine X_aload hx hb dX11_swap_50 (lv_at hl 0 rfl) ?_
    obtain ⟨h_25, hF⟩ := gd_ok hF
    refine gX_X11_292 hC hX h_25 dX11_swap_52 ?_
    refine lv_topr (fun r_26 er_26 => ?_)
    replace hF := lt_at hF er_26
    refine lv_iload_n hx hb dX11_swap_55 rfl (lv_at hl 3 rfl) ?_
    refine lv_iload_n hx hb dX11_swap_56 rfl (lv_at hl 1 rfl) ?_
    obtain ⟨h_27, hF⟩ := gd_ok hF
    obtain ⟨h_28, hF⟩ := gd_ok hF
    refine X_iast hC hX h_27 h_28 dX11_swap_57 (fun H locs hX => ?_)
    obtain ⟨h_29, eh_29, hF⟩ := lt_ok hF
    rw [← eh_29] at hX
    refine X_aload hx hb dX11_swap_58 (lv_at hl 0 rfl) ?_
    obtain ⟨h_30, hF⟩ := gd_ok hF
    refine gX_X11_292 hC hX h_30 dX11_swap_60 ?_
    refine lv_topr (fun r_31 er_31 => ?_)
    replace hF := lt_at hF er_31
    refine lv_iload_n hx hb dX11_swap_63 rfl (lv_at hl 1 rfl) ?_
    refine lv_iload_n hx hb dX11_swap_64 rfl (lv_at hl 3 rfl) ?_
    obtain ⟨h_32, hF⟩ := gd_ok hF
    obtain ⟨h_33, hF⟩ := gd_ok hF
    refine X_iast hC hX h_32 h_33 dX11_swap_65 (fun H locs hX => ?_)
    obtain ⟨h_34, eh_34, hF⟩ := lt_ok hF
    rw [← eh_34] at hX
    refine X_aload hx hb dX11_swap_66 (lv_at hl 0 rfl) ?_
    cases hF
    exact x_reta hC hX hr (Or.inl ⟨_, rfl⟩) rfl rfl dX11_swap_68
  · replace hF := it_t hF c_16
    obtain ⟨h_35, hF⟩ := gd_ok hF
    refine nX_X11_75 hC hX h_35 dX11_swap_24 (fun H cells slots hX => ?_)
    refine lv_topr (fun r_36 er_36 => ?_)
    replace hF := lt_at hF er_36
    obtain ⟨h_37, eh_37, hF⟩ := lt_ok hF
    rw [← eh_37] at hX
    refine lv_dup hx hb dX11_swap_27 (rv_cat _) ?_
    refine lv_iconst (v := 4) hx hb dX11_swap_28 (by decide) ?_
    refine lv_iload_n hx hb dX11_swap_29 rfl (lv_at hl 1 rfl) ?_
    obtain ⟨h_38, hF⟩ := gd_ok hF
    obtain ⟨h_40, hc_39, hF⟩ := bd_ok hF
    refine iX_X11_77 hC hX h_38 hc_39 hl.1 (cat4 (Nat.le_of_ble_eq_true rfl)) (Nat.le_of_ble_eq_true rfl) (Nat.le_of_ble_eq_true rfl) dX11_swap_30 (fun H locs cells slots hX => ?_)
    obtain ⟨h_41, hF⟩ := gd_ok hF
    cases hF
    exact x_throw hC hX hnh h_41 rfl rfl dX11_swap_33
theorem m_X11_swap (l : Launch) (D : XD) (a0 : Nat) (h : TH) (x : ((Nat ⊕ Nat) × TH)) (hF : F_X11_swap D.2.2.2 a0 h = some x) : XMt l yX11_swap (ws_ yX11_swap cX11_swap 5 (some (.object "BlindCards$Move"))) 9 237 D [rv a0] h (ocR x.1) x.2 := by
  refine x_met (by decide +kernel) ?_ ?_
  · simp [lg_sl, rv_cat, cat_i, cat_l]
  intro p e s m below meth c hC hr hnh hin ls hl hX
  replace hl : lv_has ls 5 [(0, rv a0)] := by simpa [lv_args, rv_cat, cat_i, cat_l] using hl
  exact w_X11_swap hC hr hnh hin a0 h hF s.heap [] 0 0 ls hX hl
theorem iX_X11_265 {p : Program} {l : Launch} {e : Env} {R : Room} {s : State} {m : MethodId} {args : Array Value} {below : List Frame} {meth : Method} {c : Code} {H : Heap} {locs : List Loc} {cells slots nL : Nat} {Q : State → Prop} {D : XD} {h0 h : TH} {cc : ByteArray} {pc : Nat} {ls : Array Slot} {rest : List Value} {h1 : TH} (hC : XCx D cc nL RX11 h0 p R s m args meth c) (hX : XSt D s h0 h H locs cells slots) {a : Nat} {x : Nat} (ht : hT h a = 7) (hcF : F_X11_row D.2.2.2 a h = some (.inl x, h1)) (hl : ls.size = nL) (hW : (rest.map fun v => v.category).sum ≤ 8) (hRf : 9 + 1 ≤ R.frames) (hRl : 263 ≤ R.locals) (hdg : decode cc pc = .ok (.invokevirtual 265, 3)) (kk : ∀ (H1 : Heap) (locs1 : List Loc) (cells1 slots1 : Nat), XSt D s h0 h1 H1 locs1 cells1 slots1 → W p l e R s m args below meth c H1 locs1 cells1 slots1 Q (F0 m (pc + 3) ls (rv x :: rest))) : W p l e R s m args below meth c H locs cells slots Q (F0 m pc ls (rv a :: rest)) := by
  have q := ht
  exact X_callV hC hX (by rw [q]; decide) (by rw [q]; rfl) (As := []) (m_X11_row l D a h _ hcF) (cwV 0 hC.2.2.2.2.1 (lw_V q1313 q1315 qs29 q146 q1316) rfl rfl rfl (by decide +kernel) ⟨Nat.le_trans (Nat.le_of_ble_eq_true rfl) hRf, Nat.le_trans (Nat.le_of_ble_eq_true rfl) hRl⟩) rfl rfl hl hW hdg kk
theorem iX_X11_265_t {p : Program} {l : Launch} {e : Env} {R : Room} {s : State} {m : MethodId} {args : Array Value} {below : List Frame} {meth : Method} {c : Code} {H : Heap} {locs : List Loc} {cells slots nL : Nat} {D : XD} {h0 h : TH} {cc : ByteArray} {pc : Nat} {ls : Array Slot} {rest : List Value} {h1 : TH} (hC : XCx D cc nL RX11 h0 p R s m args meth c) (hX : XSt D s h0 h H locs cells slots) (hnh : c.exceptionTable.isEmpty = true) {a : Nat} {x : Nat} (ht : hT h a = 7) (hcF : F_X11_row D.2.2.2 a h = some (.inr x, h1)) (hl : ls.size = nL) (hW : (rest.map fun v => v.category).sum ≤ 8) (hRf : 9 + 1 ≤ R.frames) (hRl : 263 ≤ R.locals) (hdg : decode cc pc = .ok (.invokevirtual 265, 3)) : W p l e R s m args below meth c H locs cells slots (XMQ below D (.threw (x - 1)) h0 h1 s) (F0 m pc ls (rv a :: rest)) := by
  have q := ht
  exact X_callVT hC hX hnh (by rw [q]; decide) (by rw [q]; rfl) (As := []) (m_X11_row l D a h _ hcF) (cwV 0 hC.2.2.2.2.1 (lw_V q1313 q1315 qs29 q146 q1316) rfl rfl rfl (by decide +kernel) ⟨Nat.le_trans (Nat.le_of_ble_eq_true rfl) hRf, Nat.le_trans (Nat.le_of_ble_eq_true rfl) hRl⟩) rfl rfl hl hW hdg rfl
theorem iX_X11_263 {p : Program} {l : Launch} {e : Env} {R : Room} {s : State} {m : MethodId} {args : Array Value} {below : List Frame} {meth : Method} {c : Code} {H : Heap} {locs : List Loc} {cells slots nL : Nat} {Q : State → Prop} {D : XD} {h0 h : TH} {cc : ByteArray} {pc : Nat} {ls : Array Slot} {rest : List Value} {h1 : TH} (hC : XCx D cc nL RX11 h0 p R s m args meth c) (hX : XSt D s h0 h H locs cells slots) {a : Nat} {x : Nat} (ht : hT h a = 7) (hcF : F_X11_swap D.2.2.2 a h = some (.inl x, h1)) (hl : ls.size = nL) (hW : (rest.map fun v => v.category).sum ≤ 8) (hRf : 9 + 1 ≤ R.frames) (hRl : 261 ≤ R.locals) (hdg : decode cc pc = .ok (.invokevirtual 263, 3)) (kk : ∀ (H1 : Heap) (locs1 : List Loc) (cells1 slots1 : Nat), XSt D s h0 h1 H1 locs1 cells1 slots1 → W p l e R s m args below meth c H1 locs1 cells1 slots1 Q (F0 m (pc + 3) ls (rv x :: rest))) : W p l e R s m args below meth c H locs cells slots Q (F0 m pc ls (rv a :: rest)) := by
  have q := ht
  exact X_callV hC hX (by rw [q]; decide) (by rw [q]; rfl) (As := []) (m_X11_swap l D a h _ hcF) (cwV 0 hC.2.2.2.2.1 (lw_V q1284 q1286 qs27 q146 q1287) rfl rfl rfl (by decide +kernel) ⟨Nat.le_trans (Nat.le_of_ble_eq_true rfl) hRf, Nat.le_trans (Nat.le_of_ble_eq_true rfl) hRl⟩) rfl rfl hl hW hdg kk
theorem iX_X11_263_t {p : Program} {l : Launch} {e : Env} {R : Room} {s : State} {m : MethodId} {args : Array Value} {below : List Frame} {meth : Method} {c : Code} {H : Heap} {locs : List Loc} {cells slots nL : Nat} {D : XD} {h0 h : TH} {cc : ByteArray} {pc : Nat} {ls : Array Slot} {rest : List Value} {h1 : TH} (hC : XCx D cc nL RX11 h0 p R s m args meth c) (hX : XSt D s h0 h H locs cells slots) (hnh : c.exceptionTable.isEmpty = true) {a : Nat} {x : Nat} (ht : hT h a = 7) (hcF : F_X11_swap D.2.2.2 a h = some (.inr x, h1)) (hl : ls.size = nL) (hW : (rest.map fun v => v.category).sum ≤ 8) (hRf : 9 + 1 ≤ R.frames) (hRl : 261 ≤ R.locals) (hdg : decode cc pc = .ok (.invokevirtual 263, 3)) : W p l e R s m args below meth c H locs cells slots (XMQ below D (.threw (x - 1)) h0 h1 s) (F0 m pc ls (rv a :: rest)) := by
  have q := ht
  exact X_callVT hC hX hnh (by rw [q]; decide) (by rw [q]; rfl) (As := []) (m_X11_swap l D a h _ hcF) (cwV 0 hC.2.2.2.2.1 (lw_V q1284 q1286 qs27 q146 q1287) rfl rfl rfl (by decide +kernel) ⟨Nat.le_trans (Nat.le_of_ble_eq_true rfl) hRf, Nat.le_trans (Nat.le_of_ble_eq_true rfl) hRl⟩) rfl rfl hl hW hdg rfl
theorem iX_X11_267 {p : Program} {l : Launch} {e : Env} {R : Room} {s : State} {m : MethodId} {args : Array Value} {below : List Frame} {meth : Method} {c : Code} {H : Heap} {locs : List Loc} {cells slots nL : Nat} {Q : State → Prop} {D : XD} {h0 h : TH} {cc : ByteArray} {pc : Nat} {ls : Array Slot} {rest : List Value} {h1 : TH} (hC : XCx D cc nL RX11 h0 p R s m args meth c) (hX : XSt D s h0 h H locs cells slots) {a : Nat} {b0 : Nat} {x : Unit} (ht : hT h a = 7) (hcF : F_X11_key D.2.2.2 a b0 h = some (.inl x, h1)) (hl : ls.size = nL) (hW : (rest.map fun v => v.category).sum ≤ 8) (hRf : 7 + 1 ≤ R.frames) (hRl : 215 ≤ R.locals) (hdg : decode cc pc = .ok (.invokevirtual 267, 3)) (kk : ∀ (H1 : Heap) (locs1 : List Loc) (cells1 slots1 : Nat), XSt D s h0 h1 H1 locs1 cells1 slots1 → W p l e R s m args below meth c H1 locs1 cells1 slots1 Q (F0 m (pc + 3) ls (rest))) : W p l e R s m args below meth c H locs cells slots Q (F0 m pc ls (rv b0 :: rv a :: rest)) := by
  have q := ht
  exact X_callV hC hX (by rw [q]; decide) (by rw [q]; rfl) (As := [rv b0]) (m_X11_key l D a b0 h _ hcF) (cwV 1 hC.2.2.2.2.1 (lw_V q1318 q1320 qs30 q146 q1321) rfl rfl rfl (by decide +kernel) ⟨Nat.le_trans (Nat.le_of_ble_eq_true rfl) hRf, Nat.le_trans (Nat.le_of_ble_eq_true rfl) hRl⟩) rfl rfl hl hW hdg kk
theorem iX_X11_267_t {p : Program} {l : Launch} {e : Env} {R : Room} {s : State} {m : MethodId} {args : Array Value} {below : List Frame} {meth : Method} {c : Code} {H : Heap} {locs : List Loc} {cells slots nL : Nat} {D : XD} {h0 h : TH} {cc : ByteArray} {pc : Nat} {ls : Array Slot} {rest : List Value} {h1 : TH} (hC : XCx D cc nL RX11 h0 p R s m args meth c) (hX : XSt D s h0 h H locs cells slots) (hnh : c.exceptionTable.isEmpty = true) {a : Nat} {b0 : Nat} {x : Nat} (ht : hT h a = 7) (hcF : F_X11_key D.2.2.2 a b0 h = some (.inr x, h1)) (hl : ls.size = nL) (hW : (rest.map fun v => v.category).sum ≤ 8) (hRf : 7 + 1 ≤ R.frames) (hRl : 215 ≤ R.locals) (hdg : decode cc pc = .ok (.invokevirtual 267, 3)) : W p l e R s m args below meth c H locs cells slots (XMQ below D (.threw (x - 1)) h0 h1 s) (F0 m pc ls (rv b0 :: rv a :: rest)) := by
  have q := ht
  exact X_callVT hC hX hnh (by rw [q]; decide) (by rw [q]; rfl) (As := [rv b0]) (m_X11_key l D a b0 h _ hcF) (cwV 1 hC.2.2.2.2.1 (lw_V q1318 q1320 qs30 q146 q1321) rfl rfl rfl (by decide +kernel) ⟨Nat.le_trans (Nat.le_of_ble_eq_true rfl) hRf, Nat.le_trans (Nat.le_of_ble_eq_true rfl) hRl⟩) rfl rfl hl hW hdg rfl
theorem nX_X11_281 {p : Program} {l : Launch} {e : Env} {R : Room} {s : State} {m : MethodId} {args : Array Value} {below : List Frame} {meth : Method} {c : Code} {H : Heap} {locs : List Loc} {cells slots nL : Nat} {Q : State → Prop} {D : XD} {h0 h : TH} {cc : ByteArray} {pc : Nat} {ls : Array Slot} {rest : List Value} (hC : XCx D cc nL RX11 h0 p R s m args meth c) (hX : XSt D s h0 h H locs cells slots) (hroom : hc h + 1 ≤ XC ∧ hs h + 3 ≤ XS) (hdg : decode cc pc = .ok (.new 281, 3)) (kk : ∀ (H1 : Heap) (cells1 slots1 : Nat), XSt D s h0 (nO h 17 3) H1 locs cells1 slots1 → W p l e R s m args below meth c H1 locs cells1 slots1 Q (F0 m (pc + 3) ls (rv (hz h + 1) :: rest))) : W p l e R s m args below meth c H locs cells slots Q (F0 m pc ls rest) :=
  X_new hC hX 17 ⟨by decide, by decide⟩ rfl q1353 q1354 q143 hroom hdg kk
theorem iX_X11_283 {p : Program} {l : Launch} {e : Env} {R : Room} {s : State} {m : MethodId} {args : Array Value} {below : List Frame} {meth : Method} {c : Code} {H : Heap} {locs : List Loc} {cells slots nL : Nat} {Q : State → Prop} {D : XD} {h0 h : TH} {cc : ByteArray} {pc : Nat} {ls : Array Slot} {rest : List Value} (hC : XCx D cc nL RX11 h0 p R s m args meth c) (hX : XSt D s h0 h H locs cells slots) {a : Nat} {b0 : Int32} {b1 : Int32} {x : TH} (ha : a ≠ 0) (hcF : F_X9_init D.2.2.2 a b0 b1 h = some x) (hl : ls.size = nL) (hW : (rest.map fun v => v.category).sum ≤ 8) (hRf : 4 + 1 ≤ R.frames) (hRl : 115 ≤ R.locals) (hdg : decode cc pc = .ok (.invokespecial 283, 3)) (kk : ∀ (H1 : Heap) (locs1 : List Loc) (cells1 slots1 : Nat), XSt D s h0 x H1 locs1 cells1 slots1 → W p l e R s m args below meth c H1 locs1 cells1 slots1 Q (F0 m (pc + 3) ls (rest))) : W p l e R s m args below meth c H locs cells slots Q (F0 m pc ls (.int b1 :: .int b0 :: rv a :: rest)) := by
  exact X_callI hC hX ha (As := [.int b0, .int b1]) (m_X9_init l D a b0 b1 h _ hcF) (cwI 2 hC.2.2.2.2.1 (lw_meth q1357) rfl rfl rfl (hC.2.2.2.2.1 _ q143) (hC.2.2.2.2.1 _ q1355) (hC.2.2.2.2.1 _ q1356) rfl (by decide +kernel) ⟨Nat.le_trans (Nat.le_of_ble_eq_true rfl) hRf, Nat.le_trans (Nat.le_of_ble_eq_true rfl) hRl⟩) rfl rfl hl hW hdg kk
theorem nX_X11_273 {p : Program} {l : Launch} {e : Env} {R : Room} {s : State} {m : MethodId} {args : Array Value} {below : List Frame} {meth : Method} {c : Code} {H : Heap} {locs : List Loc} {cells slots nL : Nat} {Q : State → Prop} {D : XD} {h0 h : TH} {cc : ByteArray} {pc : Nat} {ls : Array Slot} {rest : List Value} (hC : XCx D cc nL RX11 h0 p R s m args meth c) (hX : XSt D s h0 h H locs cells slots) (hroom : hc h + 1 ≤ XC ∧ hs h + 3 ≤ XS) (hdg : decode cc pc = .ok (.new 273, 3)) (kk : ∀ (H1 : Heap) (cells1 slots1 : Nat), XSt D s h0 (nO h 15 3) H1 locs cells1 slots1 → W p l e R s m args below meth c H1 locs cells1 slots1 Q (F0 m (pc + 3) ls (rv (hz h + 1) :: rest))) : W p l e R s m args below meth c H locs cells slots Q (F0 m pc ls rest) :=
  X_new hC hX 15 ⟨by decide, by decide⟩ rfl q1323 q1324 q161 hroom hdg kk
theorem iX_X11_275 {p : Program} {l : Launch} {e : Env} {R : Room} {s : State} {m : MethodId} {args : Array Value} {below : List Frame} {meth : Method} {c : Code} {H : Heap} {locs : List Loc} {cells slots nL : Nat} {Q : State → Prop} {D : XD} {h0 h : TH} {cc : ByteArray} {pc : Nat} {ls : Array Slot} {rest : List Value} (hC : XCx D cc nL RX11 h0 p R s m args meth c) (hX : XSt D s h0 h H locs cells slots) {a : Nat} {b0 : Int32} {b1 : Int32} {x : TH} (ha : a ≠ 0) (hcF : F_X17_init D.2.2.2 a b0 b1 h = some x) (hl : ls.size = nL) (hW : (rest.map fun v => v.category).sum ≤ 8) (hRf : 4 + 1 ≤ R.frames) (hRl : 115 ≤ R.locals) (hdg : decode cc pc = .ok (.invokespecial 275, 3)) (kk : ∀ (H1 : Heap) (locs1 : List Loc) (cells1 slots1 : Nat), XSt D s h0 x H1 locs1 cells1 slots1 → W p l e R s m args below meth c H1 locs1 cells1 slots1 Q (F0 m (pc + 3) ls (rest))) : W p l e R s m args below meth c H locs cells slots Q (F0 m pc ls (.int b1 :: .int b0 :: rv a :: rest)) := by
  exact X_callI hC hX ha (As := [.int b0, .int b1]) (m_X17_init l D a b0 b1 h _ hcF) (cwI 2 hC.2.2.2.2.1 (lw_meth q1327) rfl rfl rfl (hC.2.2.2.2.1 _ q161) (hC.2.2.2.2.1 _ q1325) (hC.2.2.2.2.1 _ q1326) rfl (by decide +kernel) ⟨Nat.le_trans (Nat.le_of_ble_eq_true rfl) hRf, Nat.le_trans (Nat.le_of_ble_eq_true rfl) hRl⟩) rfl rfl hl hW hdg kk
theorem nX_X11_276 {p : Program} {l : Launch} {e : Env} {R : Room} {s : State} {m : MethodId} {args : Array Value} {below : List Frame} {meth : Method} {c : Code} {H : Heap} {locs : List Loc} {cells slots nL : Nat} {Q : State → Prop} {D : XD} {h0 h : TH} {cc : ByteArray} {pc : Nat} {ls : Array Slot} {rest : List Value} (hC : XCx D cc nL RX11 h0 p R s m args meth c) (hX : XSt D s h0 h H locs cells slots) (hroom : hc h + 1 ≤ XC ∧ hs h + 3 ≤ XS) (hdg : decode cc pc = .ok (.new 276, 3)) (kk : ∀ (H1 : Heap) (cells1 slots1 : Nat), XSt D s h0 (nO h 16 3) H1 locs cells1 slots1 → W p l e R s m args below meth c H1 locs cells1 slots1 Q (F0 m (pc + 3) ls (rv (hz h + 1) :: rest))) : W p l e R s m args below meth c H locs cells slots Q (F0 m pc ls rest) :=
  X_new hC hX 16 ⟨by decide, by decide⟩ rfl q1346 q1347 q142 hroom hdg kk
theorem iX_X11_278 {p : Program} {l : Launch} {e : Env} {R : Room} {s : State} {m : MethodId} {args : Array Value} {below : List Frame} {meth : Method} {c : Code} {H : Heap} {locs : List Loc} {cells slots nL : Nat} {Q : State → Prop} {D : XD} {h0 h : TH} {cc : ByteArray} {pc : Nat} {ls : Array Slot} {rest : List Value} (hC : XCx D cc nL RX11 h0 p R s m args meth c) (hX : XSt D s h0 h H locs cells slots) {a : Nat} {b0 : Int32} {b1 : Int32} {b2 : Int32} {x : TH} (ha : a ≠ 0) (hcF : F_X8_init D.2.2.2 a b0 b1 b2 h = some x) (hl : ls.size = nL) (hW : (rest.map fun v => v.category).sum ≤ 8) (hRf : 3 + 1 ≤ R.frames) (hRl : 93 ≤ R.locals) (hdg : decode cc pc = .ok (.invokespecial 278, 3)) (kk : ∀ (H1 : Heap) (locs1 : List Loc) (cells1 slots1 : Nat), XSt D s h0 x H1 locs1 cells1 slots1 → W p l e R s m args below meth c H1 locs1 cells1 slots1 Q (F0 m (pc + 3) ls (rest))) : W p l e R s m args below meth c H locs cells slots Q (F0 m pc ls (.int b2 :: .int b1 :: .int b0 :: rv a :: rest)) := by
  exact X_callI hC hX ha (As := [.int b0, .int b1, .int b2]) (m_X8_init l D a b0 b1 b2 h _ hcF) (cwI 3 hC.2.2.2.2.1 (lw_meth q1330) rfl rfl rfl (hC.2.2.2.2.1 _ q142) (hC.2.2.2.2.1 _ q1348) (hC.2.2.2.2.1 _ q1329) rfl (by decide +kernel) ⟨Nat.le_trans (Nat.le_of_ble_eq_true rfl) hRf, Nat.le_trans (Nat.le_of_ble_eq_true rfl) hRl⟩) rfl rfl hl hW hdg kk
/-! BlindCards$Reader.move -/
def F_X11_move_b168 (K : Nat → Nat) (x6 : Int32) (h : TH) : Option ((Nat ⊕ Nat) × TH) :=
  gd (hc h + 1 ≤ XC ∧ hs h + 8 ≤ XS) <|
  lt (hz h + 1) fun r_2 =>
  lt (nO h 10 8) fun h_3 =>
  gd (r_2 ≠ 0) <|
  bd (F_X12_init K r_2 (4 : Int32) x6 h_3) fun h_6 =>
  gd (r_2 ≠ 0) <|
  some (.inr r_2, h_6)
set_option maxHeartbeats 4000000 in
theorem w_X11_move_b168 {p : Program} {l : Launch} {e : Env} {s : State} {m : MethodId} {args : Array Value} {below : List Frame} {meth : Method} {c : Code} {D : XD} {h0 : TH} (hC : XCx D cX11_move 9 RX11 h0 p (xRm 10 263 h0) s m args meth c) (hr : meth.sig.returnType = some (.object "BlindCards$Move")) (hnh : c.exceptionTable.isEmpty = true) (hin : meth.name = "move") {x : ((Nat ⊕ Nat) × TH)} :
    ∀ (x6 : Int32) (h : TH), F_X11_move_b168 D.2.2.2 x6 h = some x → XJ p l e (xRm 10 263 h0) s m args below meth c D 9 (ocR x.1) h0 x.2 168 [(6, .int x6)] [] h := by
  have hx := hC.1
  have hb := hC.2.1
  intro x6 h hF H locs cells slots ls hX hl
  rw [F_X11_move_b168] at hF
  obtain ⟨h_1, hF⟩ := gd_ok hF
  refine nX_X11_75 hC hX h_1 dX11_move_168 (fun H cells slots hX => ?_)
  refine lv_topr (fun r_2 er_2 => ?_)
  replace hF := lt_at hF er_2
  obtain ⟨h_3, eh_3, hF⟩ := lt_ok hF
  rw [← eh_3] at hX
  refine lv_dup hx hb dX11_move_171 (rv_cat _) ?_
  refine lv_iconst (v := 4) hx hb dX11_move_172 (by decide) ?_
  refine lv_iload hx hb dX11_move_173 (lv_at hl 0 rfl) ?_
  obtain ⟨h_4, hF⟩ := gd_ok hF
  obtain ⟨h_6, hc_5, hF⟩ := bd_ok hF
  refine iX_X11_77 hC hX h_4 hc_5 hl.1 (cat4 (Nat.le_of_ble_eq_true rfl)) (Nat.le_of_ble_eq_true rfl) (Nat.le_of_ble_eq_true rfl) dX11_move_175 (fun H locs cells slots hX => ?_)
  obtain ⟨h_7, hF⟩ := gd_ok hF
  cases hF
  exact x_throw hC hX hnh h_7 rfl rfl dX11_move_178
def F_X11_move_b205 (K : Nat → Nat) (x4 : Int32) (x5 : Int32) (x7 : Int32) (h : TH) : Option ((Nat ⊕ Nat) × TH) :=
  gd (hc h + 1 ≤ XC ∧ hs h + 3 ≤ XS) <|
  lt (hz h + 1) fun r_2 =>
  lt (nO h 16 3) fun h_3 =>
  gd (r_2 ≠ 0) <|
  bd (F_X8_init K r_2 x5 x7 x4 h_3) fun h_6 =>
  some (.inl r_2, h_6)
set_option maxHeartbeats 4000000 in
theorem w_X11_move_b205 {p : Program} {l : Launch} {e : Env} {s : State} {m : MethodId} {args : Array Value} {below : List Frame} {meth : Method} {c : Code} {D : XD} {h0 : TH} (hC : XCx D cX11_move 9 RX11 h0 p (xRm 10 263 h0) s m args meth c) (hr : meth.sig.returnType = some (.object "BlindCards$Move")) (hnh : c.exceptionTable.isEmpty = true) (hin : meth.name = "move") {x : ((Nat ⊕ Nat) × TH)} :
    ∀ (x4 : Int32) (x5 : Int32) (x7 : Int32) (h : TH), F_X11_move_b205 D.2.2.2 x4 x5 x7 h = some x → XJ p l e (xRm 10 263 h0) s m args below meth c D 9 (ocR x.1) h0 x.2 205 [(4, .int x4), (5, .int x5), (7, .int x7)] [] h := by
  have hx := hC.1
  have hb := hC.2.1
  intro x4 x5 x7 h hF H locs cells slots ls hX hl
  rw [F_X11_move_b205] at hF
  obtain ⟨h_1, hF⟩ := gd_ok hF
  refine nX_X11_276 hC hX h_1 dX11_move_205 (fun H cells slots hX => ?_)
  refine lv_topr (fun r_2 er_2 => ?_)
  replace hF := lt_at hF er_2
  obtain ⟨h_3, eh_3, hF⟩ := lt_ok hF
  rw [← eh_3] at hX
  refine lv_dup hx hb dX11_move_208 (rv_cat _) ?_
  refine lv_iload hx hb dX11_move_209 (lv_at hl 1 rfl) ?_
  refine lv_iload hx hb dX11_move_211 (lv_at hl 2 rfl) ?_
  refine lv_iload hx hb dX11_move_213 (lv_at hl 0 rfl) ?_
  obtain ⟨h_4, hF⟩ := gd_ok hF
  obtain ⟨h_6, hc_5, hF⟩ := bd_ok hF
  refine iX_X11_278 hC hX h_4 hc_5 hl.1 (cat4 (Nat.le_of_ble_eq_true rfl)) (Nat.le_of_ble_eq_true rfl) (Nat.le_of_ble_eq_true rfl) dX11_move_215 (fun H locs cells slots hX => ?_)
  refine lv_goto (tgt := 232) hx hb dX11_move_218 (by decide) ?_
  cases hF
  exact x_reta hC hX hr (Or.inl ⟨_, rfl⟩) rfl rfl dX11_move_232
def F_X11_move_b179 (K : Nat → Nat) (x1 : Int32) (x2 : Int32) (x3 : Int32) (x4 : Int32) (x5 : Int32) (x7 : Int32) (h : TH) : Option ((Nat ⊕ Nat) × TH) :=
  if x2 = 0 then
    if x1 = 0 then
      if x3 = 0 then
        gd (hc h + 1 ≤ XC ∧ hs h + 3 ≤ XS) <|
        lt (hz h + 1) fun r_5 =>
        lt (nO h 17 3) fun h_6 =>
        gd (r_5 ≠ 0) <|
        bd (F_X9_init K r_5 x5 x7 h_6) fun h_9 =>
        some (.inl r_5, h_9)
      else
        F_X11_move_b205 K x4 x5 x7 h
    else
      F_X11_move_b205 K x4 x5 x7 h
  else
    gd (hc h + 1 ≤ XC ∧ hs h + 3 ≤ XS) <|
    lt (hz h + 1) fun r_11 =>
    lt (nO h 15 3) fun h_12 =>
    gd (r_11 ≠ 0) <|
    bd (F_X17_init K r_11 x5 x7 h_12) fun h_15 =>
    some (.inl r_11, h_15)
set_option maxHeartbeats 4000000 in
theorem w_X11_move_b179 {p : Program} {l : Launch} {e : Env} {s : State} {m : MethodId} {args : Array Value} {below : List Frame} {meth : Method} {c : Code} {D : XD} {h0 : TH} (hC : XCx D cX11_move 9 RX11 h0 p (xRm 10 263 h0) s m args meth c) (hr : meth.sig.returnType = some (.object "BlindCards$Move")) (hnh : c.exceptionTable.isEmpty = true) (hin : meth.name = "move") {x : ((Nat ⊕ Nat) × TH)} :
    ∀ (x1 : Int32) (x2 : Int32) (x3 : Int32) (x4 : Int32) (x5 : Int32) (x7 : Int32) (h : TH), F_X11_move_b179 D.2.2.2 x1 x2 x3 x4 x5 x7 h = some x → XJ p l e (xRm 10 263 h0) s m args below meth c D 9 (ocR x.1) h0 x.2 179 [(1, .int x1), (2, .int x2), (3, .int x3), (4, .int x4), (5, .int x5), (7, .int x7)] [] h := by
  have hx := hC.1
  have hb := hC.2.1
  intro x1 x2 x3 x4 x5 x7 h hF H locs cells slots ls hX hl
  rw [F_X11_move_b179] at hF
  refine lv_iload_n hx hb dX11_move_179 rfl (lv_at hl 1 rfl) ?_
  refine lv_if_eq (tgt := 197) hx hb dX11_move_180 (by decide) (fun c_1 => ?_) (fun c_1 => ?_)
  · replace hF := it_t hF c_1
    refine lv_iload_n hx hb dX11_move_197 rfl (lv_at hl 0 rfl) ?_
    refine lv_if_ne (tgt := 205) hx hb dX11_move_198 (by decide) (fun c_2 => ?_) (fun c_2 => ?_)
    · replace hF := it_f hF c_2
      exact w_X11_move_b205 hC hr hnh hin x4 x5 x7 h hF H locs cells slots ls hX (lv_sub hl [3, 4, 5] rfl)
    · replace hF := it_t hF c_2
      refine lv_iload_n hx hb dX11_move_201 rfl (lv_at hl 2 rfl) ?_
      refine lv_if_eq (tgt := 221) hx hb dX11_move_202 (by decide) (fun c_3 => ?_) (fun c_3 => ?_)
      · replace hF := it_t hF c_3
        obtain ⟨h_4, hF⟩ := gd_ok hF
        refine nX_X11_281 hC hX h_4 dX11_move_221 (fun H cells slots hX => ?_)
        refine lv_topr (fun r_5 er_5 => ?_)
        replace hF := lt_at hF er_5
        obtain ⟨h_6, eh_6, hF⟩ := lt_ok hF
        rw [← eh_6] at hX
        refine lv_dup hx hb dX11_move_224 (rv_cat _) ?_
        refine lv_iload hx hb dX11_move_225 (lv_at hl 4 rfl) ?_
        refine lv_iload hx hb dX11_move_227 (lv_at hl 5 rfl) ?_
        obtain ⟨h_7, hF⟩ := gd_ok hF
        obtain ⟨h_9, hc_8, hF⟩ := bd_ok hF
        refine iX_X11_283 hC hX h_7 hc_8 hl.1 (cat4 (Nat.le_of_ble_eq_true rfl)) (Nat.le_of_ble_eq_true rfl) (Nat.le_of_ble_eq_true rfl) dX11_move_229 (fun H locs cells slots hX => ?_)
        cases hF
        exact x_reta hC hX hr (Or.inl ⟨_, rfl⟩) rfl rfl dX11_move_232
      · replace hF := it_f hF c_3
        exact w_X11_move_b205 hC hr hnh hin x4 x5 x7 h hF H locs cells slots ls hX (lv_sub hl [3, 4, 5] rfl)
  · replace hF := it_f hF c_1
    obtain ⟨h_10, hF⟩ := gd_ok hF
    refine nX_X11_273 hC hX h_10 dX11_move_183 (fun H cells slots hX => ?_)
    refine lv_topr (fun r_11 er_11 => ?_)
    replace hF := lt_at hF er_11
    obtain ⟨h_12, eh_12, hF⟩ := lt_ok hF
    rw [← eh_12] at hX
    refine lv_dup hx hb dX11_move_186 (rv_cat _) ?_
    refine lv_iload hx hb dX11_move_187 (lv_at hl 4 rfl) ?_
    refine lv_iload hx hb dX11_move_189 (lv_at hl 5 rfl) ?_
    obtain ⟨h_13, hF⟩ := gd_ok hF
    obtain ⟨h_15, hc_14, hF⟩ := bd_ok hF
    refine iX_X11_275 hC hX h_13 hc_14 hl.1 (cat4 (Nat.le_of_ble_eq_true rfl)) (Nat.le_of_ble_eq_true rfl) (Nat.le_of_ble_eq_true rfl) dX11_move_191 (fun H locs cells slots hX => ?_)
    refine lv_goto (tgt := 232) hx hb dX11_move_194 (by decide) ?_
    cases hF
    exact x_reta hC hX hr (Or.inl ⟨_, rfl⟩) rfl rfl dX11_move_232
def F_X11_move_b150 (K : Nat → Nat) (k168 : Int32 → TH → Option ((Nat ⊕ Nat) × TH)) (x1 : Int32) (x2 : Int32) (x3 : Int32) (x4 : Int32) (x5 : Int32) (x6 : Int32) (x7 : Int32) (x8 : Int32) (h : TH) : Option ((Nat ⊕ Nat) × TH) :=
  if x1 = 0 then
    if x2 = 0 then
      if x3 = 0 then
        if x8 ≤ (4 : Int32) then
          F_X11_move_b179 K x1 x2 x3 x4 x5 x7 h
        else
          k168 x6 h
      else
        F_X11_move_b179 K x1 x2 x3 x4 x5 x7 h
    else
      F_X11_move_b179 K x1 x2 x3 x4 x5 x7 h
  else
    F_X11_move_b179 K x1 x2 x3 x4 x5 x7 h
set_option maxHeartbeats 4000000 in
theorem w_X11_move_b150 {p : Program} {l : Launch} {e : Env} {s : State} {m : MethodId} {args : Array Value} {below : List Frame} {meth : Method} {c : Code} {D : XD} {h0 : TH} (hC : XCx D cX11_move 9 RX11 h0 p (xRm 10 263 h0) s m args meth c) (hr : meth.sig.returnType = some (.object "BlindCards$Move")) (hnh : c.exceptionTable.isEmpty = true) (hin : meth.name = "move") {x : ((Nat ⊕ Nat) × TH)} (k168 : Int32 → TH → Option ((Nat ⊕ Nat) × TH)) (hk168 : ∀ (x6 : Int32) (h : TH), k168 x6 h = some x → XJ p l e (xRm 10 263 h0) s m args below meth c D 9 (ocR x.1) h0 x.2 168 [(6, .int x6)] [] h) :
    ∀ (x1 : Int32) (x2 : Int32) (x3 : Int32) (x4 : Int32) (x5 : Int32) (x6 : Int32) (x7 : Int32) (x8 : Int32) (h : TH), F_X11_move_b150 D.2.2.2 k168 x1 x2 x3 x4 x5 x6 x7 x8 h = some x → XJ p l e (xRm 10 263 h0) s m args below meth c D 9 (ocR x.1) h0 x.2 150 [(1, .int x1), (2, .int x2), (3, .int x3), (4, .int x4), (5, .int x5), (6, .int x6), (7, .int x7), (8, .int x8)] [] h := by
  have hx := hC.1
  have hb := hC.2.1
  intro x1 x2 x3 x4 x5 x6 x7 x8 h hF H locs cells slots ls hX hl
  rw [F_X11_move_b150] at hF
  refine lv_iload_n hx hb dX11_move_150 rfl (lv_at hl 0 rfl) ?_
  refine lv_if_ne (tgt := 179) hx hb dX11_move_151 (by decide) (fun c_1 => ?_) (fun c_1 => ?_)
  · replace hF := it_f hF c_1
    exact w_X11_move_b179 hC hr hnh hin x1 x2 x3 x4 x5 x7 h hF H locs cells slots ls hX (lv_sub hl [0, 1, 2, 3, 4, 6] rfl)
  · replace hF := it_t hF c_1
    refine lv_iload_n hx hb dX11_move_154 rfl (lv_at hl 1 rfl) ?_
    refine lv_if_ne (tgt := 179) hx hb dX11_move_155 (by decide) (fun c_2 => ?_) (fun c_2 => ?_)
    · replace hF := it_f hF c_2
      exact w_X11_move_b179 hC hr hnh hin x1 x2 x3 x4 x5 x7 h hF H locs cells slots ls hX (lv_sub hl [0, 1, 2, 3, 4, 6] rfl)
    · replace hF := it_t hF c_2
      refine lv_iload_n hx hb dX11_move_158 rfl (lv_at hl 2 rfl) ?_
      refine lv_if_ne (tgt := 179) hx hb dX11_move_159 (by decide) (fun c_3 => ?_) (fun c_3 => ?_)
      · replace hF := it_f hF c_3
        exact w_X11_move_b179 hC hr hnh hin x1 x2 x3 x4 x5 x7 h hF H locs cells slots ls hX (lv_sub hl [0, 1, 2, 3, 4, 6] rfl)
      · replace hF := it_t hF c_3
        refine lv_iload hx hb dX11_move_162 (lv_at hl 7 rfl) ?_
        refine lv_iconst (v := 4) hx hb dX11_move_164 (by decide) ?_
        refine lv_icmp_le (tgt := 179) hx hb dX11_move_165 (by decide) (fun c_4 => ?_) (fun c_4 => ?_)
        · replace hF := it_t hF c_4
          exact w_X11_move_b179 hC hr hnh hin x1 x2 x3 x4 x5 x7 h hF H locs cells slots ls hX (lv_sub hl [0, 1, 2, 3, 4, 6] rfl)
        · replace hF := it_f hF c_4
          exact hk168 x6 h hF H locs cells slots ls hX (lv_sub hl [5] rfl)
def F_X11_move_b129 (K : Nat → Nat) (k168 : Int32 → TH → Option ((Nat ⊕ Nat) × TH)) (x1 : Int32) (x2 : Int32) (x3 : Int32) (x4 : Int32) (x5 : Int32) (x6 : Int32) (x7 : Int32) (x8 : Int32) (h : TH) : Option ((Nat ⊕ Nat) × TH) :=
  if x3 = 0 then
    F_X11_move_b150 K k168 x1 x2 x3 x4 x5 x6 x7 x8 h
  else
    gd (¬ x4 = 0) <|
    if 0 < (x8 - x8 / x4 * x4) then
      k168 x6 h
    else
      if x8 < ((2 : Int32) * x4) then
        k168 x6 h
      else
        F_X11_move_b150 K k168 x1 x2 x3 x4 x5 x6 x7 x8 h
set_option maxHeartbeats 4000000 in
theorem w_X11_move_b129 {p : Program} {l : Launch} {e : Env} {s : State} {m : MethodId} {args : Array Value} {below : List Frame} {meth : Method} {c : Code} {D : XD} {h0 : TH} (hC : XCx D cX11_move 9 RX11 h0 p (xRm 10 263 h0) s m args meth c) (hr : meth.sig.returnType = some (.object "BlindCards$Move")) (hnh : c.exceptionTable.isEmpty = true) (hin : meth.name = "move") {x : ((Nat ⊕ Nat) × TH)} (k168 : Int32 → TH → Option ((Nat ⊕ Nat) × TH)) (hk168 : ∀ (x6 : Int32) (h : TH), k168 x6 h = some x → XJ p l e (xRm 10 263 h0) s m args below meth c D 9 (ocR x.1) h0 x.2 168 [(6, .int x6)] [] h) :
    ∀ (x1 : Int32) (x2 : Int32) (x3 : Int32) (x4 : Int32) (x5 : Int32) (x6 : Int32) (x7 : Int32) (x8 : Int32) (h : TH), F_X11_move_b129 D.2.2.2 k168 x1 x2 x3 x4 x5 x6 x7 x8 h = some x → XJ p l e (xRm 10 263 h0) s m args below meth c D 9 (ocR x.1) h0 x.2 129 [(1, .int x1), (2, .int x2), (3, .int x3), (4, .int x4), (5, .int x5), (6, .int x6), (7, .int x7), (8, .int x8)] [] h := by
  have hx := hC.1
  have hb := hC.2.1
  intro x1 x2 x3 x4 x5 x6 x7 x8 h hF H locs cells slots ls hX hl
  rw [F_X11_move_b129] at hF
  refine lv_iload_n hx hb dX11_move_129 rfl (lv_at hl 2 rfl) ?_
  refine lv_if_eq (tgt := 150) hx hb dX11_move_130 (by decide) (fun c_1 => ?_) (fun c_1 => ?_)
  · replace hF := it_t hF c_1
    exact w_X11_move_b150 hC hr hnh hin k168 hk168 x1 x2 x3 x4 x5 x6 x7 x8 h hF H locs cells slots ls hX (lv_sub hl [0, 1, 2, 3, 4, 5, 6, 7] rfl)
  · replace hF := it_f hF c_1
    refine lv_iload hx hb dX11_move_133 (lv_at hl 7 rfl) ?_
    refine lv_iload hx hb dX11_move_135 (lv_at hl 3 rfl) ?_
    obtain ⟨h_2, hF⟩ := gd_ok hF
    refine lv_irem hx hb dX11_move_137 h_2 ?_
    refine lv_if_gt (tgt := 168) hx hb dX11_move_138 (by decide) (fun c_3 => ?_) (fun c_3 => ?_)
    · replace hF := it_t hF c_3
      exact hk168 x6 h hF H locs cells slots ls hX (lv_sub hl [5] rfl)
    · replace hF := it_f hF c_3
      refine lv_iload hx hb dX11_move_141 (lv_at hl 7 rfl) ?_
      refine lv_iconst (v := 2) hx hb dX11_move_143 (by decide) ?_
      refine lv_iload hx hb dX11_move_144 (lv_at hl 3 rfl) ?_
      refine lv_imul hx hb dX11_move_146 ?_
      refine lv_icmp_lt (tgt := 168) hx hb dX11_move_147 (by decide) (fun c_4 => ?_) (fun c_4 => ?_)
      · replace hF := it_t hF c_4
        exact hk168 x6 h hF H locs cells slots ls hX (lv_sub hl [5] rfl)
      · replace hF := it_f hF c_4
        exact w_X11_move_b150 hC hr hnh hin k168 hk168 x1 x2 x3 x4 x5 x6 x7 x8 h hF H locs cells slots ls hX (lv_sub hl [0, 1, 2, 3, 4, 5, 6, 7] rfl)
def F_X11_move_b79 (K : Nat → Nat) (x0 : Nat) (x1 : Int32) (x2 : Int32) (x3 : Int32) (x4 : Int32) (h : TH) : Option ((Nat ⊕ Nat) × TH) :=
  gd (hT h x0 = 7) <|
  bt (F_X11_place K x0 h) fun r_3 h_4 =>
  lt ((K 18)) fun r_6 =>
  gd (hT h_4 x0 = 7) <|
  bt (F_X11_key K x0 r_6 h_4) fun r_9 h_10 =>
  gd (hasF (hT h_10 x0) 69 = true) <|
  lt ((hI h_10 69 x0)) fun x_13 =>
  gd (hT h_10 x0 = 7) <|
  bt (F_X11_place K x0 h_10) fun r_16 h_17 =>
  lt (((r_16 - r_3) + (1 : Int32))) fun x_19 =>
  if x_19 < (2 : Int32) then
    F_X11_move_b168 K x_13 h_17
  else
    if x2 = 0 then
      F_X11_move_b129 K (F_X11_move_b168 K) x1 x2 x3 x4 r_3 x_13 r_16 x_19 h_17
    else
      if 0 < (x_19 - x_19 / (2 : Int32) * (2 : Int32)) then
        F_X11_move_b168 K x_13 h_17
      else
        F_X11_move_b129 K (F_X11_move_b168 K) x1 x2 x3 x4 r_3 x_13 r_16 x_19 h_17
set_option maxHeartbeats 4000000 in
theorem w_X11_move_b79 {p : Program} {l : Launch} {e : Env} {s : State} {m : MethodId} {args : Array Value} {below : List Frame} {meth : Method} {c : Code} {D : XD} {h0 : TH} (hC : XCx D cX11_move 9 RX11 h0 p (xRm 10 263 h0) s m args meth c) (hr : meth.sig.returnType = some (.object "BlindCards$Move")) (hnh : c.exceptionTable.isEmpty = true) (hin : meth.name = "move") {x : ((Nat ⊕ Nat) × TH)} :
    ∀ (x0 : Nat) (x1 : Int32) (x2 : Int32) (x3 : Int32) (x4 : Int32) (h : TH), F_X11_move_b79 D.2.2.2 x0 x1 x2 x3 x4 h = some x → XJ p l e (xRm 10 263 h0) s m args below meth c D 9 (ocR x.1) h0 x.2 79 [(0, rv x0), (1, .int x1), (2, .int x2), (3, .int x3), (4, .int x4)] [] h := by
  have hx := hC.1
  have hb := hC.2.1
  intro x0 x1 x2 x3 x4 h hF H locs cells slots ls hX hl
  rw [F_X11_move_b79] at hF
  refine X_aload_n hx hb dX11_move_79 rfl (lv_at hl 0 rfl) ?_
  obtain ⟨h_1, hF⟩ := gd_ok hF
  rcases bt_ok hF with ⟨r_3, h_4, hc_2, hF⟩ | ⟨z_5, h_4, hc_2, hxx⟩
  rotate_left
  · subst hxx
    exact iX_X11_271_t hC hX hnh h_1 hc_2 hl.1 (Nat.le_of_ble_eq_true rfl) (Nat.le_of_ble_eq_true rfl) (Nat.le_of_ble_eq_true rfl) dX11_move_80
  refine iX_X11_271 hC hX h_1 hc_2 hl.1 (Nat.le_of_ble_eq_true rfl) (Nat.le_of_ble_eq_true rfl) (Nat.le_of_ble_eq_true rfl) dX11_move_80 (fun H locs cells slots hX => ?_)
  refine lv_istore (lv' := [(5, .int r_3), (0, rv x0), (1, .int x1), (2, .int x2), (3, .int x3), (4, .int x4)]) hx hb dX11_move_83 hl (by decide) rfl (fun ls hl => ?_)
  refine X_aload_n hx hb dX11_move_85 rfl (lv_at hl 1 rfl) ?_
  refine X_ldcS hC (i := 18) (List.mem_of_getElem? (i := 18) rfl) dX11_move_86 ?_
  refine lv_topr (fun r_6 er_6 => ?_)
  replace hF := lt_at hF er_6
  obtain ⟨h_7, hF⟩ := gd_ok hF
  rcases bt_ok hF with ⟨r_9, h_10, hc_8, hF⟩ | ⟨z_11, h_10, hc_8, hxx⟩
  rotate_left
  · subst hxx
    exact iX_X11_267_t hC hX hnh h_7 hc_8 hl.1 (Nat.le_of_ble_eq_true rfl) (Nat.le_of_ble_eq_true rfl) (Nat.le_of_ble_eq_true rfl) dX11_move_88
  refine iX_X11_267 hC hX h_7 hc_8 hl.1 (Nat.le_of_ble_eq_true rfl) (Nat.le_of_ble_eq_true rfl) (Nat.le_of_ble_eq_true rfl) dX11_move_88 (fun H locs cells slots hX => ?_)
  refine X_aload_n hx hb dX11_move_91 rfl (lv_at hl 1 rfl) ?_
  obtain ⟨h_12, hF⟩ := gd_ok hF
  refine gX_X11_43 hC hX h_12 dX11_move_92 ?_
  refine lv_topi (fun x_13 ex_13 => ?_)
  replace hF := lt_at hF ex_13
  refine lv_istore (lv' := [(6, .int x_13), (5, .int r_3), (0, rv x0), (1, .int x1), (2, .int x2), (3, .int x3), (4, .int x4)]) hx hb dX11_move_95 hl (by decide) rfl (fun ls hl => ?_)
  refine X_aload_n hx hb dX11_move_97 rfl (lv_at hl 2 rfl) ?_
  obtain ⟨h_14, hF⟩ := gd_ok hF
  rcases bt_ok hF with ⟨r_16, h_17, hc_15, hF⟩ | ⟨z_18, h_17, hc_15, hxx⟩
  rotate_left
  · subst hxx
    exact iX_X11_271_t hC hX hnh h_14 hc_15 hl.1 (Nat.le_of_ble_eq_true rfl) (Nat.le_of_ble_eq_true rfl) (Nat.le_of_ble_eq_true rfl) dX11_move_98
  refine iX_X11_271 hC hX h_14 hc_15 hl.1 (Nat.le_of_ble_eq_true rfl) (Nat.le_of_ble_eq_true rfl) (Nat.le_of_ble_eq_true rfl) dX11_move_98 (fun H locs cells slots hX => ?_)
  refine lv_istore (lv' := [(7, .int r_16), (6, .int x_13), (5, .int r_3), (0, rv x0), (1, .int x1), (2, .int x2), (3, .int x3), (4, .int x4)]) hx hb dX11_move_101 hl (by decide) rfl (fun ls hl => ?_)
  refine lv_iload hx hb dX11_move_103 (lv_at hl 0 rfl) ?_
  refine lv_iload hx hb dX11_move_105 (lv_at hl 2 rfl) ?_
  refine lv_isub hx hb dX11_move_107 ?_
  refine lv_iconst (v := 1) hx hb dX11_move_108 (by decide) ?_
  refine lv_iadd hx hb dX11_move_109 ?_
  refine lv_topi (fun x_19 ex_19 => ?_)
  replace hF := lt_at hF ex_19
  refine lv_istore (lv' := [(8, .int x_19), (7, .int r_16), (6, .int x_13), (5, .int r_3), (0, rv x0), (1, .int x1), (2, .int x2), (3, .int x3), (4, .int x4)]) hx hb dX11_move_110 hl (by decide) rfl (fun ls hl => ?_)
  refine lv_iload hx hb dX11_move_112 (lv_at hl 0 rfl) ?_
  refine lv_iconst (v := 2) hx hb dX11_move_114 (by decide) ?_
  refine lv_icmp_lt (tgt := 168) hx hb dX11_move_115 (by decide) (fun c_20 => ?_) (fun c_20 => ?_)
  · replace hF := it_t hF c_20
    exact w_X11_move_b168 hC hr hnh hin x_13 h_17 hF H locs cells slots ls hX (lv_sub hl [2] rfl)
  · replace hF := it_f hF c_20
    refine lv_iload_n hx hb dX11_move_118 rfl (lv_at hl 6 rfl) ?_
    refine lv_if_eq (tgt := 129) hx hb dX11_move_119 (by decide) (fun c_21 => ?_) (fun c_21 => ?_)
    · replace hF := it_t hF c_21
      exact w_X11_move_b129 hC hr hnh hin (F_X11_move_b168 D.2.2.2) (w_X11_move_b168 hC hr hnh hin) x1 x2 x3 x4 r_3 x_13 r_16 x_19 h_17 hF H locs cells slots ls hX (lv_sub hl [5, 6, 7, 8, 3, 2, 1, 0] rfl)
    · replace hF := it_f hF c_21
      refine lv_iload hx hb dX11_move_122 (lv_at hl 0 rfl) ?_
      refine lv_iconst (v := 2) hx hb dX11_move_124 (by decide) ?_
      refine lv_irem hx hb dX11_move_125 (by decide) ?_
      refine lv_if_gt (tgt := 168) hx hb dX11_move_126 (by decide) (fun c_22 => ?_) (fun c_22 => ?_)
      · replace hF := it_t hF c_22
        exact w_X11_move_b168 hC hr hnh hin x_13 h_17 hF H locs cells slots ls hX (lv_sub hl [2] rfl)
      · replace hF := it_f hF c_22
        exact w_X11_move_b129 hC hr hnh hin (F_X11_move_b168 D.2.2.2) (w_X11_move_b168 hC hr hnh hin) x1 x2 x3 x4 r_3 x_13 r_16 x_19 h_17 hF H locs cells slots ls hX (lv_sub hl [5, 6, 7, 8, 3, 2, 1, 0] rfl)
def F_X11_move_b67 (K : Nat → Nat) (x0 : Nat) (x1 : Int32) (x2 : Int32) (x3 : Int32) (y0 : Int32) (h : TH) : Option ((Nat ⊕ Nat) × TH) :=
  if x3 = 0 then
    F_X11_move_b79 K x0 x1 x2 x3 y0 h
  else
    lt ((K 17)) fun r_2 =>
    gd (hT h x0 = 7) <|
    bt (F_X11_key K x0 r_2 h) fun r_5 h_6 =>
    F_X11_move_b79 K x0 x1 x2 x3 y0 h_6
set_option maxHeartbeats 4000000 in
theorem w_X11_move_b67 {p : Program} {l : Launch} {e : Env} {s : State} {m : MethodId} {args : Array Value} {below : List Frame} {meth : Method} {c : Code} {D : XD} {h0 : TH} (hC : XCx D cX11_move 9 RX11 h0 p (xRm 10 263 h0) s m args meth c) (hr : meth.sig.returnType = some (.object "BlindCards$Move")) (hnh : c.exceptionTable.isEmpty = true) (hin : meth.name = "move") {x : ((Nat ⊕ Nat) × TH)} :
    ∀ (x0 : Nat) (x1 : Int32) (x2 : Int32) (x3 : Int32) (y0 : Int32) (h : TH), F_X11_move_b67 D.2.2.2 x0 x1 x2 x3 y0 h = some x → XJ p l e (xRm 10 263 h0) s m args below meth c D 9 (ocR x.1) h0 x.2 67 [(0, rv x0), (1, .int x1), (2, .int x2), (3, .int x3)] [.int y0] h := by
  have hx := hC.1
  have hb := hC.2.1
  intro x0 x1 x2 x3 y0 h hF H locs cells slots ls hX hl
  rw [F_X11_move_b67] at hF
  refine lv_istore (lv' := [(4, .int y0), (0, rv x0), (1, .int x1), (2, .int x2), (3, .int x3)]) hx hb dX11_move_67 hl (by decide) rfl (fun ls hl => ?_)
  refine lv_iload_n hx hb dX11_move_69 rfl (lv_at hl 4 rfl) ?_
  refine lv_if_eq (tgt := 79) hx hb dX11_move_70 (by decide) (fun c_1 => ?_) (fun c_1 => ?_)
  · replace hF := it_t hF c_1
    exact w_X11_move_b79 hC hr hnh hin x0 x1 x2 x3 y0 h hF H locs cells slots ls hX (lv_sub hl [1, 2, 3, 4, 0] rfl)
  · replace hF := it_f hF c_1
    refine X_aload_n hx hb dX11_move_73 rfl (lv_at hl 1 rfl) ?_
    refine X_ldcS hC (i := 17) (List.mem_of_getElem? (i := 17) rfl) dX11_move_74 ?_
    refine lv_topr (fun r_2 er_2 => ?_)
    replace hF := lt_at hF er_2
    obtain ⟨h_3, hF⟩ := gd_ok hF
    rcases bt_ok hF with ⟨r_5, h_6, hc_4, hF⟩ | ⟨z_7, h_6, hc_4, hxx⟩
    rotate_left
    · subst hxx
      exact iX_X11_267_t hC hX hnh h_3 hc_4 hl.1 (Nat.le_of_ble_eq_true rfl) (Nat.le_of_ble_eq_true rfl) (Nat.le_of_ble_eq_true rfl) dX11_move_76
    refine iX_X11_267 hC hX h_3 hc_4 hl.1 (Nat.le_of_ble_eq_true rfl) (Nat.le_of_ble_eq_true rfl) (Nat.le_of_ble_eq_true rfl) dX11_move_76 (fun H locs cells slots hX => ?_)
    exact w_X11_move_b79 hC hr hnh hin x0 x1 x2 x3 y0 h_6 hF H locs cells slots ls hX (lv_sub hl [1, 2, 3, 4, 0] rfl)
def F_X11_move (K : Nat → Nat) (a0 : Nat) (h : TH) : Option ((Nat ⊕ Nat) × TH) :=
  lt ((K 11)) fun r_1 =>
  gd (hT h a0 = 7) <|
  bd (F_X11_is K h a0 r_1) fun r_4 =>
  if r_4 = 0 then
    lt ((K 12)) fun r_6 =>
    gd (hT h a0 = 7) <|
    bd (F_X11_is K h a0 r_6) fun r_9 =>
    if r_9 = 0 then
      lt ((K 13)) fun r_11 =>
      gd (hT h a0 = 7) <|
      bd (F_X11_is K h a0 r_11) fun r_14 =>
      lt ((K 14)) fun r_15 =>
      gd (hT h a0 = 7) <|
      bd (F_X11_is K h a0 r_15) fun r_18 =>
      lt ((K 15)) fun r_19 =>
      gd (hT h a0 = 7) <|
      bd (F_X11_is K h a0 r_19) fun r_22 =>
      gd (hT h a0 = 7) <|
      bd (F_X11_go K a0 h) fun h_25 =>
      if r_22 = 0 then
        F_X11_move_b67 K a0 r_14 r_18 r_22 (1 : Int32) h_25
      else
        gd (hT h_25 a0 = 7) <|
        bt (F_X11_number K a0 (1 : Int32) (4 : Int32) h_25) fun r_29 h_30 =>
        F_X11_move_b67 K a0 r_14 r_18 r_22 r_29 h_30
    else
      gd (hT h a0 = 7) <|
      bt (F_X11_row K a0 h) fun r_34 h_35 =>
      some (.inl r_34, h_35)
  else
    gd (hT h a0 = 7) <|
    bt (F_X11_swap K a0 h) fun r_39 h_40 =>
    some (.inl r_39, h_40)
set_option maxHeartbeats 4000000 in
theorem w_X11_move {p : Program} {l : Launch} {e : Env} {s : State} {m : MethodId} {args : Array Value} {below : List Frame} {meth : Method} {c : Code} {D : XD} {h0 : TH} (hC : XCx D cX11_move 9 RX11 h0 p (xRm 10 263 h0) s m args meth c) (hr : meth.sig.returnType = some (.object "BlindCards$Move")) (hnh : c.exceptionTable.isEmpty = true) (hin : meth.name = "move") {x : ((Nat ⊕ Nat) × TH)} :
    ∀ (a0 : Nat) (h : TH), F_X11_move D.2.2.2 a0 h = some x → XJ p l e (xRm 10 263 h0) s m args below meth c D 9 (ocR x.1) h0 x.2 0 [(0, rv a0)] [] h := by
  have hx := hC.1
  have hb := hC.2.1
  intro a0 h hF H locs cells slots ls hX hl
  rw [F_X11_move] at hF
  refine X_aload_n hx hb dX11_move_0 rfl (lv_at hl 0 rfl) ?_
  refine X_ldcS hC (i := 11) (List.mem_of_getElem? (i := 11) rfl) dX11_move_1 ?_
  refine lv_topr (fun r_1 er_1 => ?_)
  replace hF := lt_at hF er_1
  obtain ⟨h_2, hF⟩ := gd_ok hF
  obtain ⟨r_4, hc_3, hF⟩ := bd_ok hF
  refine iX_X11_86 hC hX h_2 hc_3 hl.1 (Nat.le_of_ble_eq_true rfl) (Nat.le_of_ble_eq_true rfl) (Nat.le_of_ble_eq_true rfl) dX11_move_3 (fun H locs cells slots hX => ?_)
  refine lv_if_eq (tgt := 14) hx hb dX11_move_6 (by decide) (fun c_5 => ?_) (fun c_5 => ?_)
  · replace hF := it_t hF c_5
    refine X_aload_n hx hb dX11_move_14 rfl (lv_at hl 0 rfl) ?_
    refine X_ldcS hC (i := 12) (List.mem_of_getElem? (i := 12) rfl) dX11_move_15 ?_
    refine lv_topr (fun r_6 er_6 => ?_)
    replace hF := lt_at hF er_6
    obtain ⟨h_7, hF⟩ := gd_ok hF
    obtain ⟨r_9, hc_8, hF⟩ := bd_ok hF
    refine iX_X11_86 hC hX h_7 hc_8 hl.1 (Nat.le_of_ble_eq_true rfl) (Nat.le_of_ble_eq_true rfl) (Nat.le_of_ble_eq_true rfl) dX11_move_17 (fun H locs cells slots hX => ?_)
    refine lv_if_eq (tgt := 28) hx hb dX11_move_20 (by decide) (fun c_10 => ?_) (fun c_10 => ?_)
    · replace hF := it_t hF c_10
      refine X_aload_n hx hb dX11_move_28 rfl (lv_at hl 0 rfl) ?_
      refine X_ldcS hC (i := 13) (List.mem_of_getElem? (i := 13) rfl) dX11_move_29 ?_
      refine lv_topr (fun r_11 er_11 => ?_)
      replace hF := lt_at hF er_11
      obtain ⟨h_12, hF⟩ := gd_ok hF
      obtain ⟨r_14, hc_13, hF⟩ := bd_ok hF
      refine iX_X11_86 hC hX h_12 hc_13 hl.1 (Nat.le_of_ble_eq_true rfl) (Nat.le_of_ble_eq_true rfl) (Nat.le_of_ble_eq_true rfl) dX11_move_31 (fun H locs cells slots hX => ?_)
      refine lv_istore_n (i := 1) hx hb dX11_move_34 rfl hl (by decide) rfl (fun ls hl => ?_)
      replace hl : lv_has ls 9 [(1, .int r_14), (0, rv a0)] := lv_subS hl (List.forall_mem_cons.mpr ⟨Or.inl rfl, (List.forall_mem_cons.mpr ⟨Or.inr ⟨List.mem_of_getElem? (i := 0) rfl, by simp [rv_cat]⟩, (fun _ h => nomatch h)⟩)⟩)
      refine X_aload_n hx hb dX11_move_35 rfl (lv_at hl 1 rfl) ?_
      refine X_ldcS hC (i := 14) (List.mem_of_getElem? (i := 14) rfl) dX11_move_36 ?_
      refine lv_topr (fun r_15 er_15 => ?_)
      replace hF := lt_at hF er_15
      obtain ⟨h_16, hF⟩ := gd_ok hF
      obtain ⟨r_18, hc_17, hF⟩ := bd_ok hF
      refine iX_X11_86 hC hX h_16 hc_17 hl.1 (Nat.le_of_ble_eq_true rfl) (Nat.le_of_ble_eq_true rfl) (Nat.le_of_ble_eq_true rfl) dX11_move_38 (fun H locs cells slots hX => ?_)
      refine lv_istore_n (lv' := [(2, .int r_18), (1, .int r_14), (0, rv a0)]) hx hb dX11_move_41 rfl hl (by decide) rfl (fun ls hl => ?_)
      refine X_aload_n hx hb dX11_move_42 rfl (lv_at hl 2 rfl) ?_
      refine X_ldcS hC (i := 15) (List.mem_of_getElem? (i := 15) rfl) dX11_move_43 ?_
      refine lv_topr (fun r_19 er_19 => ?_)
      replace hF := lt_at hF er_19
      obtain ⟨h_20, hF⟩ := gd_ok hF
      obtain ⟨r_22, hc_21, hF⟩ := bd_ok hF
      refine iX_X11_86 hC hX h_20 hc_21 hl.1 (Nat.le_of_ble_eq_true rfl) (Nat.le_of_ble_eq_true rfl) (Nat.le_of_ble_eq_true rfl) dX11_move_45 (fun H locs cells slots hX => ?_)
      refine lv_istore_n (lv' := [(3, .int r_22), (2, .int r_18), (1, .int r_14), (0, rv a0)]) hx hb dX11_move_48 rfl hl (by decide) rfl (fun ls hl => ?_)
      refine X_aload_n hx hb dX11_move_49 rfl (lv_at hl 3 rfl) ?_
      obtain ⟨h_23, hF⟩ := gd_ok hF
      obtain ⟨h_25, hc_24, hF⟩ := bd_ok hF
      refine iX_X11_94 hC hX h_23 hc_24 hl.1 (Nat.le_of_ble_eq_true rfl) (Nat.le_of_ble_eq_true rfl) (Nat.le_of_ble_eq_true rfl) dX11_move_50 (fun H locs cells slots hX => ?_)
      refine lv_iload_n hx hb dX11_move_53 rfl (lv_at hl 0 rfl) ?_
      refine lv_if_eq (tgt := 66) hx hb dX11_move_54 (by decide) (fun c_26 => ?_) (fun c_26 => ?_)
      · replace hF := it_t hF c_26
        refine lv_iconst (v := 1) hx hb dX11_move_66 (by decide) ?_
        exact w_X11_move_b67 hC hr hnh hin a0 r_14 r_18 r_22 (1 : Int32) h_25 hF H locs cells slots ls hX (lv_sub hl [3, 2, 1, 0] rfl)
      · replace hF := it_f hF c_26
        refine X_aload_n hx hb dX11_move_57 rfl (lv_at hl 3 rfl) ?_
        refine lv_iconst (v := 1) hx hb dX11_move_58 (by decide) ?_
        refine lv_iconst (v := 4) hx hb dX11_move_59 (by decide) ?_
        obtain ⟨h_27, hF⟩ := gd_ok hF
        rcases bt_ok hF with ⟨r_29, h_30, hc_28, hF⟩ | ⟨z_31, h_30, hc_28, hxx⟩
        rotate_left
        · subst hxx
          exact iX_X11_196_t hC hX hnh h_27 hc_28 hl.1 (Nat.le_of_ble_eq_true rfl) (Nat.le_of_ble_eq_true rfl) (Nat.le_of_ble_eq_true rfl) dX11_move_60
        refine iX_X11_196 hC hX h_27 hc_28 hl.1 (Nat.le_of_ble_eq_true rfl) (Nat.le_of_ble_eq_true rfl) (Nat.le_of_ble_eq_true rfl) dX11_move_60 (fun H locs cells slots hX => ?_)
        refine lv_goto (tgt := 67) hx hb dX11_move_63 (by decide) ?_
        exact w_X11_move_b67 hC hr hnh hin a0 r_14 r_18 r_22 r_29 h_30 hF H locs cells slots ls hX (lv_sub hl [3, 2, 1, 0] rfl)
    · replace hF := it_f hF c_10
      refine X_aload_n hx hb dX11_move_23 rfl (lv_at hl 0 rfl) ?_
      obtain ⟨h_32, hF⟩ := gd_ok hF
      rcases bt_ok hF with ⟨r_34, h_35, hc_33, hF⟩ | ⟨z_36, h_35, hc_33, hxx⟩
      rotate_left
      · subst hxx
        exact iX_X11_265_t hC hX hnh h_32 hc_33 hl.1 (Nat.le_of_ble_eq_true rfl) (Nat.le_of_ble_eq_true rfl) (Nat.le_of_ble_eq_true rfl) dX11_move_24
      refine iX_X11_265 hC hX h_32 hc_33 hl.1 (Nat.le_of_ble_eq_true rfl) (Nat.le_of_ble_eq_true rfl) (Nat.le_of_ble_eq_true rfl) dX11_move_24 (fun H locs cells slots hX => ?_)
      cases hF
      exact x_reta hC hX hr (Or.inl ⟨_, rfl⟩) rfl rfl dX11_move_27
  · replace hF := it_f hF c_5
    refine X_aload_n hx hb dX11_move_9 rfl (lv_at hl 0 rfl) ?_
    obtain ⟨h_37, hF⟩ := gd_ok hF
    rcases bt_ok hF with ⟨r_39, h_40, hc_38, hF⟩ | ⟨z_41, h_40, hc_38, hxx⟩
    rotate_left
    · subst hxx
      exact iX_X11_263_t hC hX hnh h_37 hc_38 hl.1 (Nat.le_of_ble_eq_true rfl) (Nat.le_of_ble_eq_true rfl) (Nat.le_of_ble_eq_true rfl) dX11_move_10
    refine iX_X11_263 hC hX h_37 hc_38 hl.1 (Nat.le_of_ble_eq_true rfl) (Nat.le_of_ble_eq_true rfl) (Nat.le_of_ble_eq_true rfl) dX11_move_10 (fun H locs cells slots hX => ?_)
    cases hF
    exact x_reta hC hX hr (Or.inl ⟨_, rfl⟩) rfl rfl dX11_move_13
theorem m_X11_move (l : Launch) (D : XD) (a0 : Nat) (h : TH) (x : ((Nat ⊕ Nat) × TH)) (hF : F_X11_move D.2.2.2 a0 h = some x) : XMt l yX11_move (ws_ yX11_move cX11_move 9 (some (.object "BlindCards$Move"))) 10 263 D [rv a0] h (ocR x.1) x.2 := by
  refine x_met (by decide +kernel) ?_ ?_
  · simp [lg_sl, rv_cat, cat_i, cat_l]
  intro p e s m below meth c hC hr hnh hin ls hl hX
  replace hl : lv_has ls 9 [(0, rv a0)] := by simpa [lv_args, rv_cat, cat_i, cat_l] using hl
  exact w_X11_move hC hr hnh hin a0 h hF s.heap [] 0 0 ls hX hl
end
