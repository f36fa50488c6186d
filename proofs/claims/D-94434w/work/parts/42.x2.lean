set_option maxRecDepth 100000
noncomputable section
theorem gX_J2_63 {p : Program} {l : Launch} {e : Env} {R : Room} {s : State} {m : MethodId} {args : Array Value} {below : List Frame} {meth : Method} {c : Code} {H : Heap} {locs : List Loc} {cells slots nL : Nat} {Q : State → Prop} {D : XD} {h0 h : TH} {cc : ByteArray} {pc : Nat} {ls : Array Slot} {rest : List Value} (hC : XCx D cc nL RJ2 h0 p R s m args meth c) (hX : XSt D s h0 h H locs cells slots) {a : Nat} (hf : hasF (hT h a) 40 = true) (hdg : decode cc pc = .ok (.getfield 63, 3)) (kk : W p l e R s m args below meth c H locs cells slots Q (F0 m (pc + 3) ls (.int (hI h 40 a) :: rest))) : W p l e R s m args below meth c H locs cells slots Q (F0 m pc ls (rv a :: rest)) :=
  X_geti hC hX 40 hf rfl q206 (fun x h => u_same (hC.2.2.2.2.1 _ q207) x h) hdg kk
theorem pX_J2_63 {p : Program} {l : Launch} {e : Env} {R : Room} {s : State} {m : MethodId} {args : Array Value} {below : List Frame} {meth : Method} {c : Code} {H : Heap} {locs : List Loc} {cells slots nL : Nat} {Q : State → Prop} {D : XD} {h0 h : TH} {cc : ByteArray} {pc : Nat} {ls : Array Slot} {rest : List Value} (hC : XCx D cc nL RJ2 h0 p R s m args meth c) (hX : XSt D s h0 h H locs cells slots) {a : Nat} {v : Int32} (hf : hasF (hT h a) 40 = true) (hw : hT h a ≤ 24) (hdg : decode cc pc = .ok (.putfield 63, 3)) (kk : ∀ (H1 : Heap) (locs1 : List Loc), XSt D s h0 (uI h 40 a v) H1 locs1 cells slots → W p l e R s m args below meth c H1 locs1 cells slots Q (F0 m (pc + 3) ls rest)) : W p l e R s m args below meth c H locs cells slots Q (F0 m pc ls (.int v :: rv a :: rest)) :=
  X_puti hC hX 40 hf hw rfl rfl q206 (fun x h => u_same (hC.2.2.2.2.1 _ q207) x h) ⟨rfl, rfl⟩ hdg kk
theorem pX_J2_48 {p : Program} {l : Launch} {e : Env} {R : Room} {s : State} {m : MethodId} {args : Array Value} {below : List Frame} {meth : Method} {c : Code} {H : Heap} {locs : List Loc} {cells slots nL : Nat} {Q : State → Prop} {D : XD} {h0 h : TH} {cc : ByteArray} {pc : Nat} {ls : Array Slot} {rest : List Value} (hC : XCx D cc nL RJ2 h0 p R s m args meth c) (hX : XSt D s h0 h H locs cells slots) {a : Nat} {v : Int32} (hf : hasF (hT h a) 42 = true) (hw : hT h a ≤ 24) (hdg : decode cc pc = .ok (.putfield 48, 3)) (kk : ∀ (H1 : Heap) (locs1 : List Loc), XSt D s h0 (uI h 42 a v) H1 locs1 cells slots → W p l e R s m args below meth c H1 locs1 cells slots Q (F0 m (pc + 3) ls rest)) : W p l e R s m args below meth c H locs cells slots Q (F0 m pc ls (.int v :: rv a :: rest)) :=
  X_puti hC hX 42 hf hw rfl rfl q204 (fun _ h => h) ⟨rfl, rfl⟩ hdg kk
/-! java/util/ArrayList.clear -/
def F_J2_clear_L27 (K : Nat → Nat) : Nat → Nat → Int32 → Int32 → TH → Option TH
  | 0, _, _, _, _ => none
  | fu + 1, x1, x2, x3, h =>
    if x2 ≤ x3 then
      some h
    else
      gd (hT h x1 = 37) <|
      gd (inb x3 (hN h x1)) <|
      lt (uX h x1 (Int32.toNatClampNeg x3) 0) fun h_4 =>
      lt (x3 + (1 : Int32)) fun x3_5 =>
      F_J2_clear_L27 K fu x1 x2 x3_5 h_4
set_option maxHeartbeats 4000000 in
theorem w_J2_clear_L27 {p : Program} {l : Launch} {e : Env} {s : State} {m : MethodId} {args : Array Value} {below : List Frame} {meth : Method} {c : Code} {D : XD} {h0 : TH} (hC : XCx D cJ2_clear 4 RJ2 h0 p (xRm 0 0 h0) s m args meth c) (hr : meth.sig.returnType = none) (hnh : c.exceptionTable.isEmpty = true) (hin : meth.name = "clear") {x : TH} :
    ∀ (fu : Nat) (x1 : Nat) (x2 : Int32) (x3 : Int32) (h : TH), F_J2_clear_L27 D.2.2.2 fu x1 x2 x3 h = some x → XJ p l e (xRm 0 0 h0) s m args below meth c D 4 (.returned none) h0 x 27 [(1, rv x1), (2, .int x2), (3, .int x3)] [] h := by
  have hx := hC.1
  have hb := hC.2.1
  intro fu
  induction fu with
  | zero => intro x1 x2 x3 h hF; exact nm_none hF
  | succ fu ih =>
    intro x1 x2 x3 h hF H locs cells slots ls hX hl
    rw [F_J2_clear_L27] at hF
    refine lv_iload_n hx hb dJ2_clear_27 rfl (lv_at hl 2 rfl) ?_
    refine lv_iload_n hx hb dJ2_clear_28 rfl (lv_at hl 1 rfl) ?_
    refine lv_icmp_ge (tgt := 42) hx hb dJ2_clear_29 (by decide) (fun c_1 => ?_) (fun c_1 => ?_)
    · replace hF := it_t hF c_1
      exact x_retv hC hX hr (Option.some.inj hF) dJ2_clear_42
    · replace hF := it_f hF c_1
      refine X_aload_n hx hb dJ2_clear_32 rfl (lv_at hl 0 rfl) ?_
      refine lv_iload_n hx hb dJ2_clear_33 rfl (lv_at hl 2 rfl) ?_
      refine X_null hx hb dJ2_clear_34 ?_
      obtain ⟨h_2, hF⟩ := gd_ok hF
      obtain ⟨h_3, hF⟩ := gd_ok hF
      refine X_aast hC hX h_2 h_3 (Or.inl rfl) dJ2_clear_35 (fun H locs hX => ?_)
      obtain ⟨h_4, eh_4, hF⟩ := lt_ok hF
      rw [← eh_4] at hX
      obtain ⟨x3_5, ex3_5, hF⟩ := lt_ok hF
      refine lv_iinc (v := x3_5) (lv' := [(3, .int x3_5), (1, rv x1), (2, .int x2)]) hx hb dJ2_clear_36 hl (k := 2) rfl (by rw [ex3_5]; rfl) (by decide) rfl (fun ls hl => ?_)
      refine lv_goto (tgt := 27) hx hb dJ2_clear_39 (by decide) ?_
      exact ih x1 x2 x3_5 h_4 hF H locs cells slots ls hX (lv_sub hl [1, 2, 0] rfl)
def F_J2_clear (K : Nat → Nat) (a0 : Nat) (h : TH) : Option TH :=
  gd (hasF (hT h a0) 40 = true) <|
  gd (hasF (hT h a0) 40 = true) <|
  gd (hT h a0 ≤ 24) <|
  lt (uI h 40 a0 ((hI h 40 a0) + (1 : Int32))) fun h_4 =>
  gd (hasF (hT h_4 a0) 41 = true) <|
  lt (hR h_4 41 a0) fun r_6 =>
  gd (hasF (hT h_4 a0) 42 = true) <|
  lt ((hI h_4 42 a0)) fun x_8 =>
  gd (hasF (hT h_4 a0) 42 = true) <|
  gd (hT h_4 a0 ≤ 24) <|
  lt (uI h_4 42 a0 (0 : Int32)) fun h_11 =>
  F_J2_clear_L27 K MN r_6 x_8 (0 : Int32) h_11
set_option maxHeartbeats 4000000 in
theorem w_J2_clear {p : Program} {l : Launch} {e : Env} {s : State} {m : MethodId} {args : Array Value} {below : List Frame} {meth : Method} {c : Code} {D : XD} {h0 : TH} (hC : XCx D cJ2_clear 4 RJ2 h0 p (xRm 0 0 h0) s m args meth c) (hr : meth.sig.returnType = none) (hnh : c.exceptionTable.isEmpty = true) (hin : meth.name = "clear") {x : TH} :
    ∀ (a0 : Nat) (h : TH), F_J2_clear D.2.2.2 a0 h = some x → XJ p l e (xRm 0 0 h0) s m args below meth c D 4 (.returned none) h0 x 0 [(0, rv a0)] [] h := by
  have hx := hC.1
  have hb := hC.2.1
  intro a0 h hF H locs cells slots ls hX hl
  rw [F_J2_clear] at hF
  refine X_aload_n hx hb dJ2_clear_0 rfl (lv_at hl 0 rfl) ?_
  refine lv_dup hx hb dJ2_clear_1 (rv_cat _) ?_
  obtain ⟨h_1, hF⟩ := gd_ok hF
  refine gX_J2_63 hC hX h_1 dJ2_clear_2 ?_
  refine lv_iconst (v := 1) hx hb dJ2_clear_5 (by decide) ?_
  refine lv_iadd hx hb dJ2_clear_6 ?_
  obtain ⟨h_2, hF⟩ := gd_ok hF
  obtain ⟨h_3, hF⟩ := gd_ok hF
  refine pX_J2_63 hC hX h_2 h_3 dJ2_clear_7 (fun H locs hX => ?_)
  obtain ⟨h_4, eh_4, hF⟩ := lt_ok hF
  rw [← eh_4] at hX
  refine X_aload_n hx hb dJ2_clear_10 rfl (lv_at hl 0 rfl) ?_
  obtain ⟨h_5, hF⟩ := gd_ok hF
  refine gX_J2_9 hC hX h_5 dJ2_clear_11 ?_
  refine lv_topr (fun r_6 er_6 => ?_)
  replace hF := lt_at hF er_6
  refine X_astore_n (i := 1) hx hb dJ2_clear_14 rfl hl (by decide) rfl (fun ls hl => ?_)
  replace hl : lv_has ls 4 [(1, rv r_6), (0, rv a0)] := lv_subS hl (List.forall_mem_cons.mpr ⟨Or.inl rfl, (List.forall_mem_cons.mpr ⟨Or.inr ⟨List.mem_of_getElem? (i := 0) rfl, by simp [rv_cat]⟩, (fun _ h => nomatch h)⟩)⟩)
  refine X_aload_n hx hb dJ2_clear_15 rfl (lv_at hl 1 rfl) ?_
  obtain ⟨h_7, hF⟩ := gd_ok hF
  refine gX_J2_48 hC hX h_7 dJ2_clear_16 ?_
  refine lv_topi (fun x_8 ex_8 => ?_)
  replace hF := lt_at hF ex_8
  refine lv_istore_n (i := 2) hx hb dJ2_clear_19 rfl hl (by decide) rfl (fun ls hl => ?_)
  replace hl : lv_has ls 4 [(2, .int x_8), (1, rv r_6), (0, rv a0)] := lv_subS hl (List.forall_mem_cons.mpr ⟨Or.inl rfl, (List.forall_mem_cons.mpr ⟨Or.inr ⟨List.mem_of_getElem? (i := 0) rfl, by simp [rv_cat]⟩, (List.forall_mem_cons.mpr ⟨Or.inr ⟨List.mem_of_getElem? (i := 1) rfl, rfl⟩, (fun _ h => nomatch h)⟩)⟩)⟩)
  refine X_aload_n hx hb dJ2_clear_20 rfl (lv_at hl 2 rfl) ?_
  refine lv_iconst (v := 0) hx hb dJ2_clear_21 (by decide) ?_
  refine lv_dup_x1 hx hb dJ2_clear_22 rfl (rv_cat _) ?_
  obtain ⟨h_9, hF⟩ := gd_ok hF
  obtain ⟨h_10, hF⟩ := gd_ok hF
  refine pX_J2_48 hC hX h_9 h_10 dJ2_clear_23 (fun H locs hX => ?_)
  obtain ⟨h_11, eh_11, hF⟩ := lt_ok hF
  rw [← eh_11] at hX
  refine lv_istore_n (lv' := [(3, .int (0 : Int32)), (2, .int x_8), (1, rv r_6), (0, rv a0)]) hx hb dJ2_clear_26 rfl hl (by decide) rfl (fun ls hl => ?_)
  exact w_J2_clear_L27 hC hr hnh hin MN r_6 x_8 (0 : Int32) h_11 hF H locs cells slots ls hX (lv_sub hl [2, 1, 0] rfl)
theorem m_J2_clear (l : Launch) (D : XD) (a0 : Nat) (h : TH) (x : TH) (hF : F_J2_clear D.2.2.2 a0 h = some x) : XMt l yJ2_clear (ws_ yJ2_clear cJ2_clear 4 (none)) 0 0 D [rv a0] h (.returned none) x := by
  refine x_met (by decide +kernel) ?_ ?_
  · simp [lg_sl, rv_cat, cat_i, cat_l]
  intro p e s m below meth c hC hr hnh hin ls hl hX
  replace hl : lv_has ls 4 [(0, rv a0)] := by simpa [lv_args, rv_cat, cat_i, cat_l] using hl
  exact w_J2_clear hC hr hnh hin a0 h hF s.heap [] 0 0 ls hX hl
/-! BlindCards.isBox -/
def F_X0_isBox (K : Nat → Nat) (h : TH) (b0 : Int32) : Option Int32 :=
  bd (F_X0_isIn K h b0 (0 : Int32) (2 : Int32)) fun r_2 =>
  gd (r_2 = 0 ∨ r_2 = 1) <|
  some r_2
set_option maxHeartbeats 4000000 in
theorem w_X0_isBox {p : Program} {l : Launch} {e : Env} {s : State} {m : MethodId} {args : Array Value} {below : List Frame} {meth : Method} {c : Code} {D : XD} {h : TH} (hC : XCx D cX0_isBox 1 RX0 h p (xRm 1 22 h) s m args meth c) (hr : meth.sig.returnType = some .boolean) (hnh : c.exceptionTable.isEmpty = true) (hin : meth.name = "isBox") {x : Int32} :
    ∀ (b0 : Int32), F_X0_isBox D.2.2.2 h b0 = some x → XJ p l e (xRm 1 22 h) s m args below meth c D 1 (.returned (some (.int x))) h h 0 [(0, .int b0)] [] h := by
  have hx := hC.1
  have hb := hC.2.1
  intro b0 hF H locs cells slots ls hX hl
  rw [F_X0_isBox] at hF
  refine lv_iload_n hx hb dX0_isBox_0 rfl (lv_at hl 0 rfl) ?_
  refine lv_iconst (v := 0) hx hb dX0_isBox_1 (by decide) ?_
  refine lv_iconst (v := 2) hx hb dX0_isBox_2 (by decide) ?_
  obtain ⟨r_2, hc_1, hF⟩ := bd_ok hF
  refine iX_X0_155 hC hX hc_1 hl.1 (Nat.le_of_ble_eq_true rfl) (Nat.le_of_ble_eq_true rfl) (Nat.le_of_ble_eq_true rfl) dX0_isBox_3 (fun H locs cells slots hX => ?_)
  obtain ⟨h_3, hF⟩ := gd_ok hF
  exact x_reti hC hX hr (zb_nar h_3).1 (Option.some.inj hF) rfl dX0_isBox_6
theorem m_X0_isBox (l : Launch) (D : XD) (b0 : Int32) (h : TH) (x : Int32) (hF : F_X0_isBox D.2.2.2 h b0 = some x) : XMt l yX0_isBox (ws_ yX0_isBox cX0_isBox 1 (some .boolean)) 1 22 D [.int b0] h (.returned (some (.int x))) h := by
  refine x_met (by decide +kernel) ?_ ?_
  · exact Nat.le_of_ble_eq_true rfl
  intro p e s m below meth c hC hr hnh hin ls hl hX
  replace hl : lv_has ls 1 [(0, .int b0)] := by simpa [lv_args, rv_cat, cat_i, cat_l] using hl
  exact w_X0_isBox hC hr hnh hin b0 hF s.heap [] 0 0 ls hX hl
/-! BlindCards$Look.isKnown -/
def F_X24_isKnown (K : Nat → Nat) (h : TH) (a0 : Nat) (b0 : Int32) : Option Int32 :=
  gd (hasF (hT h a0) 116 = true) <|
  if b0 < (hI h 116 a0) then
    some (0 : Int32)
  else
    gd (hasF (hT h a0) 117 = true) <|
    if (hI h 117 a0) < 0 then
      some (1 : Int32)
    else
      gd (hasF (hT h a0) 117 = true) <|
      if (hI h 117 a0) ≤ b0 then
        some (0 : Int32)
      else
        some (1 : Int32)
set_option maxHeartbeats 4000000 in
theorem w_X24_isKnown {p : Program} {l : Launch} {e : Env} {s : State} {m : MethodId} {args : Array Value} {below : List Frame} {meth : Method} {c : Code} {D : XD} {h : TH} (hC : XCx D cX24_isKnown 2 RX24 h p (xRm 0 0 h) s m args meth c) (hr : meth.sig.returnType = some .boolean) (hnh : c.exceptionTable.isEmpty = true) (hin : meth.name = "isKnown") {x : Int32} :
    ∀ (a0 : Nat) (b0 : Int32), F_X24_isKnown D.2.2.2 h a0 b0 = some x → XJ p l e (xRm 0 0 h) s m args below meth c D 2 (.returned (some (.int x))) h h 0 [(0, rv a0), (1, .int b0)] [] h := by
  have hx := hC.1
  have hb := hC.2.1
  intro a0 b0 hF H locs cells slots ls hX hl
  rw [F_X24_isKnown] at hF
  refine X_aload_n hx hb dX24_isKnown_0 rfl (lv_at hl 0 rfl) ?_
  obtain ⟨h_1, hF⟩ := gd_ok hF
  refine gX_X24_18 hC hX h_1 dX24_isKnown_1 ?_
  refine lv_iload_n hx hb dX24_isKnown_4 rfl (lv_at hl 1 rfl) ?_
  refine lv_icmp_gt (tgt := 27) hx hb dX24_isKnown_5 (by decide) (fun c_2 => ?_) (fun c_2 => ?_)
  · replace hF := it_t hF c_2
    refine lv_iconst (v := 0) hx hb dX24_isKnown_27 (by decide) ?_
    exact x_reti hC hX hr rfl (Option.some.inj hF) rfl dX24_isKnown_28
  · replace hF := it_f hF c_2
    refine X_aload_n hx hb dX24_isKnown_8 rfl (lv_at hl 0 rfl) ?_
    obtain ⟨h_3, hF⟩ := gd_ok hF
    refine gX_X24_9 hC hX h_3 dX24_isKnown_9 ?_
    refine lv_if_lt (tgt := 23) hx hb dX24_isKnown_12 (by decide) (fun c_4 => ?_) (fun c_4 => ?_)
    · replace hF := it_t hF c_4
      refine lv_iconst (v := 1) hx hb dX24_isKnown_23 (by decide) ?_
      refine lv_goto (tgt := 28) hx hb dX24_isKnown_24 (by decide) ?_
      exact x_reti hC hX hr rfl (Option.some.inj hF) rfl dX24_isKnown_28
    · replace hF := it_f hF c_4
      refine X_aload_n hx hb dX24_isKnown_15 rfl (lv_at hl 0 rfl) ?_
      obtain ⟨h_5, hF⟩ := gd_ok hF
      refine gX_X24_9 hC hX h_5 dX24_isKnown_16 ?_
      refine lv_iload_n hx hb dX24_isKnown_19 rfl (lv_at hl 1 rfl) ?_
      refine lv_icmp_le (tgt := 27) hx hb dX24_isKnown_20 (by decide) (fun c_6 => ?_) (fun c_6 => ?_)
      · replace hF := it_t hF c_6
        refine lv_iconst (v := 0) hx hb dX24_isKnown_27 (by decide) ?_
        exact x_reti hC hX hr rfl (Option.some.inj hF) rfl dX24_isKnown_28
      · replace hF := it_f hF c_6
        refine lv_iconst (v := 1) hx hb dX24_isKnown_23 (by decide) ?_
        refine lv_goto (tgt := 28) hx hb dX24_isKnown_24 (by decide) ?_
        exact x_reti hC hX hr rfl (Option.some.inj hF) rfl dX24_isKnown_28
theorem m_X24_isKnown (l : Launch) (D : XD) (a0 : Nat) (b0 : Int32) (h : TH) (x : Int32) (hF : F_X24_isKnown D.2.2.2 h a0 b0 = some x) : XMt l yX24_isKnown (ws_ yX24_isKnown cX24_isKnown 2 (some .boolean)) 0 0 D [rv a0, .int b0] h (.returned (some (.int x))) h := by
  refine x_met (by decide +kernel) ?_ ?_
  · simp [lg_sl, rv_cat, cat_i, cat_l]
  intro p e s m below meth c hC hr hnh hin ls hl hX
  replace hl : lv_has ls 2 [(0, rv a0), (1, .int b0)] := by simpa [lv_args, rv_cat, cat_i, cat_l] using hl
  exact w_X24_isKnown hC hr hnh hin a0 b0 hF s.heap [] 0 0 ls hX hl
theorem iX_X0_339 {p : Program} {l : Launch} {e : Env} {R : Room} {s : State} {m : MethodId} {args : Array Value} {below : List Frame} {meth : Method} {c : Code} {H : Heap} {locs : List Loc} {cells slots nL : Nat} {Q : State → Prop} {D : XD} {h0 h : TH} {cc : ByteArray} {pc : Nat} {ls : Array Slot} {rest : List Value} (hC : XCx D cc nL RX0 h0 p R s m args meth c) (hX : XSt D s h0 h H locs cells slots) {a : Nat} {b0 : Int32} {x : Int32} (ht : hT h a = 24) (hcF : F_X24_isKnown D.2.2.2 h a b0 = some x) (hl : ls.size = nL) (hW : (rest.map fun v => v.category).sum ≤ 8) (hRf : 0 + 1 ≤ R.frames) (hRl : 21 ≤ R.locals) (hdg : decode cc pc = .ok (.invokevirtual 339, 3)) (kk : ∀ (H1 : Heap) (locs1 : List Loc) (cells1 slots1 : Nat), XSt D s h0 h H1 locs1 cells1 slots1 → W p l e R s m args below meth c H1 locs1 cells1 slots1 Q (F0 m (pc + 3) ls (.int x :: rest))) : W p l e R s m args below meth c H locs cells slots Q (F0 m pc ls (.int b0 :: rv a :: rest)) := by
  have q := ht
  exact X_callV hC hX (by rw [q]; decide) (by rw [q]; rfl) (As := [.int b0]) (m_X24_isKnown l D a b0 h _ hcF) (cwV 1 hC.2.2.2.2.1 (lw_V q1779 q1780 q1781 q168 q1782) rfl rfl rfl (by decide +kernel) ⟨Nat.le_trans (Nat.le_of_ble_eq_true rfl) hRf, Nat.le_trans (Nat.le_of_ble_eq_true rfl) hRl⟩) rfl rfl hl hW hdg kk
theorem gX_X0_57 {p : Program} {l : Launch} {e : Env} {R : Room} {s : State} {m : MethodId} {args : Array Value} {below : List Frame} {meth : Method} {c : Code} {H : Heap} {locs : List Loc} {cells slots nL : Nat} {Q : State → Prop} {D : XD} {h0 h : TH} {cc : ByteArray} {pc : Nat} {ls : Array Slot} {rest : List Value} (hC : XCx D cc nL RX0 h0 p R s m args meth c) (hX : XSt D s h0 h H locs cells slots) {a : Nat} (hf : hasF (hT h a) 8 = true) (hdg : decode cc pc = .ok (.getfield 57, 3)) (kk : W p l e R s m args below meth c H locs cells slots Q (F0 m (pc + 3) ls (rv (hR h 8 a) :: rest))) : W p l e R s m args below meth c H locs cells slots Q (F0 m pc ls (rv a :: rest)) :=
  X_getr hC hX 8 hf rfl (fun q => absurd q (by decide)) q758 (fun _ h => h) hdg kk
theorem gX_X0_184 {p : Program} {l : Launch} {e : Env} {R : Room} {s : State} {m : MethodId} {args : Array Value} {below : List Frame} {meth : Method} {c : Code} {H : Heap} {locs : List Loc} {cells slots nL : Nat} {Q : State → Prop} {D : XD} {h0 h : TH} {cc : ByteArray} {pc : Nat} {ls : Array Slot} {rest : List Value} (hC : XCx D cc nL RX0 h0 p R s m args meth c) (hX : XSt D s h0 h H locs cells slots) {a : Nat} (hf : hasF (hT h a) 53 = true) (hdg : decode cc pc = .ok (.getfield 184, 3)) (kk : W p l e R s m args below meth c H locs cells slots Q (F0 m (pc + 3) ls (rv (hR h 53 a) :: rest))) : W p l e R s m args below meth c H locs cells slots Q (F0 m pc ls (rv a :: rest)) :=
  X_getr hC hX 53 hf rfl (fun q => absurd q (by decide)) q276 (fun _ h => h) hdg kk
theorem gX_X0_342 {p : Program} {l : Launch} {e : Env} {R : Room} {s : State} {m : MethodId} {args : Array Value} {below : List Frame} {meth : Method} {c : Code} {H : Heap} {locs : List Loc} {cells slots nL : Nat} {Q : State → Prop} {D : XD} {h0 h : TH} {cc : ByteArray} {pc : Nat} {ls : Array Slot} {rest : List Value} (hC : XCx D cc nL RX0 h0 p R s m args meth c) (hX : XSt D s h0 h H locs cells slots) {a : Nat} (hf : hasF (hT h a) 115 = true) (hdg : decode cc pc = .ok (.getfield 342, 3)) (kk : W p l e R s m args below meth c H locs cells slots Q (F0 m (pc + 3) ls (.int (hI h 115 a) :: rest))) : W p l e R s m args below meth c H locs cells slots Q (F0 m pc ls (rv a :: rest)) :=
  X_geti hC hX 115 hf rfl q1752 (fun _ h => h) hdg kk
/-! BlindCards.can -/
def F_X0_can_b106 (K : Nat → Nat) (h : TH) (k14 : Nat → Int32 → Int32 → Int32 → Option Int32) (x0 : Nat) (x1 : Int32) (x2 : Int32) (x3 : Int32) : Option Int32 :=
  lt (x3 + (1 : Int32)) fun x3_1 =>
  k14 x0 x1 x2 x3_1
set_option maxHeartbeats 4000000 in
theorem w_X0_can_b106 {p : Program} {l : Launch} {e : Env} {s : State} {m : MethodId} {args : Array Value} {below : List Frame} {meth : Method} {c : Code} {D : XD} {h : TH} (hC : XCx D cX0_can 5 RX0 h p (xRm 3 64 h) s m args meth c) (hr : meth.sig.returnType = some .int) (hnh : c.exceptionTable.isEmpty = true) (hin : meth.name = "can") {x : Int32} (k14 : Nat → Int32 → Int32 → Int32 → Option Int32) (hk14 : ∀ (x0 : Nat) (x1 : Int32) (x2 : Int32) (x3 : Int32), k14 x0 x1 x2 x3 = some x → XJ p l e (xRm 3 64 h) s m args below meth c D 5 (.returned (some (.int x))) h h 14 [(0, rv x0), (1, .int x1), (2, .int x2), (3, .int x3)] [] h) :
    ∀ (x0 : Nat) (x1 : Int32) (x2 : Int32) (x3 : Int32), F_X0_can_b106 D.2.2.2 h k14 x0 x1 x2 x3 = some x → XJ p l e (xRm 3 64 h) s m args below meth c D 5 (.returned (some (.int x))) h h 106 [(0, rv x0), (1, .int x1), (2, .int x2), (3, .int x3)] [] h := by
  have hx := hC.1
  have hb := hC.2.1
  intro x0 x1 x2 x3 hF H locs cells slots ls hX hl
  rw [F_X0_can_b106] at hF
  obtain ⟨x3_1, ex3_1, hF⟩ := lt_ok hF
  refine lv_iinc (v := x3_1) (lv' := [(3, .int x3_1), (0, rv x0), (1, .int x1), (2, .int x2)]) hx hb dX0_can_106 hl (k := 3) rfl (by rw [ex3_1]; rfl) (by decide) rfl (fun ls hl => ?_)
  refine lv_goto (tgt := 14) hx hb dX0_can_109 (by decide) ?_
  exact hk14 x0 x1 x2 x3_1 hF H locs cells slots ls hX (lv_sub hl [1, 2, 3, 0] rfl)
def F_X0_can_b100 (K : Nat → Nat) (h : TH) (k28 : Nat → Int32 → Int32 → Int32 → Int32 → Option Int32) (x0 : Nat) (x1 : Int32) (x2 : Int32) (x3 : Int32) (x4 : Int32) : Option Int32 :=
  lt (x4 + (1 : Int32)) fun x4_1 =>
  k28 x0 x1 x2 x3 x4_1
set_option maxHeartbeats 4000000 in
theorem w_X0_can_b100 {p : Program} {l : Launch} {e : Env} {s : State} {m : MethodId} {args : Array Value} {below : List Frame} {meth : Method} {c : Code} {D : XD} {h : TH} (hC : XCx D cX0_can 5 RX0 h p (xRm 3 64 h) s m args meth c) (hr : meth.sig.returnType = some .int) (hnh : c.exceptionTable.isEmpty = true) (hin : meth.name = "can") {x : Int32} (k28 : Nat → Int32 → Int32 → Int32 → Int32 → Option Int32) (hk28 : ∀ (x0 : Nat) (x1 : Int32) (x2 : Int32) (x3 : Int32) (x4 : Int32), k28 x0 x1 x2 x3 x4 = some x → XJ p l e (xRm 3 64 h) s m args below meth c D 5 (.returned (some (.int x))) h h 28 [(0, rv x0), (1, .int x1), (2, .int x2), (3, .int x3), (4, .int x4)] [] h) :
    ∀ (x0 : Nat) (x1 : Int32) (x2 : Int32) (x3 : Int32) (x4 : Int32), F_X0_can_b100 D.2.2.2 h k28 x0 x1 x2 x3 x4 = some x → XJ p l e (xRm 3 64 h) s m args below meth c D 5 (.returned (some (.int x))) h h 100 [(0, rv x0), (1, .int x1), (2, .int x2), (3, .int x3), (4, .int x4)] [] h := by
  have hx := hC.1
  have hb := hC.2.1
  intro x0 x1 x2 x3 x4 hF H locs cells slots ls hX hl
  rw [F_X0_can_b100] at hF
  obtain ⟨x4_1, ex4_1, hF⟩ := lt_ok hF
  refine lv_iinc (v := x4_1) (lv' := [(4, .int x4_1), (0, rv x0), (1, .int x1), (2, .int x2), (3, .int x3)]) hx hb dX0_can_100 hl (k := 4) rfl (by rw [ex4_1]; rfl) (by decide) rfl (fun ls hl => ?_)
  refine lv_goto (tgt := 28) hx hb dX0_can_103 (by decide) ?_
  exact hk28 x0 x1 x2 x3 x4_1 hF H locs cells slots ls hX (lv_sub hl [1, 2, 3, 4, 0] rfl)
def F_X0_can_L28 (K : Nat → Nat) (h : TH) (k14 : Nat → Int32 → Int32 → Int32 → Option Int32) : Nat → Nat → Int32 → Int32 → Int32 → Int32 → Option Int32
  | 0, _, _, _, _, _ => none
  | fu + 1, x0, x1, x2, x3, x4 =>
    gd (hasF (hT h x0) 7 = true) <|
    lt (hR h 7 x0) fun r_2 =>
    gd (hT h r_2 = 2) <|
    bd (F_X1_inputs K h r_2) fun r_5 =>
    if r_5 ≤ x4 then
      F_X0_can_b106 K h k14 x0 x1 x2 x3
    else
      gd (hasF (hT h x0) 26 = true) <|
      lt (hR h 26 x0) fun r_8 =>
      gd (hT h r_8 = 3) <|
      bd (F_J2_get K h r_8 x3) fun r_11 =>
      gd (r_11 = 0 ∨ castB (hT h r_11) "BlindCards$Look" = true) <|
      gd (hT h r_11 = 24) <|
      bd (F_X24_isKnown K h r_11 x1) fun r_15 =>
      if r_15 = 0 then
        F_X0_can_b100 K h (F_X0_can_L28 K h k14 fu) x0 x1 x2 x3 x4
      else
        gd (hasF (hT h x0) 8 = true) <|
        lt (hR h 8 x0) fun r_18 =>
        gd (hasF (hT h r_18) 53 = true) <|
        lt (hR h 53 r_18) fun r_20 =>
        gd (hasF (hT h x0) 26 = true) <|
        lt (hR h 26 x0) fun r_22 =>
        gd (hT h r_22 = 3) <|
        bd (F_J2_get K h r_22 x3) fun r_25 =>
        gd (r_25 = 0 ∨ castB (hT h r_25) "BlindCards$Look" = true) <|
        gd (hasF (hT h r_25) 115 = true) <|
        gd (hT h r_20 = 34) <|
        gd (inb (((8 : Int32) * (hI h 115 r_25)) + x4) (hN h r_20)) <|
        if (lg_cmp (hL h r_20 (Int32.toNatClampNeg (((8 : Int32) * (hI h 115 r_25)) + x4))) (0 : Int64)) = 0 then
          lt ((x2 &&& (((1 : Int32) <<< (x4 &&& 31)) ^^^ (-1 : Int32)))) fun x_31 =>
          F_X0_can_b100 K h (F_X0_can_L28 K h k14 fu) x0 x1 x_31 x3 x4
        else
          F_X0_can_b100 K h (F_X0_can_L28 K h k14 fu) x0 x1 x2 x3 x4
set_option maxHeartbeats 4000000 in
theorem w_X0_can_L28 {p : Program} {l : Launch} {e : Env} {s : State} {m : MethodId} {args : Array Value} {below : List Frame} {meth : Method} {c : Code} {D : XD} {h : TH} (hC : XCx D cX0_can 5 RX0 h p (xRm 3 64 h) s m args meth c) (hr : meth.sig.returnType = some .int) (hnh : c.exceptionTable.isEmpty = true) (hin : meth.name = "can") {x : Int32} (k14 : Nat → Int32 → Int32 → Int32 → Option Int32) (hk14 : ∀ (x0 : Nat) (x1 : Int32) (x2 : Int32) (x3 : Int32), k14 x0 x1 x2 x3 = some x → XJ p l e (xRm 3 64 h) s m args below meth c D 5 (.returned (some (.int x))) h h 14 [(0, rv x0), (1, .int x1), (2, .int x2), (3, .int x3)] [] h) :
    ∀ (fu : Nat) (x0 : Nat) (x1 : Int32) (x2 : Int32) (x3 : Int32) (x4 : Int32), F_X0_can_L28 D.2.2.2 h k14 fu x0 x1 x2 x3 x4 = some x → XJ p l e (xRm 3 64 h) s m args below meth c D 5 (.returned (some (.int x))) h h 28 [(0, rv x0), (1, .int x1), (2, .int x2), (3, .int x3), (4, .int x4)] [] h := by
  have hx := hC.1
  have hb := hC.2.1
  intro fu
  induction fu with
  | zero => intro x0 x1 x2 x3 x4 hF; exact nm_none hF
  | succ fu ih =>
    intro x0 x1 x2 x3 x4 hF H locs cells slots ls hX hl
    rw [F_X0_can_L28] at hF
    refine lv_iload hx hb dX0_can_28 (lv_at hl 4 rfl) ?_
    refine X_aload_n hx hb dX0_can_30 rfl (lv_at hl 0 rfl) ?_
    obtain ⟨h_1, hF⟩ := gd_ok hF
    refine gX_X0_15 hC hX h_1 dX0_can_31 ?_
    refine lv_topr (fun r_2 er_2 => ?_)
    replace hF := lt_at hF er_2
    obtain ⟨h_3, hF⟩ := gd_ok hF
    obtain ⟨r_5, hc_4, hF⟩ := bd_ok hF
    refine iX_X0_152 hC hX h_3 hc_4 hl.1 (Nat.le_of_ble_eq_true rfl) (Nat.le_of_ble_eq_true rfl) (Nat.le_of_ble_eq_true rfl) dX0_can_34 (fun H locs cells slots hX => ?_)
    refine lv_icmp_ge (tgt := 106) hx hb dX0_can_37 (by decide) (fun c_6 => ?_) (fun c_6 => ?_)
    · replace hF := it_t hF c_6
      exact w_X0_can_b106 hC hr hnh hin k14 hk14 x0 x1 x2 x3 hF H locs cells slots ls hX (lv_sub hl [0, 1, 2, 3] rfl)
    · replace hF := it_f hF c_6
      refine X_aload_n hx hb dX0_can_40 rfl (lv_at hl 0 rfl) ?_
      obtain ⟨h_7, hF⟩ := gd_ok hF
      refine gX_X0_96 hC hX h_7 dX0_can_41 ?_
      refine lv_topr (fun r_8 er_8 => ?_)
      replace hF := lt_at hF er_8
      refine lv_iload_n hx hb dX0_can_44 rfl (lv_at hl 3 rfl) ?_
      obtain ⟨h_9, hF⟩ := gd_ok hF
      obtain ⟨r_11, hc_10, hF⟩ := bd_ok hF
      refine iX_X0_222 hC hX h_9 hc_10 hl.1 (Nat.le_of_ble_eq_true rfl) (Nat.le_of_ble_eq_true rfl) (Nat.le_of_ble_eq_true rfl) dX0_can_45 (fun H locs cells slots hX => ?_)
      obtain ⟨h_12, hF⟩ := gd_ok hF
      refine X_cast hC hX h_12 q1745 dX0_can_48 ?_
      refine lv_iload_n hx hb dX0_can_51 rfl (lv_at hl 1 rfl) ?_
      obtain ⟨h_13, hF⟩ := gd_ok hF
      obtain ⟨r_15, hc_14, hF⟩ := bd_ok hF
      refine iX_X0_339 hC hX h_13 hc_14 hl.1 (Nat.le_of_ble_eq_true rfl) (Nat.le_of_ble_eq_true rfl) (Nat.le_of_ble_eq_true rfl) dX0_can_52 (fun H locs cells slots hX => ?_)
      refine lv_if_eq (tgt := 100) hx hb dX0_can_55 (by decide) (fun c_16 => ?_) (fun c_16 => ?_)
      · replace hF := it_t hF c_16
        exact w_X0_can_b100 hC hr hnh hin (F_X0_can_L28 D.2.2.2 h k14 fu) ih x0 x1 x2 x3 x4 hF H locs cells slots ls hX (lv_sub hl [0, 1, 2, 3, 4] rfl)
      · replace hF := it_f hF c_16
        refine X_aload_n hx hb dX0_can_58 rfl (lv_at hl 0 rfl) ?_
        obtain ⟨h_17, hF⟩ := gd_ok hF
        refine gX_X0_57 hC hX h_17 dX0_can_59 ?_
        refine lv_topr (fun r_18 er_18 => ?_)
        replace hF := lt_at hF er_18
        obtain ⟨h_19, hF⟩ := gd_ok hF
        refine gX_X0_184 hC hX h_19 dX0_can_62 ?_
        refine lv_topr (fun r_20 er_20 => ?_)
        replace hF := lt_at hF er_20
        refine lv_bipush (v := 8) hx hb dX0_can_65 (by decide) ?_
        refine X_aload_n hx hb dX0_can_67 rfl (lv_at hl 0 rfl) ?_
        obtain ⟨h_21, hF⟩ := gd_ok hF
        refine gX_X0_96 hC hX h_21 dX0_can_68 ?_
        refine lv_topr (fun r_22 er_22 => ?_)
        replace hF := lt_at hF er_22
        refine lv_iload_n hx hb dX0_can_71 rfl (lv_at hl 3 rfl) ?_
        obtain ⟨h_23, hF⟩ := gd_ok hF
        obtain ⟨r_25, hc_24, hF⟩ := bd_ok hF
        refine iX_X0_222 hC hX h_23 hc_24 hl.1 (cat4 (Nat.le_of_ble_eq_true rfl)) (Nat.le_of_ble_eq_true rfl) (Nat.le_of_ble_eq_true rfl) dX0_can_72 (fun H locs cells slots hX => ?_)
        obtain ⟨h_26, hF⟩ := gd_ok hF
        refine X_cast hC hX h_26 q1745 dX0_can_75 ?_
        obtain ⟨h_27, hF⟩ := gd_ok hF
        refine gX_X0_342 hC hX h_27 dX0_can_78 ?_
        refine lv_imul hx hb dX0_can_81 ?_
        refine lv_iload hx hb dX0_can_82 (lv_at hl 4 rfl) ?_
        refine lv_iadd hx hb dX0_can_84 ?_
        obtain ⟨h_28, hF⟩ := gd_ok hF
        obtain ⟨h_29, hF⟩ := gd_ok hF
        refine X_lald hC hX h_28 h_29 dX0_can_85 ?_
        refine lv_lconst (v := 0) hx hb dX0_can_86 (by decide) ?_
        refine W.lcmp hx hb dX0_can_87 ?_
        refine lv_if_ne (tgt := 100) hx hb dX0_can_88 (by decide) (fun c_30 => ?_) (fun c_30 => ?_)
        · replace hF := it_f hF c_30
          exact w_X0_can_b100 hC hr hnh hin (F_X0_can_L28 D.2.2.2 h k14 fu) ih x0 x1 x2 x3 x4 hF H locs cells slots ls hX (lv_sub hl [0, 1, 2, 3, 4] rfl)
        · replace hF := it_t hF c_30
          refine lv_iload_n hx hb dX0_can_91 rfl (lv_at hl 2 rfl) ?_
          refine lv_iconst (v := 1) hx hb dX0_can_92 (by decide) ?_
          refine lv_iload hx hb dX0_can_93 (lv_at hl 4 rfl) ?_
          refine lv_ishl hx hb dX0_can_95 ?_
          refine lv_iconst (v := -1) hx hb dX0_can_96 (by decide) ?_
          refine lv_ixor hx hb dX0_can_97 ?_
          refine lv_iand hx hb dX0_can_98 ?_
          refine lv_topi (fun x_31 ex_31 => ?_)
          replace hF := lt_at hF ex_31
          refine lv_istore_n (lv' := [(2, .int x_31), (0, rv x0), (1, .int x1), (3, .int x3), (4, .int x4)]) hx hb dX0_can_99 rfl hl (by decide) rfl (fun ls hl => ?_)
          exact w_X0_can_b100 hC hr hnh hin (F_X0_can_L28 D.2.2.2 h k14 fu) ih x0 x1 x_31 x3 x4 hF H locs cells slots ls hX (lv_sub hl [1, 2, 0, 3, 4] rfl)
def F_X0_can_L14 (K : Nat → Nat) (h : TH) : Nat → Nat → Int32 → Int32 → Int32 → Option Int32
  | 0, _, _, _, _ => none
  | fu + 1, x0, x1, x2, x3 =>
    gd (hasF (hT h x0) 26 = true) <|
    lt (hR h 26 x0) fun r_2 =>
    gd (hT h r_2 = 3) <|
    bd (F_J2_size K h r_2) fun r_5 =>
    if r_5 ≤ x3 then
      some x2
    else
      F_X0_can_L28 K h (F_X0_can_L14 K h fu) MN x0 x1 x2 x3 (0 : Int32)
set_option maxHeartbeats 4000000 in
theorem w_X0_can_L14 {p : Program} {l : Launch} {e : Env} {s : State} {m : MethodId} {args : Array Value} {below : List Frame} {meth : Method} {c : Code} {D : XD} {h : TH} (hC : XCx D cX0_can 5 RX0 h p (xRm 3 64 h) s m args meth c) (hr : meth.sig.returnType = some .int) (hnh : c.exceptionTable.isEmpty = true) (hin : meth.name = "can") {x : Int32} :
    ∀ (fu : Nat) (x0 : Nat) (x1 : Int32) (x2 : Int32) (x3 : Int32), F_X0_can_L14 D.2.2.2 h fu x0 x1 x2 x3 = some x → XJ p l e (xRm 3 64 h) s m args below meth c D 5 (.returned (some (.int x))) h h 14 [(0, rv x0), (1, .int x1), (2, .int x2), (3, .int x3)] [] h := by
  have hx := hC.1
  have hb := hC.2.1
  intro fu
  induction fu with
  | zero => intro x0 x1 x2 x3 hF; exact nm_none hF
  | succ fu ih =>
    intro x0 x1 x2 x3 hF H locs cells slots ls hX hl
    rw [F_X0_can_L14] at hF
    refine lv_iload_n hx hb dX0_can_14 rfl (lv_at hl 3 rfl) ?_
    refine X_aload_n hx hb dX0_can_15 rfl (lv_at hl 0 rfl) ?_
    obtain ⟨h_1, hF⟩ := gd_ok hF
    refine gX_X0_96 hC hX h_1 dX0_can_16 ?_
    refine lv_topr (fun r_2 er_2 => ?_)
    replace hF := lt_at hF er_2
    obtain ⟨h_3, hF⟩ := gd_ok hF
    obtain ⟨r_5, hc_4, hF⟩ := bd_ok hF
    refine iX_X0_148 hC hX h_3 hc_4 hl.1 (Nat.le_of_ble_eq_true rfl) (Nat.le_of_ble_eq_true rfl) (Nat.le_of_ble_eq_true rfl) dX0_can_19 (fun H locs cells slots hX => ?_)
    refine lv_icmp_ge (tgt := 112) hx hb dX0_can_22 (by decide) (fun c_6 => ?_) (fun c_6 => ?_)
    · replace hF := it_t hF c_6
      refine lv_iload_n hx hb dX0_can_112 rfl (lv_at hl 2 rfl) ?_
      exact x_reti hC hX hr rfl (Option.some.inj hF) rfl dX0_can_113
    · replace hF := it_f hF c_6
      refine lv_iconst (v := 0) hx hb dX0_can_25 (by decide) ?_
      refine lv_istore (lv' := [(4, .int (0 : Int32)), (0, rv x0), (1, .int x1), (2, .int x2), (3, .int x3)]) hx hb dX0_can_26 hl (by decide) rfl (fun ls hl => ?_)
      exact w_X0_can_L28 hC hr hnh hin (F_X0_can_L14 D.2.2.2 h fu) ih MN x0 x1 x2 x3 (0 : Int32) hF H locs cells slots ls hX (lv_sub hl [1, 2, 3, 4, 0] rfl)
def F_X0_can (K : Nat → Nat) (h : TH) (a0 : Nat) (b0 : Int32) : Option Int32 :=
  gd (hasF (hT h a0) 7 = true) <|
  lt (hR h 7 a0) fun r_2 =>
  gd (hT h r_2 = 2) <|
  bd (F_X1_inputs K h r_2) fun r_5 =>
  lt ((((1 : Int32) <<< (r_5 &&& 31)) - (1 : Int32))) fun x_6 =>
  F_X0_can_L14 K h MN a0 b0 x_6 (0 : Int32)
set_option maxHeartbeats 4000000 in
theorem w_X0_can {p : Program} {l : Launch} {e : Env} {s : State} {m : MethodId} {args : Array Value} {below : List Frame} {meth : Method} {c : Code} {D : XD} {h : TH} (hC : XCx D cX0_can 5 RX0 h p (xRm 3 64 h) s m args meth c) (hr : meth.sig.returnType = some .int) (hnh : c.exceptionTable.isEmpty = true) (hin : meth.name = "can") {x : Int32} :
    ∀ (a0 : Nat) (b0 : Int32), F_X0_can D.2.2.2 h a0 b0 = some x → XJ p l e (xRm 3 64 h) s m args below meth c D 5 (.returned (some (.int x))) h h 0 [(0, rv a0), (1, .int b0)] [] h := by
  have hx := hC.1
  have hb := hC.2.1
  intro a0 b0 hF H locs cells slots ls hX hl
  rw [F_X0_can] at hF
  refine lv_iconst (v := 1) hx hb dX0_can_0 (by decide) ?_
  refine X_aload_n hx hb dX0_can_1 rfl (lv_at hl 0 rfl) ?_
  obtain ⟨h_1, hF⟩ := gd_ok hF
  refine gX_X0_15 hC hX h_1 dX0_can_2 ?_
  refine lv_topr (fun r_2 er_2 => ?_)
  replace hF := lt_at hF er_2
  obtain ⟨h_3, hF⟩ := gd_ok hF
  obtain ⟨r_5, hc_4, hF⟩ := bd_ok hF
  refine iX_X0_152 hC hX h_3 hc_4 hl.1 (Nat.le_of_ble_eq_true rfl) (Nat.le_of_ble_eq_true rfl) (Nat.le_of_ble_eq_true rfl) dX0_can_5 (fun H locs cells slots hX => ?_)
  refine lv_ishl hx hb dX0_can_8 ?_
  refine lv_iconst (v := 1) hx hb dX0_can_9 (by decide) ?_
  refine lv_isub hx hb dX0_can_10 ?_
  refine lv_topi (fun x_6 ex_6 => ?_)
  replace hF := lt_at hF ex_6
  refine lv_istore_n (lv' := [(2, .int x_6), (0, rv a0), (1, .int b0)]) hx hb dX0_can_11 rfl hl (by decide) rfl (fun ls hl => ?_)
  refine lv_iconst (v := 0) hx hb dX0_can_12 (by decide) ?_
  refine lv_istore_n (lv' := [(3, .int (0 : Int32)), (2, .int x_6), (0, rv a0), (1, .int b0)]) hx hb dX0_can_13 rfl hl (by decide) rfl (fun ls hl => ?_)
  exact w_X0_can_L14 hC hr hnh hin MN a0 b0 x_6 (0 : Int32) hF H locs cells slots ls hX (lv_sub hl [2, 3, 1, 0] rfl)
theorem m_X0_can (l : Launch) (D : XD) (a0 : Nat) (b0 : Int32) (h : TH) (x : Int32) (hF : F_X0_can D.2.2.2 h a0 b0 = some x) : XMt l yX0_can (ws_ yX0_can cX0_can 5 (some .int)) 3 64 D [rv a0, .int b0] h (.returned (some (.int x))) h := by
  refine x_met (by decide +kernel) ?_ ?_
  · simp [lg_sl, rv_cat, cat_i, cat_l]
  intro p e s m below meth c hC hr hnh hin ls hl hX
  replace hl : lv_has ls 5 [(0, rv a0), (1, .int b0)] := by simpa [lv_args, rv_cat, cat_i, cat_l] using hl
  exact w_X0_can hC hr hnh hin a0 b0 hF s.heap [] 0 0 ls hX hl
theorem gX_X1_14 {p : Program} {l : Launch} {e : Env} {R : Room} {s : State} {m : MethodId} {args : Array Value} {below : List Frame} {meth : Method} {c : Code} {H : Heap} {locs : List Loc} {cells slots nL : Nat} {Q : State → Prop} {D : XD} {h0 h : TH} {cc : ByteArray} {pc : Nat} {ls : Array Slot} {rest : List Value} (hC : XCx D cc nL RX1 h0 p R s m args meth c) (hX : XSt D s h0 h H locs cells slots) {a : Nat} (hf : hasF (hT h a) 30 = true) (hdg : decode cc pc = .ok (.getfield 14, 3)) (kk : W p l e R s m args below meth c H locs cells slots Q (F0 m (pc + 3) ls (rv (hR h 30 a) :: rest))) : W p l e R s m args below meth c H locs cells slots Q (F0 m pc ls (rv a :: rest)) :=
  X_getr hC hX 30 hf rfl (fun q => absurd q (by decide)) q218 (fun _ h => h) hdg kk
theorem iX_X1_40 {p : Program} {l : Launch} {e : Env} {R : Room} {s : State} {m : MethodId} {args : Array Value} {below : List Frame} {meth : Method} {c : Code} {H : Heap} {locs : List Loc} {cells slots nL : Nat} {Q : State → Prop} {D : XD} {h0 h : TH} {cc : ByteArray} {pc : Nat} {ls : Array Slot} {rest : List Value} (hC : XCx D cc nL RX1 h0 p R s m args meth c) (hX : XSt D s h0 h H locs cells slots) {a : Nat} {x : Int32} (ht : hT h a = 3) (hcF : F_J2_size D.2.2.2 h a = some x) (hl : ls.size = nL) (hW : (rest.map fun v => v.category).sum ≤ 8) (hRf : 0 + 1 ≤ R.frames) (hRl : 20 ≤ R.locals) (hdg : decode cc pc = .ok (.invokevirtual 40, 3)) (kk : ∀ (H1 : Heap) (locs1 : List Loc) (cells1 slots1 : Nat), XSt D s h0 h H1 locs1 cells1 slots1 → W p l e R s m args below meth c H1 locs1 cells1 slots1 Q (F0 m (pc + 3) ls (.int x :: rest))) : W p l e R s m args below meth c H locs cells slots Q (F0 m pc ls (rv a :: rest)) := by
  have q := ht
  exact X_callV hC hX (by rw [q]; decide) (by rw [q]; rfl) (As := []) (m_J2_size l D a h _ hcF) (cwV 0 hC.2.2.2.2.1 (lw_V q1495 q488 q489 q129 q490) rfl rfl rfl (by decide +kernel) ⟨Nat.le_trans (Nat.le_of_ble_eq_true rfl) hRf, Nat.le_trans (Nat.le_of_ble_eq_true rfl) hRl⟩) rfl rfl hl hW hdg kk
theorem iX_X1_44 {p : Program} {l : Launch} {e : Env} {R : Room} {s : State} {m : MethodId} {args : Array Value} {below : List Frame} {meth : Method} {c : Code} {H : Heap} {locs : List Loc} {cells slots nL : Nat} {Q : State → Prop} {D : XD} {h0 h : TH} {cc : ByteArray} {pc : Nat} {ls : Array Slot} {rest : List Value} (hC : XCx D cc nL RX1 h0 p R s m args meth c) (hX : XSt D s h0 h H locs cells slots) {a : Nat} {b0 : Int32} {x : Nat} (ht : hT h a = 3) (hcF : F_J2_get D.2.2.2 h a b0 = some x) (hl : ls.size = nL) (hW : (rest.map fun v => v.category).sum ≤ 8) (hRf : 2 + 1 ≤ R.frames) (hRl : 64 ≤ R.locals) (hdg : decode cc pc = .ok (.invokevirtual 44, 3)) (kk : ∀ (H1 : Heap) (locs1 : List Loc) (cells1 slots1 : Nat), XSt D s h0 h H1 locs1 cells1 slots1 → W p l e R s m args below meth c H1 locs1 cells1 slots1 Q (F0 m (pc + 3) ls (rv x :: rest))) : W p l e R s m args below meth c H locs cells slots Q (F0 m pc ls (.int b0 :: rv a :: rest)) := by
  have q := ht
  exact X_callV hC hX (by rw [q]; decide) (by rw [q]; rfl) (As := [.int b0]) (m_J2_get l D a b0 h _ hcF) (cwV 1 hC.2.2.2.2.1 (lw_V q1496 q504 q505 q129 q506) rfl rfl rfl (by decide +kernel) ⟨Nat.le_trans (Nat.le_of_ble_eq_true rfl) hRf, Nat.le_trans (Nat.le_of_ble_eq_true rfl) hRl⟩) rfl rfl hl hW hdg kk
/-! BlindCards$Recipe.shuffle -/
def F_X1_shuffle_b42 (K : Nat → Nat) (h : TH) (k4 : Nat → Int32 → Int32 → Int32 → Option Int32) (x0 : Nat) (x1 : Int32) (x2 : Int32) (x3 : Int32) : Option Int32 :=
  lt (x3 + (1 : Int32)) fun x3_1 =>
  k4 x0 x1 x2 x3_1
set_option maxHeartbeats 4000000 in
theorem w_X1_shuffle_b42 {p : Program} {l : Launch} {e : Env} {s : State} {m : MethodId} {args : Array Value} {below : List Frame} {meth : Method} {c : Code} {D : XD} {h : TH} (hC : XCx D cX1_shuffle 4 RX1 h p (xRm 3 64 h) s m args meth c) (hr : meth.sig.returnType = some .int) (hnh : c.exceptionTable.isEmpty = true) (hin : meth.name = "shuffle") {x : Int32} (k4 : Nat → Int32 → Int32 → Int32 → Option Int32) (hk4 : ∀ (x0 : Nat) (x1 : Int32) (x2 : Int32) (x3 : Int32), k4 x0 x1 x2 x3 = some x → XJ p l e (xRm 3 64 h) s m args below meth c D 4 (.returned (some (.int x))) h h 4 [(0, rv x0), (1, .int x1), (2, .int x2), (3, .int x3)] [] h) :
    ∀ (x0 : Nat) (x1 : Int32) (x2 : Int32) (x3 : Int32), F_X1_shuffle_b42 D.2.2.2 h k4 x0 x1 x2 x3 = some x → XJ p l e (xRm 3 64 h) s m args below meth c D 4 (.returned (some (.int x))) h h 42 [(0, rv x0), (1, .int x1), (2, .int x2), (3, .int x3)] [] h := by
  have hx := hC.1
  have hb := hC.2.1
  intro x0 x1 x2 x3 hF H locs cells slots ls hX hl
  rw [F_X1_shuffle_b42] at hF
  obtain ⟨x3_1, ex3_1, hF⟩ := lt_ok hF
  refine lv_iinc (v := x3_1) (lv' := [(3, .int x3_1), (0, rv x0), (1, .int x1), (2, .int x2)]) hx hb dX1_shuffle_42 hl (k := 3) rfl (by rw [ex3_1]; rfl) (by decide) rfl (fun ls hl => ?_)
  refine lv_goto (tgt := 4) hx hb dX1_shuffle_45 (by decide) ?_
  exact hk4 x0 x1 x2 x3_1 hF H locs cells slots ls hX (lv_sub hl [1, 2, 3, 0] rfl)
def F_X1_shuffle_L4 (K : Nat → Nat) (h : TH) : Nat → Nat → Int32 → Int32 → Int32 → Option Int32
  | 0, _, _, _, _ => none
  | fu + 1, x0, x1, x2, x3 =>
    gd (hasF (hT h x0) 30 = true) <|
    lt (hR h 30 x0) fun r_2 =>
    gd (hT h r_2 = 3) <|
    bd (F_J2_size K h r_2) fun r_5 =>
    if r_5 ≤ x3 then
      some (-1 : Int32)
    else
      gd (hasF (hT h x0) 30 = true) <|
      lt (hR h 30 x0) fun r_8 =>
      gd (hT h r_8 = 3) <|
      bd (F_J2_get K h r_8 x3) fun r_11 =>
      bd (isI h r_11 "BlindCards$Cut") fun r_12 =>
      if r_12 = 0 then
        F_X1_shuffle_b42 K h (F_X1_shuffle_L4 K h fu) x0 x1 x2 x3
      else
        if x2 = x1 then
          some x3
        else
          lt (x2 + (1 : Int32)) fun x2_16 =>
          F_X1_shuffle_b42 K h (F_X1_shuffle_L4 K h fu) x0 x1 x2_16 x3
set_option maxHeartbeats 4000000 in
theorem w_X1_shuffle_L4 {p : Program} {l : Launch} {e : Env} {s : State} {m : MethodId} {args : Array Value} {below : List Frame} {meth : Method} {c : Code} {D : XD} {h : TH} (hC : XCx D cX1_shuffle 4 RX1 h p (xRm 3 64 h) s m args meth c) (hr : meth.sig.returnType = some .int) (hnh : c.exceptionTable.isEmpty = true) (hin : meth.name = "shuffle") {x : Int32} :
    ∀ (fu : Nat) (x0 : Nat) (x1 : Int32) (x2 : Int32) (x3 : Int32), F_X1_shuffle_L4 D.2.2.2 h fu x0 x1 x2 x3 = some x → XJ p l e (xRm 3 64 h) s m args below meth c D 4 (.returned (some (.int x))) h h 4 [(0, rv x0), (1, .int x1), (2, .int x2), (3, .int x3)] [] h := by
  have hx := hC.1
  have hb := hC.2.1
  intro fu
  induction fu with
  | zero => intro x0 x1 x2 x3 hF; exact nm_none hF
  | succ fu ih =>
    intro x0 x1 x2 x3 hF H locs cells slots ls hX hl
    rw [F_X1_shuffle_L4] at hF
    refine lv_iload_n hx hb dX1_shuffle_4 rfl (lv_at hl 3 rfl) ?_
    refine X_aload_n hx hb dX1_shuffle_5 rfl (lv_at hl 0 rfl) ?_
    obtain ⟨h_1, hF⟩ := gd_ok hF
    refine gX_X1_14 hC hX h_1 dX1_shuffle_6 ?_
    refine lv_topr (fun r_2 er_2 => ?_)
    replace hF := lt_at hF er_2
    obtain ⟨h_3, hF⟩ := gd_ok hF
    obtain ⟨r_5, hc_4, hF⟩ := bd_ok hF
    refine iX_X1_40 hC hX h_3 hc_4 hl.1 (Nat.le_of_ble_eq_true rfl) (Nat.le_of_ble_eq_true rfl) (Nat.le_of_ble_eq_true rfl) dX1_shuffle_9 (fun H locs cells slots hX => ?_)
    refine lv_icmp_ge (tgt := 48) hx hb dX1_shuffle_12 (by decide) (fun c_6 => ?_) (fun c_6 => ?_)
    · replace hF := it_t hF c_6
      refine lv_iconst (v := -1) hx hb dX1_shuffle_48 (by decide) ?_
      exact x_reti hC hX hr rfl (Option.some.inj hF) rfl dX1_shuffle_49
    · replace hF := it_f hF c_6
      refine X_aload_n hx hb dX1_shuffle_15 rfl (lv_at hl 0 rfl) ?_
      obtain ⟨h_7, hF⟩ := gd_ok hF
      refine gX_X1_14 hC hX h_7 dX1_shuffle_16 ?_
      refine lv_topr (fun r_8 er_8 => ?_)
      replace hF := lt_at hF er_8
      refine lv_iload_n hx hb dX1_shuffle_19 rfl (lv_at hl 3 rfl) ?_
      obtain ⟨h_9, hF⟩ := gd_ok hF
      obtain ⟨r_11, hc_10, hF⟩ := bd_ok hF
      refine iX_X1_44 hC hX h_9 hc_10 hl.1 (Nat.le_of_ble_eq_true rfl) (Nat.le_of_ble_eq_true rfl) (Nat.le_of_ble_eq_true rfl) dX1_shuffle_20 (fun H locs cells slots hX => ?_)
      obtain ⟨r_12, hc_13, hF⟩ := bd_ok hF
      refine X_inst hC hX hc_13 q1656 dX1_shuffle_23 ?_
      refine lv_if_ne (tgt := 32) hx hb dX1_shuffle_26 (by decide) (fun c_14 => ?_) (fun c_14 => ?_)
      · replace hF := it_f hF c_14
        refine lv_iload_n hx hb dX1_shuffle_32 rfl (lv_at hl 2 rfl) ?_
        refine lv_iload_n hx hb dX1_shuffle_33 rfl (lv_at hl 1 rfl) ?_
        refine lv_icmp_ne (tgt := 39) hx hb dX1_shuffle_34 (by decide) (fun c_15 => ?_) (fun c_15 => ?_)
        · replace hF := it_f hF c_15
          obtain ⟨x2_16, ex2_16, hF⟩ := lt_ok hF
          refine lv_iinc (v := x2_16) (lv' := [(2, .int x2_16), (0, rv x0), (1, .int x1), (3, .int x3)]) hx hb dX1_shuffle_39 hl (k := 2) rfl (by rw [ex2_16]; rfl) (by decide) rfl (fun ls hl => ?_)
          exact w_X1_shuffle_b42 hC hr hnh hin (F_X1_shuffle_L4 D.2.2.2 h fu) ih x0 x1 x2_16 x3 hF H locs cells slots ls hX (lv_sub hl [1, 2, 0, 3] rfl)
        · replace hF := it_t hF c_15
          refine lv_iload_n hx hb dX1_shuffle_37 rfl (lv_at hl 3 rfl) ?_
          exact x_reti hC hX hr rfl (Option.some.inj hF) rfl dX1_shuffle_38
      · replace hF := it_t hF c_14
        refine lv_goto (tgt := 42) hx hb dX1_shuffle_29 (by decide) ?_
        exact w_X1_shuffle_b42 hC hr hnh hin (F_X1_shuffle_L4 D.2.2.2 h fu) ih x0 x1 x2 x3 hF H locs cells slots ls hX (lv_sub hl [0, 1, 2, 3] rfl)
def F_X1_shuffle (K : Nat → Nat) (h : TH) (a0 : Nat) (b0 : Int32) : Option Int32 :=
  F_X1_shuffle_L4 K h MN a0 b0 (0 : Int32) (0 : Int32)
set_option maxHeartbeats 4000000 in
theorem w_X1_shuffle {p : Program} {l : Launch} {e : Env} {s : State} {m : MethodId} {args : Array Value} {below : List Frame} {meth : Method} {c : Code} {D : XD} {h : TH} (hC : XCx D cX1_shuffle 4 RX1 h p (xRm 3 64 h) s m args meth c) (hr : meth.sig.returnType = some .int) (hnh : c.exceptionTable.isEmpty = true) (hin : meth.name = "shuffle") {x : Int32} :
    ∀ (a0 : Nat) (b0 : Int32), F_X1_shuffle D.2.2.2 h a0 b0 = some x → XJ p l e (xRm 3 64 h) s m args below meth c D 4 (.returned (some (.int x))) h h 0 [(0, rv a0), (1, .int b0)] [] h := by
  have hx := hC.1
  have hb := hC.2.1
  intro a0 b0 hF H locs cells slots ls hX hl
  rw [F_X1_shuffle] at hF
  refine lv_iconst (v := 0) hx hb dX1_shuffle_0 (by decide) ?_
  refine lv_istore_n (lv' := [(2, .int (0 : Int32)), (0, rv a0), (1, .int b0)]) hx hb dX1_shuffle_1 rfl hl (by decide) rfl (fun ls hl => ?_)
  refine lv_iconst (v := 0) hx hb dX1_shuffle_2 (by decide) ?_
  refine lv_istore_n (lv' := [(3, .int (0 : Int32)), (2, .int (0 : Int32)), (0, rv a0), (1, .int b0)]) hx hb dX1_shuffle_3 rfl hl (by decide) rfl (fun ls hl => ?_)
  exact w_X1_shuffle_L4 hC hr hnh hin MN a0 b0 (0 : Int32) (0 : Int32) hF H locs cells slots ls hX (lv_sub hl [2, 3, 1, 0] rfl)
theorem m_X1_shuffle (l : Launch) (D : XD) (a0 : Nat) (b0 : Int32) (h : TH) (x : Int32) (hF : F_X1_shuffle D.2.2.2 h a0 b0 = some x) : XMt l yX1_shuffle (ws_ yX1_shuffle cX1_shuffle 4 (some .int)) 3 64 D [rv a0, .int b0] h (.returned (some (.int x))) h := by
  refine x_met (by decide +kernel) ?_ ?_
  · simp [lg_sl, rv_cat, cat_i, cat_l]
  intro p e s m below meth c hC hr hnh hin ls hl hX
  replace hl : lv_has ls 4 [(0, rv a0), (1, .int b0)] := by simpa [lv_args, rv_cat, cat_i, cat_l] using hl
  exact w_X1_shuffle hC hr hnh hin a0 b0 hF s.heap [] 0 0 ls hX hl
theorem pX_X0_75 {p : Program} {l : Launch} {e : Env} {R : Room} {s : State} {m : MethodId} {args : Array Value} {below : List Frame} {meth : Method} {c : Code} {H : Heap} {locs : List Loc} {cells slots nL : Nat} {Q : State → Prop} {D : XD} {h0 h : TH} {cc : ByteArray} {pc : Nat} {ls : Array Slot} {rest : List Value} (hC : XCx D cc nL RX0 h0 p R s m args meth c) (hX : XSt D s h0 h H locs cells slots) {a : Nat} {v : Int32} (hf : hasF (hT h a) 11 = true) (hw : hT h a ≤ 24) (hdg : decode cc pc = .ok (.putfield 75, 3)) (kk : ∀ (H1 : Heap) (locs1 : List Loc), XSt D s h0 (uI h 11 a v) H1 locs1 cells slots → W p l e R s m args below meth c H1 locs1 cells slots Q (F0 m (pc + 3) ls rest)) : W p l e R s m args below meth c H locs cells slots Q (F0 m pc ls (.int v :: rv a :: rest)) :=
  X_puti hC hX 11 hf hw rfl rfl q761 (fun _ h => h) ⟨rfl, rfl⟩ hdg kk
/-! BlindCards.draw -/
def F_X0_draw (K : Nat → Nat) (a0 : Nat) (b0 : Int32) (h : TH) : Option (Int32 × TH) :=
  gd (hasF (hT h a0) 11 = true) <|
  gd (hasF (hT h a0) 11 = true) <|
  gd (hT h a0 ≤ 24) <|
  lt (uI h 11 a0 (((hI h 11 a0) * (1103515245 : Int32)) + (12345 : Int32))) fun h_4 =>
  gd (hasF (hT h_4 a0) 11 = true) <|
  gd (¬ b0 = 0) <|
  some (((Int32.toUInt32 (hI h_4 11 a0) >>> (Int32.toUInt32 (16 : Int32) &&& Int32.toUInt32 31)).toInt32 - (Int32.toUInt32 (hI h_4 11 a0) >>> (Int32.toUInt32 (16 : Int32) &&& Int32.toUInt32 31)).toInt32 / b0 * b0), h_4)
set_option maxHeartbeats 4000000 in
theorem w_X0_draw {p : Program} {l : Launch} {e : Env} {s : State} {m : MethodId} {args : Array Value} {below : List Frame} {meth : Method} {c : Code} {D : XD} {h0 : TH} (hC : XCx D cX0_draw 2 RX0 h0 p (xRm 0 0 h0) s m args meth c) (hr : meth.sig.returnType = some .int) (hnh : c.exceptionTable.isEmpty = true) (hin : meth.name = "draw") {x : (Int32 × TH)} :
    ∀ (a0 : Nat) (b0 : Int32) (h : TH), F_X0_draw D.2.2.2 a0 b0 h = some x → XJ p l e (xRm 0 0 h0) s m args below meth c D 2 (.returned (some (.int x.1))) h0 x.2 0 [(0, rv a0), (1, .int b0)] [] h := by
  have hx := hC.1
  have hb := hC.2.1
  intro a0 b0 h hF H locs cells slots ls hX hl
  rw [F_X0_draw] at hF
  refine X_aload_n hx hb dX0_draw_0 rfl (lv_at hl 0 rfl) ?_
  refine X_aload_n hx hb dX0_draw_1 rfl (lv_at hl 0 rfl) ?_
  obtain ⟨h_1, hF⟩ := gd_ok hF
  refine gX_X0_75 hC hX h_1 dX0_draw_2 ?_
  refine lv_ldcw (v := 1103515245) hx hb hC.2.2.2.1 (hC.2.2.2.2.1 _ q1724) dX0_draw_5 ?_
  refine lv_imul hx hb dX0_draw_8 ?_
  refine lv_sipush (v := 12345) hx hb dX0_draw_9 (by decide) ?_
  refine lv_iadd hx hb dX0_draw_12 ?_
  obtain ⟨h_2, hF⟩ := gd_ok hF
  obtain ⟨h_3, hF⟩ := gd_ok hF
  refine pX_X0_75 hC hX h_2 h_3 dX0_draw_13 (fun H locs hX => ?_)
  obtain ⟨h_4, eh_4, hF⟩ := lt_ok hF
  rw [← eh_4] at hX
  refine X_aload_n hx hb dX0_draw_16 rfl (lv_at hl 0 rfl) ?_
  obtain ⟨h_5, hF⟩ := gd_ok hF
  refine gX_X0_75 hC hX h_5 dX0_draw_17 ?_
  refine lv_bipush (v := 16) hx hb dX0_draw_20 (by decide) ?_
  refine lv_iushr hx hb dX0_draw_22 rfl ?_
  refine lv_iload_n hx hb dX0_draw_23 rfl (lv_at hl 1 rfl) ?_
  obtain ⟨h_6, hF⟩ := gd_ok hF
  refine lv_irem hx hb dX0_draw_24 h_6 ?_
  exact x_reti hC hX hr rfl (rt1 hF) (rt2 hF) dX0_draw_25
theorem m_X0_draw (l : Launch) (D : XD) (a0 : Nat) (b0 : Int32) (h : TH) (x : (Int32 × TH)) (hF : F_X0_draw D.2.2.2 a0 b0 h = some x) : XMt l yX0_draw (ws_ yX0_draw cX0_draw 2 (some .int)) 0 0 D [rv a0, .int b0] h (.returned (some (.int x.1))) x.2 := by
  refine x_met (by decide +kernel) ?_ ?_
  · simp [lg_sl, rv_cat, cat_i, cat_l]
  intro p e s m below meth c hC hr hnh hin ls hl hX
  replace hl : lv_has ls 2 [(0, rv a0), (1, .int b0)] := by simpa [lv_args, rv_cat, cat_i, cat_l] using hl
  exact w_X0_draw hC hr hnh hin a0 b0 h hF s.heap [] 0 0 ls hX hl
theorem pX_X0_117 {p : Program} {l : Launch} {e : Env} {R : Room} {s : State} {m : MethodId} {args : Array Value} {below : List Frame} {meth : Method} {c : Code} {H : Heap} {locs : List Loc} {cells slots nL : Nat} {Q : State → Prop} {D : XD} {h0 h : TH} {cc : ByteArray} {pc : Nat} {ls : Array Slot} {rest : List Value} (hC : XCx D cc nL RX0 h0 p R s m args meth c) (hX : XSt D s h0 h H locs cells slots) {a : Nat} {v : Int32} (hf : hasF (hT h a) 4 = true) (hw : hT h a ≤ 24) (hdg : decode cc pc = .ok (.putfield 117, 3)) (kk : ∀ (H1 : Heap) (locs1 : List Loc), XSt D s h0 (uI h 4 a v) H1 locs1 cells slots → W p l e R s m args below meth c H1 locs1 cells slots Q (F0 m (pc + 3) ls rest)) : W p l e R s m args below meth c H locs cells slots Q (F0 m pc ls (.int v :: rv a :: rest)) :=
  X_puti hC hX 4 hf hw rfl rfl q750 (fun _ h => h) ⟨rfl, rfl⟩ hdg kk
/-! BlindCards.end -/
def F_X0_end (K : Nat → Nat) (a0 : Nat) (b0 : Int32) (h : TH) : Option (Int32 × TH) :=
  if b0 < 0 then
    some ((-1 : Int32), h)
  else
    gd (hasF (hT h a0) 4 = true) <|
    if b0 ≤ (hI h 4 a0) then
      gd (hasF (hT h a0) 4 = true) <|
      gd (hT h a0 ≤ 24) <|
      lt (uI h 4 a0 b0) fun h_6 =>
      some (b0, h_6)
    else
      some ((-1 : Int32), h)
set_option maxHeartbeats 4000000 in
theorem w_X0_end {p : Program} {l : Launch} {e : Env} {s : State} {m : MethodId} {args : Array Value} {below : List Frame} {meth : Method} {c : Code} {D : XD} {h0 : TH} (hC : XCx D cX0_end 2 RX0 h0 p (xRm 0 0 h0) s m args meth c) (hr : meth.sig.returnType = some .int) (hnh : c.exceptionTable.isEmpty = true) (hin : meth.name = "end") {x : (Int32 × TH)} :
    ∀ (a0 : Nat) (b0 : Int32) (h : TH), F_X0_end D.2.2.2 a0 b0 h = some x → XJ p l e (xRm 0 0 h0) s m args below meth c D 2 (.returned (some (.int x.1))) h0 x.2 0 [(0, rv a0), (1, .int b0)] [] h := by
  have hx := hC.1
  have hb := hC.2.1
  intro a0 b0 h hF H locs cells slots ls hX hl
  rw [F_X0_end] at hF
  refine lv_iload_n hx hb dX0_end_0 rfl (lv_at hl 1 rfl) ?_
  refine lv_if_lt (tgt := 12) hx hb dX0_end_1 (by decide) (fun c_1 => ?_) (fun c_1 => ?_)
  · replace hF := it_t hF c_1
    refine lv_iconst (v := -1) hx hb dX0_end_12 (by decide) ?_
    exact x_reti hC hX hr rfl (rt1 hF) (rt2 hF) dX0_end_13
  · replace hF := it_f hF c_1
    refine lv_iload_n hx hb dX0_end_4 rfl (lv_at hl 1 rfl) ?_
    refine X_aload_n hx hb dX0_end_5 rfl (lv_at hl 0 rfl) ?_
    obtain ⟨h_2, hF⟩ := gd_ok hF
    refine gX_X0_117 hC hX h_2 dX0_end_6 ?_
    refine lv_icmp_le (tgt := 14) hx hb dX0_end_9 (by decide) (fun c_3 => ?_) (fun c_3 => ?_)
    · replace hF := it_t hF c_3
      refine X_aload_n hx hb dX0_end_14 rfl (lv_at hl 0 rfl) ?_
      refine lv_iload_n hx hb dX0_end_15 rfl (lv_at hl 1 rfl) ?_
      obtain ⟨h_4, hF⟩ := gd_ok hF
      obtain ⟨h_5, hF⟩ := gd_ok hF
      refine pX_X0_117 hC hX h_4 h_5 dX0_end_16 (fun H locs hX => ?_)
      obtain ⟨h_6, eh_6, hF⟩ := lt_ok hF
      rw [← eh_6] at hX
      refine lv_iload_n hx hb dX0_end_19 rfl (lv_at hl 1 rfl) ?_
      exact x_reti hC hX hr rfl (rt1 hF) (rt2 hF) dX0_end_20
    · replace hF := it_f hF c_3
      refine lv_iconst (v := -1) hx hb dX0_end_12 (by decide) ?_
      exact x_reti hC hX hr rfl (rt1 hF) (rt2 hF) dX0_end_13
theorem m_X0_end (l : Launch) (D : XD) (a0 : Nat) (b0 : Int32) (h : TH) (x : (Int32 × TH)) (hF : F_X0_end D.2.2.2 a0 b0 h = some x) : XMt l yX0_end (ws_ yX0_end cX0_end 2 (some .int)) 0 0 D [rv a0, .int b0] h (.returned (some (.int x.1))) x.2 := by
  refine x_met (by decide +kernel) ?_ ?_
  · simp [lg_sl, rv_cat, cat_i, cat_l]
  intro p e s m below meth c hC hr hnh hin ls hl hX
  replace hl : lv_has ls 2 [(0, rv a0), (1, .int b0)] := by simpa [lv_args, rv_cat, cat_i, cat_l] using hl
  exact w_X0_end hC hr hnh hin a0 b0 h hF s.heap [] 0 0 ls hX hl
theorem gX_X0_159 {p : Program} {l : Launch} {e : Env} {R : Room} {s : State} {m : MethodId} {args : Array Value} {below : List Frame} {meth : Method} {c : Code} {H : Heap} {locs : List Loc} {cells slots nL : Nat} {Q : State → Prop} {D : XD} {h0 h : TH} {cc : ByteArray} {pc : Nat} {ls : Array Slot} {rest : List Value} (hC : XCx D cc nL RX0 h0 p R s m args meth c) (hX : XSt D s h0 h H locs cells slots) {a : Nat} (hf : hasF (hT h a) 55 = true) (hdg : decode cc pc = .ok (.getfield 159, 3)) (kk : W p l e R s m args below meth c H locs cells slots Q (F0 m (pc + 3) ls (.int (hI h 55 a) :: rest))) : W p l e R s m args below meth c H locs cells slots Q (F0 m pc ls (rv a :: rest)) :=
  X_geti hC hX 55 hf rfl q280 (fun _ h => h) hdg kk
/-! BlindCards.isPath -/
def F_X0_isPath (K : Nat → Nat) (h : TH) (a0 : Nat) (b0 : Int32) : Option Int32 :=
  gd (hasF (hT h a0) 8 = true) <|
  lt (hR h 8 a0) fun r_2 =>
  gd (hasF (hT h r_2) 55 = true) <|
  bd (F_X0_isIn K h b0 (0 : Int32) ((hI h 55 r_2) - (1 : Int32))) fun r_5 =>
  gd (r_5 = 0 ∨ r_5 = 1) <|
  some r_5
set_option maxHeartbeats 4000000 in
theorem w_X0_isPath {p : Program} {l : Launch} {e : Env} {s : State} {m : MethodId} {args : Array Value} {below : List Frame} {meth : Method} {c : Code} {D : XD} {h : TH} (hC : XCx D cX0_isPath 2 RX0 h p (xRm 1 22 h) s m args meth c) (hr : meth.sig.returnType = some .boolean) (hnh : c.exceptionTable.isEmpty = true) (hin : meth.name = "isPath") {x : Int32} :
    ∀ (a0 : Nat) (b0 : Int32), F_X0_isPath D.2.2.2 h a0 b0 = some x → XJ p l e (xRm 1 22 h) s m args below meth c D 2 (.returned (some (.int x))) h h 0 [(0, rv a0), (1, .int b0)] [] h := by
  have hx := hC.1
  have hb := hC.2.1
  intro a0 b0 hF H locs cells slots ls hX hl
  rw [F_X0_isPath] at hF
  refine lv_iload_n hx hb dX0_isPath_0 rfl (lv_at hl 1 rfl) ?_
  refine lv_iconst (v := 0) hx hb dX0_isPath_1 (by decide) ?_
  refine X_aload_n hx hb dX0_isPath_2 rfl (lv_at hl 0 rfl) ?_
  obtain ⟨h_1, hF⟩ := gd_ok hF
  refine gX_X0_57 hC hX h_1 dX0_isPath_3 ?_
  refine lv_topr (fun r_2 er_2 => ?_)
  replace hF := lt_at hF er_2
  obtain ⟨h_3, hF⟩ := gd_ok hF
  refine gX_X0_159 hC hX h_3 dX0_isPath_6 ?_
  refine lv_iconst (v := 1) hx hb dX0_isPath_9 (by decide) ?_
  refine lv_isub hx hb dX0_isPath_10 ?_
  obtain ⟨r_5, hc_4, hF⟩ := bd_ok hF
  refine iX_X0_155 hC hX hc_4 hl.1 (Nat.le_of_ble_eq_true rfl) (Nat.le_of_ble_eq_true rfl) (Nat.le_of_ble_eq_true rfl) dX0_isPath_11 (fun H locs cells slots hX => ?_)
  obtain ⟨h_6, hF⟩ := gd_ok hF
  exact x_reti hC hX hr (zb_nar h_6).1 (Option.some.inj hF) rfl dX0_isPath_14
theorem m_X0_isPath (l : Launch) (D : XD) (a0 : Nat) (b0 : Int32) (h : TH) (x : Int32) (hF : F_X0_isPath D.2.2.2 h a0 b0 = some x) : XMt l yX0_isPath (ws_ yX0_isPath cX0_isPath 2 (some .boolean)) 1 22 D [rv a0, .int b0] h (.returned (some (.int x))) h := by
  refine x_met (by decide +kernel) ?_ ?_
  · simp [lg_sl, rv_cat, cat_i, cat_l]
  intro p e s m below meth c hC hr hnh hin ls hl hX
  replace hl : lv_has ls 2 [(0, rv a0), (1, .int b0)] := by simpa [lv_args, rv_cat, cat_i, cat_l] using hl
  exact w_X0_isPath hC hr hnh hin a0 b0 hF s.heap [] 0 0 ls hX hl
theorem gX_X0_171 {p : Program} {l : Launch} {e : Env} {R : Room} {s : State} {m : MethodId} {args : Array Value} {below : List Frame} {meth : Method} {c : Code} {H : Heap} {locs : List Loc} {cells slots nL : Nat} {Q : State → Prop} {D : XD} {h0 h : TH} {cc : ByteArray} {pc : Nat} {ls : Array Slot} {rest : List Value} (hC : XCx D cc nL RX0 h0 p R s m args meth c) (hX : XSt D s h0 h H locs cells slots) {a : Nat} (hf : hasF (hT h a) 57 = true) (hdg : decode cc pc = .ok (.getfield 171, 3)) (kk : W p l e R s m args below meth c H locs cells slots Q (F0 m (pc + 3) ls (.int (hI h 57 a) :: rest))) : W p l e R s m args below meth c H locs cells slots Q (F0 m pc ls (rv a :: rest)) :=
  X_geti hC hX 57 hf rfl q284 (fun _ h => h) hdg kk
theorem iX_X0_174 {p : Program} {l : Launch} {e : Env} {R : Room} {s : State} {m : MethodId} {args : Array Value} {below : List Frame} {meth : Method} {c : Code} {H : Heap} {locs : List Loc} {cells slots nL : Nat} {Q : State → Prop} {D : XD} {h0 h : TH} {cc : ByteArray} {pc : Nat} {ls : Array Slot} {rest : List Value} (hC : XCx D cc nL RX0 h0 p R s m args meth c) (hX : XSt D s h0 h H locs cells slots) {a : Nat} {b0 : Int32} {x : Int32} (ht : hT h a = 1) (hcF : F_X0_isPath D.2.2.2 h a b0 = some x) (hl : ls.size = nL) (hW : (rest.map fun v => v.category).sum ≤ 8) (hRf : 1 + 1 ≤ R.frames) (hRl : 43 ≤ R.locals) (hdg : decode cc pc = .ok (.invokevirtual 174, 3)) (kk : ∀ (H1 : Heap) (locs1 : List Loc) (cells1 slots1 : Nat), XSt D s h0 h H1 locs1 cells1 slots1 → W p l e R s m args below meth c H1 locs1 cells1 slots1 Q (F0 m (pc + 3) ls (.int x :: rest))) : W p l e R s m args below meth c H locs cells slots Q (F0 m pc ls (.int b0 :: rv a :: rest)) := by
  have q := ht
  exact X_callV hC hX (by rw [q]; decide) (by rw [q]; rfl) (As := [.int b0]) (m_X0_isPath l D a b0 h _ hcF) (cwV 1 hC.2.2.2.2.1 (lw_V q1608 q1610 qs42 q125 q1611) rfl rfl rfl (by decide +kernel) ⟨Nat.le_trans (Nat.le_of_ble_eq_true rfl) hRf, Nat.le_trans (Nat.le_of_ble_eq_true rfl) hRl⟩) rfl rfl hl hW hdg kk
theorem iX_X0_166 {p : Program} {l : Launch} {e : Env} {R : Room} {s : State} {m : MethodId} {args : Array Value} {below : List Frame} {meth : Method} {c : Code} {H : Heap} {locs : List Loc} {cells slots nL : Nat} {Q : State → Prop} {D : XD} {h0 h : TH} {cc : ByteArray} {pc : Nat} {ls : Array Slot} {rest : List Value} (hC : XCx D cc nL RX0 h0 p R s m args meth c) (hX : XSt D s h0 h H locs cells slots) {a : Nat} {b0 : Int32} {x : Int32} (ht : hT h a = 1) (hcF : F_X0_isInput D.2.2.2 h a b0 = some x) (hl : ls.size = nL) (hW : (rest.map fun v => v.category).sum ≤ 8) (hRf : 1 + 1 ≤ R.frames) (hRl : 43 ≤ R.locals) (hdg : decode cc pc = .ok (.invokevirtual 166, 3)) (kk : ∀ (H1 : Heap) (locs1 : List Loc) (cells1 slots1 : Nat), XSt D s h0 h H1 locs1 cells1 slots1 → W p l e R s m args below meth c H1 locs1 cells1 slots1 Q (F0 m (pc + 3) ls (.int x :: rest))) : W p l e R s m args below meth c H locs cells slots Q (F0 m pc ls (.int b0 :: rv a :: rest)) := by
  have q := ht
  exact X_callV hC hX (by rw [q]; decide) (by rw [q]; rfl) (As := [.int b0]) (m_X0_isInput l D a b0 h _ hcF) (cwV 1 hC.2.2.2.2.1 (lw_V q1591 q1593 qs41 q125 q1594) rfl rfl rfl (by decide +kernel) ⟨Nat.le_trans (Nat.le_of_ble_eq_true rfl) hRf, Nat.le_trans (Nat.le_of_ble_eq_true rfl) hRl⟩) rfl rfl hl hW hdg kk
theorem gX_X0_196 {p : Program} {l : Launch} {e : Env} {R : Room} {s : State} {m : MethodId} {args : Array Value} {below : List Frame} {meth : Method} {c : Code} {H : Heap} {locs : List Loc} {cells slots nL : Nat} {Q : State → Prop} {D : XD} {h0 h : TH} {cc : ByteArray} {pc : Nat} {ls : Array Slot} {rest : List Value} (hC : XCx D cc nL RX0 h0 p R s m args meth c) (hX : XSt D s h0 h H locs cells slots) {a : Nat} (hf : hasF (hT h a) 52 = true) (hdg : decode cc pc = .ok (.getfield 196, 3)) (kk : W p l e R s m args below meth c H locs cells slots Q (F0 m (pc + 3) ls (rv (hR h 52 a) :: rest))) : W p l e R s m args below meth c H locs cells slots Q (F0 m pc ls (rv a :: rest)) :=
  X_getr hC hX 52 hf rfl (fun q => absurd q (by decide)) q274 (fun _ h => h) hdg kk
/-! BlindCards.ends -/
def F_X0_ends (K : Nat → Nat) (h : TH) (a0 : Nat) (b0 : Int32) (b1 : Int32) : Option Int32 :=
  gd (hasF (hT h a0) 8 = true) <|
  lt (hR h 8 a0) fun r_2 =>
  gd (hasF (hT h r_2) 57 = true) <|
  if (hI h 57 r_2) = 0 then
    gd (hT h a0 = 1) <|
    bd (F_X0_isPath K h a0 b0) fun r_7 =>
    if r_7 = 0 then
      some (-1 : Int32)
    else
      gd (hT h a0 = 1) <|
      bd (F_X0_isInput K h a0 b1) fun r_11 =>
      if r_11 = 0 then
        some (-1 : Int32)
      else
        gd (hasF (hT h a0) 8 = true) <|
        lt (hR h 8 a0) fun r_14 =>
        gd (hasF (hT h r_14) 52 = true) <|
        lt (hR h 52 r_14) fun r_16 =>
        gd (hT h r_16 = 31 ∨ hT h r_16 = 43) <|
        gd (inb (((8 : Int32) * b0) + b1) (hN h r_16)) <|
        some (hA h r_16 (Int32.toNatClampNeg (((8 : Int32) * b0) + b1)))
  else
    some (-2 : Int32)
set_option maxHeartbeats 4000000 in
theorem w_X0_ends {p : Program} {l : Launch} {e : Env} {s : State} {m : MethodId} {args : Array Value} {below : List Frame} {meth : Method} {c : Code} {D : XD} {h : TH} (hC : XCx D cX0_ends 3 RX0 h p (xRm 2 43 h) s m args meth c) (hr : meth.sig.returnType = some .int) (hnh : c.exceptionTable.isEmpty = true) (hin : meth.name = "ends") {x : Int32} :
    ∀ (a0 : Nat) (b0 : Int32) (b1 : Int32), F_X0_ends D.2.2.2 h a0 b0 b1 = some x → XJ p l e (xRm 2 43 h) s m args below meth c D 3 (.returned (some (.int x))) h h 0 [(0, rv a0), (1, .int b0), (2, .int b1)] [] h := by
  have hx := hC.1
  have hb := hC.2.1
  intro a0 b0 b1 hF H locs cells slots ls hX hl
  rw [F_X0_ends] at hF
  refine X_aload_n hx hb dX0_ends_0 rfl (lv_at hl 0 rfl) ?_
  obtain ⟨h_1, hF⟩ := gd_ok hF
  refine gX_X0_57 hC hX h_1 dX0_ends_1 ?_
  refine lv_topr (fun r_2 er_2 => ?_)
  replace hF := lt_at hF er_2
  obtain ⟨h_3, hF⟩ := gd_ok hF
  refine gX_X0_171 hC hX h_3 dX0_ends_4 ?_
  refine lv_if_eq (tgt := 15) hx hb dX0_ends_7 (by decide) (fun c_4 => ?_) (fun c_4 => ?_)
  · replace hF := it_t hF c_4
    refine X_aload_n hx hb dX0_ends_15 rfl (lv_at hl 0 rfl) ?_
    refine lv_iload_n hx hb dX0_ends_16 rfl (lv_at hl 1 rfl) ?_
    obtain ⟨h_5, hF⟩ := gd_ok hF
    obtain ⟨r_7, hc_6, hF⟩ := bd_ok hF
    refine iX_X0_174 hC hX h_5 hc_6 hl.1 (Nat.le_of_ble_eq_true rfl) (Nat.le_of_ble_eq_true rfl) (Nat.le_of_ble_eq_true rfl) dX0_ends_17 (fun H locs cells slots hX => ?_)
    refine lv_if_eq (tgt := 48) hx hb dX0_ends_20 (by decide) (fun c_8 => ?_) (fun c_8 => ?_)
    · replace hF := it_t hF c_8
      refine lv_iconst (v := -1) hx hb dX0_ends_48 (by decide) ?_
      exact x_reti hC hX hr rfl (Option.some.inj hF) rfl dX0_ends_49
    · replace hF := it_f hF c_8
      refine X_aload_n hx hb dX0_ends_23 rfl (lv_at hl 0 rfl) ?_
      refine lv_iload_n hx hb dX0_ends_24 rfl (lv_at hl 2 rfl) ?_
      obtain ⟨h_9, hF⟩ := gd_ok hF
      obtain ⟨r_11, hc_10, hF⟩ := bd_ok hF
      refine iX_X0_166 hC hX h_9 hc_10 hl.1 (Nat.le_of_ble_eq_true rfl) (Nat.le_of_ble_eq_true rfl) (Nat.le_of_ble_eq_true rfl) dX0_ends_25 (fun H locs cells slots hX => ?_)
      refine lv_if_eq (tgt := 48) hx hb dX0_ends_28 (by decide) (fun c_12 => ?_) (fun c_12 => ?_)
      · replace hF := it_t hF c_12
        refine lv_iconst (v := -1) hx hb dX0_ends_48 (by decide) ?_
        exact x_reti hC hX hr rfl (Option.some.inj hF) rfl dX0_ends_49
      · replace hF := it_f hF c_12
        refine X_aload_n hx hb dX0_ends_31 rfl (lv_at hl 0 rfl) ?_
        obtain ⟨h_13, hF⟩ := gd_ok hF
        refine gX_X0_57 hC hX h_13 dX0_ends_32 ?_
        refine lv_topr (fun r_14 er_14 => ?_)
        replace hF := lt_at hF er_14
        obtain ⟨h_15, hF⟩ := gd_ok hF
        refine gX_X0_196 hC hX h_15 dX0_ends_35 ?_
        refine lv_topr (fun r_16 er_16 => ?_)
        replace hF := lt_at hF er_16
        refine lv_bipush (v := 8) hx hb dX0_ends_38 (by decide) ?_
        refine lv_iload_n hx hb dX0_ends_40 rfl (lv_at hl 1 rfl) ?_
        refine lv_imul hx hb dX0_ends_41 ?_
        refine lv_iload_n hx hb dX0_ends_42 rfl (lv_at hl 2 rfl) ?_
        refine lv_iadd hx hb dX0_ends_43 ?_
        obtain ⟨h_17, hF⟩ := gd_ok hF
        obtain ⟨h_18, hF⟩ := gd_ok hF
        refine X_iald hC hX h_17 h_18 dX0_ends_44 ?_
        refine lv_goto (tgt := 49) hx hb dX0_ends_45 (by decide) ?_
        exact x_reti hC hX hr rfl (Option.some.inj hF) rfl dX0_ends_49
  · replace hF := it_f hF c_4
    refine lv_bipush (v := -2) hx hb dX0_ends_10 (by decide) ?_
    refine lv_goto (tgt := 49) hx hb dX0_ends_12 (by decide) ?_
    exact x_reti hC hX hr rfl (Option.some.inj hF) rfl dX0_ends_49
theorem m_X0_ends (l : Launch) (D : XD) (a0 : Nat) (b0 : Int32) (b1 : Int32) (h : TH) (x : Int32) (hF : F_X0_ends D.2.2.2 h a0 b0 b1 = some x) : XMt l yX0_ends (ws_ yX0_ends cX0_ends 3 (some .int)) 2 43 D [rv a0, .int b0, .int b1] h (.returned (some (.int x))) h := by
  refine x_met (by decide +kernel) ?_ ?_
  · simp [lg_sl, rv_cat, cat_i, cat_l]
  intro p e s m below meth c hC hr hnh hin ls hl hX
  replace hl : lv_has ls 3 [(0, rv a0), (1, .int b0), (2, .int b1)] := by simpa [lv_args, rv_cat, cat_i, cat_l] using hl
  exact w_X0_ends hC hr hnh hin a0 b0 b1 hF s.heap [] 0 0 ls hX hl
theorem gX_X0_48 {p : Program} {l : Launch} {e : Env} {R : Room} {s : State} {m : MethodId} {args : Array Value} {below : List Frame} {meth : Method} {c : Code} {H : Heap} {locs : List Loc} {cells slots nL : Nat} {Q : State → Prop} {D : XD} {h0 h : TH} {cc : ByteArray} {pc : Nat} {ls : Array Slot} {rest : List Value} (hC : XCx D cc nL RX0 h0 p R s m args meth c) (hX : XSt D s h0 h H locs cells slots) {a : Nat} (hf : hasF (hT h a) 6 = true) (hdg : decode cc pc = .ok (.getfield 48, 3)) (kk : W p l e R s m args below meth c H locs cells slots Q (F0 m (pc + 3) ls (.int (hI h 6 a) :: rest))) : W p l e R s m args below meth c H locs cells slots Q (F0 m pc ls (rv a :: rest)) :=
  X_geti hC hX 6 hf rfl q752 (fun _ h => h) hdg kk
theorem gX_X0_139 {p : Program} {l : Launch} {e : Env} {R : Room} {s : State} {m : MethodId} {args : Array Value} {below : List Frame} {meth : Method} {c : Code} {H : Heap} {locs : List Loc} {cells slots nL : Nat} {Q : State → Prop} {D : XD} {h0 h : TH} {cc : ByteArray} {pc : Nat} {ls : Array Slot} {rest : List Value} (hC : XCx D cc nL RX0 h0 p R s m args meth c) (hX : XSt D s h0 h H locs cells slots) {a : Nat} (hf : hasF (hT h a) 5 = true) (hdg : decode cc pc = .ok (.getfield 139, 3)) (kk : W p l e R s m args below meth c H locs cells slots Q (F0 m (pc + 3) ls (.int (hI h 5 a) :: rest))) : W p l e R s m args below meth c H locs cells slots Q (F0 m pc ls (rv a :: rest)) :=
  X_geti hC hX 5 hf rfl q751 (fun _ h => h) hdg kk
/-! BlindCards.fault -/
def F_X0_fault (K : Nat → Nat) (h : TH) (a0 : Nat) (b0 : Int32) : Option Int32 :=
  if b0 = 0 then
    gd (hasF (hT h a0) 5 = true) <|
    some (hI h 5 a0)
  else
    if b0 = (1 : Int32) then
      gd (hasF (hT h a0) 6 = true) <|
      some (hI h 6 a0)
    else
      some (-1 : Int32)
set_option maxHeartbeats 4000000 in
theorem w_X0_fault {p : Program} {l : Launch} {e : Env} {s : State} {m : MethodId} {args : Array Value} {below : List Frame} {meth : Method} {c : Code} {D : XD} {h : TH} (hC : XCx D cX0_fault 2 RX0 h p (xRm 0 0 h) s m args meth c) (hr : meth.sig.returnType = some .int) (hnh : c.exceptionTable.isEmpty = true) (hin : meth.name = "fault") {x : Int32} :
    ∀ (a0 : Nat) (b0 : Int32), F_X0_fault D.2.2.2 h a0 b0 = some x → XJ p l e (xRm 0 0 h) s m args below meth c D 2 (.returned (some (.int x))) h h 0 [(0, rv a0), (1, .int b0)] [] h := by
  have hx := hC.1
  have hb := hC.2.1
  intro a0 b0 hF H locs cells slots ls hX hl
  rw [F_X0_fault] at hF
  refine lv_iload_n hx hb dX0_fault_0 rfl (lv_at hl 1 rfl) ?_
  refine lv_if_ne (tgt := 11) hx hb dX0_fault_1 (by decide) (fun c_1 => ?_) (fun c_1 => ?_)
  · replace hF := it_f hF c_1
    refine lv_iload_n hx hb dX0_fault_11 rfl (lv_at hl 1 rfl) ?_
    refine lv_iconst (v := 1) hx hb dX0_fault_12 (by decide) ?_
    refine lv_icmp_ne (tgt := 23) hx hb dX0_fault_13 (by decide) (fun c_2 => ?_) (fun c_2 => ?_)
    · replace hF := it_f hF c_2
      refine lv_iconst (v := -1) hx hb dX0_fault_23 (by decide) ?_
      exact x_reti hC hX hr rfl (Option.some.inj hF) rfl dX0_fault_24
    · replace hF := it_t hF c_2
      refine X_aload_n hx hb dX0_fault_16 rfl (lv_at hl 0 rfl) ?_
      obtain ⟨h_3, hF⟩ := gd_ok hF
      refine gX_X0_48 hC hX h_3 dX0_fault_17 ?_
      refine lv_goto (tgt := 24) hx hb dX0_fault_20 (by decide) ?_
      exact x_reti hC hX hr rfl (Option.some.inj hF) rfl dX0_fault_24
  · replace hF := it_t hF c_1
    refine X_aload_n hx hb dX0_fault_4 rfl (lv_at hl 0 rfl) ?_
    obtain ⟨h_4, hF⟩ := gd_ok hF
    refine gX_X0_139 hC hX h_4 dX0_fault_5 ?_
    refine lv_goto (tgt := 24) hx hb dX0_fault_8 (by decide) ?_
    exact x_reti hC hX hr rfl (Option.some.inj hF) rfl dX0_fault_24
theorem m_X0_fault (l : Launch) (D : XD) (a0 : Nat) (b0 : Int32) (h : TH) (x : Int32) (hF : F_X0_fault D.2.2.2 h a0 b0 = some x) : XMt l yX0_fault (ws_ yX0_fault cX0_fault 2 (some .int)) 0 0 D [rv a0, .int b0] h (.returned (some (.int x))) h := by
  refine x_met (by decide +kernel) ?_ ?_
  · simp [lg_sl, rv_cat, cat_i, cat_l]
  intro p e s m below meth c hC hr hnh hin ls hl hX
  replace hl : lv_has ls 2 [(0, rv a0), (1, .int b0)] := by simpa [lv_args, rv_cat, cat_i, cat_l] using hl
  exact w_X0_fault hC hr hnh hin a0 b0 hF s.heap [] 0 0 ls hX hl
theorem gX_X0_44 {p : Program} {l : Launch} {e : Env} {R : Room} {s : State} {m : MethodId} {args : Array Value} {below : List Frame} {meth : Method} {c : Code} {H : Heap} {locs : List Loc} {cells slots nL : Nat} {Q : State → Prop} {D : XD} {h0 h : TH} {cc : ByteArray} {pc : Nat} {ls : Array Slot} {rest : List Value} (hC : XCx D cc nL RX0 h0 p R s m args meth c) (hX : XSt D s h0 h H locs cells slots) {a : Nat} (hf : hasF (hT h a) 3 = true) (hdg : decode cc pc = .ok (.getfield 44, 3)) (kk : W p l e R s m args below meth c H locs cells slots Q (F0 m (pc + 3) ls (rv (hR h 3 a) :: rest))) : W p l e R s m args below meth c H locs cells slots Q (F0 m pc ls (rv a :: rest)) :=
  X_getr hC hX 3 hf rfl (fun q => absurd q (by decide)) q748 (fun _ h => h) hdg kk
/-! BlindCards.feed -/
def F_X0_feed_b108 (K : Nat → Nat) (k54 : Nat → Nat → Int32 → Int32 → TH → Option (Int32 × TH)) (x0 : Nat) (x7 : Nat) (x8 : Int32) (x9 : Int32) (h : TH) : Option (Int32 × TH) :=
  lt (x9 + (1 : Int32)) fun x9_1 =>
  k54 x0 x7 x8 x9_1 h
set_option maxHeartbeats 4000000 in
theorem w_X0_feed_b108 {p : Program} {l : Launch} {e : Env} {s : State} {m : MethodId} {args : Array Value} {below : List Frame} {meth : Method} {c : Code} {D : XD} {h0 : TH} (hC : XCx D cX0_feed 12 RX0 h0 p (xRm 0 0 h0) s m args meth c) (hr : meth.sig.returnType = some .int) (hnh : c.exceptionTable.isEmpty = true) (hin : meth.name = "feed") {x : (Int32 × TH)} (k54 : Nat → Nat → Int32 → Int32 → TH → Option (Int32 × TH)) (hk54 : ∀ (x0 : Nat) (x7 : Nat) (x8 : Int32) (x9 : Int32) (h : TH), k54 x0 x7 x8 x9 h = some x → XJ p l e (xRm 0 0 h0) s m args below meth c D 12 (.returned (some (.int x.1))) h0 x.2 54 [(0, rv x0), (7, rv x7), (8, .int x8), (9, .int x9)] [] h) :
    ∀ (x0 : Nat) (x7 : Nat) (x8 : Int32) (x9 : Int32) (h : TH), F_X0_feed_b108 D.2.2.2 k54 x0 x7 x8 x9 h = some x → XJ p l e (xRm 0 0 h0) s m args below meth c D 12 (.returned (some (.int x.1))) h0 x.2 108 [(0, rv x0), (7, rv x7), (8, .int x8), (9, .int x9)] [] h := by
  have hx := hC.1
  have hb := hC.2.1
  intro x0 x7 x8 x9 h hF H locs cells slots ls hX hl
  rw [F_X0_feed_b108] at hF
  obtain ⟨x9_1, ex9_1, hF⟩ := lt_ok hF
  refine lv_iinc (v := x9_1) (lv' := [(9, .int x9_1), (0, rv x0), (7, rv x7), (8, .int x8)]) hx hb dX0_feed_108 hl (k := 3) rfl (by rw [ex9_1]; rfl) (by decide) rfl (fun ls hl => ?_)
  refine lv_goto (tgt := 54) hx hb dX0_feed_111 (by decide) ?_
  exact hk54 x0 x7 x8 x9_1 h hF H locs cells slots ls hX (lv_sub hl [1, 2, 3, 0] rfl)
def F_X0_feed_L72 (K : Nat → Nat) (k54 : Nat → Nat → Int32 → Int32 → TH → Option (Int32 × TH)) : Nat → Nat → Nat → Int32 → Int32 → Int32 → Int32 → TH → Option (Int32 × TH)
  | 0, _, _, _, _, _, _, _ => none
  | fu + 1, x0, x7, x8, x9, x10, x11, h =>
    if x11 < 0 then
      F_X0_feed_b108 K k54 x0 x7 x8 x9 h
    else
      gd (hasF (hT h x0) 3 = true) <|
      lt (hR h 3 x0) fun r_3 =>
      gd (hasF (hT h x0) 4 = true) <|
      gd (hT h r_3 = 32) <|
      gd (inb (hI h 4 x0) (hN h r_3)) <|
      lt (uA h r_3 (Int32.toNatClampNeg (hI h 4 x0)) (Int8.toInt32 (Int32.toInt8 (Int8.toInt32 (Int32.toInt8 (x10 >>> (x11 &&& 31))))))) fun h_7 =>
      gd (hasF (hT h_7 x0) 4 = true) <|
      gd (hasF (hT h_7 x0) 4 = true) <|
      gd (hT h_7 x0 ≤ 24) <|
      lt (uI h_7 4 x0 ((hI h_7 4 x0) + (1 : Int32))) fun h_11 =>
      lt (x11 + (-8 : Int32)) fun x11_12 =>
      F_X0_feed_L72 K k54 fu x0 x7 x8 x9 x10 x11_12 h_11
set_option maxHeartbeats 4000000 in
theorem w_X0_feed_L72 {p : Program} {l : Launch} {e : Env} {s : State} {m : MethodId} {args : Array Value} {below : List Frame} {meth : Method} {c : Code} {D : XD} {h0 : TH} (hC : XCx D cX0_feed 12 RX0 h0 p (xRm 0 0 h0) s m args meth c) (hr : meth.sig.returnType = some .int) (hnh : c.exceptionTable.isEmpty = true) (hin : meth.name = "feed") {x : (Int32 × TH)} (k54 : Nat → Nat → Int32 → Int32 → TH → Option (Int32 × TH)) (hk54 : ∀ (x0 : Nat) (x7 : Nat) (x8 : Int32) (x9 : Int32) (h : TH), k54 x0 x7 x8 x9 h = some x → XJ p l e (xRm 0 0 h0) s m args below meth c D 12 (.returned (some (.int x.1))) h0 x.2 54 [(0, rv x0), (7, rv x7), (8, .int x8), (9, .int x9)] [] h) :
    ∀ (fu : Nat) (x0 : Nat) (x7 : Nat) (x8 : Int32) (x9 : Int32) (x10 : Int32) (x11 : Int32) (h : TH), F_X0_feed_L72 D.2.2.2 k54 fu x0 x7 x8 x9 x10 x11 h = some x → XJ p l e (xRm 0 0 h0) s m args below meth c D 12 (.returned (some (.int x.1))) h0 x.2 72 [(0, rv x0), (7, rv x7), (8, .int x8), (9, .int x9), (10, .int x10), (11, .int x11)] [] h := by
  have hx := hC.1
  have hb := hC.2.1
  intro fu
  induction fu with
  | zero => intro x0 x7 x8 x9 x10 x11 h hF; exact nm_none hF
  | succ fu ih =>
    intro x0 x7 x8 x9 x10 x11 h hF H locs cells slots ls hX hl
    rw [F_X0_feed_L72] at hF
    refine lv_iload hx hb dX0_feed_72 (lv_at hl 5 rfl) ?_
    refine lv_if_lt (tgt := 108) hx hb dX0_feed_74 (by decide) (fun c_1 => ?_) (fun c_1 => ?_)
    · replace hF := it_t hF c_1
      exact w_X0_feed_b108 hC hr hnh hin k54 hk54 x0 x7 x8 x9 h hF H locs cells slots ls hX (lv_sub hl [0, 1, 2, 3] rfl)
    · replace hF := it_f hF c_1
      refine X_aload_n hx hb dX0_feed_77 rfl (lv_at hl 0 rfl) ?_
      obtain ⟨h_2, hF⟩ := gd_ok hF
      refine gX_X0_44 hC hX h_2 dX0_feed_78 ?_
      refine lv_topr (fun r_3 er_3 => ?_)
      replace hF := lt_at hF er_3
      refine X_aload_n hx hb dX0_feed_81 rfl (lv_at hl 0 rfl) ?_
      obtain ⟨h_4, hF⟩ := gd_ok hF
      refine gX_X0_117 hC hX h_4 dX0_feed_82 ?_
      refine lv_iload hx hb dX0_feed_85 (lv_at hl 4 rfl) ?_
      refine lv_iload hx hb dX0_feed_87 (lv_at hl 5 rfl) ?_
      refine lv_ishr hx hb dX0_feed_89 ?_
      refine lv_i2b hx hb dX0_feed_90 rfl ?_
      obtain ⟨h_5, hF⟩ := gd_ok hF
      obtain ⟨h_6, hF⟩ := gd_ok hF
      refine X_bast hC hX h_5 h_6 dX0_feed_91 (fun H locs hX => ?_)
      obtain ⟨h_7, eh_7, hF⟩ := lt_ok hF
      rw [← eh_7] at hX
      refine X_aload_n hx hb dX0_feed_92 rfl (lv_at hl 0 rfl) ?_
      refine lv_dup hx hb dX0_feed_93 (rv_cat _) ?_
      obtain ⟨h_8, hF⟩ := gd_ok hF
      refine gX_X0_117 hC hX h_8 dX0_feed_94 ?_
      refine lv_iconst (v := 1) hx hb dX0_feed_97 (by decide) ?_
      refine lv_iadd hx hb dX0_feed_98 ?_
      obtain ⟨h_9, hF⟩ := gd_ok hF
      obtain ⟨h_10, hF⟩ := gd_ok hF
      refine pX_X0_117 hC hX h_9 h_10 dX0_feed_99 (fun H locs hX => ?_)
      obtain ⟨h_11, eh_11, hF⟩ := lt_ok hF
      rw [← eh_11] at hX
      obtain ⟨x11_12, ex11_12, hF⟩ := lt_ok hF
      refine lv_iinc (v := x11_12) (lv' := [(11, .int x11_12), (0, rv x0), (7, rv x7), (8, .int x8), (9, .int x9), (10, .int x10)]) hx hb dX0_feed_102 hl (k := 5) rfl (by rw [ex11_12]; rfl) (by decide) rfl (fun ls hl => ?_)
      refine lv_goto (tgt := 72) hx hb dX0_feed_105 (by decide) ?_
      exact ih x0 x7 x8 x9 x10 x11_12 h_11 hF H locs cells slots ls hX (lv_sub hl [1, 2, 3, 4, 5, 0] rfl)
def F_X0_feed_L54 (K : Nat → Nat) : Nat → Nat → Nat → Int32 → Int32 → TH → Option (Int32 × TH)
  | 0, _, _, _, _, _ => none
  | fu + 1, x0, x7, x8, x9, h =>
    if x8 ≤ x9 then
      gd (hasF (hT h x0) 4 = true) <|
      some ((hI h 4 x0), h)
    else
      gd (hT h x7 = 31 ∨ hT h x7 = 43) <|
      gd (inb x9 (hN h x7)) <|
      lt ((hA h x7 (Int32.toNatClampNeg x9))) fun x_5 =>
      F_X0_feed_L72 K (F_X0_feed_L54 K fu) MN x0 x7 x8 x9 x_5 (24 : Int32) h
set_option maxHeartbeats 4000000 in
theorem w_X0_feed_L54 {p : Program} {l : Launch} {e : Env} {s : State} {m : MethodId} {args : Array Value} {below : List Frame} {meth : Method} {c : Code} {D : XD} {h0 : TH} (hC : XCx D cX0_feed 12 RX0 h0 p (xRm 0 0 h0) s m args meth c) (hr : meth.sig.returnType = some .int) (hnh : c.exceptionTable.isEmpty = true) (hin : meth.name = "feed") {x : (Int32 × TH)} :
    ∀ (fu : Nat) (x0 : Nat) (x7 : Nat) (x8 : Int32) (x9 : Int32) (h : TH), F_X0_feed_L54 D.2.2.2 fu x0 x7 x8 x9 h = some x → XJ p l e (xRm 0 0 h0) s m args below meth c D 12 (.returned (some (.int x.1))) h0 x.2 54 [(0, rv x0), (7, rv x7), (8, .int x8), (9, .int x9)] [] h := by
  have hx := hC.1
  have hb := hC.2.1
  intro fu
  induction fu with
  | zero => intro x0 x7 x8 x9 h hF; exact nm_none hF
  | succ fu ih =>
    intro x0 x7 x8 x9 h hF H locs cells slots ls hX hl
    rw [F_X0_feed_L54] at hF
    refine lv_iload hx hb dX0_feed_54 (lv_at hl 3 rfl) ?_
    refine lv_iload hx hb dX0_feed_56 (lv_at hl 2 rfl) ?_
    refine lv_icmp_ge (tgt := 114) hx hb dX0_feed_58 (by decide) (fun c_1 => ?_) (fun c_1 => ?_)
    · replace hF := it_t hF c_1
      refine X_aload_n hx hb dX0_feed_114 rfl (lv_at hl 0 rfl) ?_
      obtain ⟨h_2, hF⟩ := gd_ok hF
      refine gX_X0_117 hC hX h_2 dX0_feed_115 ?_
      exact x_reti hC hX hr rfl (rt1 hF) (rt2 hF) dX0_feed_118
    · replace hF := it_f hF c_1
      refine X_aload hx hb dX0_feed_61 (lv_at hl 1 rfl) ?_
      refine lv_iload hx hb dX0_feed_63 (lv_at hl 3 rfl) ?_
      obtain ⟨h_3, hF⟩ := gd_ok hF
      obtain ⟨h_4, hF⟩ := gd_ok hF
      refine X_iald hC hX h_3 h_4 dX0_feed_65 ?_
      refine lv_topi (fun x_5 ex_5 => ?_)
      replace hF := lt_at hF ex_5
      refine lv_istore (lv' := [(10, .int x_5), (0, rv x0), (7, rv x7), (8, .int x8), (9, .int x9)]) hx hb dX0_feed_66 hl (by decide) rfl (fun ls hl => ?_)
      refine lv_bipush (v := 24) hx hb dX0_feed_68 (by decide) ?_
      refine lv_istore (lv' := [(11, .int (24 : Int32)), (10, .int x_5), (0, rv x0), (7, rv x7), (8, .int x8), (9, .int x9)]) hx hb dX0_feed_70 hl (by decide) rfl (fun ls hl => ?_)
      exact w_X0_feed_L72 hC hr hnh hin (F_X0_feed_L54 D.2.2.2 fu) ih MN x0 x7 x8 x9 x_5 (24 : Int32) h hF H locs cells slots ls hX (lv_sub hl [2, 3, 4, 5, 1, 0] rfl)
def F_X0_feed (K : Nat → Nat) (a0 : Nat) (b0 : Int32) (b1 : Int32) (b2 : Int32) (b3 : Int32) (b4 : Int32) (h : TH) : Option (Int32 × TH) :=
  gd (hasF (hT h a0) 4 = true) <|
  if ((hI h 4 a0) + (20 : Int32)) ≤ (1600 : Int32) then
    gd (¬ (5 : Int32) < 0) <|
    gd (Int32.toNatClampNeg (5 : Int32) ≤ 67108864) <|
    gd (hc h + 1 ≤ XC ∧ hs h + Int32.toNatClampNeg (5 : Int32) ≤ XS) <|
    lt (hz h + 1) fun r_6 =>
    lt (nA h 31 (Int32.toNatClampNeg (5 : Int32))) fun h_7 =>
    gd (hT h_7 r_6 = 31) <|
    gd (inb (0 : Int32) (hN h_7 r_6)) <|
    lt (uA h_7 r_6 (Int32.toNatClampNeg (0 : Int32)) b0) fun h_10 =>
    gd (hT h_10 r_6 = 31) <|
    gd (inb (1 : Int32) (hN h_10 r_6)) <|
    lt (uA h_10 r_6 (Int32.toNatClampNeg (1 : Int32)) b1) fun h_13 =>
    gd (hT h_13 r_6 = 31) <|
    gd (inb (2 : Int32) (hN h_13 r_6)) <|
    lt (uA h_13 r_6 (Int32.toNatClampNeg (2 : Int32)) b2) fun h_16 =>
    gd (hT h_16 r_6 = 31) <|
    gd (inb (3 : Int32) (hN h_16 r_6)) <|
    lt (uA h_16 r_6 (Int32.toNatClampNeg (3 : Int32)) b3) fun h_19 =>
    gd (hT h_19 r_6 = 31) <|
    gd (inb (4 : Int32) (hN h_19 r_6)) <|
    lt (uA h_19 r_6 (Int32.toNatClampNeg (4 : Int32)) b4) fun h_22 =>
    gd (2 ≤ tkd (hT h_22 r_6)) <|
    lt ((Int32.ofNat (hN h_22 r_6))) fun x_24 =>
    F_X0_feed_L54 K MN a0 r_6 x_24 (0 : Int32) h_22
  else
    some ((-1 : Int32), h)
set_option maxHeartbeats 4000000 in
theorem w_X0_feed {p : Program} {l : Launch} {e : Env} {s : State} {m : MethodId} {args : Array Value} {below : List Frame} {meth : Method} {c : Code} {D : XD} {h0 : TH} (hC : XCx D cX0_feed 12 RX0 h0 p (xRm 0 0 h0) s m args meth c) (hr : meth.sig.returnType = some .int) (hnh : c.exceptionTable.isEmpty = true) (hin : meth.name = "feed") {x : (Int32 × TH)} :
    ∀ (a0 : Nat) (b0 : Int32) (b1 : Int32) (b2 : Int32) (b3 : Int32) (b4 : Int32) (h : TH), F_X0_feed D.2.2.2 a0 b0 b1 b2 b3 b4 h = some x → XJ p l e (xRm 0 0 h0) s m args below meth c D 12 (.returned (some (.int x.1))) h0 x.2 0 [(0, rv a0), (1, .int b0), (2, .int b1), (3, .int b2), (4, .int b3), (5, .int b4)] [] h := by
  have hx := hC.1
  have hb := hC.2.1
  intro a0 b0 b1 b2 b3 b4 h hF H locs cells slots ls hX hl
  rw [F_X0_feed] at hF
  refine X_aload_n hx hb dX0_feed_0 rfl (lv_at hl 0 rfl) ?_
  obtain ⟨h_1, hF⟩ := gd_ok hF
  refine gX_X0_117 hC hX h_1 dX0_feed_1 ?_
  refine lv_bipush (v := 20) hx hb dX0_feed_4 (by decide) ?_
  refine lv_iadd hx hb dX0_feed_6 ?_
  refine lv_sipush (v := 1600) hx hb dX0_feed_7 (by decide) ?_
  refine lv_icmp_le (tgt := 15) hx hb dX0_feed_10 (by decide) (fun c_2 => ?_) (fun c_2 => ?_)
  · replace hF := it_t hF c_2
    refine lv_iconst (v := 5) hx hb dX0_feed_15 (by decide) ?_
    obtain ⟨h_3, hF⟩ := gd_ok hF
    obtain ⟨h_4, hF⟩ := gd_ok hF
    obtain ⟨h_5, hF⟩ := gd_ok hF
    refine X_newa hC hX (atype := .int) 31 (Or.inl rfl) rfl q216 h_3 h_4 h_5 dX0_feed_16 (fun H cells slots hX => ?_)
    refine lv_topr (fun r_6 er_6 => ?_)
    replace hF := lt_at hF er_6
    obtain ⟨h_7, eh_7, hF⟩ := lt_ok hF
    rw [← eh_7] at hX
    refine lv_dup hx hb dX0_feed_18 (rv_cat _) ?_
    refine lv_iconst (v := 0) hx hb dX0_feed_19 (by decide) ?_
    refine lv_iload_n hx hb dX0_feed_20 rfl (lv_at hl 1 rfl) ?_
    obtain ⟨h_8, hF⟩ := gd_ok hF
    obtain ⟨h_9, hF⟩ := gd_ok hF
    refine X_iast hC hX h_8 h_9 dX0_feed_21 (fun H locs hX => ?_)
    obtain ⟨h_10, eh_10, hF⟩ := lt_ok hF
    rw [← eh_10] at hX
    refine lv_dup hx hb dX0_feed_22 (rv_cat _) ?_
    refine lv_iconst (v := 1) hx hb dX0_feed_23 (by decide) ?_
    refine lv_iload_n hx hb dX0_feed_24 rfl (lv_at hl 2 rfl) ?_
    obtain ⟨h_11, hF⟩ := gd_ok hF
    obtain ⟨h_12, hF⟩ := gd_ok hF
    refine X_iast hC hX h_11 h_12 dX0_feed_25 (fun H locs hX => ?_)
    obtain ⟨h_13, eh_13, hF⟩ := lt_ok hF
    rw [← eh_13] at hX
    refine lv_dup hx hb dX0_feed_26 (rv_cat _) ?_
    refine lv_iconst (v := 2) hx hb dX0_feed_27 (by decide) ?_
    refine lv_iload_n hx hb dX0_feed_28 rfl (lv_at hl 3 rfl) ?_
    obtain ⟨h_14, hF⟩ := gd_ok hF
    obtain ⟨h_15, hF⟩ := gd_ok hF
    refine X_iast hC hX h_14 h_15 dX0_feed_29 (fun H locs hX => ?_)
    obtain ⟨h_16, eh_16, hF⟩ := lt_ok hF
    rw [← eh_16] at hX
    refine lv_dup hx hb dX0_feed_30 (rv_cat _) ?_
    refine lv_iconst (v := 3) hx hb dX0_feed_31 (by decide) ?_
    refine lv_iload hx hb dX0_feed_32 (lv_at hl 4 rfl) ?_
    obtain ⟨h_17, hF⟩ := gd_ok hF
    obtain ⟨h_18, hF⟩ := gd_ok hF
    refine X_iast hC hX h_17 h_18 dX0_feed_34 (fun H locs hX => ?_)
    obtain ⟨h_19, eh_19, hF⟩ := lt_ok hF
    rw [← eh_19] at hX
    refine lv_dup hx hb dX0_feed_35 (rv_cat _) ?_
    refine lv_iconst (v := 4) hx hb dX0_feed_36 (by decide) ?_
    refine lv_iload hx hb dX0_feed_37 (lv_at hl 5 rfl) ?_
    obtain ⟨h_20, hF⟩ := gd_ok hF
    obtain ⟨h_21, hF⟩ := gd_ok hF
    refine X_iast hC hX h_20 h_21 dX0_feed_39 (fun H locs hX => ?_)
    obtain ⟨h_22, eh_22, hF⟩ := lt_ok hF
    rw [← eh_22] at hX
    refine X_astore (lv' := [(6, rv r_6), (0, rv a0), (1, .int b0), (2, .int b1), (3, .int b2), (4, .int b3), (5, .int b4)]) hx hb dX0_feed_40 hl (by decide) rfl (fun ls hl => ?_)
    refine X_aload hx hb dX0_feed_42 (lv_at hl 0 rfl) ?_
    refine X_astore (i := 7) hx hb dX0_feed_44 hl (by decide) rfl (fun ls hl => ?_)
    replace hl : lv_has ls 12 [(7, rv r_6), (6, rv r_6), (0, rv a0), (1, .int b0), (2, .int b1), (3, .int b2), (4, .int b3), (5, .int b4)] := lv_subS hl (List.forall_mem_cons.mpr ⟨Or.inl rfl, (List.forall_mem_cons.mpr ⟨Or.inr ⟨List.mem_of_getElem? (i := 0) rfl, by simp [rv_cat]⟩, (List.forall_mem_cons.mpr ⟨Or.inr ⟨List.mem_of_getElem? (i := 1) rfl, rfl⟩, (List.forall_mem_cons.mpr ⟨Or.inr ⟨List.mem_of_getElem? (i := 2) rfl, rfl⟩, (List.forall_mem_cons.mpr ⟨Or.inr ⟨List.mem_of_getElem? (i := 3) rfl, rfl⟩, (List.forall_mem_cons.mpr ⟨Or.inr ⟨List.mem_of_getElem? (i := 4) rfl, rfl⟩, (List.forall_mem_cons.mpr ⟨Or.inr ⟨List.mem_of_getElem? (i := 5) rfl, rfl⟩, (List.forall_mem_cons.mpr ⟨Or.inr ⟨List.mem_of_getElem? (i := 6) rfl, rfl⟩, (fun _ h => nomatch h)⟩)⟩)⟩)⟩)⟩)⟩)⟩)⟩)
    refine X_aload hx hb dX0_feed_46 (lv_at hl 0 rfl) ?_
    obtain ⟨h_23, hF⟩ := gd_ok hF
    refine X_alen hC hX h_23 dX0_feed_48 ?_
    refine lv_topi (fun x_24 ex_24 => ?_)
    replace hF := lt_at hF ex_24
    refine lv_istore (i := 8) hx hb dX0_feed_49 hl (by decide) rfl (fun ls hl => ?_)
    replace hl : lv_has ls 12 [(8, .int x_24), (7, rv r_6), (6, rv r_6), (0, rv a0), (1, .int b0), (2, .int b1), (3, .int b2), (4, .int b3), (5, .int b4)] := lv_subS hl (List.forall_mem_cons.mpr ⟨Or.inl rfl, (List.forall_mem_cons.mpr ⟨Or.inr ⟨List.mem_of_getElem? (i := 0) rfl, by simp [rv_cat]⟩, (List.forall_mem_cons.mpr ⟨Or.inr ⟨List.mem_of_getElem? (i := 1) rfl, rfl⟩, (List.forall_mem_cons.mpr ⟨Or.inr ⟨List.mem_of_getElem? (i := 2) rfl, rfl⟩, (List.forall_mem_cons.mpr ⟨Or.inr ⟨List.mem_of_getElem? (i := 3) rfl, rfl⟩, (List.forall_mem_cons.mpr ⟨Or.inr ⟨List.mem_of_getElem? (i := 4) rfl, rfl⟩, (List.forall_mem_cons.mpr ⟨Or.inr ⟨List.mem_of_getElem? (i := 5) rfl, rfl⟩, (List.forall_mem_cons.mpr ⟨Or.inr ⟨List.mem_of_getElem? (i := 6) rfl, rfl⟩, (List.forall_mem_cons.mpr ⟨Or.inr ⟨List.mem_of_getElem? (i := 7) rfl, rfl⟩, (fun _ h => nomatch h)⟩)⟩)⟩)⟩)⟩)⟩)⟩)⟩)⟩)
    refine lv_iconst (v := 0) hx hb dX0_feed_51 (by decide) ?_
    refine lv_istore (lv' := [(9, .int (0 : Int32)), (8, .int x_24), (7, rv r_6), (6, rv r_6), (0, rv a0), (1, .int b0), (2, .int b1), (3, .int b2), (4, .int b3), (5, .int b4)]) hx hb dX0_feed_52 hl (by decide) rfl (fun ls hl => ?_)
    exact w_X0_feed_L54 hC hr hnh hin MN a0 r_6 x_24 (0 : Int32) h_22 hF H locs cells slots ls hX (lv_sub hl [4, 2, 1, 0] rfl)
  · replace hF := it_f hF c_2
    refine lv_iconst (v := -1) hx hb dX0_feed_13 (by decide) ?_
    exact x_reti hC hX hr rfl (rt1 hF) (rt2 hF) dX0_feed_14
theorem m_X0_feed (l : Launch) (D : XD) (a0 : Nat) (b0 : Int32) (b1 : Int32) (b2 : Int32) (b3 : Int32) (b4 : Int32) (h : TH) (x : (Int32 × TH)) (hF : F_X0_feed D.2.2.2 a0 b0 b1 b2 b3 b4 h = some x) : XMt l yX0_feed (ws_ yX0_feed cX0_feed 12 (some .int)) 0 0 D [rv a0, .int b0, .int b1, .int b2, .int b3, .int b4] h (.returned (some (.int x.1))) x.2 := by
  refine x_met (by decide +kernel) ?_ ?_
  · simp [lg_sl, rv_cat, cat_i, cat_l]
  intro p e s m below meth c hC hr hnh hin ls hl hX
  replace hl : lv_has ls 12 [(0, rv a0), (1, .int b0), (2, .int b1), (3, .int b2), (4, .int b3), (5, .int b4)] := by simpa [lv_args, rv_cat, cat_i, cat_l] using hl
  exact w_X0_feed hC hr hnh hin a0 b0 b1 b2 b3 b4 h hF s.heap [] 0 0 ls hX hl
theorem pX_X0_329 {p : Program} {l : Launch} {e : Env} {R : Room} {s : State} {m : MethodId} {args : Array Value} {below : List Frame} {meth : Method} {c : Code} {H : Heap} {locs : List Loc} {cells slots nL : Nat} {Q : State → Prop} {D : XD} {h0 h : TH} {cc : ByteArray} {pc : Nat} {ls : Array Slot} {rest : List Value} (hC : XCx D cc nL RX0 h0 p R s m args meth c) (hX : XSt D s h0 h H locs cells slots) {a : Nat} {v : Int32} (hf : hasF (hT h a) 12 = true) (hw : hT h a ≤ 24) (hdg : decode cc pc = .ok (.putfield 329, 3)) (kk : ∀ (H1 : Heap) (locs1 : List Loc), XSt D s h0 (uI h 12 a v) H1 locs1 cells slots → W p l e R s m args below meth c H1 locs1 cells slots Q (F0 m (pc + 3) ls rest)) : W p l e R s m args below meth c H locs cells slots Q (F0 m pc ls (.int v :: rv a :: rest)) :=
  X_puti hC hX 12 hf hw rfl rfl q762 (fun _ h => h) ⟨rfl, rfl⟩ hdg kk
/-! BlindCards.later -/
def F_X0_later (K : Nat → Nat) (a0 : Nat) (b0 : Int32) (h : TH) : Option (Int32 × TH) :=
  if b0 < 0 then
    some ((-1 : Int32), h)
  else
    if (1000 : Int32) < b0 then
      some ((-1 : Int32), h)
    else
      gd (hasF (hT h a0) 12 = true) <|
      if ((hI h 12 a0) + b0) ≤ (100000 : Int32) then
        gd (hasF (hT h a0) 12 = true) <|
        gd (hasF (hT h a0) 12 = true) <|
        gd (hT h a0 ≤ 24) <|
        lt (uI h 12 a0 ((hI h 12 a0) + b0)) fun h_8 =>
        gd (hasF (hT h_8 a0) 12 = true) <|
        some ((hI h_8 12 a0), h_8)
      else
        some ((-1 : Int32), h)
set_option maxHeartbeats 4000000 in
theorem w_X0_later {p : Program} {l : Launch} {e : Env} {s : State} {m : MethodId} {args : Array Value} {below : List Frame} {meth : Method} {c : Code} {D : XD} {h0 : TH} (hC : XCx D cX0_later 2 RX0 h0 p (xRm 0 0 h0) s m args meth c) (hr : meth.sig.returnType = some .int) (hnh : c.exceptionTable.isEmpty = true) (hin : meth.name = "later") {x : (Int32 × TH)} :
    ∀ (a0 : Nat) (b0 : Int32) (h : TH), F_X0_later D.2.2.2 a0 b0 h = some x → XJ p l e (xRm 0 0 h0) s m args below meth c D 2 (.returned (some (.int x.1))) h0 x.2 0 [(0, rv a0), (1, .int b0)] [] h := by
  have hx := hC.1
  have hb := hC.2.1
  intro a0 b0 h hF H locs cells slots ls hX hl
  rw [F_X0_later] at hF
  refine lv_iload_n hx hb dX0_later_0 rfl (lv_at hl 1 rfl) ?_
  refine lv_if_lt (tgt := 23) hx hb dX0_later_1 (by decide) (fun c_1 => ?_) (fun c_1 => ?_)
  · replace hF := it_t hF c_1
    refine lv_iconst (v := -1) hx hb dX0_later_23 (by decide) ?_
    exact x_reti hC hX hr rfl (rt1 hF) (rt2 hF) dX0_later_24
  · replace hF := it_f hF c_1
    refine lv_iload_n hx hb dX0_later_4 rfl (lv_at hl 1 rfl) ?_
    refine lv_sipush (v := 1000) hx hb dX0_later_5 (by decide) ?_
    refine lv_icmp_gt (tgt := 23) hx hb dX0_later_8 (by decide) (fun c_2 => ?_) (fun c_2 => ?_)
    · replace hF := it_t hF c_2
      refine lv_iconst (v := -1) hx hb dX0_later_23 (by decide) ?_
      exact x_reti hC hX hr rfl (rt1 hF) (rt2 hF) dX0_later_24
    · replace hF := it_f hF c_2
      refine X_aload_n hx hb dX0_later_11 rfl (lv_at hl 0 rfl) ?_
      obtain ⟨h_3, hF⟩ := gd_ok hF
      refine gX_X0_329 hC hX h_3 dX0_later_12 ?_
      refine lv_iload_n hx hb dX0_later_15 rfl (lv_at hl 1 rfl) ?_
      refine lv_iadd hx hb dX0_later_16 ?_
      refine lv_ldcw (v := 100000) hx hb hC.2.2.2.1 (hC.2.2.2.2.1 _ q1774) dX0_later_17 ?_
      refine lv_icmp_le (tgt := 25) hx hb dX0_later_20 (by decide) (fun c_4 => ?_) (fun c_4 => ?_)
      · replace hF := it_t hF c_4
        refine X_aload_n hx hb dX0_later_25 rfl (lv_at hl 0 rfl) ?_
        refine lv_dup hx hb dX0_later_26 (rv_cat _) ?_
        obtain ⟨h_5, hF⟩ := gd_ok hF
        refine gX_X0_329 hC hX h_5 dX0_later_27 ?_
        refine lv_iload_n hx hb dX0_later_30 rfl (lv_at hl 1 rfl) ?_
        refine lv_iadd hx hb dX0_later_31 ?_
        obtain ⟨h_6, hF⟩ := gd_ok hF
        obtain ⟨h_7, hF⟩ := gd_ok hF
        refine pX_X0_329 hC hX h_6 h_7 dX0_later_32 (fun H locs hX => ?_)
        obtain ⟨h_8, eh_8, hF⟩ := lt_ok hF
        rw [← eh_8] at hX
        refine X_aload_n hx hb dX0_later_35 rfl (lv_at hl 0 rfl) ?_
        obtain ⟨h_9, hF⟩ := gd_ok hF
        refine gX_X0_329 hC hX h_9 dX0_later_36 ?_
        exact x_reti hC hX hr rfl (rt1 hF) (rt2 hF) dX0_later_39
      · replace hF := it_f hF c_4
        refine lv_iconst (v := -1) hx hb dX0_later_23 (by decide) ?_
        exact x_reti hC hX hr rfl (rt1 hF) (rt2 hF) dX0_later_24
theorem m_X0_later (l : Launch) (D : XD) (a0 : Nat) (b0 : Int32) (h : TH) (x : (Int32 × TH)) (hF : F_X0_later D.2.2.2 a0 b0 h = some x) : XMt l yX0_later (ws_ yX0_later cX0_later 2 (some .int)) 0 0 D [rv a0, .int b0] h (.returned (some (.int x.1))) x.2 := by
  refine x_met (by decide +kernel) ?_ ?_
  · simp [lg_sl, rv_cat, cat_i, cat_l]
  intro p e s m below meth c hC hr hnh hin ls hl hX
  replace hl : lv_has ls 2 [(0, rv a0), (1, .int b0)] := by simpa [lv_args, rv_cat, cat_i, cat_l] using hl
  exact w_X0_later hC hr hnh hin a0 b0 h hF s.heap [] 0 0 ls hX hl
theorem gX_X0_177 {p : Program} {l : Launch} {e : Env} {R : Room} {s : State} {m : MethodId} {args : Array Value} {below : List Frame} {meth : Method} {c : Code} {H : Heap} {locs : List Loc} {cells slots nL : Nat} {Q : State → Prop} {D : XD} {h0 h : TH} {cc : ByteArray} {pc : Nat} {ls : Array Slot} {rest : List Value} (hC : XCx D cc nL RX0 h0 p R s m args meth c) (hX : XSt D s h0 h H locs cells slots) {a : Nat} (hf : hasF (hT h a) 51 = true) (hdg : decode cc pc = .ok (.getfield 177, 3)) (kk : W p l e R s m args below meth c H locs cells slots Q (F0 m (pc + 3) ls (rv (hR h 51 a) :: rest))) : W p l e R s m args below meth c H locs cells slots Q (F0 m pc ls (rv a :: rest)) :=
  X_getr hC hX 51 hf rfl (fun q => absurd q (by decide)) q272 (fun _ h => h) hdg kk
theorem gX_X0_179 {p : Program} {l : Launch} {e : Env} {R : Room} {s : State} {m : MethodId} {args : Array Value} {below : List Frame} {meth : Method} {c : Code} {H : Heap} {locs : List Loc} {cells slots nL : Nat} {Q : State → Prop} {D : XD} {h0 h : TH} {cc : ByteArray} {pc : Nat} {ls : Array Slot} {rest : List Value} (hC : XCx D cc nL RX0 h0 p R s m args meth c) (hX : XSt D s h0 h H locs cells slots) {a : Nat} (hf : hasF (hT h a) 50 = true) (hdg : decode cc pc = .ok (.getfield 179, 3)) (kk : W p l e R s m args below meth c H locs cells slots Q (F0 m (pc + 3) ls (rv (hR h 50 a) :: rest))) : W p l e R s m args below meth c H locs cells slots Q (F0 m pc ls (rv a :: rest)) :=
  X_getr hC hX 50 hf rfl (fun q => absurd q (by decide)) q270 (fun _ h => h) hdg kk
/-! BlindCards.look -/
def F_X0_look (K : Nat → Nat) (h : TH) (a0 : Nat) (b0 : Int32) (b1 : Int32) : Option Int32 :=
  gd (hasF (hT h a0) 8 = true) <|
  lt (hR h 8 a0) fun r_2 =>
  gd (hasF (hT h r_2) 57 = true) <|
  if (hI h 57 r_2) = 0 then
    gd (hT h a0 = 1) <|
    bd (F_X0_isPath K h a0 b0) fun r_7 =>
    if r_7 = 0 then
      some (-1 : Int32)
    else
      gd (hasF (hT h a0) 8 = true) <|
      lt (hR h 8 a0) fun r_10 =>
      gd (hasF (hT h r_10) 51 = true) <|
      lt (hR h 51 r_10) fun r_12 =>
      gd (hT h r_12 = 31 ∨ hT h r_12 = 43) <|
      gd (inb b0 (hN h r_12)) <|
      bd (F_X0_isIn K h b1 (0 : Int32) ((hA h r_12 (Int32.toNatClampNeg b0)) - (1 : Int32))) fun r_16 =>
      if r_16 = 0 then
        some (-1 : Int32)
      else
        gd (hasF (hT h a0) 8 = true) <|
        lt (hR h 8 a0) fun r_19 =>
        gd (hasF (hT h r_19) 50 = true) <|
        lt (hR h 50 r_19) fun r_21 =>
        gd (hT h r_21 = 31 ∨ hT h r_21 = 43) <|
        gd (inb (((6 : Int32) * b0) + b1) (hN h r_21)) <|
        some (hA h r_21 (Int32.toNatClampNeg (((6 : Int32) * b0) + b1)))
  else
    some (-2 : Int32)
set_option maxHeartbeats 4000000 in
theorem w_X0_look {p : Program} {l : Launch} {e : Env} {s : State} {m : MethodId} {args : Array Value} {below : List Frame} {meth : Method} {c : Code} {D : XD} {h : TH} (hC : XCx D cX0_look 3 RX0 h p (xRm 2 43 h) s m args meth c) (hr : meth.sig.returnType = some .int) (hnh : c.exceptionTable.isEmpty = true) (hin : meth.name = "look") {x : Int32} :
    ∀ (a0 : Nat) (b0 : Int32) (b1 : Int32), F_X0_look D.2.2.2 h a0 b0 b1 = some x → XJ p l e (xRm 2 43 h) s m args below meth c D 3 (.returned (some (.int x))) h h 0 [(0, rv a0), (1, .int b0), (2, .int b1)] [] h := by
  have hx := hC.1
  have hb := hC.2.1
  intro a0 b0 b1 hF H locs cells slots ls hX hl
  rw [F_X0_look] at hF
  refine X_aload_n hx hb dX0_look_0 rfl (lv_at hl 0 rfl) ?_
  obtain ⟨h_1, hF⟩ := gd_ok hF
  refine gX_X0_57 hC hX h_1 dX0_look_1 ?_
  refine lv_topr (fun r_2 er_2 => ?_)
  replace hF := lt_at hF er_2
  obtain ⟨h_3, hF⟩ := gd_ok hF
  refine gX_X0_171 hC hX h_3 dX0_look_4 ?_
  refine lv_if_eq (tgt := 15) hx hb dX0_look_7 (by decide) (fun c_4 => ?_) (fun c_4 => ?_)
  · replace hF := it_t hF c_4
    refine X_aload_n hx hb dX0_look_15 rfl (lv_at hl 0 rfl) ?_
    refine lv_iload_n hx hb dX0_look_16 rfl (lv_at hl 1 rfl) ?_
    obtain ⟨h_5, hF⟩ := gd_ok hF
    obtain ⟨r_7, hc_6, hF⟩ := bd_ok hF
    refine iX_X0_174 hC hX h_5 hc_6 hl.1 (Nat.le_of_ble_eq_true rfl) (Nat.le_of_ble_eq_true rfl) (Nat.le_of_ble_eq_true rfl) dX0_look_17 (fun H locs cells slots hX => ?_)
    refine lv_if_eq (tgt := 59) hx hb dX0_look_20 (by decide) (fun c_8 => ?_) (fun c_8 => ?_)
    · replace hF := it_t hF c_8
      refine lv_iconst (v := -1) hx hb dX0_look_59 (by decide) ?_
      exact x_reti hC hX hr rfl (Option.some.inj hF) rfl dX0_look_60
    · replace hF := it_f hF c_8
      refine lv_iload_n hx hb dX0_look_23 rfl (lv_at hl 2 rfl) ?_
      refine lv_iconst (v := 0) hx hb dX0_look_24 (by decide) ?_
      refine X_aload_n hx hb dX0_look_25 rfl (lv_at hl 0 rfl) ?_
      obtain ⟨h_9, hF⟩ := gd_ok hF
      refine gX_X0_57 hC hX h_9 dX0_look_26 ?_
      refine lv_topr (fun r_10 er_10 => ?_)
      replace hF := lt_at hF er_10
      obtain ⟨h_11, hF⟩ := gd_ok hF
      refine gX_X0_177 hC hX h_11 dX0_look_29 ?_
      refine lv_topr (fun r_12 er_12 => ?_)
      replace hF := lt_at hF er_12
      refine lv_iload_n hx hb dX0_look_32 rfl (lv_at hl 1 rfl) ?_
      obtain ⟨h_13, hF⟩ := gd_ok hF
      obtain ⟨h_14, hF⟩ := gd_ok hF
      refine X_iald hC hX h_13 h_14 dX0_look_33 ?_
      refine lv_iconst (v := 1) hx hb dX0_look_34 (by decide) ?_
      refine lv_isub hx hb dX0_look_35 ?_
      obtain ⟨r_16, hc_15, hF⟩ := bd_ok hF
      refine iX_X0_155 hC hX hc_15 hl.1 (Nat.le_of_ble_eq_true rfl) (Nat.le_of_ble_eq_true rfl) (Nat.le_of_ble_eq_true rfl) dX0_look_36 (fun H locs cells slots hX => ?_)
      refine lv_if_eq (tgt := 59) hx hb dX0_look_39 (by decide) (fun c_17 => ?_) (fun c_17 => ?_)
      · replace hF := it_t hF c_17
        refine lv_iconst (v := -1) hx hb dX0_look_59 (by decide) ?_
        exact x_reti hC hX hr rfl (Option.some.inj hF) rfl dX0_look_60
      · replace hF := it_f hF c_17
        refine X_aload_n hx hb dX0_look_42 rfl (lv_at hl 0 rfl) ?_
        obtain ⟨h_18, hF⟩ := gd_ok hF
        refine gX_X0_57 hC hX h_18 dX0_look_43 ?_
        refine lv_topr (fun r_19 er_19 => ?_)
        replace hF := lt_at hF er_19
        obtain ⟨h_20, hF⟩ := gd_ok hF
        refine gX_X0_179 hC hX h_20 dX0_look_46 ?_
        refine lv_topr (fun r_21 er_21 => ?_)
        replace hF := lt_at hF er_21
        refine lv_bipush (v := 6) hx hb dX0_look_49 (by decide) ?_
        refine lv_iload_n hx hb dX0_look_51 rfl (lv_at hl 1 rfl) ?_
        refine lv_imul hx hb dX0_look_52 ?_
        refine lv_iload_n hx hb dX0_look_53 rfl (lv_at hl 2 rfl) ?_
        refine lv_iadd hx hb dX0_look_54 ?_
        obtain ⟨h_22, hF⟩ := gd_ok hF
        obtain ⟨h_23, hF⟩ := gd_ok hF
        refine X_iald hC hX h_22 h_23 dX0_look_55 ?_
        refine lv_goto (tgt := 60) hx hb dX0_look_56 (by decide) ?_
        exact x_reti hC hX hr rfl (Option.some.inj hF) rfl dX0_look_60
  · replace hF := it_f hF c_4
    refine lv_bipush (v := -2) hx hb dX0_look_10 (by decide) ?_
    refine lv_goto (tgt := 60) hx hb dX0_look_12 (by decide) ?_
    exact x_reti hC hX hr rfl (Option.some.inj hF) rfl dX0_look_60
theorem m_X0_look (l : Launch) (D : XD) (a0 : Nat) (b0 : Int32) (b1 : Int32) (h : TH) (x : Int32) (hF : F_X0_look D.2.2.2 h a0 b0 b1 = some x) : XMt l yX0_look (ws_ yX0_look cX0_look 3 (some .int)) 2 43 D [rv a0, .int b0, .int b1] h (.returned (some (.int x))) h := by
  refine x_met (by decide +kernel) ?_ ?_
  · simp [lg_sl, rv_cat, cat_i, cat_l]
  intro p e s m below meth c hC hr hnh hin ls hl hX
  replace hl : lv_has ls 3 [(0, rv a0), (1, .int b0), (2, .int b1)] := by simpa [lv_args, rv_cat, cat_i, cat_l] using hl
  exact w_X0_look hC hr hnh hin a0 b0 b1 hF s.heap [] 0 0 ls hX hl
theorem iX_X0_233 {p : Program} {l : Launch} {e : Env} {R : Room} {s : State} {m : MethodId} {args : Array Value} {below : List Frame} {meth : Method} {c : Code} {H : Heap} {locs : List Loc} {cells slots nL : Nat} {Q : State → Prop} {D : XD} {h0 h : TH} {cc : ByteArray} {pc : Nat} {ls : Array Slot} {rest : List Value} (hC : XCx D cc nL RX0 h0 p R s m args meth c) (hX : XSt D s h0 h H locs cells slots) {a : Nat} {x : Int32} (hcF : V_X7_ways D.2.2.2 h a = some x) (hl : ls.size = nL) (hW : (rest.map fun v => v.category).sum ≤ 8) (hRf : 0 + 1 ≤ R.frames) (hRl : 20 ≤ R.locals) (hdg : decode cc pc = .ok (.invokevirtual 233, 3)) (kk : ∀ (H1 : Heap) (locs1 : List Loc) (cells1 slots1 : Nat), XSt D s h0 h H1 locs1 cells1 slots1 → W p l e R s m args below meth c H1 locs1 cells1 slots1 Q (F0 m (pc + 3) ls (.int x :: rest))) : W p l e R s m args below meth c H locs cells slots Q (F0 m pc ls (rv a :: rest)) := by
  unfold V_X7_ways at hcF
  by_cases q : hT h a = 14
  · replace hcF := it_t hcF q
    exact X_callU hC hX (by rw [q]; decide) (by rw [q]; rfl) (As := []) (m_X16_ways l D a h _ hcF) (va_cwA 0 hC.2.2.2.2.1 (lw_U q1706 q557 q567 q568 q160 q569) rfl rfl rfl (xd2 hC.2.2.2.2.2.2.1) (by decide +kernel) ⟨Nat.le_trans (Nat.le_of_ble_eq_true rfl) hRf, Nat.le_trans (Nat.le_of_ble_eq_true rfl) hRl⟩) rfl rfl hl hW hdg kk
  replace hcF := it_f hcF q
  by_cases q : hT h a = 15 ∨ hT h a = 16
  · replace hcF := it_t hcF q
    rcases q with q | q
    · exact X_callU hC hX (by rw [q]; decide) (by rw [q]; rfl) (As := []) (m_X8_ways l D a h _ hcF) (va_cwA 0 hC.2.2.2.2.1 (lw_U q1706 q557 q561 q559 q142 q560) rfl rfl rfl (xd2 hC.2.2.2.2.2.2.1) (by decide +kernel) ⟨Nat.le_trans (Nat.le_of_ble_eq_true rfl) hRf, Nat.le_trans (Nat.le_of_ble_eq_true rfl) hRl⟩) rfl rfl hl hW hdg kk
    · exact X_callU hC hX (by rw [q]; decide) (by rw [q]; rfl) (As := []) (m_X8_ways l D a h _ hcF) (va_cwA 0 hC.2.2.2.2.1 (lw_U q1706 q557 q558 q559 q142 q560) rfl rfl rfl (xd2 hC.2.2.2.2.2.2.1) (by decide +kernel) ⟨Nat.le_trans (Nat.le_of_ble_eq_true rfl) hRf, Nat.le_trans (Nat.le_of_ble_eq_true rfl) hRl⟩) rfl rfl hl hW hdg kk
  replace hcF := it_f hcF q
  by_cases q : hT h a = 17
  · replace hcF := it_t hcF q
    exact X_callU hC hX (by rw [q]; decide) (by rw [q]; rfl) (As := []) (m_X9_ways l D a h _ hcF) (va_cwA 0 hC.2.2.2.2.1 (lw_U q1706 q557 q562 q563 q143 q564) rfl rfl rfl (xd2 hC.2.2.2.2.2.2.1) (by decide +kernel) ⟨Nat.le_trans (Nat.le_of_ble_eq_true rfl) hRf, Nat.le_trans (Nat.le_of_ble_eq_true rfl) hRl⟩) rfl rfl hl hW hdg kk
  replace hcF := it_f hcF q
  exact nm_none hcF
theorem iX_X0_237 {p : Program} {l : Launch} {e : Env} {R : Room} {s : State} {m : MethodId} {args : Array Value} {below : List Frame} {meth : Method} {c : Code} {H : Heap} {locs : List Loc} {cells slots nL : Nat} {Q : State → Prop} {D : XD} {h0 h : TH} {cc : ByteArray} {pc : Nat} {ls : Array Slot} {rest : List Value} (hC : XCx D cc nL RX0 h0 p R s m args meth c) (hX : XSt D s h0 h H locs cells slots) {a : Nat} {b0 : Int32} {b1 : Int32} {x : Int32} (ht : hT h a = 14 ∨ hT h a = 15 ∨ hT h a = 16 ∨ hT h a = 17) (hcF : F_X7_row D.2.2.2 h a b0 b1 = some x) (hl : ls.size = nL) (hW : (rest.map fun v => v.category).sum ≤ 8) (hRf : 3 + 1 ≤ R.frames) (hRl : 96 ≤ R.locals) (hdg : decode cc pc = .ok (.invokevirtual 237, 3)) (kk : ∀ (H1 : Heap) (locs1 : List Loc) (cells1 slots1 : Nat), XSt D s h0 h H1 locs1 cells1 slots1 → W p l e R s m args below meth c H1 locs1 cells1 slots1 Q (F0 m (pc + 3) ls (.int x :: rest))) : W p l e R s m args below meth c H locs cells slots Q (F0 m pc ls (.int b1 :: .int b0 :: rv a :: rest)) := by
  rcases ht with q | q | q | q
  · exact X_callU hC hX (by rw [q]; decide) (by rw [q]; rfl) (As := [.int b0, .int b1]) (m_X7_row l D a b0 b1 h _ hcF) (va_cwU 2 hC.2.2.2.2.1 (lw_U (owner := "BlindCards$Move") q1707 q597 q601 q596 q141 q602) rfl rfl rfl rfl (by decide +kernel) ⟨Nat.le_trans (Nat.le_of_ble_eq_true rfl) hRf, Nat.le_trans (Nat.le_of_ble_eq_true rfl) hRl⟩) rfl rfl hl hW hdg kk
  · exact X_callU hC hX (by rw [q]; decide) (by rw [q]; rfl) (As := [.int b0, .int b1]) (m_X7_row l D a b0 b1 h _ hcF) (va_cwU 2 hC.2.2.2.2.1 (lw_U (owner := "BlindCards$Move") q1707 q597 q599 q596 q141 q602) rfl rfl rfl rfl (by decide +kernel) ⟨Nat.le_trans (Nat.le_of_ble_eq_true rfl) hRf, Nat.le_trans (Nat.le_of_ble_eq_true rfl) hRl⟩) rfl rfl hl hW hdg kk
  · exact X_callU hC hX (by rw [q]; decide) (by rw [q]; rfl) (As := [.int b0, .int b1]) (m_X7_row l D a b0 b1 h _ hcF) (va_cwU 2 hC.2.2.2.2.1 (lw_U (owner := "BlindCards$Move") q1707 q597 q598 q596 q141 q602) rfl rfl rfl rfl (by decide +kernel) ⟨Nat.le_trans (Nat.le_of_ble_eq_true rfl) hRf, Nat.le_trans (Nat.le_of_ble_eq_true rfl) hRl⟩) rfl rfl hl hW hdg kk
  · exact X_callU hC hX (by rw [q]; decide) (by rw [q]; rfl) (As := [.int b0, .int b1]) (m_X7_row l D a b0 b1 h _ hcF) (va_cwU 2 hC.2.2.2.2.1 (lw_U (owner := "BlindCards$Move") q1707 q597 q600 q596 q141 q602) rfl rfl rfl rfl (by decide +kernel) ⟨Nat.le_trans (Nat.le_of_ble_eq_true rfl) hRf, Nat.le_trans (Nat.le_of_ble_eq_true rfl) hRl⟩) rfl rfl hl hW hdg kk
/-! BlindCards.moveOn -/
def F_X0_moveOn_b135 (K : Nat → Nat) (k28 : Nat → Int32 → Nat → Int32 → TH → Option TH) (x0 : Nat) (x1 : Int32) (x2 : Nat) (x3 : Int32) (h : TH) : Option TH :=
  lt (x3 + (1 : Int32)) fun x3_1 =>
  k28 x0 x1 x2 x3_1 h
set_option maxHeartbeats 4000000 in
theorem w_X0_moveOn_b135 {p : Program} {l : Launch} {e : Env} {s : State} {m : MethodId} {args : Array Value} {below : List Frame} {meth : Method} {c : Code} {D : XD} {h0 : TH} (hC : XCx D cX0_moveOn 6 RX0 h0 p (xRm 4 96 h0) s m args meth c) (hr : meth.sig.returnType = none) (hnh : c.exceptionTable.isEmpty = true) (hin : meth.name = "moveOn") {x : TH} (k28 : Nat → Int32 → Nat → Int32 → TH → Option TH) (hk28 : ∀ (x0 : Nat) (x1 : Int32) (x2 : Nat) (x3 : Int32) (h : TH), k28 x0 x1 x2 x3 h = some x → XJ p l e (xRm 4 96 h0) s m args below meth c D 6 (.returned none) h0 x 28 [(0, rv x0), (1, .int x1), (2, rv x2), (3, .int x3)] [] h) :
    ∀ (x0 : Nat) (x1 : Int32) (x2 : Nat) (x3 : Int32) (h : TH), F_X0_moveOn_b135 D.2.2.2 k28 x0 x1 x2 x3 h = some x → XJ p l e (xRm 4 96 h0) s m args below meth c D 6 (.returned none) h0 x 135 [(0, rv x0), (1, .int x1), (2, rv x2), (3, .int x3)] [] h := by
  have hx := hC.1
  have hb := hC.2.1
  intro x0 x1 x2 x3 h hF H locs cells slots ls hX hl
  rw [F_X0_moveOn_b135] at hF
  obtain ⟨x3_1, ex3_1, hF⟩ := lt_ok hF
  refine lv_iinc (v := x3_1) hx hb dX0_moveOn_135 hl (k := 3) rfl (by rw [ex3_1]; rfl) (by decide) rfl (fun ls hl => ?_)
  replace hl : lv_has ls 6 [(3, .int x3_1), (0, rv x0), (1, .int x1), (2, rv x2)] := lv_subS hl (List.forall_mem_cons.mpr ⟨Or.inl rfl, (List.forall_mem_cons.mpr ⟨Or.inr ⟨List.mem_of_getElem? (i := 0) rfl, rfl⟩, (List.forall_mem_cons.mpr ⟨Or.inr ⟨List.mem_of_getElem? (i := 1) rfl, rfl⟩, (List.forall_mem_cons.mpr ⟨Or.inr ⟨List.mem_of_getElem? (i := 2) rfl, by simp [rv_cat]⟩, (fun _ h => nomatch h)⟩)⟩)⟩)⟩)
  refine lv_goto (tgt := 28) hx hb dX0_moveOn_138 (by decide) ?_
  exact hk28 x0 x1 x2 x3_1 h hF H locs cells slots ls hX (lv_sub hl [1, 2, 3, 0] rfl)
def F_X0_moveOn_b129 (K : Nat → Nat) (k42 : Nat → Int32 → Nat → Int32 → Int32 → TH → Option TH) (x0 : Nat) (x1 : Int32) (x2 : Nat) (x3 : Int32) (x4 : Int32) (h : TH) : Option TH :=
  lt (x4 + (1 : Int32)) fun x4_1 =>
  k42 x0 x1 x2 x3 x4_1 h
set_option maxHeartbeats 4000000 in
theorem w_X0_moveOn_b129 {p : Program} {l : Launch} {e : Env} {s : State} {m : MethodId} {args : Array Value} {below : List Frame} {meth : Method} {c : Code} {D : XD} {h0 : TH} (hC : XCx D cX0_moveOn 6 RX0 h0 p (xRm 4 96 h0) s m args meth c) (hr : meth.sig.returnType = none) (hnh : c.exceptionTable.isEmpty = true) (hin : meth.name = "moveOn") {x : TH} (k42 : Nat → Int32 → Nat → Int32 → Int32 → TH → Option TH) (hk42 : ∀ (x0 : Nat) (x1 : Int32) (x2 : Nat) (x3 : Int32) (x4 : Int32) (h : TH), k42 x0 x1 x2 x3 x4 h = some x → XJ p l e (xRm 4 96 h0) s m args below meth c D 6 (.returned none) h0 x 42 [(0, rv x0), (1, .int x1), (2, rv x2), (3, .int x3), (4, .int x4)] [] h) :
    ∀ (x0 : Nat) (x1 : Int32) (x2 : Nat) (x3 : Int32) (x4 : Int32) (h : TH), F_X0_moveOn_b129 D.2.2.2 k42 x0 x1 x2 x3 x4 h = some x → XJ p l e (xRm 4 96 h0) s m args below meth c D 6 (.returned none) h0 x 129 [(0, rv x0), (1, .int x1), (2, rv x2), (3, .int x3), (4, .int x4)] [] h := by
  have hx := hC.1
  have hb := hC.2.1
  intro x0 x1 x2 x3 x4 h hF H locs cells slots ls hX hl
  rw [F_X0_moveOn_b129] at hF
  obtain ⟨x4_1, ex4_1, hF⟩ := lt_ok hF
  refine lv_iinc (v := x4_1) (lv' := [(4, .int x4_1), (0, rv x0), (1, .int x1), (2, rv x2), (3, .int x3)]) hx hb dX0_moveOn_129 hl (k := 4) rfl (by rw [ex4_1]; rfl) (by decide) rfl (fun ls hl => ?_)
  refine lv_goto (tgt := 42) hx hb dX0_moveOn_132 (by decide) ?_
  exact hk42 x0 x1 x2 x3 x4_1 h hF H locs cells slots ls hX (lv_sub hl [1, 2, 3, 4, 0] rfl)
def F_X0_moveOn_L73 (K : Nat → Nat) (k129 : Nat → Int32 → Nat → Int32 → Int32 → TH → Option TH) : Nat → Nat → Int32 → Nat → Int32 → Int32 → Int32 → TH → Option TH
  | 0, _, _, _, _, _, _, _ => none
  | fu + 1, x0, x1, x2, x3, x4, x5, h =>
    bd (V_X7_ways K h x2) fun r_2 =>
    if r_2 ≤ x5 then
      k129 x0 x1 x2 x3 x4 h
    else
      gd (hasF (hT h x0) 13 = true) <|
      lt (hR h 13 x0) fun r_5 =>
      gd (hT h r_5 = 35 ∨ hT h r_5 = 36 ∨ hT h r_5 = 37 ∨ hT h r_5 = 48) <|
      gd (inb (x1 + (1 : Int32)) (hN h r_5)) <|
      lt (hY h r_5 (Int32.toNatClampNeg (x1 + (1 : Int32)))) fun r_8 =>
      gd (hT h x2 = 14 ∨ hT h x2 = 15 ∨ hT h x2 = 16 ∨ hT h x2 = 17) <|
      bd (F_X7_row K h x2 x4 x5) fun r_11 =>
      gd (hT h r_8 = 34) <|
      gd (inb (((256 : Int32) * x3) + r_11) (hN h r_8)) <|
      gd (hasF (hT h x0) 13 = true) <|
      lt (hR h 13 x0) fun r_15 =>
      gd (hT h r_15 = 35 ∨ hT h r_15 = 36 ∨ hT h r_15 = 37 ∨ hT h r_15 = 48) <|
      gd (inb x1 (hN h r_15)) <|
      lt (hY h r_15 (Int32.toNatClampNeg x1)) fun r_18 =>
      gd (hT h r_18 = 34) <|
      gd (inb (((256 : Int32) * x3) + x4) (hN h r_18)) <|
      gd (hT h r_8 = 34) <|
      gd (inb (((256 : Int32) * x3) + r_11) (hN h r_8)) <|
      lt (uL h r_8 (Int32.toNatClampNeg (((256 : Int32) * x3) + r_11)) ((hL h r_8 (Int32.toNatClampNeg (((256 : Int32) * x3) + r_11))) + (hL h r_18 (Int32.toNatClampNeg (((256 : Int32) * x3) + x4))))) fun h_23 =>
      lt (x5 + (1 : Int32)) fun x5_24 =>
      F_X0_moveOn_L73 K k129 fu x0 x1 x2 x3 x4 x5_24 h_23
set_option maxHeartbeats 4000000 in
theorem w_X0_moveOn_L73 {p : Program} {l : Launch} {e : Env} {s : State} {m : MethodId} {args : Array Value} {below : List Frame} {meth : Method} {c : Code} {D : XD} {h0 : TH} (hC : XCx D cX0_moveOn 6 RX0 h0 p (xRm 4 96 h0) s m args meth c) (hr : meth.sig.returnType = none) (hnh : c.exceptionTable.isEmpty = true) (hin : meth.name = "moveOn") {x : TH} (k129 : Nat → Int32 → Nat → Int32 → Int32 → TH → Option TH) (hk129 : ∀ (x0 : Nat) (x1 : Int32) (x2 : Nat) (x3 : Int32) (x4 : Int32) (h : TH), k129 x0 x1 x2 x3 x4 h = some x → XJ p l e (xRm 4 96 h0) s m args below meth c D 6 (.returned none) h0 x 129 [(0, rv x0), (1, .int x1), (2, rv x2), (3, .int x3), (4, .int x4)] [] h) :
    ∀ (fu : Nat) (x0 : Nat) (x1 : Int32) (x2 : Nat) (x3 : Int32) (x4 : Int32) (x5 : Int32) (h : TH), F_X0_moveOn_L73 D.2.2.2 k129 fu x0 x1 x2 x3 x4 x5 h = some x → XJ p l e (xRm 4 96 h0) s m args below meth c D 6 (.returned none) h0 x 73 [(0, rv x0), (1, .int x1), (2, rv x2), (3, .int x3), (4, .int x4), (5, .int x5)] [] h := by
  have hx := hC.1
  have hb := hC.2.1
  intro fu
  induction fu with
  | zero => intro x0 x1 x2 x3 x4 x5 h hF; exact nm_none hF
  | succ fu ih =>
    intro x0 x1 x2 x3 x4 x5 h hF H locs cells slots ls hX hl
    rw [F_X0_moveOn_L73] at hF
    refine lv_iload hx hb dX0_moveOn_73 (lv_at hl 5 rfl) ?_
    refine X_aload_n hx hb dX0_moveOn_75 rfl (lv_at hl 2 rfl) ?_
    obtain ⟨r_2, hc_1, hF⟩ := bd_ok hF
    refine iX_X0_233 hC hX hc_1 hl.1 (Nat.le_of_ble_eq_true rfl) (Nat.le_of_ble_eq_true rfl) (Nat.le_of_ble_eq_true rfl) dX0_moveOn_76 (fun H locs cells slots hX => ?_)
    refine lv_icmp_ge (tgt := 129) hx hb dX0_moveOn_79 (by decide) (fun c_3 => ?_) (fun c_3 => ?_)
    · replace hF := it_t hF c_3
      exact hk129 x0 x1 x2 x3 x4 h hF H locs cells slots ls hX (lv_sub hl [0, 1, 2, 3, 4] rfl)
    · replace hF := it_f hF c_3
      refine X_aload_n hx hb dX0_moveOn_82 rfl (lv_at hl 0 rfl) ?_
      obtain ⟨h_4, hF⟩ := gd_ok hF
      refine gX_X0_78 hC hX h_4 dX0_moveOn_83 ?_
      refine lv_topr (fun r_5 er_5 => ?_)
      replace hF := lt_at hF er_5
      refine lv_iload_n hx hb dX0_moveOn_86 rfl (lv_at hl 1 rfl) ?_
      refine lv_iconst (v := 1) hx hb dX0_moveOn_87 (by decide) ?_
      refine lv_iadd hx hb dX0_moveOn_88 ?_
      obtain ⟨h_6, hF⟩ := gd_ok hF
      obtain ⟨h_7, hF⟩ := gd_ok hF
      refine X_aald hC hX h_6 h_7 dX0_moveOn_89 ?_
      refine lv_topr (fun r_8 er_8 => ?_)
      replace hF := lt_at hF er_8
      refine lv_sipush (v := 256) hx hb dX0_moveOn_90 (by decide) ?_
      refine lv_iload_n hx hb dX0_moveOn_93 rfl (lv_at hl 3 rfl) ?_
      refine lv_imul hx hb dX0_moveOn_94 ?_
      refine X_aload_n hx hb dX0_moveOn_95 rfl (lv_at hl 2 rfl) ?_
      refine lv_iload hx hb dX0_moveOn_96 (lv_at hl 4 rfl) ?_
      refine lv_iload hx hb dX0_moveOn_98 (lv_at hl 5 rfl) ?_
      obtain ⟨h_9, hF⟩ := gd_ok hF
      obtain ⟨r_11, hc_10, hF⟩ := bd_ok hF
      refine iX_X0_237 hC hX h_9 hc_10 hl.1 (cat4 (Nat.le_of_ble_eq_true rfl)) (Nat.le_of_ble_eq_true rfl) (Nat.le_of_ble_eq_true rfl) dX0_moveOn_100 (fun H locs cells slots hX => ?_)
      refine lv_iadd hx hb dX0_moveOn_103 ?_
      refine lv_dup2_11 hx hb dX0_moveOn_104 rfl (rv_cat _) ?_
      obtain ⟨h_12, hF⟩ := gd_ok hF
      obtain ⟨h_13, hF⟩ := gd_ok hF
      refine X_lald hC hX h_12 h_13 dX0_moveOn_105 ?_
      refine X_aload_n hx hb dX0_moveOn_106 rfl (lv_at hl 0 rfl) ?_
      obtain ⟨h_14, hF⟩ := gd_ok hF
      refine gX_X0_78 hC hX h_14 dX0_moveOn_107 ?_
      refine lv_topr (fun r_15 er_15 => ?_)
      replace hF := lt_at hF er_15
      refine lv_iload_n hx hb dX0_moveOn_110 rfl (lv_at hl 1 rfl) ?_
      obtain ⟨h_16, hF⟩ := gd_ok hF
      obtain ⟨h_17, hF⟩ := gd_ok hF
      refine X_aald hC hX h_16 h_17 dX0_moveOn_111 ?_
      refine lv_topr (fun r_18 er_18 => ?_)
      replace hF := lt_at hF er_18
      refine lv_sipush (v := 256) hx hb dX0_moveOn_112 (by decide) ?_
      refine lv_iload_n hx hb dX0_moveOn_115 rfl (lv_at hl 3 rfl) ?_
      refine lv_imul hx hb dX0_moveOn_116 ?_
      refine lv_iload hx hb dX0_moveOn_117 (lv_at hl 4 rfl) ?_
      refine lv_iadd hx hb dX0_moveOn_119 ?_
      obtain ⟨h_19, hF⟩ := gd_ok hF
      obtain ⟨h_20, hF⟩ := gd_ok hF
      refine X_lald hC hX h_19 h_20 dX0_moveOn_120 ?_
      refine lv_ladd hx hb dX0_moveOn_121 ?_
      obtain ⟨h_21, hF⟩ := gd_ok hF
      obtain ⟨h_22, hF⟩ := gd_ok hF
      refine X_last hC hX h_21 h_22 dX0_moveOn_122 (fun H locs hX => ?_)
      obtain ⟨h_23, eh_23, hF⟩ := lt_ok hF
      rw [← eh_23] at hX
      obtain ⟨x5_24, ex5_24, hF⟩ := lt_ok hF
      refine lv_iinc (v := x5_24) (lv' := [(5, .int x5_24), (0, rv x0), (1, .int x1), (2, rv x2), (3, .int x3), (4, .int x4)]) hx hb dX0_moveOn_123 hl (k := 5) rfl (by rw [ex5_24]; rfl) (by decide) rfl (fun ls hl => ?_)
      refine lv_goto (tgt := 73) hx hb dX0_moveOn_126 (by decide) ?_
      exact ih x0 x1 x2 x3 x4 x5_24 h_23 hF H locs cells slots ls hX (lv_sub hl [1, 2, 3, 4, 5, 0] rfl)
def F_X0_moveOn_L42 (K : Nat → Nat) (k28 : Nat → Int32 → Nat → Int32 → TH → Option TH) : Nat → Nat → Int32 → Nat → Int32 → Int32 → TH → Option TH
  | 0, _, _, _, _, _, _ => none
  | fu + 1, x0, x1, x2, x3, x4, h =>
    if (256 : Int32) ≤ x4 then
      F_X0_moveOn_b135 K k28 x0 x1 x2 x3 h
    else
      gd (hasF (hT h x0) 13 = true) <|
      lt (hR h 13 x0) fun r_3 =>
      gd (hT h r_3 = 35 ∨ hT h r_3 = 36 ∨ hT h r_3 = 37 ∨ hT h r_3 = 48) <|
      gd (inb x1 (hN h r_3)) <|
      lt (hY h r_3 (Int32.toNatClampNeg x1)) fun r_6 =>
      gd (hT h r_6 = 34) <|
      gd (inb (((256 : Int32) * x3) + x4) (hN h r_6)) <|
      if (lg_cmp (hL h r_6 (Int32.toNatClampNeg (((256 : Int32) * x3) + x4))) (0 : Int64)) ≤ 0 then
        F_X0_moveOn_b129 K (F_X0_moveOn_L42 K k28 fu) x0 x1 x2 x3 x4 h
      else
        F_X0_moveOn_L73 K (F_X0_moveOn_b129 K (F_X0_moveOn_L42 K k28 fu)) MN x0 x1 x2 x3 x4 (0 : Int32) h
set_option maxHeartbeats 4000000 in
theorem w_X0_moveOn_L42 {p : Program} {l : Launch} {e : Env} {s : State} {m : MethodId} {args : Array Value} {below : List Frame} {meth : Method} {c : Code} {D : XD} {h0 : TH} (hC : XCx D cX0_moveOn 6 RX0 h0 p (xRm 4 96 h0) s m args meth c) (hr : meth.sig.returnType = none) (hnh : c.exceptionTable.isEmpty = true) (hin : meth.name = "moveOn") {x : TH} (k28 : Nat → Int32 → Nat → Int32 → TH → Option TH) (hk28 : ∀ (x0 : Nat) (x1 : Int32) (x2 : Nat) (x3 : Int32) (h : TH), k28 x0 x1 x2 x3 h = some x → XJ p l e (xRm 4 96 h0) s m args below meth c D 6 (.returned none) h0 x 28 [(0, rv x0), (1, .int x1), (2, rv x2), (3, .int x3)] [] h) :
    ∀ (fu : Nat) (x0 : Nat) (x1 : Int32) (x2 : Nat) (x3 : Int32) (x4 : Int32) (h : TH), F_X0_moveOn_L42 D.2.2.2 k28 fu x0 x1 x2 x3 x4 h = some x → XJ p l e (xRm 4 96 h0) s m args below meth c D 6 (.returned none) h0 x 42 [(0, rv x0), (1, .int x1), (2, rv x2), (3, .int x3), (4, .int x4)] [] h := by
  have hx := hC.1
  have hb := hC.2.1
  intro fu
  induction fu with
  | zero => intro x0 x1 x2 x3 x4 h hF; exact nm_none hF
  | succ fu ih =>
    intro x0 x1 x2 x3 x4 h hF H locs cells slots ls hX hl
    rw [F_X0_moveOn_L42] at hF
    refine lv_iload hx hb dX0_moveOn_42 (lv_at hl 4 rfl) ?_
    refine lv_sipush (v := 256) hx hb dX0_moveOn_44 (by decide) ?_
    refine lv_icmp_ge (tgt := 135) hx hb dX0_moveOn_47 (by decide) (fun c_1 => ?_) (fun c_1 => ?_)
    · replace hF := it_t hF c_1
      exact w_X0_moveOn_b135 hC hr hnh hin k28 hk28 x0 x1 x2 x3 h hF H locs cells slots ls hX (lv_sub hl [0, 1, 2, 3] rfl)
    · replace hF := it_f hF c_1
      refine X_aload_n hx hb dX0_moveOn_50 rfl (lv_at hl 0 rfl) ?_
      obtain ⟨h_2, hF⟩ := gd_ok hF
      refine gX_X0_78 hC hX h_2 dX0_moveOn_51 ?_
      refine lv_topr (fun r_3 er_3 => ?_)
      replace hF := lt_at hF er_3
      refine lv_iload_n hx hb dX0_moveOn_54 rfl (lv_at hl 1 rfl) ?_
      obtain ⟨h_4, hF⟩ := gd_ok hF
      obtain ⟨h_5, hF⟩ := gd_ok hF
      refine X_aald hC hX h_4 h_5 dX0_moveOn_55 ?_
      refine lv_topr (fun r_6 er_6 => ?_)
      replace hF := lt_at hF er_6
      refine lv_sipush (v := 256) hx hb dX0_moveOn_56 (by decide) ?_
      refine lv_iload_n hx hb dX0_moveOn_59 rfl (lv_at hl 3 rfl) ?_
      refine lv_imul hx hb dX0_moveOn_60 ?_
      refine lv_iload hx hb dX0_moveOn_61 (lv_at hl 4 rfl) ?_
      refine lv_iadd hx hb dX0_moveOn_63 ?_
      obtain ⟨h_7, hF⟩ := gd_ok hF
      obtain ⟨h_8, hF⟩ := gd_ok hF
      refine X_lald hC hX h_7 h_8 dX0_moveOn_64 ?_
      refine lv_lconst (v := 0) hx hb dX0_moveOn_65 (by decide) ?_
      refine W.lcmp hx hb dX0_moveOn_66 ?_
      refine lv_if_le (tgt := 129) hx hb dX0_moveOn_67 (by decide) (fun c_9 => ?_) (fun c_9 => ?_)
      · replace hF := it_t hF c_9
        exact w_X0_moveOn_b129 hC hr hnh hin (F_X0_moveOn_L42 D.2.2.2 k28 fu) ih x0 x1 x2 x3 x4 h hF H locs cells slots ls hX (lv_sub hl [0, 1, 2, 3, 4] rfl)
      · replace hF := it_f hF c_9
        refine lv_iconst (v := 0) hx hb dX0_moveOn_70 (by decide) ?_
        refine lv_istore (lv' := [(5, .int (0 : Int32)), (0, rv x0), (1, .int x1), (2, rv x2), (3, .int x3), (4, .int x4)]) hx hb dX0_moveOn_71 hl (by decide) rfl (fun ls hl => ?_)
        exact w_X0_moveOn_L73 hC hr hnh hin (F_X0_moveOn_b129 D.2.2.2 (F_X0_moveOn_L42 D.2.2.2 k28 fu)) (w_X0_moveOn_b129 hC hr hnh hin (F_X0_moveOn_L42 D.2.2.2 k28 fu) ih) MN x0 x1 x2 x3 x4 (0 : Int32) h hF H locs cells slots ls hX (lv_sub hl [1, 2, 3, 4, 5, 0] rfl)
def F_X0_moveOn_L28 (K : Nat → Nat) : Nat → Nat → Int32 → Nat → Int32 → TH → Option TH
  | 0, _, _, _, _, _ => none
  | fu + 1, x0, x1, x2, x3, h =>
    gd (hasF (hT h x0) 7 = true) <|
    lt (hR h 7 x0) fun r_2 =>
    gd (hT h r_2 = 2) <|
    bd (F_X1_inputs K h r_2) fun r_5 =>
    if r_5 ≤ x3 then
      some h
    else
      F_X0_moveOn_L42 K (F_X0_moveOn_L28 K fu) MN x0 x1 x2 x3 (0 : Int32) h
set_option maxHeartbeats 4000000 in
theorem w_X0_moveOn_L28 {p : Program} {l : Launch} {e : Env} {s : State} {m : MethodId} {args : Array Value} {below : List Frame} {meth : Method} {c : Code} {D : XD} {h0 : TH} (hC : XCx D cX0_moveOn 6 RX0 h0 p (xRm 4 96 h0) s m args meth c) (hr : meth.sig.returnType = none) (hnh : c.exceptionTable.isEmpty = true) (hin : meth.name = "moveOn") {x : TH} :
    ∀ (fu : Nat) (x0 : Nat) (x1 : Int32) (x2 : Nat) (x3 : Int32) (h : TH), F_X0_moveOn_L28 D.2.2.2 fu x0 x1 x2 x3 h = some x → XJ p l e (xRm 4 96 h0) s m args below meth c D 6 (.returned none) h0 x 28 [(0, rv x0), (1, .int x1), (2, rv x2), (3, .int x3)] [] h := by
  have hx := hC.1
  have hb := hC.2.1
  intro fu
  induction fu with
  | zero => intro x0 x1 x2 x3 h hF; exact nm_none hF
  | succ fu ih =>
    intro x0 x1 x2 x3 h hF H locs cells slots ls hX hl
    rw [F_X0_moveOn_L28] at hF
    refine lv_iload_n hx hb dX0_moveOn_28 rfl (lv_at hl 3 rfl) ?_
    refine X_aload_n hx hb dX0_moveOn_29 rfl (lv_at hl 0 rfl) ?_
    obtain ⟨h_1, hF⟩ := gd_ok hF
    refine gX_X0_15 hC hX h_1 dX0_moveOn_30 ?_
    refine lv_topr (fun r_2 er_2 => ?_)
    replace hF := lt_at hF er_2
    obtain ⟨h_3, hF⟩ := gd_ok hF
    obtain ⟨r_5, hc_4, hF⟩ := bd_ok hF
    refine iX_X0_152 hC hX h_3 hc_4 hl.1 (Nat.le_of_ble_eq_true rfl) (Nat.le_of_ble_eq_true rfl) (Nat.le_of_ble_eq_true rfl) dX0_moveOn_33 (fun H locs cells slots hX => ?_)
    refine lv_icmp_ge (tgt := 141) hx hb dX0_moveOn_36 (by decide) (fun c_6 => ?_) (fun c_6 => ?_)
    · replace hF := it_t hF c_6
      exact x_retv hC hX hr (Option.some.inj hF) dX0_moveOn_141
    · replace hF := it_f hF c_6
      refine lv_iconst (v := 0) hx hb dX0_moveOn_39 (by decide) ?_
      refine lv_istore (lv' := [(4, .int (0 : Int32)), (0, rv x0), (1, .int x1), (2, rv x2), (3, .int x3)]) hx hb dX0_moveOn_40 hl (by decide) rfl (fun ls hl => ?_)
      exact w_X0_moveOn_L42 hC hr hnh hin (F_X0_moveOn_L28 D.2.2.2 fu) ih MN x0 x1 x2 x3 (0 : Int32) h hF H locs cells slots ls hX (lv_sub hl [1, 2, 3, 4, 0] rfl)
def F_X0_moveOn_b26 (K : Nat → Nat) (x0 : Nat) (x1 : Int32) (x2 : Nat) (h : TH) : Option TH :=
  F_X0_moveOn_L28 K MN x0 x1 x2 (0 : Int32) h
set_option maxHeartbeats 4000000 in
theorem w_X0_moveOn_b26 {p : Program} {l : Launch} {e : Env} {s : State} {m : MethodId} {args : Array Value} {below : List Frame} {meth : Method} {c : Code} {D : XD} {h0 : TH} (hC : XCx D cX0_moveOn 6 RX0 h0 p (xRm 4 96 h0) s m args meth c) (hr : meth.sig.returnType = none) (hnh : c.exceptionTable.isEmpty = true) (hin : meth.name = "moveOn") {x : TH} :
    ∀ (x0 : Nat) (x1 : Int32) (x2 : Nat) (h : TH), F_X0_moveOn_b26 D.2.2.2 x0 x1 x2 h = some x → XJ p l e (xRm 4 96 h0) s m args below meth c D 6 (.returned none) h0 x 26 [(0, rv x0), (1, .int x1), (2, rv x2)] [] h := by
  have hx := hC.1
  have hb := hC.2.1
  intro x0 x1 x2 h hF H locs cells slots ls hX hl
  rw [F_X0_moveOn_b26] at hF
  refine lv_iconst (v := 0) hx hb dX0_moveOn_26 (by decide) ?_
  refine lv_istore_n (i := 3) hx hb dX0_moveOn_27 rfl hl (by decide) rfl (fun ls hl => ?_)
  replace hl : lv_has ls 6 [(3, .int (0 : Int32)), (0, rv x0), (1, .int x1), (2, rv x2)] := lv_subS hl (List.forall_mem_cons.mpr ⟨Or.inl rfl, (List.forall_mem_cons.mpr ⟨Or.inr ⟨List.mem_of_getElem? (i := 0) rfl, rfl⟩, (List.forall_mem_cons.mpr ⟨Or.inr ⟨List.mem_of_getElem? (i := 1) rfl, rfl⟩, (List.forall_mem_cons.mpr ⟨Or.inr ⟨List.mem_of_getElem? (i := 2) rfl, by simp [rv_cat]⟩, (fun _ h => nomatch h)⟩)⟩)⟩)⟩)
  exact w_X0_moveOn_L28 hC hr hnh hin MN x0 x1 x2 (0 : Int32) h hF H locs cells slots ls hX (lv_sub hl [1, 2, 3, 0] rfl)
def F_X0_moveOn_L2 (K : Nat → Nat) : Nat → Nat → Int32 → Nat → Int32 → TH → Option TH
  | 0, _, _, _, _, _ => none
  | fu + 1, x0, x1, x2, x3, h =>
    if (2048 : Int32) ≤ x3 then
      F_X0_moveOn_b26 K x0 x1 x2 h
    else
      gd (hasF (hT h x0) 13 = true) <|
      lt (hR h 13 x0) fun r_3 =>
      gd (hT h r_3 = 35 ∨ hT h r_3 = 36 ∨ hT h r_3 = 37 ∨ hT h r_3 = 48) <|
      gd (inb (x1 + (1 : Int32)) (hN h r_3)) <|
      lt (hY h r_3 (Int32.toNatClampNeg (x1 + (1 : Int32)))) fun r_6 =>
      gd (hT h r_6 = 34) <|
      gd (inb x3 (hN h r_6)) <|
      lt (uL h r_6 (Int32.toNatClampNeg x3) (0 : Int64)) fun h_9 =>
      lt (x3 + (1 : Int32)) fun x3_10 =>
      F_X0_moveOn_L2 K fu x0 x1 x2 x3_10 h_9
set_option maxHeartbeats 4000000 in
theorem w_X0_moveOn_L2 {p : Program} {l : Launch} {e : Env} {s : State} {m : MethodId} {args : Array Value} {below : List Frame} {meth : Method} {c : Code} {D : XD} {h0 : TH} (hC : XCx D cX0_moveOn 6 RX0 h0 p (xRm 4 96 h0) s m args meth c) (hr : meth.sig.returnType = none) (hnh : c.exceptionTable.isEmpty = true) (hin : meth.name = "moveOn") {x : TH} :
    ∀ (fu : Nat) (x0 : Nat) (x1 : Int32) (x2 : Nat) (x3 : Int32) (h : TH), F_X0_moveOn_L2 D.2.2.2 fu x0 x1 x2 x3 h = some x → XJ p l e (xRm 4 96 h0) s m args below meth c D 6 (.returned none) h0 x 2 [(0, rv x0), (1, .int x1), (2, rv x2), (3, .int x3)] [] h := by
  have hx := hC.1
  have hb := hC.2.1
  intro fu
  induction fu with
  | zero => intro x0 x1 x2 x3 h hF; exact nm_none hF
  | succ fu ih =>
    intro x0 x1 x2 x3 h hF H locs cells slots ls hX hl
    rw [F_X0_moveOn_L2] at hF
    refine lv_iload_n hx hb dX0_moveOn_2 rfl (lv_at hl 3 rfl) ?_
    refine lv_sipush (v := 2048) hx hb dX0_moveOn_3 (by decide) ?_
    refine lv_icmp_ge (tgt := 26) hx hb dX0_moveOn_6 (by decide) (fun c_1 => ?_) (fun c_1 => ?_)
    · replace hF := it_t hF c_1
      exact w_X0_moveOn_b26 hC hr hnh hin x0 x1 x2 h hF H locs cells slots ls hX (lv_sub hl [0, 1, 2] rfl)
    · replace hF := it_f hF c_1
      refine X_aload_n hx hb dX0_moveOn_9 rfl (lv_at hl 0 rfl) ?_
      obtain ⟨h_2, hF⟩ := gd_ok hF
      refine gX_X0_78 hC hX h_2 dX0_moveOn_10 ?_
      refine lv_topr (fun r_3 er_3 => ?_)
      replace hF := lt_at hF er_3
      refine lv_iload_n hx hb dX0_moveOn_13 rfl (lv_at hl 1 rfl) ?_
      refine lv_iconst (v := 1) hx hb dX0_moveOn_14 (by decide) ?_
      refine lv_iadd hx hb dX0_moveOn_15 ?_
      obtain ⟨h_4, hF⟩ := gd_ok hF
      obtain ⟨h_5, hF⟩ := gd_ok hF
      refine X_aald hC hX h_4 h_5 dX0_moveOn_16 ?_
      refine lv_topr (fun r_6 er_6 => ?_)
      replace hF := lt_at hF er_6
      refine lv_iload_n hx hb dX0_moveOn_17 rfl (lv_at hl 3 rfl) ?_
      refine lv_lconst (v := 0) hx hb dX0_moveOn_18 (by decide) ?_
      obtain ⟨h_7, hF⟩ := gd_ok hF
      obtain ⟨h_8, hF⟩ := gd_ok hF
      refine X_last hC hX h_7 h_8 dX0_moveOn_19 (fun H locs hX => ?_)
      obtain ⟨h_9, eh_9, hF⟩ := lt_ok hF
      rw [← eh_9] at hX
      obtain ⟨x3_10, ex3_10, hF⟩ := lt_ok hF
      refine lv_iinc (v := x3_10) hx hb dX0_moveOn_20 hl (k := 3) rfl (by rw [ex3_10]; rfl) (by decide) rfl (fun ls hl => ?_)
      replace hl : lv_has ls 6 [(3, .int x3_10), (0, rv x0), (1, .int x1), (2, rv x2)] := lv_subS hl (List.forall_mem_cons.mpr ⟨Or.inl rfl, (List.forall_mem_cons.mpr ⟨Or.inr ⟨List.mem_of_getElem? (i := 0) rfl, rfl⟩, (List.forall_mem_cons.mpr ⟨Or.inr ⟨List.mem_of_getElem? (i := 1) rfl, rfl⟩, (List.forall_mem_cons.mpr ⟨Or.inr ⟨List.mem_of_getElem? (i := 2) rfl, by simp [rv_cat]⟩, (fun _ h => nomatch h)⟩)⟩)⟩)⟩)
      refine lv_goto (tgt := 2) hx hb dX0_moveOn_23 (by decide) ?_
      exact ih x0 x1 x2 x3_10 h_9 hF H locs cells slots ls hX (lv_sub hl [1, 2, 3, 0] rfl)
def F_X0_moveOn (K : Nat → Nat) (a0 : Nat) (b0 : Int32) (b1 : Nat) (h : TH) : Option TH :=
  F_X0_moveOn_L2 K MN a0 b0 b1 (0 : Int32) h
set_option maxHeartbeats 4000000 in
theorem w_X0_moveOn {p : Program} {l : Launch} {e : Env} {s : State} {m : MethodId} {args : Array Value} {below : List Frame} {meth : Method} {c : Code} {D : XD} {h0 : TH} (hC : XCx D cX0_moveOn 6 RX0 h0 p (xRm 4 96 h0) s m args meth c) (hr : meth.sig.returnType = none) (hnh : c.exceptionTable.isEmpty = true) (hin : meth.name = "moveOn") {x : TH} :
    ∀ (a0 : Nat) (b0 : Int32) (b1 : Nat) (h : TH), F_X0_moveOn D.2.2.2 a0 b0 b1 h = some x → XJ p l e (xRm 4 96 h0) s m args below meth c D 6 (.returned none) h0 x 0 [(0, rv a0), (1, .int b0), (2, rv b1)] [] h := by
  have hx := hC.1
  have hb := hC.2.1
  intro a0 b0 b1 h hF H locs cells slots ls hX hl
  rw [F_X0_moveOn] at hF
  refine lv_iconst (v := 0) hx hb dX0_moveOn_0 (by decide) ?_
  refine lv_istore_n (i := 3) hx hb dX0_moveOn_1 rfl hl (by decide) rfl (fun ls hl => ?_)
  replace hl : lv_has ls 6 [(3, .int (0 : Int32)), (0, rv a0), (1, .int b0), (2, rv b1)] := lv_subS hl (List.forall_mem_cons.mpr ⟨Or.inl rfl, (List.forall_mem_cons.mpr ⟨Or.inr ⟨List.mem_of_getElem? (i := 0) rfl, rfl⟩, (List.forall_mem_cons.mpr ⟨Or.inr ⟨List.mem_of_getElem? (i := 1) rfl, rfl⟩, (List.forall_mem_cons.mpr ⟨Or.inr ⟨List.mem_of_getElem? (i := 2) rfl, by simp [rv_cat]⟩, (fun _ h => nomatch h)⟩)⟩)⟩)⟩)
  exact w_X0_moveOn_L2 hC hr hnh hin MN a0 b0 b1 (0 : Int32) h hF H locs cells slots ls hX (lv_sub hl [1, 2, 3, 0] rfl)
theorem m_X0_moveOn (l : Launch) (D : XD) (a0 : Nat) (b0 : Int32) (b1 : Nat) (h : TH) (x : TH) (hF : F_X0_moveOn D.2.2.2 a0 b0 b1 h = some x) : XMt l yX0_moveOn (ws_ yX0_moveOn cX0_moveOn 6 (none)) 4 96 D [rv a0, .int b0, rv b1] h (.returned none) x := by
  refine x_met (by decide +kernel) ?_ ?_
  · simp [lg_sl, rv_cat, cat_i, cat_l]
  intro p e s m below meth c hC hr hnh hin ls hl hX
  replace hl : lv_has ls 6 [(0, rv a0), (1, .int b0), (2, rv b1)] := by simpa [lv_args, rv_cat, cat_i, cat_l] using hl
  exact w_X0_moveOn hC hr hnh hin a0 b0 b1 h hF s.heap [] 0 0 ls hX hl
/-! BlindCards.paths -/
def F_X0_paths (K : Nat → Nat) (h : TH) (a0 : Nat) : Option Int32 :=
  gd (hasF (hT h a0) 8 = true) <|
  lt (hR h 8 a0) fun r_2 =>
  gd (hasF (hT h r_2) 57 = true) <|
  if (hI h 57 r_2) = 0 then
    gd (hasF (hT h a0) 8 = true) <|
    lt (hR h 8 a0) fun r_6 =>
    gd (hasF (hT h r_6) 55 = true) <|
    some (hI h 55 r_6)
  else
    some (-2 : Int32)
set_option maxHeartbeats 4000000 in
theorem w_X0_paths {p : Program} {l : Launch} {e : Env} {s : State} {m : MethodId} {args : Array Value} {below : List Frame} {meth : Method} {c : Code} {D : XD} {h : TH} (hC : XCx D cX0_paths 1 RX0 h p (xRm 0 0 h) s m args meth c) (hr : meth.sig.returnType = some .int) (hnh : c.exceptionTable.isEmpty = true) (hin : meth.name = "paths") {x : Int32} :
    ∀ (a0 : Nat), F_X0_paths D.2.2.2 h a0 = some x → XJ p l e (xRm 0 0 h) s m args below meth c D 1 (.returned (some (.int x))) h h 0 [(0, rv a0)] [] h := by
  have hx := hC.1
  have hb := hC.2.1
  intro a0 hF H locs cells slots ls hX hl
  rw [F_X0_paths] at hF
  refine X_aload_n hx hb dX0_paths_0 rfl (lv_at hl 0 rfl) ?_
  obtain ⟨h_1, hF⟩ := gd_ok hF
  refine gX_X0_57 hC hX h_1 dX0_paths_1 ?_
  refine lv_topr (fun r_2 er_2 => ?_)
  replace hF := lt_at hF er_2
  obtain ⟨h_3, hF⟩ := gd_ok hF
  refine gX_X0_171 hC hX h_3 dX0_paths_4 ?_
  refine lv_if_eq (tgt := 15) hx hb dX0_paths_7 (by decide) (fun c_4 => ?_) (fun c_4 => ?_)
  · replace hF := it_t hF c_4
    refine X_aload_n hx hb dX0_paths_15 rfl (lv_at hl 0 rfl) ?_
    obtain ⟨h_5, hF⟩ := gd_ok hF
    refine gX_X0_57 hC hX h_5 dX0_paths_16 ?_
    refine lv_topr (fun r_6 er_6 => ?_)
    replace hF := lt_at hF er_6
    obtain ⟨h_7, hF⟩ := gd_ok hF
    refine gX_X0_159 hC hX h_7 dX0_paths_19 ?_
    exact x_reti hC hX hr rfl (Option.some.inj hF) rfl dX0_paths_22
  · replace hF := it_f hF c_4
    refine lv_bipush (v := -2) hx hb dX0_paths_10 (by decide) ?_
    refine lv_goto (tgt := 22) hx hb dX0_paths_12 (by decide) ?_
    exact x_reti hC hX hr rfl (Option.some.inj hF) rfl dX0_paths_22
theorem m_X0_paths (l : Launch) (D : XD) (a0 : Nat) (h : TH) (x : Int32) (hF : F_X0_paths D.2.2.2 h a0 = some x) : XMt l yX0_paths (ws_ yX0_paths cX0_paths 1 (some .int)) 0 0 D [rv a0] h (.returned (some (.int x))) h := by
  refine x_met (by decide +kernel) ?_ ?_
  · simp [lg_sl, rv_cat, cat_i, cat_l]
  intro p e s m below meth c hC hr hnh hin ls hl hX
  replace hl : lv_has ls 1 [(0, rv a0)] := by simpa [lv_args, rv_cat, cat_i, cat_l] using hl
  exact w_X0_paths hC hr hnh hin a0 hF s.heap [] 0 0 ls hX hl
theorem gX_X0_284 {p : Program} {l : Launch} {e : Env} {R : Room} {s : State} {m : MethodId} {args : Array Value} {below : List Frame} {meth : Method} {c : Code} {H : Heap} {locs : List Loc} {cells slots nL : Nat} {Q : State → Prop} {D : XD} {h0 h : TH} {cc : ByteArray} {pc : Nat} {ls : Array Slot} {rest : List Value} (hC : XCx D cc nL RX0 h0 p R s m args meth c) (hX : XSt D s h0 h H locs cells slots) {a : Nat} (hf : hasF (hT h a) 23 = true) (hdg : decode cc pc = .ok (.getfield 284, 3)) (kk : W p l e R s m args below meth c H locs cells slots Q (F0 m (pc + 3) ls (.int (hI h 23 a) :: rest))) : W p l e R s m args below meth c H locs cells slots Q (F0 m pc ls (rv a :: rest)) :=
  X_geti hC hX 23 hf rfl q773 (fun _ h => h) hdg kk
theorem pX_X0_284 {p : Program} {l : Launch} {e : Env} {R : Room} {s : State} {m : MethodId} {args : Array Value} {below : List Frame} {meth : Method} {c : Code} {H : Heap} {locs : List Loc} {cells slots nL : Nat} {Q : State → Prop} {D : XD} {h0 h : TH} {cc : ByteArray} {pc : Nat} {ls : Array Slot} {rest : List Value} (hC : XCx D cc nL RX0 h0 p R s m args meth c) (hX : XSt D s h0 h H locs cells slots) {a : Nat} {v : Int32} (hf : hasF (hT h a) 23 = true) (hw : hT h a ≤ 24) (hdg : decode cc pc = .ok (.putfield 284, 3)) (kk : ∀ (H1 : Heap) (locs1 : List Loc), XSt D s h0 (uI h 23 a v) H1 locs1 cells slots → W p l e R s m args below meth c H1 locs1 cells slots Q (F0 m (pc + 3) ls rest)) : W p l e R s m args below meth c H locs cells slots Q (F0 m pc ls (.int v :: rv a :: rest)) :=
  X_puti hC hX 23 hf hw rfl rfl q773 (fun _ h => h) ⟨rfl, rfl⟩ hdg kk
def V_X6_needs (K : Nat → Nat) (h : TH) (a : Nat) : Option Int32 :=
  if hT h a = 14 then F_X16_needs K h a else
  if hT h a = 15 ∨ hT h a = 16 ∨ hT h a = 17 then F_X8_needs K h a else
  if hT h a = 18 then F_X18_needs K h a else
  if hT h a = 19 ∨ hT h a = 20 ∨ hT h a = 21 ∨ hT h a = 23 then F_X6_needs K h a else
  if hT h a = 22 then F_X22_needs K h a else
  none
theorem iX_X0_302 {p : Program} {l : Launch} {e : Env} {R : Room} {s : State} {m : MethodId} {args : Array Value} {below : List Frame} {meth : Method} {c : Code} {H : Heap} {locs : List Loc} {cells slots nL : Nat} {Q : State → Prop} {D : XD} {h0 h : TH} {cc : ByteArray} {pc : Nat} {ls : Array Slot} {rest : List Value} (hC : XCx D cc nL RX0 h0 p R s m args meth c) (hX : XSt D s h0 h H locs cells slots) {a : Nat} {x : Int32} (hcF : V_X6_needs D.2.2.2 h a = some x) (hl : ls.size = nL) (hW : (rest.map fun v => v.category).sum ≤ 8) (hRf : 1 + 1 ≤ R.frames) (hRl : 41 ≤ R.locals) (hdg : decode cc pc = .ok (.invokevirtual 302, 3)) (kk : ∀ (H1 : Heap) (locs1 : List Loc) (cells1 slots1 : Nat), XSt D s h0 h H1 locs1 cells1 slots1 → W p l e R s m args below meth c H1 locs1 cells1 slots1 Q (F0 m (pc + 3) ls (.int x :: rest))) : W p l e R s m args below meth c H locs cells slots Q (F0 m pc ls (rv a :: rest)) := by
  unfold V_X6_needs at hcF
  by_cases q : hT h a = 14
  · replace hcF := it_t hcF q
    exact X_callU hC hX (by rw [q]; decide) (by rw [q]; rfl) (As := []) (m_X16_needs l D a h _ hcF) (va_cwO 0 hC.2.2.2.2.1 (lw_O (owner := "BlindCards$Step") q1717 q520 q519 q537 q538 q160 q539) rfl rfl rfl q540 (by decide +kernel) ⟨Nat.le_trans (Nat.le_of_ble_eq_true rfl) hRf, Nat.le_trans (Nat.le_of_ble_eq_true rfl) hRl⟩) rfl rfl hl hW hdg kk
  replace hcF := it_f hcF q
  by_cases q : hT h a = 15 ∨ hT h a = 16 ∨ hT h a = 17
  · replace hcF := it_t hcF q
    rcases q with q | q | q
    · exact X_callU hC hX (by rw [q]; decide) (by rw [q]; rfl) (As := []) (m_X8_needs l D a h _ hcF) (va_cwO 0 hC.2.2.2.2.1 (lw_O (owner := "BlindCards$Step") q1717 q520 q519 q528 q522 q142 q523) rfl rfl rfl q540 (by decide +kernel) ⟨Nat.le_trans (Nat.le_of_ble_eq_true rfl) hRf, Nat.le_trans (Nat.le_of_ble_eq_true rfl) hRl⟩) rfl rfl hl hW hdg kk
    · exact X_callU hC hX (by rw [q]; decide) (by rw [q]; rfl) (As := []) (m_X8_needs l D a h _ hcF) (va_cwO 0 hC.2.2.2.2.1 (lw_O (owner := "BlindCards$Step") q1717 q520 q519 q521 q522 q142 q523) rfl rfl rfl q540 (by decide +kernel) ⟨Nat.le_trans (Nat.le_of_ble_eq_true rfl) hRf, Nat.le_trans (Nat.le_of_ble_eq_true rfl) hRl⟩) rfl rfl hl hW hdg kk
    · exact X_callU hC hX (by rw [q]; decide) (by rw [q]; rfl) (As := []) (m_X8_needs l D a h _ hcF) (va_cwO 0 hC.2.2.2.2.1 (lw_O (owner := "BlindCards$Step") q1717 q520 q519 q532 q522 q142 q523) rfl rfl rfl q540 (by decide +kernel) ⟨Nat.le_trans (Nat.le_of_ble_eq_true rfl) hRf, Nat.le_trans (Nat.le_of_ble_eq_true rfl) hRl⟩) rfl rfl hl hW hdg kk
  replace hcF := it_f hcF q
  by_cases q : hT h a = 18
  · replace hcF := it_t hcF q
    exact X_callU hC hX (by rw [q]; decide) (by rw [q]; rfl) (As := []) (m_X18_needs l D a h _ hcF) (va_cwO 0 hC.2.2.2.2.1 (lw_O (owner := "BlindCards$Step") q1717 q520 q519 q533 q534 q162 q535) rfl rfl rfl q540 (by decide +kernel) ⟨Nat.le_trans (Nat.le_of_ble_eq_true rfl) hRf, Nat.le_trans (Nat.le_of_ble_eq_true rfl) hRl⟩) rfl rfl hl hW hdg kk
  replace hcF := it_f hcF q
  by_cases q : hT h a = 19 ∨ hT h a = 20 ∨ hT h a = 21 ∨ hT h a = 23
  · replace hcF := it_t hcF q
    rcases q with q | q | q | q
    · exact X_callU hC hX (by rw [q]; decide) (by rw [q]; rfl) (As := []) (m_X6_needs l D a h _ hcF) (va_cwU 0 hC.2.2.2.2.1 (lw_U (owner := "BlindCards$Step") q1717 q520 q530 q519 q140 q540) rfl rfl rfl rfl (by decide +kernel) ⟨Nat.le_trans (Nat.le_of_ble_eq_true rfl) hRf, Nat.le_trans (Nat.le_of_ble_eq_true rfl) hRl⟩) rfl rfl hl hW hdg kk
    · exact X_callU hC hX (by rw [q]; decide) (by rw [q]; rfl) (As := []) (m_X6_needs l D a h _ hcF) (va_cwU 0 hC.2.2.2.2.1 (lw_U (owner := "BlindCards$Step") q1717 q520 q529 q519 q140 q540) rfl rfl rfl rfl (by decide +kernel) ⟨Nat.le_trans (Nat.le_of_ble_eq_true rfl) hRf, Nat.le_trans (Nat.le_of_ble_eq_true rfl) hRl⟩) rfl rfl hl hW hdg kk
    · exact X_callU hC hX (by rw [q]; decide) (by rw [q]; rfl) (As := []) (m_X6_needs l D a h _ hcF) (va_cwU 0 hC.2.2.2.2.1 (lw_U (owner := "BlindCards$Step") q1717 q520 q531 q519 q140 q540) rfl rfl rfl rfl (by decide +kernel) ⟨Nat.le_trans (Nat.le_of_ble_eq_true rfl) hRf, Nat.le_trans (Nat.le_of_ble_eq_true rfl) hRl⟩) rfl rfl hl hW hdg kk
    · exact X_callU hC hX (by rw [q]; decide) (by rw [q]; rfl) (As := []) (m_X6_needs l D a h _ hcF) (va_cwU 0 hC.2.2.2.2.1 (lw_U (owner := "BlindCards$Step") q1717 q520 q536 q519 q140 q540) rfl rfl rfl rfl (by decide +kernel) ⟨Nat.le_trans (Nat.le_of_ble_eq_true rfl) hRf, Nat.le_trans (Nat.le_of_ble_eq_true rfl) hRl⟩) rfl rfl hl hW hdg kk
  replace hcF := it_f hcF q
  by_cases q : hT h a = 22
  · replace hcF := it_t hcF q
    exact X_callU hC hX (by rw [q]; decide) (by rw [q]; rfl) (As := []) (m_X22_needs l D a h _ hcF) (va_cwO 0 hC.2.2.2.2.1 (lw_O (owner := "BlindCards$Step") q1717 q520 q519 q524 q525 q166 q526) rfl rfl rfl q540 (by decide +kernel) ⟨Nat.le_trans (Nat.le_of_ble_eq_true rfl) hRf, Nat.le_trans (Nat.le_of_ble_eq_true rfl) hRl⟩) rfl rfl hl hW hdg kk
  replace hcF := it_f hcF q
  exact nm_none hcF
theorem gX_X0_290 {p : Program} {l : Launch} {e : Env} {R : Room} {s : State} {m : MethodId} {args : Array Value} {below : List Frame} {meth : Method} {c : Code} {H : Heap} {locs : List Loc} {cells slots nL : Nat} {Q : State → Prop} {D : XD} {h0 h : TH} {cc : ByteArray} {pc : Nat} {ls : Array Slot} {rest : List Value} (hC : XCx D cc nL RX0 h0 p R s m args meth c) (hX : XSt D s h0 h H locs cells slots) {a : Nat} (hf : hasF (hT h a) 25 = true) (hdg : decode cc pc = .ok (.getfield 290, 3)) (kk : W p l e R s m args below meth c H locs cells slots Q (F0 m (pc + 3) ls (.int (hI h 25 a) :: rest))) : W p l e R s m args below meth c H locs cells slots Q (F0 m pc ls (rv a :: rest)) :=
  X_geti hC hX 25 hf rfl q775 (fun _ h => h) hdg kk
theorem gX_X0_88 {p : Program} {l : Launch} {e : Env} {R : Room} {s : State} {m : MethodId} {args : Array Value} {below : List Frame} {meth : Method} {c : Code} {H : Heap} {locs : List Loc} {cells slots nL : Nat} {Q : State → Prop} {D : XD} {h0 h : TH} {cc : ByteArray} {pc : Nat} {ls : Array Slot} {rest : List Value} (hC : XCx D cc nL RX0 h0 p R s m args meth c) (hX : XSt D s h0 h H locs cells slots) {a : Nat} (hf : hasF (hT h a) 20 = true) (hdg : decode cc pc = .ok (.getfield 88, 3)) (kk : W p l e R s m args below meth c H locs cells slots Q (F0 m (pc + 3) ls (rv (hR h 20 a) :: rest))) : W p l e R s m args below meth c H locs cells slots Q (F0 m pc ls (rv a :: rest)) :=
  X_getr hC hX 20 hf rfl (fun q => absurd q (by decide)) q770 (fun _ h => h) hdg kk
theorem gX_X0_315 {p : Program} {l : Launch} {e : Env} {R : Room} {s : State} {m : MethodId} {args : Array Value} {below : List Frame} {meth : Method} {c : Code} {H : Heap} {locs : List Loc} {cells slots nL : Nat} {Q : State → Prop} {D : XD} {h0 h : TH} {cc : ByteArray} {pc : Nat} {ls : Array Slot} {rest : List Value} (hC : XCx D cc nL RX0 h0 p R s m args meth c) (hX : XSt D s h0 h H locs cells slots) {a : Nat} (hf : hasF (hT h a) 106 = true) (hdg : decode cc pc = .ok (.getfield 315, 3)) (kk : W p l e R s m args below meth c H locs cells slots Q (F0 m (pc + 3) ls (.int (hI h 106 a) :: rest))) : W p l e R s m args below meth c H locs cells slots Q (F0 m pc ls (rv a :: rest)) :=
  X_geti hC hX 106 hf rfl q1507 (fun _ h => h) hdg kk
theorem gX_X0_318 {p : Program} {l : Launch} {e : Env} {R : Room} {s : State} {m : MethodId} {args : Array Value} {below : List Frame} {meth : Method} {c : Code} {H : Heap} {locs : List Loc} {cells slots nL : Nat} {Q : State → Prop} {D : XD} {h0 h : TH} {cc : ByteArray} {pc : Nat} {ls : Array Slot} {rest : List Value} (hC : XCx D cc nL RX0 h0 p R s m args meth c) (hX : XSt D s h0 h H locs cells slots) {a : Nat} (hf : hasF (hT h a) 107 = true) (hdg : decode cc pc = .ok (.getfield 318, 3)) (kk : W p l e R s m args below meth c H locs cells slots Q (F0 m (pc + 3) ls (.int (hI h 107 a) :: rest))) : W p l e R s m args below meth c H locs cells slots Q (F0 m pc ls (rv a :: rest)) :=
  X_geti hC hX 107 hf rfl q1510 (fun _ h => h) hdg kk
theorem gX_X0_84 {p : Program} {l : Launch} {e : Env} {R : Room} {s : State} {m : MethodId} {args : Array Value} {below : List Frame} {meth : Method} {c : Code} {H : Heap} {locs : List Loc} {cells slots nL : Nat} {Q : State → Prop} {D : XD} {h0 h : TH} {cc : ByteArray} {pc : Nat} {ls : Array Slot} {rest : List Value} (hC : XCx D cc nL RX0 h0 p R s m args meth c) (hX : XSt D s h0 h H locs cells slots) {a : Nat} (hf : hasF (hT h a) 19 = true) (hdg : decode cc pc = .ok (.getfield 84, 3)) (kk : W p l e R s m args below meth c H locs cells slots Q (F0 m (pc + 3) ls (rv (hR h 19 a) :: rest))) : W p l e R s m args below meth c H locs cells slots Q (F0 m pc ls (rv a :: rest)) :=
  X_getr hC hX 19 hf rfl (fun q => absurd q (by decide)) q769 (fun _ h => h) hdg kk
theorem gX_X0_287 {p : Program} {l : Launch} {e : Env} {R : Room} {s : State} {m : MethodId} {args : Array Value} {below : List Frame} {meth : Method} {c : Code} {H : Heap} {locs : List Loc} {cells slots nL : Nat} {Q : State → Prop} {D : XD} {h0 h : TH} {cc : ByteArray} {pc : Nat} {ls : Array Slot} {rest : List Value} (hC : XCx D cc nL RX0 h0 p R s m args meth c) (hX : XSt D s h0 h H locs cells slots) {a : Nat} (hf : hasF (hT h a) 24 = true) (hdg : decode cc pc = .ok (.getfield 287, 3)) (kk : W p l e R s m args below meth c H locs cells slots Q (F0 m (pc + 3) ls (.int (hI h 24 a) :: rest))) : W p l e R s m args below meth c H locs cells slots Q (F0 m pc ls (rv a :: rest)) :=
  X_geti hC hX 24 hf rfl q774 (fun _ h => h) hdg kk
theorem iX_X0_247 {p : Program} {l : Launch} {e : Env} {R : Room} {s : State} {m : MethodId} {args : Array Value} {below : List Frame} {meth : Method} {c : Code} {H : Heap} {locs : List Loc} {cells slots nL : Nat} {Q : State → Prop} {D : XD} {h0 h : TH} {cc : ByteArray} {pc : Nat} {ls : Array Slot} {rest : List Value} (hC : XCx D cc nL RX0 h0 p R s m args meth c) (hX : XSt D s h0 h H locs cells slots) {a : Nat} {b0 : Int32} {x : Int32} (ht : hT h a = 18) (hcF : F_X18_seen D.2.2.2 h a b0 = some x) (hl : ls.size = nL) (hW : (rest.map fun v => v.category).sum ≤ 8) (hRf : 0 + 1 ≤ R.frames) (hRl : 23 ≤ R.locals) (hdg : decode cc pc = .ok (.invokevirtual 247, 3)) (kk : ∀ (H1 : Heap) (locs1 : List Loc) (cells1 slots1 : Nat), XSt D s h0 h H1 locs1 cells1 slots1 → W p l e R s m args below meth c H1 locs1 cells1 slots1 Q (F0 m (pc + 3) ls (.int x :: rest))) : W p l e R s m args below meth c H locs cells slots Q (F0 m pc ls (.int b0 :: rv a :: rest)) := by
  have q := ht
  exact X_callV hC hX (by rw [q]; decide) (by rw [q]; rfl) (As := [.int b0]) (m_X18_seen l D a b0 h _ hcF) (cwV 1 hC.2.2.2.2.1 (lw_V q1693 q615 q616 q162 q617) rfl rfl rfl (by decide +kernel) ⟨Nat.le_trans (Nat.le_of_ble_eq_true rfl) hRf, Nat.le_trans (Nat.le_of_ble_eq_true rfl) hRl⟩) rfl rfl hl hW hdg kk
theorem pX_X0_287 {p : Program} {l : Launch} {e : Env} {R : Room} {s : State} {m : MethodId} {args : Array Value} {below : List Frame} {meth : Method} {c : Code} {H : Heap} {locs : List Loc} {cells slots nL : Nat} {Q : State → Prop} {D : XD} {h0 h : TH} {cc : ByteArray} {pc : Nat} {ls : Array Slot} {rest : List Value} (hC : XCx D cc nL RX0 h0 p R s m args meth c) (hX : XSt D s h0 h H locs cells slots) {a : Nat} {v : Int32} (hf : hasF (hT h a) 24 = true) (hw : hT h a ≤ 24) (hdg : decode cc pc = .ok (.putfield 287, 3)) (kk : ∀ (H1 : Heap) (locs1 : List Loc), XSt D s h0 (uI h 24 a v) H1 locs1 cells slots → W p l e R s m args below meth c H1 locs1 cells slots Q (F0 m (pc + 3) ls rest)) : W p l e R s m args below meth c H locs cells slots Q (F0 m pc ls (.int v :: rv a :: rest)) :=
  X_puti hC hX 24 hf hw rfl rfl q774 (fun _ h => h) ⟨rfl, rfl⟩ hdg kk
def V_X8_ways (K : Nat → Nat) (h : TH) (a : Nat) : Option Int32 :=
  if hT h a = 15 ∨ hT h a = 16 then F_X8_ways K h a else
  if hT h a = 17 then F_X9_ways K h a else
  none
theorem iX_X0_305 {p : Program} {l : Launch} {e : Env} {R : Room} {s : State} {m : MethodId} {args : Array Value} {below : List Frame} {meth : Method} {c : Code} {H : Heap} {locs : List Loc} {cells slots nL : Nat} {Q : State → Prop} {D : XD} {h0 h : TH} {cc : ByteArray} {pc : Nat} {ls : Array Slot} {rest : List Value} (hC : XCx D cc nL RX0 h0 p R s m args meth c) (hX : XSt D s h0 h H locs cells slots) {a : Nat} {x : Int32} (hcF : V_X8_ways D.2.2.2 h a = some x) (hl : ls.size = nL) (hW : (rest.map fun v => v.category).sum ≤ 8) (hRf : 0 + 1 ≤ R.frames) (hRl : 20 ≤ R.locals) (hdg : decode cc pc = .ok (.invokevirtual 305, 3)) (kk : ∀ (H1 : Heap) (locs1 : List Loc) (cells1 slots1 : Nat), XSt D s h0 h H1 locs1 cells1 slots1 → W p l e R s m args below meth c H1 locs1 cells1 slots1 Q (F0 m (pc + 3) ls (.int x :: rest))) : W p l e R s m args below meth c H locs cells slots Q (F0 m pc ls (rv a :: rest)) := by
  unfold V_X8_ways at hcF
  by_cases q : hT h a = 15 ∨ hT h a = 16
  · replace hcF := it_t hcF q
    rcases q with q | q
    · exact X_callU hC hX (by rw [q]; decide) (by rw [q]; rfl) (As := []) (m_X8_ways l D a h _ hcF) (va_cwU 0 hC.2.2.2.2.1 (lw_U (owner := "BlindCards$Cut") q1719 q2563 q2565 q559 q142 q560) rfl rfl rfl rfl (by decide +kernel) ⟨Nat.le_trans (Nat.le_of_ble_eq_true rfl) hRf, Nat.le_trans (Nat.le_of_ble_eq_true rfl) hRl⟩) rfl rfl hl hW hdg kk
    · exact X_callV hC hX (by rw [q]; decide) (by rw [q]; rfl) (As := []) (m_X8_ways l D a h _ hcF) (cwV 0 hC.2.2.2.2.1 (lw_V q1719 q559 q2564 q142 q560) rfl rfl rfl (by decide +kernel) ⟨Nat.le_trans (Nat.le_of_ble_eq_true rfl) hRf, Nat.le_trans (Nat.le_of_ble_eq_true rfl) hRl⟩) rfl rfl hl hW hdg kk
  replace hcF := it_f hcF q
  by_cases q : hT h a = 17
  · replace hcF := it_t hcF q
    exact X_callU hC hX (by rw [q]; decide) (by rw [q]; rfl) (As := []) (m_X9_ways l D a h _ hcF) (va_cwO 0 hC.2.2.2.2.1 (lw_O (owner := "BlindCards$Cut") q1719 q2563 q559 q2566 q563 q143 q564) rfl rfl rfl q560 (by decide +kernel) ⟨Nat.le_trans (Nat.le_of_ble_eq_true rfl) hRf, Nat.le_trans (Nat.le_of_ble_eq_true rfl) hRl⟩) rfl rfl hl hW hdg kk
  replace hcF := it_f hcF q
  exact nm_none hcF
theorem iX_X0_306 {p : Program} {l : Launch} {e : Env} {R : Room} {s : State} {m : MethodId} {args : Array Value} {below : List Frame} {meth : Method} {c : Code} {H : Heap} {locs : List Loc} {cells slots nL : Nat} {Q : State → Prop} {D : XD} {h0 h : TH} {cc : ByteArray} {pc : Nat} {ls : Array Slot} {rest : List Value} {h1 : TH} (hC : XCx D cc nL RX0 h0 p R s m args meth c) (hX : XSt D s h0 h H locs cells slots) {a : Nat} {b0 : Int32} {x : Int32} (ht : hT h a = 1) (hcF : F_X0_draw D.2.2.2 a b0 h = some (x, h1)) (hl : ls.size = nL) (hW : (rest.map fun v => v.category).sum ≤ 8) (hRf : 0 + 1 ≤ R.frames) (hRl : 21 ≤ R.locals) (hdg : decode cc pc = .ok (.invokevirtual 306, 3)) (kk : ∀ (H1 : Heap) (locs1 : List Loc) (cells1 slots1 : Nat), XSt D s h0 h1 H1 locs1 cells1 slots1 → W p l e R s m args below meth c H1 locs1 cells1 slots1 Q (F0 m (pc + 3) ls (.int x :: rest))) : W p l e R s m args below meth c H locs cells slots Q (F0 m pc ls (.int b0 :: rv a :: rest)) := by
  have q := ht
  exact X_callV hC hX (by rw [q]; decide) (by rw [q]; rfl) (As := [.int b0]) (m_X0_draw l D a b0 h _ hcF) (cwV 1 hC.2.2.2.2.1 (lw_V q1720 q1722 qs47 q125 q1723) rfl rfl rfl (by decide +kernel) ⟨Nat.le_trans (Nat.le_of_ble_eq_true rfl) hRf, Nat.le_trans (Nat.le_of_ble_eq_true rfl) hRl⟩) rfl rfl hl hW hdg kk
theorem iX_X0_309 {p : Program} {l : Launch} {e : Env} {R : Room} {s : State} {m : MethodId} {args : Array Value} {below : List Frame} {meth : Method} {c : Code} {H : Heap} {locs : List Loc} {cells slots nL : Nat} {Q : State → Prop} {D : XD} {h0 h : TH} {cc : ByteArray} {pc : Nat} {ls : Array Slot} {rest : List Value} (hC : XCx D cc nL RX0 h0 p R s m args meth c) (hX : XSt D s h0 h H locs cells slots) {a : Nat} {b0 : Int32} {b1 : Int32} {x : Int32} (ht : hT h a = 15 ∨ hT h a = 16 ∨ hT h a = 17) (hcF : F_X7_row D.2.2.2 h a b0 b1 = some x) (hl : ls.size = nL) (hW : (rest.map fun v => v.category).sum ≤ 8) (hRf : 3 + 1 ≤ R.frames) (hRl : 96 ≤ R.locals) (hdg : decode cc pc = .ok (.invokevirtual 309, 3)) (kk : ∀ (H1 : Heap) (locs1 : List Loc) (cells1 slots1 : Nat), XSt D s h0 h H1 locs1 cells1 slots1 → W p l e R s m args below meth c H1 locs1 cells1 slots1 Q (F0 m (pc + 3) ls (.int x :: rest))) : W p l e R s m args below meth c H locs cells slots Q (F0 m pc ls (.int b1 :: .int b0 :: rv a :: rest)) := by
  rcases ht with q | q | q
  · exact X_callU hC hX (by rw [q]; decide) (by rw [q]; rfl) (As := [.int b0, .int b1]) (m_X7_row l D a b0 b1 h _ hcF) (va_cwU 2 hC.2.2.2.2.1 (lw_U (owner := "BlindCards$Move") q1725 q1726 q1729 q596 q141 q602) rfl rfl rfl rfl (by decide +kernel) ⟨Nat.le_trans (Nat.le_of_ble_eq_true rfl) hRf, Nat.le_trans (Nat.le_of_ble_eq_true rfl) hRl⟩) rfl rfl hl hW hdg kk
  · exact X_callU hC hX (by rw [q]; decide) (by rw [q]; rfl) (As := [.int b0, .int b1]) (m_X7_row l D a b0 b1 h _ hcF) (va_cwU 2 hC.2.2.2.2.1 (lw_U (owner := "BlindCards$Move") q1725 q1726 q1728 q596 q141 q602) rfl rfl rfl rfl (by decide +kernel) ⟨Nat.le_trans (Nat.le_of_ble_eq_true rfl) hRf, Nat.le_trans (Nat.le_of_ble_eq_true rfl) hRl⟩) rfl rfl hl hW hdg kk
  · exact X_callU hC hX (by rw [q]; decide) (by rw [q]; rfl) (As := [.int b0, .int b1]) (m_X7_row l D a b0 b1 h _ hcF) (va_cwU 2 hC.2.2.2.2.1 (lw_U (owner := "BlindCards$Move") q1725 q1726 q1730 q596 q141 q602) rfl rfl rfl rfl (by decide +kernel) ⟨Nat.le_trans (Nat.le_of_ble_eq_true rfl) hRf, Nat.le_trans (Nat.le_of_ble_eq_true rfl) hRl⟩) rfl rfl hl hW hdg kk
theorem pX_X0_290 {p : Program} {l : Launch} {e : Env} {R : Room} {s : State} {m : MethodId} {args : Array Value} {below : List Frame} {meth : Method} {c : Code} {H : Heap} {locs : List Loc} {cells slots nL : Nat} {Q : State → Prop} {D : XD} {h0 h : TH} {cc : ByteArray} {pc : Nat} {ls : Array Slot} {rest : List Value} (hC : XCx D cc nL RX0 h0 p R s m args meth c) (hX : XSt D s h0 h H locs cells slots) {a : Nat} {v : Int32} (hf : hasF (hT h a) 25 = true) (hw : hT h a ≤ 24) (hdg : decode cc pc = .ok (.putfield 290, 3)) (kk : ∀ (H1 : Heap) (locs1 : List Loc), XSt D s h0 (uI h 25 a v) H1 locs1 cells slots → W p l e R s m args below meth c H1 locs1 cells slots Q (F0 m (pc + 3) ls rest)) : W p l e R s m args below meth c H locs cells slots Q (F0 m pc ls (.int v :: rv a :: rest)) :=
  X_puti hC hX 25 hf hw rfl rfl q775 (fun _ h => h) ⟨rfl, rfl⟩ hdg kk
theorem gX_X0_246 {p : Program} {l : Launch} {e : Env} {R : Room} {s : State} {m : MethodId} {args : Array Value} {below : List Frame} {meth : Method} {c : Code} {H : Heap} {locs : List Loc} {cells slots nL : Nat} {Q : State → Prop} {D : XD} {h0 h : TH} {cc : ByteArray} {pc : Nat} {ls : Array Slot} {rest : List Value} (hC : XCx D cc nL RX0 h0 p R s m args meth c) (hX : XSt D s h0 h H locs cells slots) {a : Nat} (hf : hasF (hT h a) 102 = true) (hdg : decode cc pc = .ok (.getfield 246, 3)) (kk : W p l e R s m args below meth c H locs cells slots Q (F0 m (pc + 3) ls (.int (hI h 102 a) :: rest))) : W p l e R s m args below meth c H locs cells slots Q (F0 m pc ls (rv a :: rest)) :=
  X_geti hC hX 102 hf rfl q1382 (fun _ h => h) hdg kk
theorem gX_X0_310 {p : Program} {l : Launch} {e : Env} {R : Room} {s : State} {m : MethodId} {args : Array Value} {below : List Frame} {meth : Method} {c : Code} {H : Heap} {locs : List Loc} {cells slots nL : Nat} {Q : State → Prop} {D : XD} {h0 h : TH} {cc : ByteArray} {pc : Nat} {ls : Array Slot} {rest : List Value} (hC : XCx D cc nL RX0 h0 p R s m args meth c) (hX : XSt D s h0 h H locs cells slots) {a : Nat} (hf : hasF (hT h a) 101 = true) (hdg : decode cc pc = .ok (.getfield 310, 3)) (kk : W p l e R s m args below meth c H locs cells slots Q (F0 m (pc + 3) ls (rv (hR h 101 a) :: rest))) : W p l e R s m args below meth c H locs cells slots Q (F0 m pc ls (rv a :: rest)) :=
  X_getr hC hX 101 hf rfl (fun q => absurd q (by decide)) q1378 (fun _ h => h) hdg kk
theorem gX_X0_321 {p : Program} {l : Launch} {e : Env} {R : Room} {s : State} {m : MethodId} {args : Array Value} {below : List Frame} {meth : Method} {c : Code} {H : Heap} {locs : List Loc} {cells slots nL : Nat} {Q : State → Prop} {D : XD} {h0 h : TH} {cc : ByteArray} {pc : Nat} {ls : Array Slot} {rest : List Value} (hC : XCx D cc nL RX0 h0 p R s m args meth c) (hX : XSt D s h0 h H locs cells slots) {a : Nat} (hf : hasF (hT h a) 110 = true) (hdg : decode cc pc = .ok (.getfield 321, 3)) (kk : W p l e R s m args below meth c H locs cells slots Q (F0 m (pc + 3) ls (.int (hI h 110 a) :: rest))) : W p l e R s m args below meth c H locs cells slots Q (F0 m pc ls (rv a :: rest)) :=
  X_geti hC hX 110 hf rfl q1518 (fun _ h => h) hdg kk
theorem iX_X0_324 {p : Program} {l : Launch} {e : Env} {R : Room} {s : State} {m : MethodId} {args : Array Value} {below : List Frame} {meth : Method} {c : Code} {H : Heap} {locs : List Loc} {cells slots nL : Nat} {Q : State → Prop} {D : XD} {h0 h : TH} {cc : ByteArray} {pc : Nat} {ls : Array Slot} {rest : List Value} (hC : XCx D cc nL RX0 h0 p R s m args meth c) (hX : XSt D s h0 h H locs cells slots) {b0 : Nat} {b1 : Int32} {x : Int32} (hcF : F_X0_answer D.2.2.2 h b0 b1 = some x) (hl : ls.size = nL) (hW : (rest.map fun v => v.category).sum ≤ 8) (hRf : 1 + 1 ≤ R.frames) (hRl : 44 ≤ R.locals) (hdg : decode cc pc = .ok (.invokestatic 324, 3)) (kk : ∀ (H1 : Heap) (locs1 : List Loc) (cells1 slots1 : Nat), XSt D s h0 h H1 locs1 cells1 slots1 → W p l e R s m args below meth c H1 locs1 cells1 slots1 Q (F0 m (pc + 3) ls (.int x :: rest))) : W p l e R s m args below meth c H locs cells slots Q (F0 m pc ls (.int b1 :: rv b0 :: rest)) := by
  exact X_callS hC hX (As := [rv b0, .int b1]) (m_X0_answer l D b0 b1 h _ hcF) (va_cwS 2 hC.2.2.2.2.1 (lw_S q1732 q635 q125 q636) rfl rfl rfl (by decide +kernel) ⟨Nat.le_trans (Nat.le_of_ble_eq_true rfl) hRf, Nat.le_trans (Nat.le_of_ble_eq_true rfl) hRl⟩) rfl rfl hl hW hdg kk
theorem pX_X0_281 {p : Program} {l : Launch} {e : Env} {R : Room} {s : State} {m : MethodId} {args : Array Value} {below : List Frame} {meth : Method} {c : Code} {H : Heap} {locs : List Loc} {cells slots nL : Nat} {Q : State → Prop} {D : XD} {h0 h : TH} {cc : ByteArray} {pc : Nat} {ls : Array Slot} {rest : List Value} (hC : XCx D cc nL RX0 h0 p R s m args meth c) (hX : XSt D s h0 h H locs cells slots) {a : Nat} {v : Int32} (hf : hasF (hT h a) 22 = true) (hw : hT h a ≤ 24) (hdg : decode cc pc = .ok (.putfield 281, 3)) (kk : ∀ (H1 : Heap) (locs1 : List Loc), XSt D s h0 (uI h 22 a v) H1 locs1 cells slots → W p l e R s m args below meth c H1 locs1 cells slots Q (F0 m (pc + 3) ls rest)) : W p l e R s m args below meth c H locs cells slots Q (F0 m pc ls (.int v :: rv a :: rest)) :=
  X_puti hC hX 22 hf hw rfl rfl q772 (fun _ h => h) ⟨rfl, rfl⟩ hdg kk
/-! BlindCards.playOn -/
def F_X0_playOn_b355 (K : Nat → Nat) (k4 : Nat → Int32 → Int32 → Int32 → TH → Option (Int32 × TH)) (x0 : Nat) (x1 : Int32) (x2 : Int32) (x3 : Int32) (h : TH) : Option (Int32 × TH) :=
  lt (x3 + (1 : Int32)) fun x3_1 =>
  k4 x0 x1 x2 x3_1 h
set_option maxHeartbeats 4000000 in
theorem w_X0_playOn_b355 {p : Program} {l : Launch} {e : Env} {s : State} {m : MethodId} {args : Array Value} {below : List Frame} {meth : Method} {c : Code} {D : XD} {h0 : TH} (hC : XCx D cX0_playOn 7 RX0 h0 p (xRm 4 96 h0) s m args meth c) (hr : meth.sig.returnType = some .int) (hnh : c.exceptionTable.isEmpty = true) (hin : meth.name = "playOn") {x : (Int32 × TH)} (k4 : Nat → Int32 → Int32 → Int32 → TH → Option (Int32 × TH)) (hk4 : ∀ (x0 : Nat) (x1 : Int32) (x2 : Int32) (x3 : Int32) (h : TH), k4 x0 x1 x2 x3 h = some x → XJ p l e (xRm 4 96 h0) s m args below meth c D 7 (.returned (some (.int x.1))) h0 x.2 4 [(0, rv x0), (1, .int x1), (2, .int x2), (3, .int x3)] [] h) :
    ∀ (x0 : Nat) (x1 : Int32) (x2 : Int32) (x3 : Int32) (h : TH), F_X0_playOn_b355 D.2.2.2 k4 x0 x1 x2 x3 h = some x → XJ p l e (xRm 4 96 h0) s m args below meth c D 7 (.returned (some (.int x.1))) h0 x.2 355 [(0, rv x0), (1, .int x1), (2, .int x2), (3, .int x3)] [] h := by
  have hx := hC.1
  have hb := hC.2.1
  intro x0 x1 x2 x3 h hF H locs cells slots ls hX hl
  rw [F_X0_playOn_b355] at hF
  obtain ⟨x3_1, ex3_1, hF⟩ := lt_ok hF
  refine lv_iinc (v := x3_1) (lv' := [(3, .int x3_1), (0, rv x0), (1, .int x1), (2, .int x2)]) hx hb dX0_playOn_355 hl (k := 3) rfl (by rw [ex3_1]; rfl) (by decide) rfl (fun ls hl => ?_)
  refine lv_goto (tgt := 4) hx hb dX0_playOn_358 (by decide) ?_
  exact hk4 x0 x1 x2 x3_1 h hF H locs cells slots ls hX (lv_sub hl [1, 2, 3, 0] rfl)
def F_X0_playOn_b340 (K : Nat → Nat) (x0 : Nat) (x2 : Int32) (x4 : Nat) (h : TH) : Option (Int32 × TH) :=
  gd (hasF (hT h x0) 24 = true) <|
  bd (F_X0_answer K h x4 (hI h 24 x0)) fun r_3 =>
  gd (hasF (hT h x0) 22 = true) <|
  gd (hT h x0 ≤ 24) <|
  lt (uI h 22 x0 r_3) fun h_6 =>
  some (x2, h_6)
set_option maxHeartbeats 4000000 in
theorem w_X0_playOn_b340 {p : Program} {l : Launch} {e : Env} {s : State} {m : MethodId} {args : Array Value} {below : List Frame} {meth : Method} {c : Code} {D : XD} {h0 : TH} (hC : XCx D cX0_playOn 7 RX0 h0 p (xRm 4 96 h0) s m args meth c) (hr : meth.sig.returnType = some .int) (hnh : c.exceptionTable.isEmpty = true) (hin : meth.name = "playOn") {x : (Int32 × TH)} :
    ∀ (x0 : Nat) (x2 : Int32) (x4 : Nat) (h : TH), F_X0_playOn_b340 D.2.2.2 x0 x2 x4 h = some x → XJ p l e (xRm 4 96 h0) s m args below meth c D 7 (.returned (some (.int x.1))) h0 x.2 340 [(0, rv x0), (2, .int x2), (4, rv x4)] [] h := by
  have hx := hC.1
  have hb := hC.2.1
  intro x0 x2 x4 h hF H locs cells slots ls hX hl
  rw [F_X0_playOn_b340] at hF
  refine X_aload_n hx hb dX0_playOn_340 rfl (lv_at hl 0 rfl) ?_
  refine X_aload hx hb dX0_playOn_341 (lv_at hl 2 rfl) ?_
  refine X_aload_n hx hb dX0_playOn_343 rfl (lv_at hl 0 rfl) ?_
  obtain ⟨h_1, hF⟩ := gd_ok hF
  refine gX_X0_287 hC hX h_1 dX0_playOn_344 ?_
  obtain ⟨r_3, hc_2, hF⟩ := bd_ok hF
  refine iX_X0_324 hC hX hc_2 hl.1 (cat4 (Nat.le_of_ble_eq_true rfl)) (Nat.le_of_ble_eq_true rfl) (Nat.le_of_ble_eq_true rfl) dX0_playOn_347 (fun H locs cells slots hX => ?_)
  obtain ⟨h_4, hF⟩ := gd_ok hF
  obtain ⟨h_5, hF⟩ := gd_ok hF
  refine pX_X0_281 hC hX h_4 h_5 dX0_playOn_350 (fun H locs hX => ?_)
  obtain ⟨h_6, eh_6, hF⟩ := lt_ok hF
  rw [← eh_6] at hX
  refine lv_iload_n hx hb dX0_playOn_353 rfl (lv_at hl 1 rfl) ?_
  exact x_reti hC hX hr rfl (rt1 hF) (rt2 hF) dX0_playOn_354
def F_X0_playOn_b321 (K : Nat → Nat) (k355 : Nat → Int32 → Int32 → Int32 → TH → Option (Int32 × TH)) (x0 : Nat) (x1 : Int32) (x2 : Int32) (x3 : Int32) (h : TH) : Option (Int32 × TH) :=
  k355 x0 x1 x2 x3 h
set_option maxHeartbeats 4000000 in
theorem w_X0_playOn_b321 {p : Program} {l : Launch} {e : Env} {s : State} {m : MethodId} {args : Array Value} {below : List Frame} {meth : Method} {c : Code} {D : XD} {h0 : TH} (hC : XCx D cX0_playOn 7 RX0 h0 p (xRm 4 96 h0) s m args meth c) (hr : meth.sig.returnType = some .int) (hnh : c.exceptionTable.isEmpty = true) (hin : meth.name = "playOn") {x : (Int32 × TH)} (k355 : Nat → Int32 → Int32 → Int32 → TH → Option (Int32 × TH)) (hk355 : ∀ (x0 : Nat) (x1 : Int32) (x2 : Int32) (x3 : Int32) (h : TH), k355 x0 x1 x2 x3 h = some x → XJ p l e (xRm 4 96 h0) s m args below meth c D 7 (.returned (some (.int x.1))) h0 x.2 355 [(0, rv x0), (1, .int x1), (2, .int x2), (3, .int x3)] [] h) :
    ∀ (x0 : Nat) (x1 : Int32) (x2 : Int32) (x3 : Int32) (h : TH), F_X0_playOn_b321 D.2.2.2 k355 x0 x1 x2 x3 h = some x → XJ p l e (xRm 4 96 h0) s m args below meth c D 7 (.returned (some (.int x.1))) h0 x.2 321 [(0, rv x0), (1, .int x1), (2, .int x2), (3, .int x3)] [] h := by
  have hx := hC.1
  have hb := hC.2.1
  intro x0 x1 x2 x3 h hF H locs cells slots ls hX hl
  rw [F_X0_playOn_b321] at hF
  refine lv_goto (tgt := 355) hx hb dX0_playOn_321 (by decide) ?_
  exact hk355 x0 x1 x2 x3 h hF H locs cells slots ls hX (lv_sub hl [0, 1, 2, 3] rfl)
def F_X0_playOn_b312 (K : Nat → Nat) (k355 : Nat → Int32 → Int32 → Int32 → TH → Option (Int32 × TH)) (x0 : Nat) (x1 : Int32) (x2 : Int32) (x3 : Int32) (x5 : Nat) (y0 : Int32) (y1 : Int32) (h : TH) : Option (Int32 × TH) :=
  if y1 = y0 then
    gd (hasF (hT h x5) 110 = true) <|
    lt ((hI h 110 x5)) fun x_3 =>
    F_X0_playOn_b321 K k355 x0 x1 x2 x_3 h
  else
    F_X0_playOn_b321 K k355 x0 x1 x2 x3 h
set_option maxHeartbeats 4000000 in
theorem w_X0_playOn_b312 {p : Program} {l : Launch} {e : Env} {s : State} {m : MethodId} {args : Array Value} {below : List Frame} {meth : Method} {c : Code} {D : XD} {h0 : TH} (hC : XCx D cX0_playOn 7 RX0 h0 p (xRm 4 96 h0) s m args meth c) (hr : meth.sig.returnType = some .int) (hnh : c.exceptionTable.isEmpty = true) (hin : meth.name = "playOn") {x : (Int32 × TH)} (k355 : Nat → Int32 → Int32 → Int32 → TH → Option (Int32 × TH)) (hk355 : ∀ (x0 : Nat) (x1 : Int32) (x2 : Int32) (x3 : Int32) (h : TH), k355 x0 x1 x2 x3 h = some x → XJ p l e (xRm 4 96 h0) s m args below meth c D 7 (.returned (some (.int x.1))) h0 x.2 355 [(0, rv x0), (1, .int x1), (2, .int x2), (3, .int x3)] [] h) :
    ∀ (x0 : Nat) (x1 : Int32) (x2 : Int32) (x3 : Int32) (x5 : Nat) (y0 : Int32) (y1 : Int32) (h : TH), F_X0_playOn_b312 D.2.2.2 k355 x0 x1 x2 x3 x5 y0 y1 h = some x → XJ p l e (xRm 4 96 h0) s m args below meth c D 7 (.returned (some (.int x.1))) h0 x.2 312 [(0, rv x0), (1, .int x1), (2, .int x2), (3, .int x3), (5, rv x5)] [.int y0, .int y1] h := by
  have hx := hC.1
  have hb := hC.2.1
  intro x0 x1 x2 x3 x5 y0 y1 h hF H locs cells slots ls hX hl
  rw [F_X0_playOn_b312] at hF
  refine lv_icmp_ne (tgt := 321) hx hb dX0_playOn_312 (by decide) (fun c_1 => ?_) (fun c_1 => ?_)
  · replace hF := it_f hF c_1
    exact w_X0_playOn_b321 hC hr hnh hin k355 hk355 x0 x1 x2 x3 h hF H locs cells slots ls hX (lv_sub hl [0, 1, 2, 3] rfl)
  · replace hF := it_t hF c_1
    refine X_aload hx hb dX0_playOn_315 (lv_at hl 4 rfl) ?_
    obtain ⟨h_2, hF⟩ := gd_ok hF
    refine gX_X0_321 hC hX h_2 dX0_playOn_317 ?_
    refine lv_topi (fun x_3 ex_3 => ?_)
    replace hF := lt_at hF ex_3
    refine lv_istore_n (lv' := [(3, .int x_3), (0, rv x0), (1, .int x1), (2, .int x2), (5, rv x5)]) hx hb dX0_playOn_320 rfl hl (by decide) rfl (fun ls hl => ?_)
    exact w_X0_playOn_b321 hC hr hnh hin k355 hk355 x0 x1 x2 x_3 h hF H locs cells slots ls hX (lv_sub hl [1, 2, 3, 0] rfl)
def F_X0_playOn_b268 (K : Nat → Nat) (k355 : Nat → Int32 → Int32 → Int32 → TH → Option (Int32 × TH)) (x0 : Nat) (x1 : Int32) (x2 : Int32) (x3 : Int32) (h : TH) : Option (Int32 × TH) :=
  lt (x2 + (1 : Int32)) fun x2_1 =>
  k355 x0 x1 x2_1 x3 h
set_option maxHeartbeats 4000000 in
theorem w_X0_playOn_b268 {p : Program} {l : Launch} {e : Env} {s : State} {m : MethodId} {args : Array Value} {below : List Frame} {meth : Method} {c : Code} {D : XD} {h0 : TH} (hC : XCx D cX0_playOn 7 RX0 h0 p (xRm 4 96 h0) s m args meth c) (hr : meth.sig.returnType = some .int) (hnh : c.exceptionTable.isEmpty = true) (hin : meth.name = "playOn") {x : (Int32 × TH)} (k355 : Nat → Int32 → Int32 → Int32 → TH → Option (Int32 × TH)) (hk355 : ∀ (x0 : Nat) (x1 : Int32) (x2 : Int32) (x3 : Int32) (h : TH), k355 x0 x1 x2 x3 h = some x → XJ p l e (xRm 4 96 h0) s m args below meth c D 7 (.returned (some (.int x.1))) h0 x.2 355 [(0, rv x0), (1, .int x1), (2, .int x2), (3, .int x3)] [] h) :
    ∀ (x0 : Nat) (x1 : Int32) (x2 : Int32) (x3 : Int32) (h : TH), F_X0_playOn_b268 D.2.2.2 k355 x0 x1 x2 x3 h = some x → XJ p l e (xRm 4 96 h0) s m args below meth c D 7 (.returned (some (.int x.1))) h0 x.2 268 [(0, rv x0), (1, .int x1), (2, .int x2), (3, .int x3)] [] h := by
  have hx := hC.1
  have hb := hC.2.1
  intro x0 x1 x2 x3 h hF H locs cells slots ls hX hl
  rw [F_X0_playOn_b268] at hF
  obtain ⟨x2_1, ex2_1, hF⟩ := lt_ok hF
  refine lv_iinc (v := x2_1) (lv' := [(2, .int x2_1), (0, rv x0), (1, .int x1), (3, .int x3)]) hx hb dX0_playOn_268 hl (k := 2) rfl (by rw [ex2_1]; rfl) (by decide) rfl (fun ls hl => ?_)
  refine lv_goto (tgt := 355) hx hb dX0_playOn_271 (by decide) ?_
  exact hk355 x0 x1 x2_1 x3 h hF H locs cells slots ls hX (lv_sub hl [1, 2, 0, 3] rfl)
def F_X0_playOn_L228 (K : Nat → Nat) (k355 : Nat → Int32 → Int32 → Int32 → TH → Option (Int32 × TH)) : Nat → Nat → Int32 → Int32 → Int32 → Nat → Int32 → TH → Option (Int32 × TH)
  | 0, _, _, _, _, _, _, _ => none
  | fu + 1, x0, x1, x2, x3, x5, x6, h =>
    gd (hasF (hT h x5) 102 = true) <|
    if (hI h 102 x5) ≤ x6 then
      F_X0_playOn_b268 K k355 x0 x1 x2 x3 h
    else
      gd (hasF (hT h x0) 20 = true) <|
      lt (hR h 20 x0) fun r_4 =>
      gd (hasF (hT h x5) 101 = true) <|
      lt (hR h 101 x5) fun r_6 =>
      gd (hT h r_6 = 31 ∨ hT h r_6 = 43) <|
      gd (inb x6 (hN h r_6)) <|
      gd (hasF (hT h x0) 19 = true) <|
      lt (hR h 19 x0) fun r_10 =>
      gd (hT h r_10 = 31 ∨ hT h r_10 = 43) <|
      gd (inb x2 (hN h r_10)) <|
      gd (hT h r_4 = 31) <|
      gd (inb (hA h r_6 (Int32.toNatClampNeg x6)) (hN h r_4)) <|
      lt (uA h r_4 (Int32.toNatClampNeg (hA h r_6 (Int32.toNatClampNeg x6))) (((hA h r_10 (Int32.toNatClampNeg x2)) >>> (x6 &&& 31)) &&& (1 : Int32))) fun h_15 =>
      lt (x6 + (1 : Int32)) fun x6_16 =>
      F_X0_playOn_L228 K k355 fu x0 x1 x2 x3 x5 x6_16 h_15
set_option maxHeartbeats 4000000 in
theorem w_X0_playOn_L228 {p : Program} {l : Launch} {e : Env} {s : State} {m : MethodId} {args : Array Value} {below : List Frame} {meth : Method} {c : Code} {D : XD} {h0 : TH} (hC : XCx D cX0_playOn 7 RX0 h0 p (xRm 4 96 h0) s m args meth c) (hr : meth.sig.returnType = some .int) (hnh : c.exceptionTable.isEmpty = true) (hin : meth.name = "playOn") {x : (Int32 × TH)} (k355 : Nat → Int32 → Int32 → Int32 → TH → Option (Int32 × TH)) (hk355 : ∀ (x0 : Nat) (x1 : Int32) (x2 : Int32) (x3 : Int32) (h : TH), k355 x0 x1 x2 x3 h = some x → XJ p l e (xRm 4 96 h0) s m args below meth c D 7 (.returned (some (.int x.1))) h0 x.2 355 [(0, rv x0), (1, .int x1), (2, .int x2), (3, .int x3)] [] h) :
    ∀ (fu : Nat) (x0 : Nat) (x1 : Int32) (x2 : Int32) (x3 : Int32) (x5 : Nat) (x6 : Int32) (h : TH), F_X0_playOn_L228 D.2.2.2 k355 fu x0 x1 x2 x3 x5 x6 h = some x → XJ p l e (xRm 4 96 h0) s m args below meth c D 7 (.returned (some (.int x.1))) h0 x.2 228 [(0, rv x0), (1, .int x1), (2, .int x2), (3, .int x3), (5, rv x5), (6, .int x6)] [] h := by
  have hx := hC.1
  have hb := hC.2.1
  intro fu
  induction fu with
  | zero => intro x0 x1 x2 x3 x5 x6 h hF; exact nm_none hF
  | succ fu ih =>
    intro x0 x1 x2 x3 x5 x6 h hF H locs cells slots ls hX hl
    rw [F_X0_playOn_L228] at hF
    refine lv_iload hx hb dX0_playOn_228 (lv_at hl 5 rfl) ?_
    refine X_aload hx hb dX0_playOn_230 (lv_at hl 4 rfl) ?_
    obtain ⟨h_1, hF⟩ := gd_ok hF
    refine gX_X0_246 hC hX h_1 dX0_playOn_232 ?_
    refine lv_icmp_ge (tgt := 268) hx hb dX0_playOn_235 (by decide) (fun c_2 => ?_) (fun c_2 => ?_)
    · replace hF := it_t hF c_2
      exact w_X0_playOn_b268 hC hr hnh hin k355 hk355 x0 x1 x2 x3 h hF H locs cells slots ls hX (lv_sub hl [0, 1, 2, 3] rfl)
    · replace hF := it_f hF c_2
      refine X_aload_n hx hb dX0_playOn_238 rfl (lv_at hl 0 rfl) ?_
      obtain ⟨h_3, hF⟩ := gd_ok hF
      refine gX_X0_88 hC hX h_3 dX0_playOn_239 ?_
      refine lv_topr (fun r_4 er_4 => ?_)
      replace hF := lt_at hF er_4
      refine X_aload hx hb dX0_playOn_242 (lv_at hl 4 rfl) ?_
      obtain ⟨h_5, hF⟩ := gd_ok hF
      refine gX_X0_310 hC hX h_5 dX0_playOn_244 ?_
      refine lv_topr (fun r_6 er_6 => ?_)
      replace hF := lt_at hF er_6
      refine lv_iload hx hb dX0_playOn_247 (lv_at hl 5 rfl) ?_
      obtain ⟨h_7, hF⟩ := gd_ok hF
      obtain ⟨h_8, hF⟩ := gd_ok hF
      refine X_iald hC hX h_7 h_8 dX0_playOn_249 ?_
      refine X_aload_n hx hb dX0_playOn_250 rfl (lv_at hl 0 rfl) ?_
      obtain ⟨h_9, hF⟩ := gd_ok hF
      refine gX_X0_84 hC hX h_9 dX0_playOn_251 ?_
      refine lv_topr (fun r_10 er_10 => ?_)
      replace hF := lt_at hF er_10
      refine lv_iload_n hx hb dX0_playOn_254 rfl (lv_at hl 2 rfl) ?_
      obtain ⟨h_11, hF⟩ := gd_ok hF
      obtain ⟨h_12, hF⟩ := gd_ok hF
      refine X_iald hC hX h_11 h_12 dX0_playOn_255 ?_
      refine lv_iload hx hb dX0_playOn_256 (lv_at hl 5 rfl) ?_
      refine lv_ishr hx hb dX0_playOn_258 ?_
      refine lv_iconst (v := 1) hx hb dX0_playOn_259 (by decide) ?_
      refine lv_iand hx hb dX0_playOn_260 ?_
      obtain ⟨h_13, hF⟩ := gd_ok hF
      obtain ⟨h_14, hF⟩ := gd_ok hF
      refine X_iast hC hX h_13 h_14 dX0_playOn_261 (fun H locs hX => ?_)
      obtain ⟨h_15, eh_15, hF⟩ := lt_ok hF
      rw [← eh_15] at hX
      obtain ⟨x6_16, ex6_16, hF⟩ := lt_ok hF
      refine lv_iinc (v := x6_16) hx hb dX0_playOn_262 hl (k := 5) rfl (by rw [ex6_16]; rfl) (by decide) rfl (fun ls hl => ?_)
      replace hl : lv_has ls 7 [(6, .int x6_16), (0, rv x0), (1, .int x1), (2, .int x2), (3, .int x3), (5, rv x5)] := lv_subS hl (List.forall_mem_cons.mpr ⟨Or.inl rfl, (List.forall_mem_cons.mpr ⟨Or.inr ⟨List.mem_of_getElem? (i := 0) rfl, rfl⟩, (List.forall_mem_cons.mpr ⟨Or.inr ⟨List.mem_of_getElem? (i := 1) rfl, rfl⟩, (List.forall_mem_cons.mpr ⟨Or.inr ⟨List.mem_of_getElem? (i := 2) rfl, rfl⟩, (List.forall_mem_cons.mpr ⟨Or.inr ⟨List.mem_of_getElem? (i := 3) rfl, rfl⟩, (List.forall_mem_cons.mpr ⟨Or.inr ⟨List.mem_of_getElem? (i := 4) rfl, by simp [rv_cat]⟩, (fun _ h => nomatch h)⟩)⟩)⟩)⟩)⟩)⟩)
      refine lv_goto (tgt := 228) hx hb dX0_playOn_265 (by decide) ?_
      exact ih x0 x1 x2 x3 x5 x6_16 h_15 hF H locs cells slots ls hX (lv_sub hl [1, 2, 3, 4, 5, 0] rfl)
def F_X0_playOn_L4 (K : Nat → Nat) : Nat → Nat → Int32 → Int32 → Int32 → TH → Option (Int32 × TH)
  | 0, _, _, _, _, _ => none
  | fu + 1, x0, x1, x2, x3, h =>
    gd (hasF (hT h x0) 7 = true) <|
    lt (hR h 7 x0) fun r_2 =>
    gd (hasF (hT h r_2) 30 = true) <|
    lt (hR h 30 r_2) fun r_4 =>
    gd (hT h r_4 = 3) <|
    bd (F_J2_size K h r_4) fun r_7 =>
    if r_7 ≤ x3 then
      some (x2, h)
    else
      gd (hasF (hT h x0) 7 = true) <|
      lt (hR h 7 x0) fun r_10 =>
      gd (hasF (hT h r_10) 30 = true) <|
      lt (hR h 30 r_10) fun r_12 =>
      gd (hT h r_12 = 3) <|
      bd (F_J2_get K h r_12 x3) fun r_15 =>
      gd (r_15 = 0 ∨ castB (hT h r_15) "BlindCards$Step" = true) <|
      gd (hasF (hT h x0) 23 = true) <|
      gd (hasF (hT h x0) 23 = true) <|
      gd (hT h x0 ≤ 24) <|
      lt (uI h 23 x0 ((hI h 23 x0) + (1 : Int32))) fun h_20 =>
      bd (V_X6_needs K h_20 r_15) fun r_22 =>
      gd (hasF (hT h_20 x0) 25 = true) <|
      if r_22 ≤ (hI h_20 25 x0) then
        bd (isI h_20 r_15 "BlindCards$Lay") fun r_25 =>
        if r_25 = 0 then
          bd (isI h_20 r_15 "BlindCards$Cut") fun r_28 =>
          if r_28 = 0 then
            bd (isI h_20 r_15 "BlindCards$Move") fun r_31 =>
            if r_31 = 0 then
              bd (isI h_20 r_15 "BlindCards$Open") fun r_34 =>
              if r_34 = 0 then
                bd (isI h_20 r_15 "BlindCards$If") fun r_37 =>
                if r_37 = 0 then
                  bd (isI h_20 r_15 "BlindCards$End") fun r_40 =>
                  if r_40 = 0 then
                    bd (isI h_20 r_15 "BlindCards$Says") fun r_43 =>
                    if r_43 = 0 then
                      F_X0_playOn_b355 K (F_X0_playOn_L4 K fu) x0 x1 x2 x3 h_20
                    else
                      F_X0_playOn_b340 K x0 x2 r_15 h_20
                  else
                    F_X0_playOn_b340 K x0 x2 r_15 h_20
                else
                  gd (r_15 = 0 ∨ castB (hT h_20 r_15) "BlindCards$If" = true) <|
                  gd (hasF (hT h_20 x0) 20 = true) <|
                  lt (hR h_20 20 x0) fun r_48 =>
                  gd (hasF (hT h_20 r_15) 106 = true) <|
                  gd (hT h_20 r_48 = 31 ∨ hT h_20 r_48 = 43) <|
                  gd (inb (hI h_20 106 r_15) (hN h_20 r_48)) <|
                  gd (hasF (hT h_20 r_15) 107 = true) <|
                  if (hI h_20 107 r_15) = 0 then
                    F_X0_playOn_b312 K (F_X0_playOn_b355 K (F_X0_playOn_L4 K fu)) x0 x1 x2 x3 r_15 (0 : Int32) (hA h_20 r_48 (Int32.toNatClampNeg (hI h_20 106 r_15))) h_20
                  else
                    F_X0_playOn_b312 K (F_X0_playOn_b355 K (F_X0_playOn_L4 K fu)) x0 x1 x2 x3 r_15 (1 : Int32) (hA h_20 r_48 (Int32.toNatClampNeg (hI h_20 106 r_15))) h_20
              else
                gd (r_15 = 0 ∨ castB (hT h_20 r_15) "BlindCards$Open" = true) <|
                gd (hasF (hT h_20 x0) 19 = true) <|
                lt (hR h_20 19 x0) fun r_56 =>
                gd (hasF (hT h_20 x0) 24 = true) <|
                gd (hT h_20 r_15 = 18) <|
                bd (F_X18_seen K h_20 r_15 (hI h_20 24 x0)) fun r_60 =>
                gd (hT h_20 r_56 = 31) <|
                gd (inb x2 (hN h_20 r_56)) <|
                lt (uA h_20 r_56 (Int32.toNatClampNeg x2) r_60) fun h_63 =>
                F_X0_playOn_L228 K (F_X0_playOn_b355 K (F_X0_playOn_L4 K fu)) MN x0 x1 x2 x3 r_15 (0 : Int32) h_63
            else
              gd (r_15 = 0 ∨ castB (hT h_20 r_15) "BlindCards$Move" = true) <|
              gd (hasF (hT h_20 x0) 24 = true) <|
              gd (hT h_20 r_15 = 14 ∨ hT h_20 r_15 = 15 ∨ hT h_20 r_15 = 16 ∨ hT h_20 r_15 = 17) <|
              bd (F_X7_row K h_20 r_15 (hI h_20 24 x0) (0 : Int32)) fun r_68 =>
              gd (hasF (hT h_20 x0) 24 = true) <|
              gd (hT h_20 x0 ≤ 24) <|
              lt (uI h_20 24 x0 r_68) fun h_71 =>
              F_X0_playOn_b355 K (F_X0_playOn_L4 K fu) x0 x1 x2 x3 h_71
          else
            gd (r_15 = 0 ∨ castB (hT h_20 r_15) "BlindCards$Cut" = true) <|
            gd (hasF (hT h_20 x0) 24 = true) <|
            gd (r_15 = 0 ∨ castB (hT h_20 r_15) "BlindCards$Cut" = true) <|
            bd (V_X8_ways K h_20 r_15) fun r_76 =>
            gd (hT h_20 x0 = 1) <|
            bd2 (F_X0_draw K x0 r_76 h_20) fun r_80 h_79 =>
            gd (hT h_79 r_15 = 15 ∨ hT h_79 r_15 = 16 ∨ hT h_79 r_15 = 17) <|
            bd (F_X7_row K h_79 r_15 (hI h_20 24 x0) r_80) fun r_83 =>
            gd (hasF (hT h_79 x0) 24 = true) <|
            gd (hT h_79 x0 ≤ 24) <|
            lt (uI h_79 24 x0 r_83) fun h_86 =>
            F_X0_playOn_b355 K (F_X0_playOn_L4 K fu) x0 x1 x2 x3 h_86
        else
          gd (r_15 = 0 ∨ castB (hT h_20 r_15) "BlindCards$Lay" = true) <|
          gd (hasF (hT h_20 x0) 25 = true) <|
          gd (hT h_20 r_15 = 19) <|
          bd (F_X19_many K h_20 r_15) fun r_91 =>
          if ((hI h_20 25 x0) + r_91) ≤ (8 : Int32) then
            gd (hasF (hT h_20 x0) 24 = true) <|
            gd (hasF (hT h_20 x0) 25 = true) <|
            gd (hT h_20 r_15 = 19) <|
            bd (F_X19_cards K h_20 r_15 (hI h_20 25 x0) x1 (-1 : Int32) (0 : Int32)) fun r_97 =>
            gd (hasF (hT h_20 x0) 24 = true) <|
            gd (hT h_20 x0 ≤ 24) <|
            lt (uI h_20 24 x0 ((hI h_20 24 x0) ||| r_97)) fun h_100 =>
            gd (hasF (hT h_100 x0) 25 = true) <|
            gd (hT h_100 r_15 = 19) <|
            bd (F_X19_many K h_100 r_15) fun r_104 =>
            gd (hasF (hT h_100 x0) 25 = true) <|
            gd (hT h_100 x0 ≤ 24) <|
            lt (uI h_100 25 x0 ((hI h_100 25 x0) + r_104)) fun h_107 =>
            F_X0_playOn_b355 K (F_X0_playOn_L4 K fu) x0 x1 x2 x3 h_107
          else
            some (x2, h_20)
      else
        some (x2, h_20)
set_option maxHeartbeats 4000000 in
theorem w_X0_playOn_L4 {p : Program} {l : Launch} {e : Env} {s : State} {m : MethodId} {args : Array Value} {below : List Frame} {meth : Method} {c : Code} {D : XD} {h0 : TH} (hC : XCx D cX0_playOn 7 RX0 h0 p (xRm 4 96 h0) s m args meth c) (hr : meth.sig.returnType = some .int) (hnh : c.exceptionTable.isEmpty = true) (hin : meth.name = "playOn") {x : (Int32 × TH)} :
    ∀ (fu : Nat) (x0 : Nat) (x1 : Int32) (x2 : Int32) (x3 : Int32) (h : TH), F_X0_playOn_L4 D.2.2.2 fu x0 x1 x2 x3 h = some x → XJ p l e (xRm 4 96 h0) s m args below meth c D 7 (.returned (some (.int x.1))) h0 x.2 4 [(0, rv x0), (1, .int x1), (2, .int x2), (3, .int x3)] [] h := by
  have hx := hC.1
  have hb := hC.2.1
  intro fu
  induction fu with
  | zero => intro x0 x1 x2 x3 h hF; exact nm_none hF
  | succ fu ih =>
    intro x0 x1 x2 x3 h hF H locs cells slots ls hX hl
    rw [F_X0_playOn_L4] at hF
    refine lv_iload_n hx hb dX0_playOn_4 rfl (lv_at hl 3 rfl) ?_
    refine X_aload_n hx hb dX0_playOn_5 rfl (lv_at hl 0 rfl) ?_
    obtain ⟨h_1, hF⟩ := gd_ok hF
    refine gX_X0_15 hC hX h_1 dX0_playOn_6 ?_
    refine lv_topr (fun r_2 er_2 => ?_)
    replace hF := lt_at hF er_2
    obtain ⟨h_3, hF⟩ := gd_ok hF
    refine gX_X0_145 hC hX h_3 dX0_playOn_9 ?_
    refine lv_topr (fun r_4 er_4 => ?_)
    replace hF := lt_at hF er_4
    obtain ⟨h_5, hF⟩ := gd_ok hF
    obtain ⟨r_7, hc_6, hF⟩ := bd_ok hF
    refine iX_X0_148 hC hX h_5 hc_6 hl.1 (Nat.le_of_ble_eq_true rfl) (Nat.le_of_ble_eq_true rfl) (Nat.le_of_ble_eq_true rfl) dX0_playOn_12 (fun H locs cells slots hX => ?_)
    refine lv_icmp_ge (tgt := 361) hx hb dX0_playOn_15 (by decide) (fun c_8 => ?_) (fun c_8 => ?_)
    · replace hF := it_t hF c_8
      refine lv_iload_n hx hb dX0_playOn_361 rfl (lv_at hl 2 rfl) ?_
      exact x_reti hC hX hr rfl (rt1 hF) (rt2 hF) dX0_playOn_362
    · replace hF := it_f hF c_8
      refine X_aload_n hx hb dX0_playOn_18 rfl (lv_at hl 0 rfl) ?_
      obtain ⟨h_9, hF⟩ := gd_ok hF
      refine gX_X0_15 hC hX h_9 dX0_playOn_19 ?_
      refine lv_topr (fun r_10 er_10 => ?_)
      replace hF := lt_at hF er_10
      obtain ⟨h_11, hF⟩ := gd_ok hF
      refine gX_X0_145 hC hX h_11 dX0_playOn_22 ?_
      refine lv_topr (fun r_12 er_12 => ?_)
      replace hF := lt_at hF er_12
      refine lv_iload_n hx hb dX0_playOn_25 rfl (lv_at hl 3 rfl) ?_
      obtain ⟨h_13, hF⟩ := gd_ok hF
      obtain ⟨r_15, hc_14, hF⟩ := bd_ok hF
      refine iX_X0_222 hC hX h_13 hc_14 hl.1 (Nat.le_of_ble_eq_true rfl) (Nat.le_of_ble_eq_true rfl) (Nat.le_of_ble_eq_true rfl) dX0_playOn_26 (fun H locs cells slots hX => ?_)
      obtain ⟨h_16, hF⟩ := gd_ok hF
      refine X_cast hC hX h_16 q1716 dX0_playOn_29 ?_
      refine X_astore (lv' := [(4, rv r_15), (0, rv x0), (1, .int x1), (2, .int x2), (3, .int x3)]) hx hb dX0_playOn_32 hl (by decide) rfl (fun ls hl => ?_)
      refine X_aload_n hx hb dX0_playOn_34 rfl (lv_at hl 1 rfl) ?_
      refine lv_dup hx hb dX0_playOn_35 (rv_cat _) ?_
      obtain ⟨h_17, hF⟩ := gd_ok hF
      refine gX_X0_284 hC hX h_17 dX0_playOn_36 ?_
      refine lv_iconst (v := 1) hx hb dX0_playOn_39 (by decide) ?_
      refine lv_iadd hx hb dX0_playOn_40 ?_
      obtain ⟨h_18, hF⟩ := gd_ok hF
      obtain ⟨h_19, hF⟩ := gd_ok hF
      refine pX_X0_284 hC hX h_18 h_19 dX0_playOn_41 (fun H locs hX => ?_)
      obtain ⟨h_20, eh_20, hF⟩ := lt_ok hF
      rw [← eh_20] at hX
      refine X_aload hx hb dX0_playOn_44 (lv_at hl 0 rfl) ?_
      obtain ⟨r_22, hc_21, hF⟩ := bd_ok hF
      refine iX_X0_302 hC hX hc_21 hl.1 (Nat.le_of_ble_eq_true rfl) (Nat.le_of_ble_eq_true rfl) (Nat.le_of_ble_eq_true rfl) dX0_playOn_46 (fun H locs cells slots hX => ?_)
      refine X_aload_n hx hb dX0_playOn_49 rfl (lv_at hl 1 rfl) ?_
      obtain ⟨h_23, hF⟩ := gd_ok hF
      refine gX_X0_290 hC hX h_23 dX0_playOn_50 ?_
      refine lv_icmp_le (tgt := 58) hx hb dX0_playOn_53 (by decide) (fun c_24 => ?_) (fun c_24 => ?_)
      · replace hF := it_t hF c_24
        refine X_aload hx hb dX0_playOn_58 (lv_at hl 0 rfl) ?_
        obtain ⟨r_25, hc_26, hF⟩ := bd_ok hF
        refine X_inst hC hX hc_26 q1681 dX0_playOn_60 ?_
        refine lv_if_eq (tgt := 128) hx hb dX0_playOn_63 (by decide) (fun c_27 => ?_) (fun c_27 => ?_)
        · replace hF := it_t hF c_27
          refine X_aload hx hb dX0_playOn_128 (lv_at hl 0 rfl) ?_
          obtain ⟨r_28, hc_29, hF⟩ := bd_ok hF
          refine X_inst hC hX hc_29 q1718 dX0_playOn_130 ?_
          refine lv_if_eq (tgt := 167) hx hb dX0_playOn_133 (by decide) (fun c_30 => ?_) (fun c_30 => ?_)
          · replace hF := it_t hF c_30
            refine X_aload hx hb dX0_playOn_167 (lv_at hl 0 rfl) ?_
            obtain ⟨r_31, hc_32, hF⟩ := bd_ok hF
            refine X_inst hC hX hc_32 q1694 dX0_playOn_169 ?_
            refine lv_if_eq (tgt := 195) hx hb dX0_playOn_172 (by decide) (fun c_33 => ?_) (fun c_33 => ?_)
            · replace hF := it_t hF c_33
              refine X_aload hx hb dX0_playOn_195 (lv_at hl 0 rfl) ?_
              obtain ⟨r_34, hc_35, hF⟩ := bd_ok hF
              refine X_inst hC hX hc_35 q1687 dX0_playOn_197 ?_
              refine lv_if_eq (tgt := 274) hx hb dX0_playOn_200 (by decide) (fun c_36 => ?_) (fun c_36 => ?_)
              · replace hF := it_t hF c_36
                refine X_aload hx hb dX0_playOn_274 (lv_at hl 0 rfl) ?_
                obtain ⟨r_37, hc_38, hF⟩ := bd_ok hF
                refine X_inst hC hX hc_38 q1731 dX0_playOn_276 ?_
                refine lv_if_eq (tgt := 324) hx hb dX0_playOn_279 (by decide) (fun c_39 => ?_) (fun c_39 => ?_)
                · replace hF := it_t hF c_39
                  refine X_aload hx hb dX0_playOn_324 (lv_at hl 0 rfl) ?_
                  obtain ⟨r_40, hc_41, hF⟩ := bd_ok hF
                  refine X_inst hC hX hc_41 q637 dX0_playOn_326 ?_
                  refine lv_if_ne (tgt := 340) hx hb dX0_playOn_329 (by decide) (fun c_42 => ?_) (fun c_42 => ?_)
                  · replace hF := it_f hF c_42
                    exact w_X0_playOn_b340 hC hr hnh hin x0 x2 r_15 h_20 hF H locs cells slots ls hX (lv_sub hl [1, 3, 0] rfl)
                  · replace hF := it_t hF c_42
                    refine X_aload hx hb dX0_playOn_332 (lv_at hl 0 rfl) ?_
                    obtain ⟨r_43, hc_44, hF⟩ := bd_ok hF
                    refine X_inst hC hX hc_44 q642 dX0_playOn_334 ?_
                    refine lv_if_eq (tgt := 355) hx hb dX0_playOn_337 (by decide) (fun c_45 => ?_) (fun c_45 => ?_)
                    · replace hF := it_t hF c_45
                      exact w_X0_playOn_b355 hC hr hnh hin (F_X0_playOn_L4 D.2.2.2 fu) ih x0 x1 x2 x3 h_20 hF H locs cells slots ls hX (lv_sub hl [1, 2, 3, 4] rfl)
                    · replace hF := it_f hF c_45
                      exact w_X0_playOn_b340 hC hr hnh hin x0 x2 r_15 h_20 hF H locs cells slots ls hX (lv_sub hl [1, 3, 0] rfl)
                · replace hF := it_f hF c_39
                  refine X_aload hx hb dX0_playOn_282 (lv_at hl 0 rfl) ?_
                  obtain ⟨h_46, hF⟩ := gd_ok hF
                  refine X_cast hC hX h_46 q1731 dX0_playOn_284 ?_
                  refine X_astore (i := 5) hx hb dX0_playOn_287 hl (by decide) rfl (fun ls hl => ?_)
                  replace hl : lv_has ls 7 [(5, rv r_15), (4, rv r_15), (0, rv x0), (1, .int x1), (2, .int x2), (3, .int x3)] := lv_subS hl (List.forall_mem_cons.mpr ⟨Or.inl rfl, (List.forall_mem_cons.mpr ⟨Or.inr ⟨List.mem_of_getElem? (i := 0) rfl, by simp [rv_cat]⟩, (List.forall_mem_cons.mpr ⟨Or.inr ⟨List.mem_of_getElem? (i := 1) rfl, rfl⟩, (List.forall_mem_cons.mpr ⟨Or.inr ⟨List.mem_of_getElem? (i := 2) rfl, rfl⟩, (List.forall_mem_cons.mpr ⟨Or.inr ⟨List.mem_of_getElem? (i := 3) rfl, rfl⟩, (List.forall_mem_cons.mpr ⟨Or.inr ⟨List.mem_of_getElem? (i := 4) rfl, rfl⟩, (fun _ h => nomatch h)⟩)⟩)⟩)⟩)⟩)⟩)
                  refine X_aload_n hx hb dX0_playOn_289 rfl (lv_at hl 2 rfl) ?_
                  obtain ⟨h_47, hF⟩ := gd_ok hF
                  refine gX_X0_88 hC hX h_47 dX0_playOn_290 ?_
                  refine lv_topr (fun r_48 er_48 => ?_)
                  replace hF := lt_at hF er_48
                  refine X_aload hx hb dX0_playOn_293 (lv_at hl 0 rfl) ?_
                  obtain ⟨h_49, hF⟩ := gd_ok hF
                  refine gX_X0_315 hC hX h_49 dX0_playOn_295 ?_
                  obtain ⟨h_50, hF⟩ := gd_ok hF
                  obtain ⟨h_51, hF⟩ := gd_ok hF
                  refine X_iald hC hX h_50 h_51 dX0_playOn_298 ?_
                  refine X_aload hx hb dX0_playOn_299 (lv_at hl 0 rfl) ?_
                  obtain ⟨h_52, hF⟩ := gd_ok hF
                  refine gX_X0_318 hC hX h_52 dX0_playOn_301 ?_
                  refine lv_if_eq (tgt := 311) hx hb dX0_playOn_304 (by decide) (fun c_53 => ?_) (fun c_53 => ?_)
                  · replace hF := it_t hF c_53
                    refine lv_iconst (v := 0) hx hb dX0_playOn_311 (by decide) ?_
                    exact w_X0_playOn_b312 hC hr hnh hin (F_X0_playOn_b355 D.2.2.2 (F_X0_playOn_L4 D.2.2.2 fu)) (w_X0_playOn_b355 hC hr hnh hin (F_X0_playOn_L4 D.2.2.2 fu) ih) x0 x1 x2 x3 r_15 (0 : Int32) (hA h_20 r_48 (Int32.toNatClampNeg (hI h_20 106 r_15))) h_20 hF H locs cells slots ls hX (lv_sub hl [2, 3, 4, 5, 0] rfl)
                  · replace hF := it_f hF c_53
                    refine lv_iconst (v := 1) hx hb dX0_playOn_307 (by decide) ?_
                    refine lv_goto (tgt := 312) hx hb dX0_playOn_308 (by decide) ?_
                    exact w_X0_playOn_b312 hC hr hnh hin (F_X0_playOn_b355 D.2.2.2 (F_X0_playOn_L4 D.2.2.2 fu)) (w_X0_playOn_b355 hC hr hnh hin (F_X0_playOn_L4 D.2.2.2 fu) ih) x0 x1 x2 x3 r_15 (1 : Int32) (hA h_20 r_48 (Int32.toNatClampNeg (hI h_20 106 r_15))) h_20 hF H locs cells slots ls hX (lv_sub hl [2, 3, 4, 5, 0] rfl)
              · replace hF := it_f hF c_36
                refine X_aload hx hb dX0_playOn_203 (lv_at hl 0 rfl) ?_
                obtain ⟨h_54, hF⟩ := gd_ok hF
                refine X_cast hC hX h_54 q1687 dX0_playOn_205 ?_
                refine X_astore (i := 5) hx hb dX0_playOn_208 hl (by decide) rfl (fun ls hl => ?_)
                replace hl : lv_has ls 7 [(5, rv r_15), (4, rv r_15), (0, rv x0), (1, .int x1), (2, .int x2), (3, .int x3)] := lv_subS hl (List.forall_mem_cons.mpr ⟨Or.inl rfl, (List.forall_mem_cons.mpr ⟨Or.inr ⟨List.mem_of_getElem? (i := 0) rfl, by simp [rv_cat]⟩, (List.forall_mem_cons.mpr ⟨Or.inr ⟨List.mem_of_getElem? (i := 1) rfl, rfl⟩, (List.forall_mem_cons.mpr ⟨Or.inr ⟨List.mem_of_getElem? (i := 2) rfl, rfl⟩, (List.forall_mem_cons.mpr ⟨Or.inr ⟨List.mem_of_getElem? (i := 3) rfl, rfl⟩, (List.forall_mem_cons.mpr ⟨Or.inr ⟨List.mem_of_getElem? (i := 4) rfl, rfl⟩, (fun _ h => nomatch h)⟩)⟩)⟩)⟩)⟩)⟩)
                refine X_aload_n hx hb dX0_playOn_210 rfl (lv_at hl 2 rfl) ?_
                obtain ⟨h_55, hF⟩ := gd_ok hF
                refine gX_X0_84 hC hX h_55 dX0_playOn_211 ?_
                refine lv_topr (fun r_56 er_56 => ?_)
                replace hF := lt_at hF er_56
                refine lv_iload_n hx hb dX0_playOn_214 rfl (lv_at hl 4 rfl) ?_
                refine X_aload hx hb dX0_playOn_215 (lv_at hl 0 rfl) ?_
                refine X_aload_n hx hb dX0_playOn_217 rfl (lv_at hl 2 rfl) ?_
                obtain ⟨h_57, hF⟩ := gd_ok hF
                refine gX_X0_287 hC hX h_57 dX0_playOn_218 ?_
                obtain ⟨h_58, hF⟩ := gd_ok hF
                obtain ⟨r_60, hc_59, hF⟩ := bd_ok hF
                refine iX_X0_247 hC hX h_58 hc_59 hl.1 (cat4 (Nat.le_of_ble_eq_true rfl)) (Nat.le_of_ble_eq_true rfl) (Nat.le_of_ble_eq_true rfl) dX0_playOn_221 (fun H locs cells slots hX => ?_)
                obtain ⟨h_61, hF⟩ := gd_ok hF
                obtain ⟨h_62, hF⟩ := gd_ok hF
                refine X_iast hC hX h_61 h_62 dX0_playOn_224 (fun H locs hX => ?_)
                obtain ⟨h_63, eh_63, hF⟩ := lt_ok hF
                rw [← eh_63] at hX
                refine lv_iconst (v := 0) hx hb dX0_playOn_225 (by decide) ?_
                refine lv_istore (i := 6) hx hb dX0_playOn_226 hl (by decide) rfl (fun ls hl => ?_)
                replace hl : lv_has ls 7 [(6, .int (0 : Int32)), (5, rv r_15), (4, rv r_15), (0, rv x0), (1, .int x1), (2, .int x2), (3, .int x3)] := lv_subS hl (List.forall_mem_cons.mpr ⟨Or.inl rfl, (List.forall_mem_cons.mpr ⟨Or.inr ⟨List.mem_of_getElem? (i := 0) rfl, by simp [rv_cat]⟩, (List.forall_mem_cons.mpr ⟨Or.inr ⟨List.mem_of_getElem? (i := 1) rfl, rfl⟩, (List.forall_mem_cons.mpr ⟨Or.inr ⟨List.mem_of_getElem? (i := 2) rfl, rfl⟩, (List.forall_mem_cons.mpr ⟨Or.inr ⟨List.mem_of_getElem? (i := 3) rfl, rfl⟩, (List.forall_mem_cons.mpr ⟨Or.inr ⟨List.mem_of_getElem? (i := 4) rfl, rfl⟩, (List.forall_mem_cons.mpr ⟨Or.inr ⟨List.mem_of_getElem? (i := 5) rfl, rfl⟩, (fun _ h => nomatch h)⟩)⟩)⟩)⟩)⟩)⟩)⟩)
                exact w_X0_playOn_L228 hC hr hnh hin (F_X0_playOn_b355 D.2.2.2 (F_X0_playOn_L4 D.2.2.2 fu)) (w_X0_playOn_b355 hC hr hnh hin (F_X0_playOn_L4 D.2.2.2 fu) ih) MN x0 x1 x2 x3 r_15 (0 : Int32) h_63 hF H locs cells slots ls hX (lv_sub hl [3, 4, 5, 6, 1, 0] rfl)
            · replace hF := it_f hF c_33
              refine X_aload_n hx hb dX0_playOn_175 rfl (lv_at hl 1 rfl) ?_
              refine X_aload hx hb dX0_playOn_176 (lv_at hl 0 rfl) ?_
              obtain ⟨h_64, hF⟩ := gd_ok hF
              refine X_cast hC hX h_64 q1694 dX0_playOn_178 ?_
              refine X_aload_n hx hb dX0_playOn_181 rfl (lv_at hl 1 rfl) ?_
              obtain ⟨h_65, hF⟩ := gd_ok hF
              refine gX_X0_287 hC hX h_65 dX0_playOn_182 ?_
              refine lv_iconst (v := 0) hx hb dX0_playOn_185 (by decide) ?_
              obtain ⟨h_66, hF⟩ := gd_ok hF
              obtain ⟨r_68, hc_67, hF⟩ := bd_ok hF
              refine iX_X0_237 hC hX h_66 hc_67 hl.1 (cat4 (Nat.le_of_ble_eq_true rfl)) (Nat.le_of_ble_eq_true rfl) (Nat.le_of_ble_eq_true rfl) dX0_playOn_186 (fun H locs cells slots hX => ?_)
              obtain ⟨h_69, hF⟩ := gd_ok hF
              obtain ⟨h_70, hF⟩ := gd_ok hF
              refine pX_X0_287 hC hX h_69 h_70 dX0_playOn_189 (fun H locs hX => ?_)
              obtain ⟨h_71, eh_71, hF⟩ := lt_ok hF
              rw [← eh_71] at hX
              refine lv_goto (tgt := 355) hx hb dX0_playOn_192 (by decide) ?_
              exact w_X0_playOn_b355 hC hr hnh hin (F_X0_playOn_L4 D.2.2.2 fu) ih x0 x1 x2 x3 h_71 hF H locs cells slots ls hX (lv_sub hl [1, 2, 3, 4] rfl)
          · replace hF := it_f hF c_30
            refine X_aload_n hx hb dX0_playOn_136 rfl (lv_at hl 1 rfl) ?_
            refine X_aload hx hb dX0_playOn_137 (lv_at hl 0 rfl) ?_
            obtain ⟨h_72, hF⟩ := gd_ok hF
            refine X_cast hC hX h_72 q1718 dX0_playOn_139 ?_
            refine X_aload_n hx hb dX0_playOn_142 rfl (lv_at hl 1 rfl) ?_
            obtain ⟨h_73, hF⟩ := gd_ok hF
            refine gX_X0_287 hC hX h_73 dX0_playOn_143 ?_
            refine X_aload_n hx hb dX0_playOn_146 rfl (lv_at hl 1 rfl) ?_
            refine X_aload hx hb dX0_playOn_147 (lv_at hl 0 rfl) ?_
            obtain ⟨h_74, hF⟩ := gd_ok hF
            refine X_cast hC hX h_74 q1718 dX0_playOn_149 ?_
            obtain ⟨r_76, hc_75, hF⟩ := bd_ok hF
            refine iX_X0_305 hC hX hc_75 hl.1 (cat4 (Nat.le_of_ble_eq_true rfl)) (Nat.le_of_ble_eq_true rfl) (Nat.le_of_ble_eq_true rfl) dX0_playOn_152 (fun H locs cells slots hX => ?_)
            obtain ⟨h_77, hF⟩ := gd_ok hF
            obtain ⟨r_80, h_79, hc_78, hF⟩ := bd2_ok hF
            refine iX_X0_306 hC hX h_77 hc_78 hl.1 (cat4 (Nat.le_of_ble_eq_true rfl)) (Nat.le_of_ble_eq_true rfl) (Nat.le_of_ble_eq_true rfl) dX0_playOn_155 (fun H locs cells slots hX => ?_)
            obtain ⟨h_81, hF⟩ := gd_ok hF
            obtain ⟨r_83, hc_82, hF⟩ := bd_ok hF
            refine iX_X0_309 hC hX h_81 hc_82 hl.1 (cat4 (Nat.le_of_ble_eq_true rfl)) (Nat.le_of_ble_eq_true rfl) (Nat.le_of_ble_eq_true rfl) dX0_playOn_158 (fun H locs cells slots hX => ?_)
            obtain ⟨h_84, hF⟩ := gd_ok hF
            obtain ⟨h_85, hF⟩ := gd_ok hF
            refine pX_X0_287 hC hX h_84 h_85 dX0_playOn_161 (fun H locs hX => ?_)
            obtain ⟨h_86, eh_86, hF⟩ := lt_ok hF
            rw [← eh_86] at hX
            refine lv_goto (tgt := 355) hx hb dX0_playOn_164 (by decide) ?_
            exact w_X0_playOn_b355 hC hr hnh hin (F_X0_playOn_L4 D.2.2.2 fu) ih x0 x1 x2 x3 h_86 hF H locs cells slots ls hX (lv_sub hl [1, 2, 3, 4] rfl)
        · replace hF := it_f hF c_27
          refine X_aload hx hb dX0_playOn_66 (lv_at hl 0 rfl) ?_
          obtain ⟨h_87, hF⟩ := gd_ok hF
          refine X_cast hC hX h_87 q1681 dX0_playOn_68 ?_
          refine X_astore (i := 5) hx hb dX0_playOn_71 hl (by decide) rfl (fun ls hl => ?_)
          replace hl : lv_has ls 7 [(5, rv r_15), (4, rv r_15), (0, rv x0), (1, .int x1), (2, .int x2), (3, .int x3)] := lv_subS hl (List.forall_mem_cons.mpr ⟨Or.inl rfl, (List.forall_mem_cons.mpr ⟨Or.inr ⟨List.mem_of_getElem? (i := 0) rfl, by simp [rv_cat]⟩, (List.forall_mem_cons.mpr ⟨Or.inr ⟨List.mem_of_getElem? (i := 1) rfl, rfl⟩, (List.forall_mem_cons.mpr ⟨Or.inr ⟨List.mem_of_getElem? (i := 2) rfl, rfl⟩, (List.forall_mem_cons.mpr ⟨Or.inr ⟨List.mem_of_getElem? (i := 3) rfl, rfl⟩, (List.forall_mem_cons.mpr ⟨Or.inr ⟨List.mem_of_getElem? (i := 4) rfl, rfl⟩, (fun _ h => nomatch h)⟩)⟩)⟩)⟩)⟩)⟩)
          refine X_aload_n hx hb dX0_playOn_73 rfl (lv_at hl 2 rfl) ?_
          obtain ⟨h_88, hF⟩ := gd_ok hF
          refine gX_X0_290 hC hX h_88 dX0_playOn_74 ?_
          refine X_aload hx hb dX0_playOn_77 (lv_at hl 0 rfl) ?_
          obtain ⟨h_89, hF⟩ := gd_ok hF
          obtain ⟨r_91, hc_90, hF⟩ := bd_ok hF
          refine iX_X0_228 hC hX h_89 hc_90 hl.1 (Nat.le_of_ble_eq_true rfl) (Nat.le_of_ble_eq_true rfl) (Nat.le_of_ble_eq_true rfl) dX0_playOn_79 (fun H locs cells slots hX => ?_)
          refine lv_iadd hx hb dX0_playOn_82 ?_
          refine lv_bipush (v := 8) hx hb dX0_playOn_83 (by decide) ?_
          refine lv_icmp_le (tgt := 90) hx hb dX0_playOn_85 (by decide) (fun c_92 => ?_) (fun c_92 => ?_)
          · replace hF := it_t hF c_92
            refine X_aload_n hx hb dX0_playOn_90 rfl (lv_at hl 2 rfl) ?_
            refine lv_dup hx hb dX0_playOn_91 (rv_cat _) ?_
            obtain ⟨h_93, hF⟩ := gd_ok hF
            refine gX_X0_287 hC hX h_93 dX0_playOn_92 ?_
            refine X_aload hx hb dX0_playOn_95 (lv_at hl 0 rfl) ?_
            refine X_aload_n hx hb dX0_playOn_97 rfl (lv_at hl 2 rfl) ?_
            obtain ⟨h_94, hF⟩ := gd_ok hF
            refine gX_X0_290 hC hX h_94 dX0_playOn_98 ?_
            refine lv_iload_n hx hb dX0_playOn_101 rfl (lv_at hl 3 rfl) ?_
            refine lv_iconst (v := -1) hx hb dX0_playOn_102 (by decide) ?_
            refine lv_iconst (v := 0) hx hb dX0_playOn_103 (by decide) ?_
            obtain ⟨h_95, hF⟩ := gd_ok hF
            obtain ⟨r_97, hc_96, hF⟩ := bd_ok hF
            refine iX_X0_230 hC hX h_95 hc_96 hl.1 (cat4 (Nat.le_of_ble_eq_true rfl)) (Nat.le_of_ble_eq_true rfl) (Nat.le_of_ble_eq_true rfl) dX0_playOn_104 (fun H locs cells slots hX => ?_)
            refine lv_ior hx hb dX0_playOn_107 ?_
            obtain ⟨h_98, hF⟩ := gd_ok hF
            obtain ⟨h_99, hF⟩ := gd_ok hF
            refine pX_X0_287 hC hX h_98 h_99 dX0_playOn_108 (fun H locs hX => ?_)
            obtain ⟨h_100, eh_100, hF⟩ := lt_ok hF
            rw [← eh_100] at hX
            refine X_aload_n hx hb dX0_playOn_111 rfl (lv_at hl 2 rfl) ?_
            refine lv_dup hx hb dX0_playOn_112 (rv_cat _) ?_
            obtain ⟨h_101, hF⟩ := gd_ok hF
            refine gX_X0_290 hC hX h_101 dX0_playOn_113 ?_
            refine X_aload hx hb dX0_playOn_116 (lv_at hl 0 rfl) ?_
            obtain ⟨h_102, hF⟩ := gd_ok hF
            obtain ⟨r_104, hc_103, hF⟩ := bd_ok hF
            refine iX_X0_228 hC hX h_102 hc_103 hl.1 (cat4 (Nat.le_of_ble_eq_true rfl)) (Nat.le_of_ble_eq_true rfl) (Nat.le_of_ble_eq_true rfl) dX0_playOn_118 (fun H locs cells slots hX => ?_)
            refine lv_iadd hx hb dX0_playOn_121 ?_
            obtain ⟨h_105, hF⟩ := gd_ok hF
            obtain ⟨h_106, hF⟩ := gd_ok hF
            refine pX_X0_290 hC hX h_105 h_106 dX0_playOn_122 (fun H locs hX => ?_)
            obtain ⟨h_107, eh_107, hF⟩ := lt_ok hF
            rw [← eh_107] at hX
            refine lv_goto (tgt := 355) hx hb dX0_playOn_125 (by decide) ?_
            exact w_X0_playOn_b355 hC hr hnh hin (F_X0_playOn_L4 D.2.2.2 fu) ih x0 x1 x2 x3 h_107 hF H locs cells slots ls hX (lv_sub hl [2, 3, 4, 5] rfl)
          · replace hF := it_f hF c_92
            refine lv_iload_n hx hb dX0_playOn_88 rfl (lv_at hl 4 rfl) ?_
            exact x_reti hC hX hr rfl (rt1 hF) (rt2 hF) dX0_playOn_89
      · replace hF := it_f hF c_24
        refine lv_iload_n hx hb dX0_playOn_56 rfl (lv_at hl 3 rfl) ?_
        exact x_reti hC hX hr rfl (rt1 hF) (rt2 hF) dX0_playOn_57
def F_X0_playOn (K : Nat → Nat) (a0 : Nat) (b0 : Int32) (h : TH) : Option (Int32 × TH) :=
  F_X0_playOn_L4 K MN a0 b0 (0 : Int32) (0 : Int32) h
set_option maxHeartbeats 4000000 in
theorem w_X0_playOn {p : Program} {l : Launch} {e : Env} {s : State} {m : MethodId} {args : Array Value} {below : List Frame} {meth : Method} {c : Code} {D : XD} {h0 : TH} (hC : XCx D cX0_playOn 7 RX0 h0 p (xRm 4 96 h0) s m args meth c) (hr : meth.sig.returnType = some .int) (hnh : c.exceptionTable.isEmpty = true) (hin : meth.name = "playOn") {x : (Int32 × TH)} :
    ∀ (a0 : Nat) (b0 : Int32) (h : TH), F_X0_playOn D.2.2.2 a0 b0 h = some x → XJ p l e (xRm 4 96 h0) s m args below meth c D 7 (.returned (some (.int x.1))) h0 x.2 0 [(0, rv a0), (1, .int b0)] [] h := by
  have hx := hC.1
  have hb := hC.2.1
  intro a0 b0 h hF H locs cells slots ls hX hl
  rw [F_X0_playOn] at hF
  refine lv_iconst (v := 0) hx hb dX0_playOn_0 (by decide) ?_
  refine lv_istore_n (lv' := [(2, .int (0 : Int32)), (0, rv a0), (1, .int b0)]) hx hb dX0_playOn_1 rfl hl (by decide) rfl (fun ls hl => ?_)
  refine lv_iconst (v := 0) hx hb dX0_playOn_2 (by decide) ?_
  refine lv_istore_n (lv' := [(3, .int (0 : Int32)), (2, .int (0 : Int32)), (0, rv a0), (1, .int b0)]) hx hb dX0_playOn_3 rfl hl (by decide) rfl (fun ls hl => ?_)
  exact w_X0_playOn_L4 hC hr hnh hin MN a0 b0 (0 : Int32) (0 : Int32) h hF H locs cells slots ls hX (lv_sub hl [2, 3, 1, 0] rfl)
theorem m_X0_playOn (l : Launch) (D : XD) (a0 : Nat) (b0 : Int32) (h : TH) (x : (Int32 × TH)) (hF : F_X0_playOn D.2.2.2 a0 b0 h = some x) : XMt l yX0_playOn (ws_ yX0_playOn cX0_playOn 7 (some .int)) 4 96 D [rv a0, .int b0] h (.returned (some (.int x.1))) x.2 := by
  refine x_met (by decide +kernel) ?_ ?_
  · simp [lg_sl, rv_cat, cat_i, cat_l]
  intro p e s m below meth c hC hr hnh hin ls hl hX
  replace hl : lv_has ls 7 [(0, rv a0), (1, .int b0)] := by simpa [lv_args, rv_cat, cat_i, cat_l] using hl
  exact w_X0_playOn hC hr hnh hin a0 b0 h hF s.heap [] 0 0 ls hX hl
end
