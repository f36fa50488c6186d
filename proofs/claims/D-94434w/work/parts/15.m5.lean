set_option maxRecDepth 100000
noncomputable section
/-! written -/
abbrev rmM_written : Room := { frames := 0, cells := 0, slots := 0, locals := 0 }
def F_written_L13 (σ : MS) : Nat → Int32 → Int32 → Int32 → Int32 → Int32 → Option Int32
  | 0, _, _, _, _, _ => none
  | fu + 1, x1, x2, x3, x4, x5 =>
    if x1 ≤ x5 then
      some x2
    else
      gd (inb (mI σ 35) 2) <|
      gd (¬ (mA σ 14 (Int32.toNatClampNeg (mI σ 35))) = 0) <|
      lt ((x2 + (x3 * ((x4 - x4 / (mA σ 14 (Int32.toNatClampNeg (mI σ 35))) * (mA σ 14 (Int32.toNatClampNeg (mI σ 35)))) + (1 : Int32))))) fun x2_4 =>
      gd (inb (mI σ 35) 2) <|
      gd (¬ (mA σ 14 (Int32.toNatClampNeg (mI σ 35))) = 0) <|
      lt ((x4 / (mA σ 14 (Int32.toNatClampNeg (mI σ 35))))) fun x4_7 =>
      lt ((x3 * (10 : Int32))) fun x3_8 =>
      lt (x5 + (1 : Int32)) fun x5_9 =>
      F_written_L13 σ fu x1 x2_4 x3_8 x4_7 x5_9
set_option maxHeartbeats 4000000 in
theorem w_written_L13 {p : Program} {l : Launch} {e : Env} {s : State} {m : MethodId} {args : Array Value} {below : List Frame} {meth : Method} {c : Code} {G : MG} (hC : MCx G cX10_written 6 p s m args meth c) (hr : meth.sig.returnType = some .int) {x : Int32} {σ : MS} :
    ∀ (fu : Nat) (x1 : Int32) (x2 : Int32) (x3 : Int32) (x4 : Int32) (x5 : Int32), F_written_L13 σ fu x1 x2 x3 x4 x5 = some x → MJ p l e rmM_written s m args below meth c G 6 (some (.int x)) σ 13 [(0, .ref (gM G)), (1, .int x1), (2, .int x2), (3, .int x3), (4, .int x4), (5, .int x5)] [] σ := by
  have hx := hC.1
  have hb := hC.2.1
  intro fu
  induction fu with
  | zero => intro x1 x2 x3 x4 x5 hF; exact nm_none hF
  | succ fu ih =>
    intro x1 x2 x3 x4 x5 hF H locs ls hP hS hl
    rw [F_written_L13] at hF
    refine lv_iload hx hb dX10_written_13 (lv_at hl 5 rfl) ?_
    refine lv_iload_n hx hb dX10_written_15 rfl (lv_at hl 1 rfl) ?_
    refine lv_icmp_ge (tgt := 63) hx hb dX10_written_16 (by decide) (fun c_1 => ?_) (fun c_1 => ?_)
    · replace hF := it_t hF c_1
      refine lv_iload_n hx hb dX10_written_63 rfl (lv_at hl 2 rfl) ?_
      exact M_reti hC hP hS hr (Option.some.inj hF) rfl dX10_written_64
    · replace hF := it_f hF c_1
      refine lv_iload_n hx hb dX10_written_19 rfl (lv_at hl 2 rfl) ?_
      refine lv_iload_n hx hb dX10_written_20 rfl (lv_at hl 3 rfl) ?_
      refine lv_iload hx hb dX10_written_21 (lv_at hl 4 rfl) ?_
      refine lv_aload_n hx hb dX10_written_23 rfl (lv_at hl 0 rfl) ?_
      refine gM14 hC hP dX10_written_24 ?_
      refine lv_aload_n hx hb dX10_written_27 rfl (lv_at hl 0 rfl) ?_
      refine gM35 hC hP dX10_written_28 ?_
      obtain ⟨h_2, hF⟩ := gd_ok hF
      refine M_iald hC hP 14 (by decide) rfl rfl rfl h_2 dX10_written_31 ?_
      obtain ⟨h_3, hF⟩ := gd_ok hF
      refine lv_irem hx hb dX10_written_32 h_3 ?_
      refine lv_iconst (v := 1) hx hb dX10_written_33 (by decide) ?_
      refine lv_iadd hx hb dX10_written_34 ?_
      refine lv_imul hx hb dX10_written_35 ?_
      refine lv_iadd hx hb dX10_written_36 ?_
      refine lv_topi (fun x2_4 ex2_4 => ?_)
      replace hF := lt_at hF ex2_4
      refine lv_istore_n (lv' := [(2, .int x2_4), (0, .ref (gM G)), (1, .int x1), (3, .int x3), (4, .int x4), (5, .int x5)]) hx hb dX10_written_37 rfl hl (by decide) rfl (fun ls hl => ?_)
      refine lv_iload hx hb dX10_written_38 (lv_at hl 4 rfl) ?_
      refine lv_aload_n hx hb dX10_written_40 rfl (lv_at hl 1 rfl) ?_
      refine gM14 hC hP dX10_written_41 ?_
      refine lv_aload_n hx hb dX10_written_44 rfl (lv_at hl 1 rfl) ?_
      refine gM35 hC hP dX10_written_45 ?_
      obtain ⟨h_5, hF⟩ := gd_ok hF
      refine M_iald hC hP 14 (by decide) rfl rfl rfl h_5 dX10_written_48 ?_
      obtain ⟨h_6, hF⟩ := gd_ok hF
      refine lv_idiv hx hb dX10_written_49 h_6 ?_
      refine lv_topi (fun x4_7 ex4_7 => ?_)
      replace hF := lt_at hF ex4_7
      refine lv_istore (lv' := [(4, .int x4_7), (2, .int x2_4), (0, .ref (gM G)), (1, .int x1), (3, .int x3), (5, .int x5)]) hx hb dX10_written_50 hl (by decide) rfl (fun ls hl => ?_)
      refine lv_iload_n hx hb dX10_written_52 rfl (lv_at hl 4 rfl) ?_
      refine lv_bipush (v := 10) hx hb dX10_written_53 (by decide) ?_
      refine lv_imul hx hb dX10_written_55 ?_
      refine lv_topi (fun x3_8 ex3_8 => ?_)
      replace hF := lt_at hF ex3_8
      refine lv_istore_n (lv' := [(3, .int x3_8), (4, .int x4_7), (2, .int x2_4), (0, .ref (gM G)), (1, .int x1), (5, .int x5)]) hx hb dX10_written_56 rfl hl (by decide) rfl (fun ls hl => ?_)
      obtain ⟨x5_9, ex5_9, hF⟩ := lt_ok hF
      refine lv_iinc (v := x5_9) (lv' := [(5, .int x5_9), (3, .int x3_8), (4, .int x4_7), (2, .int x2_4), (0, .ref (gM G)), (1, .int x1)]) hx hb dX10_written_57 hl (k := 5) rfl (by rw [ex5_9]; rfl) (by decide) rfl (fun ls hl => ?_)
      refine lv_goto (tgt := 13) hx hb dX10_written_60 (by decide) ?_
      exact ih x1 x2_4 x3_8 x4_7 x5_9 hF H locs ls hP hS (lv_sub hl [4, 5, 3, 1, 2, 0] rfl)
def F_written (σ : MS) (a0 : Int32) : Option Int32 :=
  lt ((mI σ 69)) fun x4_1 =>
  F_written_L13 σ MN a0 (0 : Int32) (1 : Int32) x4_1 (0 : Int32)
set_option maxHeartbeats 4000000 in
theorem w_written {p : Program} {l : Launch} {e : Env} {s : State} {m : MethodId} {args : Array Value} {below : List Frame} {meth : Method} {c : Code} {G : MG} (hC : MCx G cX10_written 6 p s m args meth c) (hr : meth.sig.returnType = some .int) {x : Int32} {σ : MS} :
    ∀ (a0 : Int32), F_written σ a0 = some x → MJ p l e rmM_written s m args below meth c G 6 (some (.int x)) σ 0 [(0, .ref (gM G)), (1, .int a0)] [] σ := by
  have hx := hC.1
  have hb := hC.2.1
  intro a0 hF H locs ls hP hS hl
  rw [F_written] at hF
  refine lv_iconst (v := 0) hx hb dX10_written_0 (by decide) ?_
  refine lv_istore_n (lv' := [(2, .int (0 : Int32)), (0, .ref (gM G)), (1, .int a0)]) hx hb dX10_written_1 rfl hl (by decide) rfl (fun ls hl => ?_)
  refine lv_iconst (v := 1) hx hb dX10_written_2 (by decide) ?_
  refine lv_istore_n (lv' := [(3, .int (1 : Int32)), (2, .int (0 : Int32)), (0, .ref (gM G)), (1, .int a0)]) hx hb dX10_written_3 rfl hl (by decide) rfl (fun ls hl => ?_)
  refine lv_aload_n hx hb dX10_written_4 rfl (lv_at hl 2 rfl) ?_
  refine gM69 hC hP dX10_written_5 ?_
  refine lv_topi (fun x4_1 ex4_1 => ?_)
  replace hF := lt_at hF ex4_1
  refine lv_istore (lv' := [(4, .int x4_1), (3, .int (1 : Int32)), (2, .int (0 : Int32)), (0, .ref (gM G)), (1, .int a0)]) hx hb dX10_written_8 hl (by decide) rfl (fun ls hl => ?_)
  refine lv_iconst (v := 0) hx hb dX10_written_10 (by decide) ?_
  refine lv_istore (lv' := [(5, .int (0 : Int32)), (4, .int x4_1), (3, .int (1 : Int32)), (2, .int (0 : Int32)), (0, .ref (gM G)), (1, .int a0)]) hx hb dX10_written_11 hl (by decide) rfl (fun ls hl => ?_)
  exact w_written_L13 hC hr MN a0 (0 : Int32) (1 : Int32) x4_1 (0 : Int32) hF H locs ls hP hS (lv_sub hl [4, 5, 3, 2, 1, 0] rfl)
theorem m_written (l : Launch) (G : MG) (a0 : Int32) (σ : MS) (x : Int32) (hF : F_written σ a0 = some x) : Met l yX10_written (ws_ yX10_written cX10_written 6 (some .int)) rmM_written (mP G [.ref (gM G), .int a0] σ) (mQ G (some (.int x)) σ) 0 0 (MA G) := by
  refine M_met rfl plM (Nat.le_of_ble_eq_true rfl) ?_
  intro p e s m below meth c hC hr ls hl hP
  exact w_written hC hr a0 hF s.heap [] ls hP va_S.rf hl
theorem iM_written {p : Program} {l : Launch} {e : Env} {R : Room} {s : State} {m : MethodId} {args : Array Value} {below : List Frame} {meth : Method} {c : Code} {H H0 : Heap} {locs : List Loc} {cells slots nL : Nat} {Q : State → Prop} {G : MG} {σ : MS} {cc : ByteArray} {pc : Nat} {ls : Array Slot} {rest : List Value} (hC : MCx G cc nL p s m args meth c) (hP : MRep G σ H) (hS : va_S (MA G) H0 H locs) {a0 : Int32} {x : Int32} (hF : F_written σ a0 = some x) (hl : ls.size = nL) (hW : (rest.map fun v => v.category).sum ≤ 8) (hR : rmM_written.frames + 1 ≤ R.frames ∧ 8 + (6 + 11) + rmM_written.locals ≤ R.locals) (hf : cells ≤ R.cells ∧ slots ≤ R.slots) (hdg : decode cc pc = .ok (.invokevirtual 585, 3))
    (kk : ∀ (H1 : Heap) (locs1 : List Loc), MRep G σ H1 → va_S (MA G) H0 H1 locs1 → W p l e R s m args below meth c H1 locs1 cells slots Q (F0 m (pc + 3) ls (.int x :: rest))) : W p l e R s m args below meth c H locs cells slots Q (F0 m pc ls (.int a0 :: .ref (gM G) :: rest)) :=
  M_inv hC hP hS [.int a0] (m_written l G a0 σ _ hF) (cwV 1 hC.2.2.2.2.1 (lw_V q2478 q2480 qs119 q145 q2481) rfl rfl rfl (by decide +kernel) hR) rfl rfl hl hW hf hdg kk
/-! seek -/
abbrev rmM_seek : Room := { frames := 5, cells := 0, slots := 0, locals := 128 }
def F_seek_b39 (x2 : Int32) (x3 : Int32) (σ : MS) : Option (Int32 × MS) :=
  if x2 = 0 then
    some (x3, σ)
  else
    if x2 = (1 : Int32) then
      bd (F_written σ x3) fun r_4 =>
      some (r_4, σ)
    else
      some ((mI σ 70), σ)
set_option maxHeartbeats 4000000 in
theorem w_seek_b39 {p : Program} {l : Launch} {e : Env} {s : State} {m : MethodId} {args : Array Value} {below : List Frame} {meth : Method} {c : Code} {G : MG} (hC : MCx G cX10_seek 4 p s m args meth c) (hr : meth.sig.returnType = some .int) {x : (Int32 × MS)} :
    ∀ (x2 : Int32) (x3 : Int32) (σ : MS), F_seek_b39 x2 x3 σ = some x → MJ p l e rmM_seek s m args below meth c G 4 (some (.int x.1)) x.2 39 [(0, .ref (gM G)), (2, .int x2), (3, .int x3)] [] σ := by
  have hx := hC.1
  have hb := hC.2.1
  intro x2 x3 σ hF H locs ls hP hS hl
  rw [F_seek_b39] at hF
  refine lv_iload_n hx hb dX10_seek_39 rfl (lv_at hl 1 rfl) ?_
  refine lv_if_ne (tgt := 47) hx hb dX10_seek_40 (by decide) (fun c_1 => ?_) (fun c_1 => ?_)
  · replace hF := it_f hF c_1
    refine lv_iload_n hx hb dX10_seek_47 rfl (lv_at hl 1 rfl) ?_
    refine lv_iconst (v := 1) hx hb dX10_seek_48 (by decide) ?_
    refine lv_icmp_ne (tgt := 60) hx hb dX10_seek_49 (by decide) (fun c_2 => ?_) (fun c_2 => ?_)
    · replace hF := it_f hF c_2
      refine lv_aload_n hx hb dX10_seek_60 rfl (lv_at hl 0 rfl) ?_
      refine gM70 hC hP dX10_seek_61 ?_
      exact M_reti hC hP hS hr (rt1 hF) (rt2 hF) dX10_seek_64
    · replace hF := it_t hF c_2
      refine lv_aload_n hx hb dX10_seek_52 rfl (lv_at hl 0 rfl) ?_
      refine lv_iload_n hx hb dX10_seek_53 rfl (lv_at hl 2 rfl) ?_
      obtain ⟨r_4, hc_3, hF⟩ := bd_ok hF
      refine iM_written hC hP hS hc_3 hl.1 (Nat.le_of_ble_eq_true rfl) ⟨Nat.le_of_ble_eq_true rfl, Nat.le_of_ble_eq_true rfl⟩ ⟨Nat.zero_le _, Nat.zero_le _⟩ dX10_seek_54 (fun H locs hP hS => ?_)
      refine lv_goto (tgt := 64) hx hb dX10_seek_57 (by decide) ?_
      exact M_reti hC hP hS hr (rt1 hF) (rt2 hF) dX10_seek_64
  · replace hF := it_t hF c_1
    refine lv_iload_n hx hb dX10_seek_43 rfl (lv_at hl 2 rfl) ?_
    refine lv_goto (tgt := 64) hx hb dX10_seek_44 (by decide) ?_
    exact M_reti hC hP hS hr (rt1 hF) (rt2 hF) dX10_seek_64
def F_seek_L26 : Nat → Int32 → Int32 → Int32 → MS → Option (Int32 × MS)
  | 0, _, _, _, _ => none
  | fu + 1, x1, x2, x3, σ =>
    if x1 < x3 then
      some ((-1 : Int32), σ)
    else
      bd2 (F_seeks x3 σ) fun r_4 σ_3 =>
      if r_4 = 0 then
        lt (x3 + (1 : Int32)) fun x3_6 =>
        F_seek_L26 fu x1 x2 x3_6 σ_3
      else
        F_seek_b39 x2 x3 σ_3
set_option maxHeartbeats 4000000 in
theorem w_seek_L26 {p : Program} {l : Launch} {e : Env} {s : State} {m : MethodId} {args : Array Value} {below : List Frame} {meth : Method} {c : Code} {G : MG} (hC : MCx G cX10_seek 4 p s m args meth c) (hr : meth.sig.returnType = some .int) {x : (Int32 × MS)} :
    ∀ (fu : Nat) (x1 : Int32) (x2 : Int32) (x3 : Int32) (σ : MS), F_seek_L26 fu x1 x2 x3 σ = some x → MJ p l e rmM_seek s m args below meth c G 4 (some (.int x.1)) x.2 26 [(0, .ref (gM G)), (1, .int x1), (2, .int x2), (3, .int x3)] [] σ := by
  have hx := hC.1
  have hb := hC.2.1
  intro fu
  induction fu with
  | zero => intro x1 x2 x3 σ hF; exact nm_none hF
  | succ fu ih =>
    intro x1 x2 x3 σ hF H locs ls hP hS hl
    rw [F_seek_L26] at hF
    refine lv_iload_n hx hb dX10_seek_26 rfl (lv_at hl 3 rfl) ?_
    refine lv_iload_n hx hb dX10_seek_27 rfl (lv_at hl 1 rfl) ?_
    refine lv_icmp_gt (tgt := 71) hx hb dX10_seek_28 (by decide) (fun c_1 => ?_) (fun c_1 => ?_)
    · replace hF := it_t hF c_1
      refine lv_iconst (v := -1) hx hb dX10_seek_71 (by decide) ?_
      exact M_reti hC hP hS hr (rt1 hF) (rt2 hF) dX10_seek_72
    · replace hF := it_f hF c_1
      refine lv_aload_n hx hb dX10_seek_31 rfl (lv_at hl 0 rfl) ?_
      refine lv_iload_n hx hb dX10_seek_32 rfl (lv_at hl 3 rfl) ?_
      obtain ⟨r_4, σ_3, hc_2, hF⟩ := bd2_ok hF
      refine iM_seeks hC hP hS hc_2 hl.1 (Nat.le_of_ble_eq_true rfl) ⟨Nat.le_of_ble_eq_true rfl, Nat.le_of_ble_eq_true rfl⟩ ⟨Nat.zero_le _, Nat.zero_le _⟩ dX10_seek_33 (fun H locs hP hS => ?_)
      refine lv_if_eq (tgt := 65) hx hb dX10_seek_36 (by decide) (fun c_5 => ?_) (fun c_5 => ?_)
      · replace hF := it_t hF c_5
        obtain ⟨x3_6, ex3_6, hF⟩ := lt_ok hF
        refine lv_iinc (v := x3_6) (lv' := [(3, .int x3_6), (0, .ref (gM G)), (1, .int x1), (2, .int x2)]) hx hb dX10_seek_65 hl (k := 3) rfl (by rw [ex3_6]; rfl) (by decide) rfl (fun ls hl => ?_)
        refine lv_goto (tgt := 26) hx hb dX10_seek_68 (by decide) ?_
        exact ih x1 x2 x3_6 σ_3 hF H locs ls hP hS (lv_sub hl [1, 2, 3, 0] rfl)
      · replace hF := it_f hF c_5
        exact w_seek_b39 hC hr x2 x3 σ_3 hF H locs ls hP hS (lv_sub hl [0, 2, 3] rfl)
def F_seek (a0 : Int32) (a1 : Int32) (σ : MS) : Option (Int32 × MS) :=
  bd (F_isIn a0 (0 : Int32) (3 : Int32)) fun r_2 =>
  if r_2 = 0 then
    some ((-1 : Int32), σ)
  else
    bd (F_isIn a1 (0 : Int32) (2 : Int32)) fun r_5 =>
    if r_5 = 0 then
      some ((-1 : Int32), σ)
    else
      bd (F_layStart σ) fun σ_8 =>
      F_seek_L26 MN a0 a1 (0 : Int32) σ_8
set_option maxHeartbeats 4000000 in
theorem w_seek {p : Program} {l : Launch} {e : Env} {s : State} {m : MethodId} {args : Array Value} {below : List Frame} {meth : Method} {c : Code} {G : MG} (hC : MCx G cX10_seek 4 p s m args meth c) (hr : meth.sig.returnType = some .int) {x : (Int32 × MS)} :
    ∀ (a0 : Int32) (a1 : Int32) (σ : MS), F_seek a0 a1 σ = some x → MJ p l e rmM_seek s m args below meth c G 4 (some (.int x.1)) x.2 0 [(0, .ref (gM G)), (1, .int a0), (2, .int a1)] [] σ := by
  have hx := hC.1
  have hb := hC.2.1
  intro a0 a1 σ hF H locs ls hP hS hl
  rw [F_seek] at hF
  refine lv_iload_n hx hb dX10_seek_0 rfl (lv_at hl 1 rfl) ?_
  refine lv_iconst (v := 0) hx hb dX10_seek_1 (by decide) ?_
  refine lv_iconst (v := 3) hx hb dX10_seek_2 (by decide) ?_
  obtain ⟨r_2, hc_1, hF⟩ := bd_ok hF
  refine iM_isIn hC hP hS hc_1 hl.1 (Nat.le_of_ble_eq_true rfl) ⟨Nat.le_of_ble_eq_true rfl, Nat.le_of_ble_eq_true rfl⟩ ⟨Nat.zero_le _, Nat.zero_le _⟩ dX10_seek_3 (fun H locs hP hS => ?_)
  refine lv_if_eq (tgt := 18) hx hb dX10_seek_6 (by decide) (fun c_3 => ?_) (fun c_3 => ?_)
  · replace hF := it_t hF c_3
    refine lv_iconst (v := -1) hx hb dX10_seek_18 (by decide) ?_
    exact M_reti hC hP hS hr (rt1 hF) (rt2 hF) dX10_seek_19
  · replace hF := it_f hF c_3
    refine lv_iload_n hx hb dX10_seek_9 rfl (lv_at hl 2 rfl) ?_
    refine lv_iconst (v := 0) hx hb dX10_seek_10 (by decide) ?_
    refine lv_iconst (v := 2) hx hb dX10_seek_11 (by decide) ?_
    obtain ⟨r_5, hc_4, hF⟩ := bd_ok hF
    refine iM_isIn hC hP hS hc_4 hl.1 (Nat.le_of_ble_eq_true rfl) ⟨Nat.le_of_ble_eq_true rfl, Nat.le_of_ble_eq_true rfl⟩ ⟨Nat.zero_le _, Nat.zero_le _⟩ dX10_seek_12 (fun H locs hP hS => ?_)
    refine lv_if_ne (tgt := 20) hx hb dX10_seek_15 (by decide) (fun c_6 => ?_) (fun c_6 => ?_)
    · replace hF := it_f hF c_6
      refine lv_aload_n hx hb dX10_seek_20 rfl (lv_at hl 0 rfl) ?_
      obtain ⟨σ_8, hc_7, hF⟩ := bd_ok hF
      refine iM_layStart hC hP hS hc_7 hl.1 (Nat.le_of_ble_eq_true rfl) ⟨Nat.le_of_ble_eq_true rfl, Nat.le_of_ble_eq_true rfl⟩ ⟨Nat.zero_le _, Nat.zero_le _⟩ dX10_seek_21 (fun H locs hP hS => ?_)
      refine lv_iconst (v := 0) hx hb dX10_seek_24 (by decide) ?_
      refine lv_istore_n (lv' := [(3, .int (0 : Int32)), (0, .ref (gM G)), (1, .int a0), (2, .int a1)]) hx hb dX10_seek_25 rfl hl (by decide) rfl (fun ls hl => ?_)
      exact w_seek_L26 hC hr MN a0 a1 (0 : Int32) σ_8 hF H locs ls hP hS (lv_sub hl [1, 2, 3, 0] rfl)
    · replace hF := it_t hF c_6
      refine lv_iconst (v := -1) hx hb dX10_seek_18 (by decide) ?_
      exact M_reti hC hP hS hr (rt1 hF) (rt2 hF) dX10_seek_19
theorem m_seek (l : Launch) (G : MG) (a0 : Int32) (a1 : Int32) (σ : MS) (x : (Int32 × MS)) (hF : F_seek a0 a1 σ = some x) : Met l yX10_seek (ws_ yX10_seek cX10_seek 4 (some .int)) rmM_seek (mP G [.ref (gM G), .int a0, .int a1] σ) (mQ G (some (.int x.1)) x.2) 0 0 (MA G) := by
  refine M_met rfl plM (Nat.le_of_ble_eq_true rfl) ?_
  intro p e s m below meth c hC hr ls hl hP
  exact w_seek hC hr a0 a1 σ hF s.heap [] ls hP va_S.rf hl
/-! draw -/
abbrev rmM_draw : Room := { frames := 0, cells := 0, slots := 0, locals := 0 }
def F_draw (a0 : Int32) (σ : MS) : Option (Int32 × MS) :=
  lt (wI σ 72 (((mI σ 72) * (1103515245 : Int32)) + (12345 : Int32))) fun σ_1 =>
  gd (¬ a0 = 0) <|
  some (((Int32.toUInt32 (mI σ_1 72) >>> (Int32.toUInt32 (16 : Int32) &&& Int32.toUInt32 31)).toInt32 - (Int32.toUInt32 (mI σ_1 72) >>> (Int32.toUInt32 (16 : Int32) &&& Int32.toUInt32 31)).toInt32 / a0 * a0), σ_1)
set_option maxHeartbeats 4000000 in
theorem w_draw {p : Program} {l : Launch} {e : Env} {s : State} {m : MethodId} {args : Array Value} {below : List Frame} {meth : Method} {c : Code} {G : MG} (hC : MCx G cX10_draw 2 p s m args meth c) (hr : meth.sig.returnType = some .int) {x : (Int32 × MS)} :
    ∀ (a0 : Int32) (σ : MS), F_draw a0 σ = some x → MJ p l e rmM_draw s m args below meth c G 2 (some (.int x.1)) x.2 0 [(0, .ref (gM G)), (1, .int a0)] [] σ := by
  have hx := hC.1
  have hb := hC.2.1
  intro a0 σ hF H locs ls hP hS hl
  rw [F_draw] at hF
  refine lv_aload_n hx hb dX10_draw_0 rfl (lv_at hl 0 rfl) ?_
  refine lv_aload_n hx hb dX10_draw_1 rfl (lv_at hl 0 rfl) ?_
  refine gM72 hC hP dX10_draw_2 ?_
  refine lv_ldcw (v := 1103515245) hx hb hC.2.2.2.1 (hC.2.2.2.2.1 _ q2494) dX10_draw_5 ?_
  refine lv_imul hx hb dX10_draw_8 ?_
  refine lv_sipush (v := 12345) hx hb dX10_draw_9 (by decide) ?_
  refine lv_iadd hx hb dX10_draw_12 ?_
  refine pM72 hC hP hS dX10_draw_13 (fun H locs hP hS => ?_)
  obtain ⟨σ_1, eσ_1, hF⟩ := lt_ok hF
  rw [← eσ_1] at hP
  refine lv_aload_n hx hb dX10_draw_16 rfl (lv_at hl 0 rfl) ?_
  refine gM72 hC hP dX10_draw_17 ?_
  refine lv_bipush (v := 16) hx hb dX10_draw_20 (by decide) ?_
  refine lv_iushr hx hb dX10_draw_22 rfl ?_
  refine lv_iload_n hx hb dX10_draw_23 rfl (lv_at hl 1 rfl) ?_
  obtain ⟨h_2, hF⟩ := gd_ok hF
  refine lv_irem hx hb dX10_draw_24 h_2 ?_
  exact M_reti hC hP hS hr (rt1 hF) (rt2 hF) dX10_draw_25
theorem m_draw (l : Launch) (G : MG) (a0 : Int32) (σ : MS) (x : (Int32 × MS)) (hF : F_draw a0 σ = some x) : Met l yX10_draw (ws_ yX10_draw cX10_draw 2 (some .int)) rmM_draw (mP G [.ref (gM G), .int a0] σ) (mQ G (some (.int x.1)) x.2) 0 0 (MA G) := by
  refine M_met rfl plM (Nat.le_of_ble_eq_true rfl) ?_
  intro p e s m below meth c hC hr ls hl hP
  exact w_draw hC hr a0 σ hF s.heap [] ls hP va_S.rf hl
theorem iM_draw {p : Program} {l : Launch} {e : Env} {R : Room} {s : State} {m : MethodId} {args : Array Value} {below : List Frame} {meth : Method} {c : Code} {H H0 : Heap} {locs : List Loc} {cells slots nL : Nat} {Q : State → Prop} {G : MG} {σ : MS} {cc : ByteArray} {pc : Nat} {ls : Array Slot} {rest : List Value} (hC : MCx G cc nL p s m args meth c) (hP : MRep G σ H) (hS : va_S (MA G) H0 H locs) {a0 : Int32} {x : Int32} {σ1 : MS} (hF : F_draw a0 σ = some (x, σ1)) (hl : ls.size = nL) (hW : (rest.map fun v => v.category).sum ≤ 8) (hR : rmM_draw.frames + 1 ≤ R.frames ∧ 8 + (2 + 11) + rmM_draw.locals ≤ R.locals) (hf : cells ≤ R.cells ∧ slots ≤ R.slots) (hdg : decode cc pc = .ok (.invokevirtual 604, 3))
    (kk : ∀ (H1 : Heap) (locs1 : List Loc), MRep G σ1 H1 → va_S (MA G) H0 H1 locs1 → W p l e R s m args below meth c H1 locs1 cells slots Q (F0 m (pc + 3) ls (.int x :: rest))) : W p l e R s m args below meth c H locs cells slots Q (F0 m pc ls (.int a0 :: .ref (gM G) :: rest)) :=
  M_inv hC hP hS [.int a0] (m_draw l G a0 σ _ hF) (cwV 1 hC.2.2.2.2.1 (lw_V q2490 q2492 qs121 q145 q2493) rfl rfl rfl (by decide +kernel) hR) rfl rfl hl hW hf hdg kk
/-! pathOf -/
abbrev rmM_pathOf : Room := { frames := 0, cells := 0, slots := 0, locals := 0 }
def F_pathOf_b73 (σ : MS) (k2 : Int32 → Int32 → Option Int32) (x1 : Int32) (x2 : Int32) (x3 : Int32) : Option Int32 :=
  if x3 = 0 then
    lt (x2 + (1 : Int32)) fun x2_2 =>
    k2 x1 x2_2
  else
    some x2
set_option maxHeartbeats 4000000 in
theorem w_pathOf_b73 {p : Program} {l : Launch} {e : Env} {s : State} {m : MethodId} {args : Array Value} {below : List Frame} {meth : Method} {c : Code} {G : MG} (hC : MCx G cX10_pathOf 5 p s m args meth c) (hr : meth.sig.returnType = some .int) {x : Int32} {σ : MS} (k2 : Int32 → Int32 → Option Int32) (hk2 : ∀ (x1 : Int32) (x2 : Int32), k2 x1 x2 = some x → MJ p l e rmM_pathOf s m args below meth c G 5 (some (.int x)) σ 2 [(0, .ref (gM G)), (1, .int x1), (2, .int x2)] [] σ) :
    ∀ (x1 : Int32) (x2 : Int32) (x3 : Int32), F_pathOf_b73 σ k2 x1 x2 x3 = some x → MJ p l e rmM_pathOf s m args below meth c G 5 (some (.int x)) σ 73 [(0, .ref (gM G)), (1, .int x1), (2, .int x2), (3, .int x3)] [] σ := by
  have hx := hC.1
  have hb := hC.2.1
  intro x1 x2 x3 hF H locs ls hP hS hl
  rw [F_pathOf_b73] at hF
  refine lv_iload_n hx hb dX10_pathOf_73 rfl (lv_at hl 3 rfl) ?_
  refine lv_if_eq (tgt := 79) hx hb dX10_pathOf_74 (by decide) (fun c_1 => ?_) (fun c_1 => ?_)
  · replace hF := it_t hF c_1
    obtain ⟨x2_2, ex2_2, hF⟩ := lt_ok hF
    refine lv_iinc (v := x2_2) (lv' := [(2, .int x2_2), (0, .ref (gM G)), (1, .int x1), (3, .int x3)]) hx hb dX10_pathOf_79 hl (k := 2) rfl (by rw [ex2_2]; rfl) (by decide) rfl (fun ls hl => ?_)
    refine lv_goto (tgt := 2) hx hb dX10_pathOf_82 (by decide) ?_
    exact hk2 x1 x2_2 hF H locs ls hP hS (lv_sub hl [1, 2, 0] rfl)
  · replace hF := it_f hF c_1
    refine lv_iload_n hx hb dX10_pathOf_77 rfl (lv_at hl 2 rfl) ?_
    exact M_reti hC hP hS hr (Option.some.inj hF) rfl dX10_pathOf_78
def F_pathOf_b66 (σ : MS) (k29 : Int32 → Int32 → Int32 → Int32 → Option Int32) (x1 : Int32) (x2 : Int32) (x4 : Int32) (y0 : Int32) : Option Int32 :=
  lt (x4 + (1 : Int32)) fun x4_1 =>
  k29 x1 x2 y0 x4_1
set_option maxHeartbeats 4000000 in
theorem w_pathOf_b66 {p : Program} {l : Launch} {e : Env} {s : State} {m : MethodId} {args : Array Value} {below : List Frame} {meth : Method} {c : Code} {G : MG} (hC : MCx G cX10_pathOf 5 p s m args meth c) (hr : meth.sig.returnType = some .int) {x : Int32} {σ : MS} (k29 : Int32 → Int32 → Int32 → Int32 → Option Int32) (hk29 : ∀ (x1 : Int32) (x2 : Int32) (x3 : Int32) (x4 : Int32), k29 x1 x2 x3 x4 = some x → MJ p l e rmM_pathOf s m args below meth c G 5 (some (.int x)) σ 29 [(0, .ref (gM G)), (1, .int x1), (2, .int x2), (3, .int x3), (4, .int x4)] [] σ) :
    ∀ (x1 : Int32) (x2 : Int32) (x4 : Int32) (y0 : Int32), F_pathOf_b66 σ k29 x1 x2 x4 y0 = some x → MJ p l e rmM_pathOf s m args below meth c G 5 (some (.int x)) σ 66 [(0, .ref (gM G)), (1, .int x1), (2, .int x2), (4, .int x4)] [.int y0] σ := by
  have hx := hC.1
  have hb := hC.2.1
  intro x1 x2 x4 y0 hF H locs ls hP hS hl
  rw [F_pathOf_b66] at hF
  refine lv_istore_n (lv' := [(3, .int y0), (0, .ref (gM G)), (1, .int x1), (2, .int x2), (4, .int x4)]) hx hb dX10_pathOf_66 rfl hl (by decide) rfl (fun ls hl => ?_)
  obtain ⟨x4_1, ex4_1, hF⟩ := lt_ok hF
  refine lv_iinc (v := x4_1) (lv' := [(4, .int x4_1), (3, .int y0), (0, .ref (gM G)), (1, .int x1), (2, .int x2)]) hx hb dX10_pathOf_67 hl (k := 4) rfl (by rw [ex4_1]; rfl) (by decide) rfl (fun ls hl => ?_)
  refine lv_goto (tgt := 29) hx hb dX10_pathOf_70 (by decide) ?_
  exact hk29 x1 x2 y0 x4_1 hF H locs ls hP hS (lv_sub hl [2, 3, 4, 1, 0] rfl)
def F_pathOf_L29 (σ : MS) (k2 : Int32 → Int32 → Option Int32) : Nat → Int32 → Int32 → Int32 → Int32 → Option Int32
  | 0, _, _, _, _ => none
  | fu + 1, x1, x2, x3, x4 =>
    if x1 ≤ x4 then
      F_pathOf_b73 σ k2 x1 x2 x3
    else
      if x3 = 0 then
        F_pathOf_b73 σ k2 x1 x2 x3
      else
        gd (inb (((6 : Int32) * x2) + x4) 1200) <|
        gd (inb x4 6) <|
        if (mA σ 58 (Int32.toNatClampNeg (((6 : Int32) * x2) + x4))) = (mA σ 78 (Int32.toNatClampNeg x4)) then
          F_pathOf_b66 σ (F_pathOf_L29 σ k2 fu) x1 x2 x4 (1 : Int32)
        else
          F_pathOf_b66 σ (F_pathOf_L29 σ k2 fu) x1 x2 x4 (0 : Int32)
set_option maxHeartbeats 4000000 in
theorem w_pathOf_L29 {p : Program} {l : Launch} {e : Env} {s : State} {m : MethodId} {args : Array Value} {below : List Frame} {meth : Method} {c : Code} {G : MG} (hC : MCx G cX10_pathOf 5 p s m args meth c) (hr : meth.sig.returnType = some .int) {x : Int32} {σ : MS} (k2 : Int32 → Int32 → Option Int32) (hk2 : ∀ (x1 : Int32) (x2 : Int32), k2 x1 x2 = some x → MJ p l e rmM_pathOf s m args below meth c G 5 (some (.int x)) σ 2 [(0, .ref (gM G)), (1, .int x1), (2, .int x2)] [] σ) :
    ∀ (fu : Nat) (x1 : Int32) (x2 : Int32) (x3 : Int32) (x4 : Int32), F_pathOf_L29 σ k2 fu x1 x2 x3 x4 = some x → MJ p l e rmM_pathOf s m args below meth c G 5 (some (.int x)) σ 29 [(0, .ref (gM G)), (1, .int x1), (2, .int x2), (3, .int x3), (4, .int x4)] [] σ := by
  have hx := hC.1
  have hb := hC.2.1
  intro fu
  induction fu with
  | zero => intro x1 x2 x3 x4 hF; exact nm_none hF
  | succ fu ih =>
    intro x1 x2 x3 x4 hF H locs ls hP hS hl
    rw [F_pathOf_L29] at hF
    refine lv_iload hx hb dX10_pathOf_29 (lv_at hl 4 rfl) ?_
    refine lv_iload_n hx hb dX10_pathOf_31 rfl (lv_at hl 1 rfl) ?_
    refine lv_icmp_ge (tgt := 73) hx hb dX10_pathOf_32 (by decide) (fun c_1 => ?_) (fun c_1 => ?_)
    · replace hF := it_t hF c_1
      exact w_pathOf_b73 hC hr k2 hk2 x1 x2 x3 hF H locs ls hP hS (lv_sub hl [0, 1, 2, 3] rfl)
    · replace hF := it_f hF c_1
      refine lv_iload_n hx hb dX10_pathOf_35 rfl (lv_at hl 3 rfl) ?_
      refine lv_if_eq (tgt := 73) hx hb dX10_pathOf_36 (by decide) (fun c_2 => ?_) (fun c_2 => ?_)
      · replace hF := it_t hF c_2
        exact w_pathOf_b73 hC hr k2 hk2 x1 x2 x3 hF H locs ls hP hS (lv_sub hl [0, 1, 2, 3] rfl)
      · replace hF := it_f hF c_2
        refine lv_aload_n hx hb dX10_pathOf_39 rfl (lv_at hl 0 rfl) ?_
        refine gM58 hC hP dX10_pathOf_40 ?_
        refine lv_bipush (v := 6) hx hb dX10_pathOf_43 (by decide) ?_
        refine lv_iload_n hx hb dX10_pathOf_45 rfl (lv_at hl 2 rfl) ?_
        refine lv_imul hx hb dX10_pathOf_46 ?_
        refine lv_iload hx hb dX10_pathOf_47 (lv_at hl 4 rfl) ?_
        refine lv_iadd hx hb dX10_pathOf_49 ?_
        obtain ⟨h_3, hF⟩ := gd_ok hF
        refine M_iald hC hP 58 (by decide) rfl rfl rfl h_3 dX10_pathOf_50 ?_
        refine lv_aload_n hx hb dX10_pathOf_51 rfl (lv_at hl 0 rfl) ?_
        refine gM78 hC hP dX10_pathOf_52 ?_
        refine lv_iload hx hb dX10_pathOf_55 (lv_at hl 4 rfl) ?_
        obtain ⟨h_4, hF⟩ := gd_ok hF
        refine M_iald hC hP 78 (by decide) rfl rfl rfl h_4 dX10_pathOf_57 ?_
        refine lv_icmp_ne (tgt := 65) hx hb dX10_pathOf_58 (by decide) (fun c_5 => ?_) (fun c_5 => ?_)
        · replace hF := it_f hF c_5
          refine lv_iconst (v := 0) hx hb dX10_pathOf_65 (by decide) ?_
          exact w_pathOf_b66 hC hr (F_pathOf_L29 σ k2 fu) ih x1 x2 x4 (0 : Int32) hF H locs ls hP hS (lv_sub hl [0, 1, 2, 4] rfl)
        · replace hF := it_t hF c_5
          refine lv_iconst (v := 1) hx hb dX10_pathOf_61 (by decide) ?_
          refine lv_goto (tgt := 66) hx hb dX10_pathOf_62 (by decide) ?_
          exact w_pathOf_b66 hC hr (F_pathOf_L29 σ k2 fu) ih x1 x2 x4 (1 : Int32) hF H locs ls hP hS (lv_sub hl [0, 1, 2, 4] rfl)
def F_pathOf_b25 (σ : MS) (k2 : Int32 → Int32 → Option Int32) (x1 : Int32) (x2 : Int32) (y0 : Int32) : Option Int32 :=
  F_pathOf_L29 σ k2 MN x1 x2 y0 (0 : Int32)
set_option maxHeartbeats 4000000 in
theorem w_pathOf_b25 {p : Program} {l : Launch} {e : Env} {s : State} {m : MethodId} {args : Array Value} {below : List Frame} {meth : Method} {c : Code} {G : MG} (hC : MCx G cX10_pathOf 5 p s m args meth c) (hr : meth.sig.returnType = some .int) {x : Int32} {σ : MS} (k2 : Int32 → Int32 → Option Int32) (hk2 : ∀ (x1 : Int32) (x2 : Int32), k2 x1 x2 = some x → MJ p l e rmM_pathOf s m args below meth c G 5 (some (.int x)) σ 2 [(0, .ref (gM G)), (1, .int x1), (2, .int x2)] [] σ) :
    ∀ (x1 : Int32) (x2 : Int32) (y0 : Int32), F_pathOf_b25 σ k2 x1 x2 y0 = some x → MJ p l e rmM_pathOf s m args below meth c G 5 (some (.int x)) σ 25 [(0, .ref (gM G)), (1, .int x1), (2, .int x2)] [.int y0] σ := by
  have hx := hC.1
  have hb := hC.2.1
  intro x1 x2 y0 hF H locs ls hP hS hl
  rw [F_pathOf_b25] at hF
  refine lv_istore_n (lv' := [(3, .int y0), (0, .ref (gM G)), (1, .int x1), (2, .int x2)]) hx hb dX10_pathOf_25 rfl hl (by decide) rfl (fun ls hl => ?_)
  refine lv_iconst (v := 0) hx hb dX10_pathOf_26 (by decide) ?_
  refine lv_istore (lv' := [(4, .int (0 : Int32)), (3, .int y0), (0, .ref (gM G)), (1, .int x1), (2, .int x2)]) hx hb dX10_pathOf_27 hl (by decide) rfl (fun ls hl => ?_)
  exact w_pathOf_L29 hC hr k2 hk2 MN x1 x2 y0 (0 : Int32) hF H locs ls hP hS (lv_sub hl [2, 3, 4, 1, 0] rfl)
def F_pathOf_L2 (σ : MS) : Nat → Int32 → Int32 → Option Int32
  | 0, _, _ => none
  | fu + 1, x1, x2 =>
    if (mI σ 63) ≤ x2 then
      some (-1 : Int32)
    else
      gd (inb x2 200) <|
      if (mA σ 57 (Int32.toNatClampNeg x2)) = x1 then
        F_pathOf_b25 σ (F_pathOf_L2 σ fu) x1 x2 (1 : Int32)
      else
        F_pathOf_b25 σ (F_pathOf_L2 σ fu) x1 x2 (0 : Int32)
set_option maxHeartbeats 4000000 in
theorem w_pathOf_L2 {p : Program} {l : Launch} {e : Env} {s : State} {m : MethodId} {args : Array Value} {below : List Frame} {meth : Method} {c : Code} {G : MG} (hC : MCx G cX10_pathOf 5 p s m args meth c) (hr : meth.sig.returnType = some .int) {x : Int32} {σ : MS} :
    ∀ (fu : Nat) (x1 : Int32) (x2 : Int32), F_pathOf_L2 σ fu x1 x2 = some x → MJ p l e rmM_pathOf s m args below meth c G 5 (some (.int x)) σ 2 [(0, .ref (gM G)), (1, .int x1), (2, .int x2)] [] σ := by
  have hx := hC.1
  have hb := hC.2.1
  intro fu
  induction fu with
  | zero => intro x1 x2 hF; exact nm_none hF
  | succ fu ih =>
    intro x1 x2 hF H locs ls hP hS hl
    rw [F_pathOf_L2] at hF
    refine lv_iload_n hx hb dX10_pathOf_2 rfl (lv_at hl 2 rfl) ?_
    refine lv_aload_n hx hb dX10_pathOf_3 rfl (lv_at hl 0 rfl) ?_
    refine gM63 hC hP dX10_pathOf_4 ?_
    refine lv_icmp_ge (tgt := 85) hx hb dX10_pathOf_7 (by decide) (fun c_1 => ?_) (fun c_1 => ?_)
    · replace hF := it_t hF c_1
      refine lv_iconst (v := -1) hx hb dX10_pathOf_85 (by decide) ?_
      exact M_reti hC hP hS hr (Option.some.inj hF) rfl dX10_pathOf_86
    · replace hF := it_f hF c_1
      refine lv_aload_n hx hb dX10_pathOf_10 rfl (lv_at hl 0 rfl) ?_
      refine gM57 hC hP dX10_pathOf_11 ?_
      refine lv_iload_n hx hb dX10_pathOf_14 rfl (lv_at hl 2 rfl) ?_
      obtain ⟨h_2, hF⟩ := gd_ok hF
      refine M_iald hC hP 57 (by decide) rfl rfl rfl h_2 dX10_pathOf_15 ?_
      refine lv_iload_n hx hb dX10_pathOf_16 rfl (lv_at hl 1 rfl) ?_
      refine lv_icmp_ne (tgt := 24) hx hb dX10_pathOf_17 (by decide) (fun c_3 => ?_) (fun c_3 => ?_)
      · replace hF := it_f hF c_3
        refine lv_iconst (v := 0) hx hb dX10_pathOf_24 (by decide) ?_
        exact w_pathOf_b25 hC hr (F_pathOf_L2 σ fu) ih x1 x2 (0 : Int32) hF H locs ls hP hS (lv_sub hl [0, 1, 2] rfl)
      · replace hF := it_t hF c_3
        refine lv_iconst (v := 1) hx hb dX10_pathOf_20 (by decide) ?_
        refine lv_goto (tgt := 25) hx hb dX10_pathOf_21 (by decide) ?_
        exact w_pathOf_b25 hC hr (F_pathOf_L2 σ fu) ih x1 x2 (1 : Int32) hF H locs ls hP hS (lv_sub hl [0, 1, 2] rfl)
def F_pathOf (σ : MS) (a0 : Int32) : Option Int32 :=
  F_pathOf_L2 σ MN a0 (0 : Int32)
set_option maxHeartbeats 4000000 in
theorem w_pathOf {p : Program} {l : Launch} {e : Env} {s : State} {m : MethodId} {args : Array Value} {below : List Frame} {meth : Method} {c : Code} {G : MG} (hC : MCx G cX10_pathOf 5 p s m args meth c) (hr : meth.sig.returnType = some .int) {x : Int32} {σ : MS} :
    ∀ (a0 : Int32), F_pathOf σ a0 = some x → MJ p l e rmM_pathOf s m args below meth c G 5 (some (.int x)) σ 0 [(0, .ref (gM G)), (1, .int a0)] [] σ := by
  have hx := hC.1
  have hb := hC.2.1
  intro a0 hF H locs ls hP hS hl
  rw [F_pathOf] at hF
  refine lv_iconst (v := 0) hx hb dX10_pathOf_0 (by decide) ?_
  refine lv_istore_n (lv' := [(2, .int (0 : Int32)), (0, .ref (gM G)), (1, .int a0)]) hx hb dX10_pathOf_1 rfl hl (by decide) rfl (fun ls hl => ?_)
  exact w_pathOf_L2 hC hr MN a0 (0 : Int32) hF H locs ls hP hS (lv_sub hl [1, 2, 0] rfl)
theorem m_pathOf (l : Launch) (G : MG) (a0 : Int32) (σ : MS) (x : Int32) (hF : F_pathOf σ a0 = some x) : Met l yX10_pathOf (ws_ yX10_pathOf cX10_pathOf 5 (some .int)) rmM_pathOf (mP G [.ref (gM G), .int a0] σ) (mQ G (some (.int x)) σ) 0 0 (MA G) := by
  refine M_met rfl plM (Nat.le_of_ble_eq_true rfl) ?_
  intro p e s m below meth c hC hr ls hl hP
  exact w_pathOf hC hr a0 hF s.heap [] ls hP va_S.rf hl
theorem iM_pathOf {p : Program} {l : Launch} {e : Env} {R : Room} {s : State} {m : MethodId} {args : Array Value} {below : List Frame} {meth : Method} {c : Code} {H H0 : Heap} {locs : List Loc} {cells slots nL : Nat} {Q : State → Prop} {G : MG} {σ : MS} {cc : ByteArray} {pc : Nat} {ls : Array Slot} {rest : List Value} (hC : MCx G cc nL p s m args meth c) (hP : MRep G σ H) (hS : va_S (MA G) H0 H locs) {a0 : Int32} {x : Int32} (hF : F_pathOf σ a0 = some x) (hl : ls.size = nL) (hW : (rest.map fun v => v.category).sum ≤ 8) (hR : rmM_pathOf.frames + 1 ≤ R.frames ∧ 8 + (5 + 11) + rmM_pathOf.locals ≤ R.locals) (hf : cells ≤ R.cells ∧ slots ≤ R.slots) (hdg : decode cc pc = .ok (.invokevirtual 610, 3))
    (kk : ∀ (H1 : Heap) (locs1 : List Loc), MRep G σ H1 → va_S (MA G) H0 H1 locs1 → W p l e R s m args below meth c H1 locs1 cells slots Q (F0 m (pc + 3) ls (.int x :: rest))) : W p l e R s m args below meth c H locs cells slots Q (F0 m pc ls (.int a0 :: .ref (gM G) :: rest)) :=
  M_inv hC hP hS [.int a0] (m_pathOf l G a0 σ _ hF) (cwV 1 hC.2.2.2.2.1 (lw_V q2499 q2501 qs123 q145 q2502) rfl rfl rfl (by decide +kernel) hR) rfl rfl hl hW hf hdg kk
/-! cardComes -/
abbrev rmM_cardComes : Room := { frames := 0, cells := 0, slots := 0, locals := 0 }
def F_cardComes (a0 : Int32) (σ : MS) : Option MS :=
  lt (wI σ 75 ((mI σ 75) ||| (a0 <<< ((mI σ 76) &&& 31)))) fun σ_1 =>
  lt (wI σ_1 76 ((mI σ_1 76) + (1 : Int32))) fun σ_2 =>
  some σ_2
set_option maxHeartbeats 4000000 in
theorem w_cardComes {p : Program} {l : Launch} {e : Env} {s : State} {m : MethodId} {args : Array Value} {below : List Frame} {meth : Method} {c : Code} {G : MG} (hC : MCx G cX10_cardComes 2 p s m args meth c) (hr : meth.sig.returnType = none) {x : MS} :
    ∀ (a0 : Int32) (σ : MS), F_cardComes a0 σ = some x → MJ p l e rmM_cardComes s m args below meth c G 2 none x 0 [(0, .ref (gM G)), (1, .int a0)] [] σ := by
  have hx := hC.1
  have hb := hC.2.1
  intro a0 σ hF H locs ls hP hS hl
  rw [F_cardComes] at hF
  refine lv_aload_n hx hb dX10_cardComes_0 rfl (lv_at hl 0 rfl) ?_
  refine lv_dup hx hb dX10_cardComes_1 rfl ?_
  refine gM75 hC hP dX10_cardComes_2 ?_
  refine lv_iload_n hx hb dX10_cardComes_5 rfl (lv_at hl 1 rfl) ?_
  refine lv_aload_n hx hb dX10_cardComes_6 rfl (lv_at hl 0 rfl) ?_
  refine gM76 hC hP dX10_cardComes_7 ?_
  refine lv_ishl hx hb dX10_cardComes_10 ?_
  refine lv_ior hx hb dX10_cardComes_11 ?_
  refine pM75 hC hP hS dX10_cardComes_12 (fun H locs hP hS => ?_)
  obtain ⟨σ_1, eσ_1, hF⟩ := lt_ok hF
  rw [← eσ_1] at hP
  refine lv_aload_n hx hb dX10_cardComes_15 rfl (lv_at hl 0 rfl) ?_
  refine lv_dup hx hb dX10_cardComes_16 rfl ?_
  refine gM76 hC hP dX10_cardComes_17 ?_
  refine lv_iconst (v := 1) hx hb dX10_cardComes_20 (by decide) ?_
  refine lv_iadd hx hb dX10_cardComes_21 ?_
  refine pM76 hC hP hS dX10_cardComes_22 (fun H locs hP hS => ?_)
  obtain ⟨σ_2, eσ_2, hF⟩ := lt_ok hF
  rw [← eσ_2] at hP
  exact M_retv hC hP hS hr (Option.some.inj hF) dX10_cardComes_25
theorem m_cardComes (l : Launch) (G : MG) (a0 : Int32) (σ : MS) (x : MS) (hF : F_cardComes a0 σ = some x) : Met l yX10_cardComes (ws_ yX10_cardComes cX10_cardComes 2 none) rmM_cardComes (mP G [.ref (gM G), .int a0] σ) (mQ G none x) 0 0 (MA G) := by
  refine M_met rfl plM (Nat.le_of_ble_eq_true rfl) ?_
  intro p e s m below meth c hC hr ls hl hP
  exact w_cardComes hC hr a0 σ hF s.heap [] ls hP va_S.rf hl
theorem iM_cardComes {p : Program} {l : Launch} {e : Env} {R : Room} {s : State} {m : MethodId} {args : Array Value} {below : List Frame} {meth : Method} {c : Code} {H H0 : Heap} {locs : List Loc} {cells slots nL : Nat} {Q : State → Prop} {G : MG} {σ : MS} {cc : ByteArray} {pc : Nat} {ls : Array Slot} {rest : List Value} (hC : MCx G cc nL p s m args meth c) (hP : MRep G σ H) (hS : va_S (MA G) H0 H locs) {a0 : Int32} {x : MS} (hF : F_cardComes a0 σ = some x) (hl : ls.size = nL) (hW : (rest.map fun v => v.category).sum ≤ 8) (hR : rmM_cardComes.frames + 1 ≤ R.frames ∧ 8 + (2 + 11) + rmM_cardComes.locals ≤ R.locals) (hf : cells ≤ R.cells ∧ slots ≤ R.slots) (hdg : decode cc pc = .ok (.invokevirtual 601, 3))
    (kk : ∀ (H1 : Heap) (locs1 : List Loc), MRep G x H1 → va_S (MA G) H0 H1 locs1 → W p l e R s m args below meth c H1 locs1 cells slots Q (F0 m (pc + 3) ls (rest))) : W p l e R s m args below meth c H locs cells slots Q (F0 m pc ls (.int a0 :: .ref (gM G) :: rest)) :=
  M_inv hC hP hS [.int a0] (m_cardComes l G a0 σ _ hF) (cwV 1 hC.2.2.2.2.1 (lw_V q2486 q2488 qs120 q145 q2489) rfl rfl rfl (by decide +kernel) hR) rfl rfl hl hW hf hdg kk
/-! answerOf -/
abbrev rmM_answerOf : Room := { frames := 1, cells := 0, slots := 0, locals := 24 }
def F_answerOf (σ : MS) (a0 : Int32) : Option Int32 :=
  gd (inb a0 104) <|
  if (mA σ 22 (Int32.toNatClampNeg a0)) = (12 : Int32) then
    gd (inb a0 104) <|
    some (mA σ 23 (Int32.toNatClampNeg a0))
  else
    bd (F_fits σ a0 (mI σ 76)) fun r_4 =>
    if r_4 = 0 then
      some (-1 : Int32)
    else
      gd (inb a0 104) <|
      lt ((((mI σ 75) >>> ((mA σ 23 (Int32.toNatClampNeg a0)) &&& 31)) &&& (1 : Int32))) fun x2_7 =>
      gd (inb a0 104) <|
      if x2_7 = (((mI σ 75) >>> ((mA σ 24 (Int32.toNatClampNeg a0)) &&& 31)) &&& (1 : Int32)) then
        some (-1 : Int32)
      else
        some x2_7
set_option maxHeartbeats 4000000 in
theorem w_answerOf {p : Program} {l : Launch} {e : Env} {s : State} {m : MethodId} {args : Array Value} {below : List Frame} {meth : Method} {c : Code} {G : MG} (hC : MCx G cX10_answerOf 3 p s m args meth c) (hr : meth.sig.returnType = some .int) {x : Int32} {σ : MS} :
    ∀ (a0 : Int32), F_answerOf σ a0 = some x → MJ p l e rmM_answerOf s m args below meth c G 3 (some (.int x)) σ 0 [(0, .ref (gM G)), (1, .int a0)] [] σ := by
  have hx := hC.1
  have hb := hC.2.1
  intro a0 hF H locs ls hP hS hl
  rw [F_answerOf] at hF
  refine lv_aload_n hx hb dX10_answerOf_0 rfl (lv_at hl 0 rfl) ?_
  refine gM22 hC hP dX10_answerOf_1 ?_
  refine lv_iload_n hx hb dX10_answerOf_4 rfl (lv_at hl 1 rfl) ?_
  obtain ⟨h_1, hF⟩ := gd_ok hF
  refine M_iald hC hP 22 (by decide) rfl rfl rfl h_1 dX10_answerOf_5 ?_
  refine lv_bipush (v := 12) hx hb dX10_answerOf_6 (by decide) ?_
  refine lv_icmp_ne (tgt := 18) hx hb dX10_answerOf_8 (by decide) (fun c_2 => ?_) (fun c_2 => ?_)
  · replace hF := it_f hF c_2
    refine lv_aload_n hx hb dX10_answerOf_18 rfl (lv_at hl 0 rfl) ?_
    refine lv_iload_n hx hb dX10_answerOf_19 rfl (lv_at hl 1 rfl) ?_
    refine lv_aload_n hx hb dX10_answerOf_20 rfl (lv_at hl 0 rfl) ?_
    refine gM76 hC hP dX10_answerOf_21 ?_
    obtain ⟨r_4, hc_3, hF⟩ := bd_ok hF
    refine iM_fits hC hP hS hc_3 hl.1 (Nat.le_of_ble_eq_true rfl) ⟨Nat.le_of_ble_eq_true rfl, Nat.le_of_ble_eq_true rfl⟩ ⟨Nat.zero_le _, Nat.zero_le _⟩ dX10_answerOf_24 (fun H locs hP hS => ?_)
    refine lv_if_ne (tgt := 32) hx hb dX10_answerOf_27 (by decide) (fun c_5 => ?_) (fun c_5 => ?_)
    · replace hF := it_f hF c_5
      refine lv_aload_n hx hb dX10_answerOf_32 rfl (lv_at hl 0 rfl) ?_
      refine gM75 hC hP dX10_answerOf_33 ?_
      refine lv_aload_n hx hb dX10_answerOf_36 rfl (lv_at hl 0 rfl) ?_
      refine gM23 hC hP dX10_answerOf_37 ?_
      refine lv_iload_n hx hb dX10_answerOf_40 rfl (lv_at hl 1 rfl) ?_
      obtain ⟨h_6, hF⟩ := gd_ok hF
      refine M_iald hC hP 23 (by decide) rfl rfl rfl h_6 dX10_answerOf_41 ?_
      refine lv_ishr hx hb dX10_answerOf_42 ?_
      refine lv_iconst (v := 1) hx hb dX10_answerOf_43 (by decide) ?_
      refine lv_iand hx hb dX10_answerOf_44 ?_
      refine lv_topi (fun x2_7 ex2_7 => ?_)
      replace hF := lt_at hF ex2_7
      refine lv_istore_n (lv' := [(2, .int x2_7), (0, .ref (gM G)), (1, .int a0)]) hx hb dX10_answerOf_45 rfl hl (by decide) rfl (fun ls hl => ?_)
      refine lv_iload_n hx hb dX10_answerOf_46 rfl (lv_at hl 0 rfl) ?_
      refine lv_aload_n hx hb dX10_answerOf_47 rfl (lv_at hl 1 rfl) ?_
      refine gM75 hC hP dX10_answerOf_48 ?_
      refine lv_aload_n hx hb dX10_answerOf_51 rfl (lv_at hl 1 rfl) ?_
      refine gM24 hC hP dX10_answerOf_52 ?_
      refine lv_iload_n hx hb dX10_answerOf_55 rfl (lv_at hl 2 rfl) ?_
      obtain ⟨h_8, hF⟩ := gd_ok hF
      refine M_iald hC hP 24 (by decide) rfl rfl rfl h_8 dX10_answerOf_56 ?_
      refine lv_ishr hx hb dX10_answerOf_57 ?_
      refine lv_iconst (v := 1) hx hb dX10_answerOf_58 (by decide) ?_
      refine lv_iand hx hb dX10_answerOf_59 ?_
      refine lv_icmp_ne (tgt := 67) hx hb dX10_answerOf_60 (by decide) (fun c_9 => ?_) (fun c_9 => ?_)
      · replace hF := it_f hF c_9
        refine lv_iload_n hx hb dX10_answerOf_67 rfl (lv_at hl 0 rfl) ?_
        exact M_reti hC hP hS hr (Option.some.inj hF) rfl dX10_answerOf_68
      · replace hF := it_t hF c_9
        refine lv_iconst (v := -1) hx hb dX10_answerOf_63 (by decide) ?_
        refine lv_goto (tgt := 68) hx hb dX10_answerOf_64 (by decide) ?_
        exact M_reti hC hP hS hr (Option.some.inj hF) rfl dX10_answerOf_68
    · replace hF := it_t hF c_5
      refine lv_iconst (v := -1) hx hb dX10_answerOf_30 (by decide) ?_
      exact M_reti hC hP hS hr (Option.some.inj hF) rfl dX10_answerOf_31
  · replace hF := it_t hF c_2
    refine lv_aload_n hx hb dX10_answerOf_11 rfl (lv_at hl 0 rfl) ?_
    refine gM23 hC hP dX10_answerOf_12 ?_
    refine lv_iload_n hx hb dX10_answerOf_15 rfl (lv_at hl 1 rfl) ?_
    obtain ⟨h_10, hF⟩ := gd_ok hF
    refine M_iald hC hP 23 (by decide) rfl rfl rfl h_10 dX10_answerOf_16 ?_
    exact M_reti hC hP hS hr (Option.some.inj hF) rfl dX10_answerOf_17
theorem m_answerOf (l : Launch) (G : MG) (a0 : Int32) (σ : MS) (x : Int32) (hF : F_answerOf σ a0 = some x) : Met l yX10_answerOf (ws_ yX10_answerOf cX10_answerOf 3 (some .int)) rmM_answerOf (mP G [.ref (gM G), .int a0] σ) (mQ G (some (.int x)) σ) 0 0 (MA G) := by
  refine M_met rfl plM (Nat.le_of_ble_eq_true rfl) ?_
  intro p e s m below meth c hC hr ls hl hP
  exact w_answerOf hC hr a0 hF s.heap [] ls hP va_S.rf hl
theorem iM_answerOf {p : Program} {l : Launch} {e : Env} {R : Room} {s : State} {m : MethodId} {args : Array Value} {below : List Frame} {meth : Method} {c : Code} {H H0 : Heap} {locs : List Loc} {cells slots nL : Nat} {Q : State → Prop} {G : MG} {σ : MS} {cc : ByteArray} {pc : Nat} {ls : Array Slot} {rest : List Value} (hC : MCx G cc nL p s m args meth c) (hP : MRep G σ H) (hS : va_S (MA G) H0 H locs) {a0 : Int32} {x : Int32} (hF : F_answerOf σ a0 = some x) (hl : ls.size = nL) (hW : (rest.map fun v => v.category).sum ≤ 8) (hR : rmM_answerOf.frames + 1 ≤ R.frames ∧ 8 + (3 + 11) + rmM_answerOf.locals ≤ R.locals) (hf : cells ≤ R.cells ∧ slots ≤ R.slots) (hdg : decode cc pc = .ok (.invokevirtual 607, 3))
    (kk : ∀ (H1 : Heap) (locs1 : List Loc), MRep G σ H1 → va_S (MA G) H0 H1 locs1 → W p l e R s m args below meth c H1 locs1 cells slots Q (F0 m (pc + 3) ls (.int x :: rest))) : W p l e R s m args below meth c H locs cells slots Q (F0 m pc ls (.int a0 :: .ref (gM G) :: rest)) :=
  M_inv hC hP hS [.int a0] (m_answerOf l G a0 σ _ hF) (cwV 1 hC.2.2.2.2.1 (lw_V q2495 q2497 qs122 q145 q2498) rfl rfl rfl (by decide +kernel) hR) rfl rfl hl hW hf hdg kk
/-! play -/
abbrev rmM_play : Room := { frames := 2, cells := 0, slots := 0, locals := 54 }
def F_play_b484 (x3 : Int32) (σ : MS) : Option (Int32 × MS) :=
  bd (F_pathOf σ x3) fun r_2 =>
  some (r_2, σ)
set_option maxHeartbeats 4000000 in
theorem w_play_b484 {p : Program} {l : Launch} {e : Env} {s : State} {m : MethodId} {args : Array Value} {below : List Frame} {meth : Method} {c : Code} {G : MG} (hC : MCx G cX10_play 9 p s m args meth c) (hr : meth.sig.returnType = some .int) {x : (Int32 × MS)} :
    ∀ (x3 : Int32) (σ : MS), F_play_b484 x3 σ = some x → MJ p l e rmM_play s m args below meth c G 9 (some (.int x.1)) x.2 484 [(0, .ref (gM G)), (3, .int x3)] [] σ := by
  have hx := hC.1
  have hb := hC.2.1
  intro x3 σ hF H locs ls hP hS hl
  rw [F_play_b484] at hF
  refine lv_aload_n hx hb dX10_play_484 rfl (lv_at hl 0 rfl) ?_
  refine lv_iload_n hx hb dX10_play_485 rfl (lv_at hl 1 rfl) ?_
  obtain ⟨r_2, hc_1, hF⟩ := bd_ok hF
  refine iM_pathOf hC hP hS hc_1 hl.1 (Nat.le_of_ble_eq_true rfl) ⟨Nat.le_of_ble_eq_true rfl, Nat.le_of_ble_eq_true rfl⟩ ⟨Nat.zero_le _, Nat.zero_le _⟩ dX10_play_486 (fun H locs hP hS => ?_)
  exact M_reti hC hP hS hr (rt1 hF) (rt2 hF) dX10_play_489
def F_play_b481 (k55 : Int32 → Int32 → Int32 → Int32 → Int32 → MS → Option (Int32 × MS)) (x1 : Int32) (x2 : Int32) (x3 : Int32) (x4 : Int32) (x5 : Int32) (σ : MS) : Option (Int32 × MS) :=
  k55 x1 x2 x3 x4 x5 σ
set_option maxHeartbeats 4000000 in
theorem w_play_b481 {p : Program} {l : Launch} {e : Env} {s : State} {m : MethodId} {args : Array Value} {below : List Frame} {meth : Method} {c : Code} {G : MG} (hC : MCx G cX10_play 9 p s m args meth c) (hr : meth.sig.returnType = some .int) {x : (Int32 × MS)} (k55 : Int32 → Int32 → Int32 → Int32 → Int32 → MS → Option (Int32 × MS)) (hk55 : ∀ (x1 : Int32) (x2 : Int32) (x3 : Int32) (x4 : Int32) (x5 : Int32) (σ : MS), k55 x1 x2 x3 x4 x5 σ = some x → MJ p l e rmM_play s m args below meth c G 9 (some (.int x.1)) x.2 55 [(0, .ref (gM G)), (1, .int x1), (2, .int x2), (3, .int x3), (4, .int x4), (5, .int x5)] [] σ) :
    ∀ (x1 : Int32) (x2 : Int32) (x3 : Int32) (x4 : Int32) (x5 : Int32) (σ : MS), F_play_b481 k55 x1 x2 x3 x4 x5 σ = some x → MJ p l e rmM_play s m args below meth c G 9 (some (.int x.1)) x.2 481 [(0, .ref (gM G)), (1, .int x1), (2, .int x2), (3, .int x3), (4, .int x4), (5, .int x5)] [] σ := by
  have hx := hC.1
  have hb := hC.2.1
  intro x1 x2 x3 x4 x5 σ hF H locs ls hP hS hl
  rw [F_play_b481] at hF
  refine lv_goto (tgt := 55) hx hb dX10_play_481 (by decide) ?_
  exact hk55 x1 x2 x3 x4 x5 σ hF H locs ls hP hS (lv_sub hl [0, 1, 2, 3, 4, 5] rfl)
def F_play_b468 (k481 : Int32 → Int32 → Int32 → Int32 → Int32 → MS → Option (Int32 × MS)) (x1 : Int32) (x2 : Int32) (x3 : Int32) (x4 : Int32) (x6 : Int32) (σ : MS) : Option (Int32 × MS) :=
  bd (F_answerOf σ x6) fun r_2 =>
  lt (wI σ 73 r_2) fun σ_3 =>
  k481 x1 x2 x3 x4 (0 : Int32) σ_3
set_option maxHeartbeats 4000000 in
theorem w_play_b468 {p : Program} {l : Launch} {e : Env} {s : State} {m : MethodId} {args : Array Value} {below : List Frame} {meth : Method} {c : Code} {G : MG} (hC : MCx G cX10_play 9 p s m args meth c) (hr : meth.sig.returnType = some .int) {x : (Int32 × MS)} (k481 : Int32 → Int32 → Int32 → Int32 → Int32 → MS → Option (Int32 × MS)) (hk481 : ∀ (x1 : Int32) (x2 : Int32) (x3 : Int32) (x4 : Int32) (x5 : Int32) (σ : MS), k481 x1 x2 x3 x4 x5 σ = some x → MJ p l e rmM_play s m args below meth c G 9 (some (.int x.1)) x.2 481 [(0, .ref (gM G)), (1, .int x1), (2, .int x2), (3, .int x3), (4, .int x4), (5, .int x5)] [] σ) :
    ∀ (x1 : Int32) (x2 : Int32) (x3 : Int32) (x4 : Int32) (x6 : Int32) (σ : MS), F_play_b468 k481 x1 x2 x3 x4 x6 σ = some x → MJ p l e rmM_play s m args below meth c G 9 (some (.int x.1)) x.2 468 [(0, .ref (gM G)), (1, .int x1), (2, .int x2), (3, .int x3), (4, .int x4), (6, .int x6)] [] σ := by
  have hx := hC.1
  have hb := hC.2.1
  intro x1 x2 x3 x4 x6 σ hF H locs ls hP hS hl
  rw [F_play_b468] at hF
  refine lv_iconst (v := 0) hx hb dX10_play_468 (by decide) ?_
  refine lv_istore (lv' := [(5, .int (0 : Int32)), (0, .ref (gM G)), (1, .int x1), (2, .int x2), (3, .int x3), (4, .int x4), (6, .int x6)]) hx hb dX10_play_469 hl (by decide) rfl (fun ls hl => ?_)
  refine lv_aload_n hx hb dX10_play_471 rfl (lv_at hl 1 rfl) ?_
  refine lv_aload_n hx hb dX10_play_472 rfl (lv_at hl 1 rfl) ?_
  refine lv_iload hx hb dX10_play_473 (lv_at hl 6 rfl) ?_
  obtain ⟨r_2, hc_1, hF⟩ := bd_ok hF
  refine iM_answerOf hC hP hS hc_1 hl.1 (Nat.le_of_ble_eq_true rfl) ⟨Nat.le_of_ble_eq_true rfl, Nat.le_of_ble_eq_true rfl⟩ ⟨Nat.zero_le _, Nat.zero_le _⟩ dX10_play_475 (fun H locs hP hS => ?_)
  refine pM73 hC hP hS dX10_play_478 (fun H locs hP hS => ?_)
  obtain ⟨σ_3, eσ_3, hF⟩ := lt_ok hF
  rw [← eσ_3] at hP
  exact hk481 x1 x2 x3 x4 (0 : Int32) σ_3 hF H locs ls hP hS (lv_sub hl [1, 2, 3, 4, 5, 0] rfl)
def F_play_b402 (k481 : Int32 → Int32 → Int32 → Int32 → Int32 → MS → Option (Int32 × MS)) (x1 : Int32) (x2 : Int32) (x3 : Int32) (x4 : Int32) (x5 : Int32) (σ : MS) : Option (Int32 × MS) :=
  lt (x3 + (1 : Int32)) fun x3_1 =>
  k481 x1 x2 x3_1 x4 x5 σ
set_option maxHeartbeats 4000000 in
theorem w_play_b402 {p : Program} {l : Launch} {e : Env} {s : State} {m : MethodId} {args : Array Value} {below : List Frame} {meth : Method} {c : Code} {G : MG} (hC : MCx G cX10_play 9 p s m args meth c) (hr : meth.sig.returnType = some .int) {x : (Int32 × MS)} (k481 : Int32 → Int32 → Int32 → Int32 → Int32 → MS → Option (Int32 × MS)) (hk481 : ∀ (x1 : Int32) (x2 : Int32) (x3 : Int32) (x4 : Int32) (x5 : Int32) (σ : MS), k481 x1 x2 x3 x4 x5 σ = some x → MJ p l e rmM_play s m args below meth c G 9 (some (.int x.1)) x.2 481 [(0, .ref (gM G)), (1, .int x1), (2, .int x2), (3, .int x3), (4, .int x4), (5, .int x5)] [] σ) :
    ∀ (x1 : Int32) (x2 : Int32) (x3 : Int32) (x4 : Int32) (x5 : Int32) (σ : MS), F_play_b402 k481 x1 x2 x3 x4 x5 σ = some x → MJ p l e rmM_play s m args below meth c G 9 (some (.int x.1)) x.2 402 [(0, .ref (gM G)), (1, .int x1), (2, .int x2), (3, .int x3), (4, .int x4), (5, .int x5)] [] σ := by
  have hx := hC.1
  have hb := hC.2.1
  intro x1 x2 x3 x4 x5 σ hF H locs ls hP hS hl
  rw [F_play_b402] at hF
  obtain ⟨x3_1, ex3_1, hF⟩ := lt_ok hF
  refine lv_iinc (v := x3_1) (lv' := [(3, .int x3_1), (0, .ref (gM G)), (1, .int x1), (2, .int x2), (4, .int x4), (5, .int x5)]) hx hb dX10_play_402 hl (k := 3) rfl (by rw [ex3_1]; rfl) (by decide) rfl (fun ls hl => ?_)
  refine lv_goto (tgt := 481) hx hb dX10_play_405 (by decide) ?_
  exact hk481 x1 x2 x3_1 x4 x5 σ hF H locs ls hP hS (lv_sub hl [1, 2, 3, 0, 4, 5] rfl)
def F_play_L332 (k481 : Int32 → Int32 → Int32 → Int32 → Int32 → MS → Option (Int32 × MS)) : Nat → Int32 → Int32 → Int32 → Int32 → Int32 → Int32 → Int32 → MS → Option (Int32 × MS)
  | 0, _, _, _, _, _, _, _, _ => none
  | fu + 1, x1, x2, x3, x4, x5, x6, x8, σ =>
    gd (inb x6 104) <|
    if (mA σ 26 (Int32.toNatClampNeg x6)) ≤ x8 then
      F_play_b402 k481 x1 x2 x3 x4 x5 σ
    else
      gd (inb (((8 : Int32) * x6) + x8) 832) <|
      gd (inb x3 6) <|
      gd (inb (((8 : Int32) * x6) + x8) 832) <|
      lt (((x2 &&& (((3 : Int32) <<< (((2 : Int32) * (mA σ 27 (Int32.toNatClampNeg (((8 : Int32) * x6) + x8)))) &&& 31)) ^^^ (-1 : Int32))) ||| (((((mA σ 78 (Int32.toNatClampNeg x3)) >>> (x8 &&& 31)) &&& (1 : Int32)) + (1 : Int32)) <<< (((2 : Int32) * (mA σ 27 (Int32.toNatClampNeg (((8 : Int32) * x6) + x8)))) &&& 31)))) fun x2_6 =>
      lt (x8 + (1 : Int32)) fun x8_7 =>
      F_play_L332 k481 fu x1 x2_6 x3 x4 x5 x6 x8_7 σ
set_option maxHeartbeats 4000000 in
theorem w_play_L332 {p : Program} {l : Launch} {e : Env} {s : State} {m : MethodId} {args : Array Value} {below : List Frame} {meth : Method} {c : Code} {G : MG} (hC : MCx G cX10_play 9 p s m args meth c) (hr : meth.sig.returnType = some .int) {x : (Int32 × MS)} (k481 : Int32 → Int32 → Int32 → Int32 → Int32 → MS → Option (Int32 × MS)) (hk481 : ∀ (x1 : Int32) (x2 : Int32) (x3 : Int32) (x4 : Int32) (x5 : Int32) (σ : MS), k481 x1 x2 x3 x4 x5 σ = some x → MJ p l e rmM_play s m args below meth c G 9 (some (.int x.1)) x.2 481 [(0, .ref (gM G)), (1, .int x1), (2, .int x2), (3, .int x3), (4, .int x4), (5, .int x5)] [] σ) :
    ∀ (fu : Nat) (x1 : Int32) (x2 : Int32) (x3 : Int32) (x4 : Int32) (x5 : Int32) (x6 : Int32) (x8 : Int32) (σ : MS), F_play_L332 k481 fu x1 x2 x3 x4 x5 x6 x8 σ = some x → MJ p l e rmM_play s m args below meth c G 9 (some (.int x.1)) x.2 332 [(0, .ref (gM G)), (1, .int x1), (2, .int x2), (3, .int x3), (4, .int x4), (5, .int x5), (6, .int x6), (8, .int x8)] [] σ := by
  have hx := hC.1
  have hb := hC.2.1
  intro fu
  induction fu with
  | zero => intro x1 x2 x3 x4 x5 x6 x8 σ hF; exact nm_none hF
  | succ fu ih =>
    intro x1 x2 x3 x4 x5 x6 x8 σ hF H locs ls hP hS hl
    rw [F_play_L332] at hF
    refine lv_iload hx hb dX10_play_332 (lv_at hl 7 rfl) ?_
    refine lv_aload_n hx hb dX10_play_334 rfl (lv_at hl 0 rfl) ?_
    refine gM26 hC hP dX10_play_335 ?_
    refine lv_iload hx hb dX10_play_338 (lv_at hl 6 rfl) ?_
    obtain ⟨h_1, hF⟩ := gd_ok hF
    refine M_iald hC hP 26 (by decide) rfl rfl rfl h_1 dX10_play_340 ?_
    refine lv_icmp_ge (tgt := 402) hx hb dX10_play_341 (by decide) (fun c_2 => ?_) (fun c_2 => ?_)
    · replace hF := it_t hF c_2
      exact w_play_b402 hC hr k481 hk481 x1 x2 x3 x4 x5 σ hF H locs ls hP hS (lv_sub hl [0, 1, 2, 3, 4, 5] rfl)
    · replace hF := it_f hF c_2
      refine lv_iload_n hx hb dX10_play_344 rfl (lv_at hl 2 rfl) ?_
      refine lv_iconst (v := 3) hx hb dX10_play_345 (by decide) ?_
      refine lv_iconst (v := 2) hx hb dX10_play_346 (by decide) ?_
      refine lv_aload_n hx hb dX10_play_347 rfl (lv_at hl 0 rfl) ?_
      refine gM27 hC hP dX10_play_348 ?_
      refine lv_bipush (v := 8) hx hb dX10_play_351 (by decide) ?_
      refine lv_iload hx hb dX10_play_353 (lv_at hl 6 rfl) ?_
      refine lv_imul hx hb dX10_play_355 ?_
      refine lv_iload hx hb dX10_play_356 (lv_at hl 7 rfl) ?_
      refine lv_iadd hx hb dX10_play_358 ?_
      obtain ⟨h_3, hF⟩ := gd_ok hF
      refine M_iald hC hP 27 (by decide) rfl rfl rfl h_3 dX10_play_359 ?_
      refine lv_imul hx hb dX10_play_360 ?_
      refine lv_ishl hx hb dX10_play_361 ?_
      refine lv_iconst (v := -1) hx hb dX10_play_362 (by decide) ?_
      refine lv_ixor hx hb dX10_play_363 ?_
      refine lv_iand hx hb dX10_play_364 ?_
      refine lv_aload_n hx hb dX10_play_365 rfl (lv_at hl 0 rfl) ?_
      refine gM78 hC hP dX10_play_366 ?_
      refine lv_iload_n hx hb dX10_play_369 rfl (lv_at hl 3 rfl) ?_
      obtain ⟨h_4, hF⟩ := gd_ok hF
      refine M_iald hC hP 78 (by decide) rfl rfl rfl h_4 dX10_play_370 ?_
      refine lv_iload hx hb dX10_play_371 (lv_at hl 7 rfl) ?_
      refine lv_ishr hx hb dX10_play_373 ?_
      refine lv_iconst (v := 1) hx hb dX10_play_374 (by decide) ?_
      refine lv_iand hx hb dX10_play_375 ?_
      refine lv_iconst (v := 1) hx hb dX10_play_376 (by decide) ?_
      refine lv_iadd hx hb dX10_play_377 ?_
      refine lv_iconst (v := 2) hx hb dX10_play_378 (by decide) ?_
      refine lv_aload_n hx hb dX10_play_379 rfl (lv_at hl 0 rfl) ?_
      refine gM27 hC hP dX10_play_380 ?_
      refine lv_bipush (v := 8) hx hb dX10_play_383 (by decide) ?_
      refine lv_iload hx hb dX10_play_385 (lv_at hl 6 rfl) ?_
      refine lv_imul hx hb dX10_play_387 ?_
      refine lv_iload hx hb dX10_play_388 (lv_at hl 7 rfl) ?_
      refine lv_iadd hx hb dX10_play_390 ?_
      obtain ⟨h_5, hF⟩ := gd_ok hF
      refine M_iald hC hP 27 (by decide) rfl rfl rfl h_5 dX10_play_391 ?_
      refine lv_imul hx hb dX10_play_392 ?_
      refine lv_ishl hx hb dX10_play_393 ?_
      refine lv_ior hx hb dX10_play_394 ?_
      refine lv_topi (fun x2_6 ex2_6 => ?_)
      replace hF := lt_at hF ex2_6
      refine lv_istore_n (lv' := [(2, .int x2_6), (0, .ref (gM G)), (1, .int x1), (3, .int x3), (4, .int x4), (5, .int x5), (6, .int x6), (8, .int x8)]) hx hb dX10_play_395 rfl hl (by decide) rfl (fun ls hl => ?_)
      obtain ⟨x8_7, ex8_7, hF⟩ := lt_ok hF
      refine lv_iinc (v := x8_7) (lv' := [(8, .int x8_7), (2, .int x2_6), (0, .ref (gM G)), (1, .int x1), (3, .int x3), (4, .int x4), (5, .int x5), (6, .int x6)]) hx hb dX10_play_396 hl (k := 7) rfl (by rw [ex8_7]; rfl) (by decide) rfl (fun ls hl => ?_)
      refine lv_goto (tgt := 332) hx hb dX10_play_399 (by decide) ?_
      exact ih x1 x2_6 x3 x4 x5 x6 x8_7 σ hF H locs ls hP hS (lv_sub hl [2, 3, 1, 4, 5, 6, 7, 0] rfl)
def F_play_b286 (k55 : Int32 → Int32 → Int32 → Int32 → Int32 → MS → Option (Int32 × MS)) (k481 : Int32 → Int32 → Int32 → Int32 → Int32 → MS → Option (Int32 × MS)) (x1 : Int32) (x2 : Int32) (x3 : Int32) (x4 : Int32) (x5 : Int32) (x6 : Int32) (x7 : Int32) (σ : MS) : Option (Int32 × MS) :=
  if x7 = (8 : Int32) then
    bd (F_fits σ x6 (mI σ 76)) fun r_11 =>
    if r_11 = 0 then
      k55 x1 x2 x3 x4 r_11 σ
    else
      bd (F_colours σ x6 (mI σ 75)) fun r_14 =>
      gd (inb x3 6) <|
      lt (wA σ 78 (Int32.toNatClampNeg x3) r_14) fun σ_16 =>
      F_play_L332 k481 MN x1 x2 x3 x4 r_11 x6 (0 : Int32) σ_16
  else
    if x7 = (9 : Int32) then
      gd (inb x6 104) <|
      gd (inb x6 104) <|
      if ((x2 >>> (((2 : Int32) * (mA σ 23 (Int32.toNatClampNeg x6))) &&& 31)) &&& (3 : Int32)) = ((mA σ 24 (Int32.toNatClampNeg x6)) + (1 : Int32)) then
        gd (inb x6 104) <|
        lt (((mA σ 25 (Int32.toNatClampNeg x6)) + (1 : Int32))) fun x4_9 =>
        k481 x1 x2 x3 x4_9 x5 σ
      else
        k481 x1 x2 x3 x4 x5 σ
    else
      if x7 = (11 : Int32) then
        F_play_b468 k481 x1 x2 x3 x4 x6 σ
      else
        if x7 = (12 : Int32) then
          F_play_b468 k481 x1 x2 x3 x4 x6 σ
        else
          k481 x1 x2 x3 x4 x5 σ
set_option maxHeartbeats 4000000 in
theorem w_play_b286 {p : Program} {l : Launch} {e : Env} {s : State} {m : MethodId} {args : Array Value} {below : List Frame} {meth : Method} {c : Code} {G : MG} (hC : MCx G cX10_play 9 p s m args meth c) (hr : meth.sig.returnType = some .int) {x : (Int32 × MS)} (k55 : Int32 → Int32 → Int32 → Int32 → Int32 → MS → Option (Int32 × MS)) (hk55 : ∀ (x1 : Int32) (x2 : Int32) (x3 : Int32) (x4 : Int32) (x5 : Int32) (σ : MS), k55 x1 x2 x3 x4 x5 σ = some x → MJ p l e rmM_play s m args below meth c G 9 (some (.int x.1)) x.2 55 [(0, .ref (gM G)), (1, .int x1), (2, .int x2), (3, .int x3), (4, .int x4), (5, .int x5)] [] σ) (k481 : Int32 → Int32 → Int32 → Int32 → Int32 → MS → Option (Int32 × MS)) (hk481 : ∀ (x1 : Int32) (x2 : Int32) (x3 : Int32) (x4 : Int32) (x5 : Int32) (σ : MS), k481 x1 x2 x3 x4 x5 σ = some x → MJ p l e rmM_play s m args below meth c G 9 (some (.int x.1)) x.2 481 [(0, .ref (gM G)), (1, .int x1), (2, .int x2), (3, .int x3), (4, .int x4), (5, .int x5)] [] σ) :
    ∀ (x1 : Int32) (x2 : Int32) (x3 : Int32) (x4 : Int32) (x5 : Int32) (x6 : Int32) (x7 : Int32) (σ : MS), F_play_b286 k55 k481 x1 x2 x3 x4 x5 x6 x7 σ = some x → MJ p l e rmM_play s m args below meth c G 9 (some (.int x.1)) x.2 286 [(0, .ref (gM G)), (1, .int x1), (2, .int x2), (3, .int x3), (4, .int x4), (5, .int x5), (6, .int x6), (7, .int x7)] [] σ := by
  have hx := hC.1
  have hb := hC.2.1
  intro x1 x2 x3 x4 x5 x6 x7 σ hF H locs ls hP hS hl
  rw [F_play_b286] at hF
  refine lv_iload hx hb dX10_play_286 (lv_at hl 7 rfl) ?_
  refine lv_bipush (v := 8) hx hb dX10_play_288 (by decide) ?_
  refine lv_icmp_ne (tgt := 408) hx hb dX10_play_290 (by decide) (fun c_1 => ?_) (fun c_1 => ?_)
  · replace hF := it_f hF c_1
    refine lv_iload hx hb dX10_play_408 (lv_at hl 7 rfl) ?_
    refine lv_bipush (v := 9) hx hb dX10_play_410 (by decide) ?_
    refine lv_icmp_ne (tgt := 454) hx hb dX10_play_412 (by decide) (fun c_2 => ?_) (fun c_2 => ?_)
    · replace hF := it_f hF c_2
      refine lv_iload hx hb dX10_play_454 (lv_at hl 7 rfl) ?_
      refine lv_bipush (v := 11) hx hb dX10_play_456 (by decide) ?_
      refine lv_icmp_eq (tgt := 468) hx hb dX10_play_458 (by decide) (fun c_3 => ?_) (fun c_3 => ?_)
      · replace hF := it_t hF c_3
        exact w_play_b468 hC hr k481 hk481 x1 x2 x3 x4 x6 σ hF H locs ls hP hS (lv_sub hl [0, 1, 2, 3, 4, 6] rfl)
      · replace hF := it_f hF c_3
        refine lv_iload hx hb dX10_play_461 (lv_at hl 7 rfl) ?_
        refine lv_bipush (v := 12) hx hb dX10_play_463 (by decide) ?_
        refine lv_icmp_ne (tgt := 481) hx hb dX10_play_465 (by decide) (fun c_4 => ?_) (fun c_4 => ?_)
        · replace hF := it_f hF c_4
          exact hk481 x1 x2 x3 x4 x5 σ hF H locs ls hP hS (lv_sub hl [0, 1, 2, 3, 4, 5] rfl)
        · replace hF := it_t hF c_4
          exact w_play_b468 hC hr k481 hk481 x1 x2 x3 x4 x6 σ hF H locs ls hP hS (lv_sub hl [0, 1, 2, 3, 4, 6] rfl)
    · replace hF := it_t hF c_2
      refine lv_iload_n hx hb dX10_play_415 rfl (lv_at hl 2 rfl) ?_
      refine lv_iconst (v := 2) hx hb dX10_play_416 (by decide) ?_
      refine lv_aload_n hx hb dX10_play_417 rfl (lv_at hl 0 rfl) ?_
      refine gM23 hC hP dX10_play_418 ?_
      refine lv_iload hx hb dX10_play_421 (lv_at hl 6 rfl) ?_
      obtain ⟨h_5, hF⟩ := gd_ok hF
      refine M_iald hC hP 23 (by decide) rfl rfl rfl h_5 dX10_play_423 ?_
      refine lv_imul hx hb dX10_play_424 ?_
      refine lv_ishr hx hb dX10_play_425 ?_
      refine lv_iconst (v := 3) hx hb dX10_play_426 (by decide) ?_
      refine lv_iand hx hb dX10_play_427 ?_
      refine lv_aload_n hx hb dX10_play_428 rfl (lv_at hl 0 rfl) ?_
      refine gM24 hC hP dX10_play_429 ?_
      refine lv_iload hx hb dX10_play_432 (lv_at hl 6 rfl) ?_
      obtain ⟨h_6, hF⟩ := gd_ok hF
      refine M_iald hC hP 24 (by decide) rfl rfl rfl h_6 dX10_play_434 ?_
      refine lv_iconst (v := 1) hx hb dX10_play_435 (by decide) ?_
      refine lv_iadd hx hb dX10_play_436 ?_
      refine lv_icmp_ne (tgt := 481) hx hb dX10_play_437 (by decide) (fun c_7 => ?_) (fun c_7 => ?_)
      · replace hF := it_f hF c_7
        exact hk481 x1 x2 x3 x4 x5 σ hF H locs ls hP hS (lv_sub hl [0, 1, 2, 3, 4, 5] rfl)
      · replace hF := it_t hF c_7
        refine lv_aload_n hx hb dX10_play_440 rfl (lv_at hl 0 rfl) ?_
        refine gM25 hC hP dX10_play_441 ?_
        refine lv_iload hx hb dX10_play_444 (lv_at hl 6 rfl) ?_
        obtain ⟨h_8, hF⟩ := gd_ok hF
        refine M_iald hC hP 25 (by decide) rfl rfl rfl h_8 dX10_play_446 ?_
        refine lv_iconst (v := 1) hx hb dX10_play_447 (by decide) ?_
        refine lv_iadd hx hb dX10_play_448 ?_
        refine lv_topi (fun x4_9 ex4_9 => ?_)
        replace hF := lt_at hF ex4_9
        refine lv_istore (lv' := [(4, .int x4_9), (0, .ref (gM G)), (1, .int x1), (2, .int x2), (3, .int x3), (5, .int x5), (6, .int x6), (7, .int x7)]) hx hb dX10_play_449 hl (by decide) rfl (fun ls hl => ?_)
        refine lv_goto (tgt := 481) hx hb dX10_play_451 (by decide) ?_
        exact hk481 x1 x2 x3 x4_9 x5 σ hF H locs ls hP hS (lv_sub hl [1, 2, 3, 4, 0, 5] rfl)
  · replace hF := it_t hF c_1
    refine lv_aload_n hx hb dX10_play_293 rfl (lv_at hl 0 rfl) ?_
    refine lv_iload hx hb dX10_play_294 (lv_at hl 6 rfl) ?_
    refine lv_aload_n hx hb dX10_play_296 rfl (lv_at hl 0 rfl) ?_
    refine gM76 hC hP dX10_play_297 ?_
    obtain ⟨r_11, hc_10, hF⟩ := bd_ok hF
    refine iM_fits hC hP hS hc_10 hl.1 (Nat.le_of_ble_eq_true rfl) ⟨Nat.le_of_ble_eq_true rfl, Nat.le_of_ble_eq_true rfl⟩ ⟨Nat.zero_le _, Nat.zero_le _⟩ dX10_play_300 (fun H locs hP hS => ?_)
    refine lv_istore (lv' := [(5, .int r_11), (0, .ref (gM G)), (1, .int x1), (2, .int x2), (3, .int x3), (4, .int x4), (6, .int x6), (7, .int x7)]) hx hb dX10_play_303 hl (by decide) rfl (fun ls hl => ?_)
    refine lv_iload hx hb dX10_play_305 (lv_at hl 0 rfl) ?_
    refine lv_if_ne (tgt := 313) hx hb dX10_play_307 (by decide) (fun c_12 => ?_) (fun c_12 => ?_)
    · replace hF := it_f hF c_12
      refine lv_aload_n hx hb dX10_play_313 rfl (lv_at hl 1 rfl) ?_
      refine gM78 hC hP dX10_play_314 ?_
      refine lv_iload_n hx hb dX10_play_317 rfl (lv_at hl 4 rfl) ?_
      refine lv_aload_n hx hb dX10_play_318 rfl (lv_at hl 1 rfl) ?_
      refine lv_iload hx hb dX10_play_319 (lv_at hl 6 rfl) ?_
      refine lv_aload_n hx hb dX10_play_321 rfl (lv_at hl 1 rfl) ?_
      refine gM75 hC hP dX10_play_322 ?_
      obtain ⟨r_14, hc_13, hF⟩ := bd_ok hF
      refine iM_colours hC hP hS hc_13 hl.1 (Nat.le_of_ble_eq_true rfl) ⟨Nat.le_of_ble_eq_true rfl, Nat.le_of_ble_eq_true rfl⟩ ⟨Nat.zero_le _, Nat.zero_le _⟩ dX10_play_325 (fun H locs hP hS => ?_)
      obtain ⟨h_15, hF⟩ := gd_ok hF
      refine M_iast hC hP hS 78 (by decide) rfl rfl rfl h_15 dX10_play_328 (fun H locs hP hS => ?_)
      obtain ⟨σ_16, eσ_16, hF⟩ := lt_ok hF
      rw [← eσ_16] at hP
      refine lv_iconst (v := 0) hx hb dX10_play_329 (by decide) ?_
      refine lv_istore (lv' := [(8, .int (0 : Int32)), (5, .int r_11), (0, .ref (gM G)), (1, .int x1), (2, .int x2), (3, .int x3), (4, .int x4), (6, .int x6), (7, .int x7)]) hx hb dX10_play_330 hl (by decide) rfl (fun ls hl => ?_)
      exact w_play_L332 hC hr k481 hk481 MN x1 x2 x3 x4 r_11 x6 (0 : Int32) σ_16 hF H locs ls hP hS (lv_sub hl [2, 3, 4, 5, 6, 1, 7, 0] rfl)
    · replace hF := it_t hF c_12
      refine lv_goto (tgt := 55) hx hb dX10_play_310 (by decide) ?_
      exact hk55 x1 x2 x3 x4 r_11 σ hF H locs ls hP hS (lv_sub hl [1, 2, 3, 4, 5, 0] rfl)
def F_play_b268 (k481 : Int32 → Int32 → Int32 → Int32 → Int32 → MS → Option (Int32 × MS)) (x1 : Int32) (x2 : Int32) (x3 : Int32) (x4 : Int32) (x5 : Int32) (y0 : Int32) (y1 : Int32) (σ : MS) : Option (Int32 × MS) :=
  bd (F_layMove y1 y0 σ) fun σ_2 =>
  bd (F_moved σ_2 (mI σ_2 75)) fun r_4 =>
  lt (wI σ_2 75 r_4) fun σ_5 =>
  k481 x1 x2 x3 x4 x5 σ_5
set_option maxHeartbeats 4000000 in
theorem w_play_b268 {p : Program} {l : Launch} {e : Env} {s : State} {m : MethodId} {args : Array Value} {below : List Frame} {meth : Method} {c : Code} {G : MG} (hC : MCx G cX10_play 9 p s m args meth c) (hr : meth.sig.returnType = some .int) {x : (Int32 × MS)} (k481 : Int32 → Int32 → Int32 → Int32 → Int32 → MS → Option (Int32 × MS)) (hk481 : ∀ (x1 : Int32) (x2 : Int32) (x3 : Int32) (x4 : Int32) (x5 : Int32) (σ : MS), k481 x1 x2 x3 x4 x5 σ = some x → MJ p l e rmM_play s m args below meth c G 9 (some (.int x.1)) x.2 481 [(0, .ref (gM G)), (1, .int x1), (2, .int x2), (3, .int x3), (4, .int x4), (5, .int x5)] [] σ) :
    ∀ (x1 : Int32) (x2 : Int32) (x3 : Int32) (x4 : Int32) (x5 : Int32) (y0 : Int32) (y1 : Int32) (σ : MS), F_play_b268 k481 x1 x2 x3 x4 x5 y0 y1 σ = some x → MJ p l e rmM_play s m args below meth c G 9 (some (.int x.1)) x.2 268 [(0, .ref (gM G)), (1, .int x1), (2, .int x2), (3, .int x3), (4, .int x4), (5, .int x5)] [.int y0, .int y1, .ref (gM G)] σ := by
  have hx := hC.1
  have hb := hC.2.1
  intro x1 x2 x3 x4 x5 y0 y1 σ hF H locs ls hP hS hl
  rw [F_play_b268] at hF
  obtain ⟨σ_2, hc_1, hF⟩ := bd_ok hF
  refine iM_layMove hC hP hS hc_1 hl.1 (Nat.le_of_ble_eq_true rfl) ⟨Nat.le_of_ble_eq_true rfl, Nat.le_of_ble_eq_true rfl⟩ ⟨Nat.zero_le _, Nat.zero_le _⟩ dX10_play_268 (fun H locs hP hS => ?_)
  refine lv_aload_n hx hb dX10_play_271 rfl (lv_at hl 0 rfl) ?_
  refine lv_aload_n hx hb dX10_play_272 rfl (lv_at hl 0 rfl) ?_
  refine lv_aload_n hx hb dX10_play_273 rfl (lv_at hl 0 rfl) ?_
  refine gM75 hC hP dX10_play_274 ?_
  obtain ⟨r_4, hc_3, hF⟩ := bd_ok hF
  refine iM_moved hC hP hS hc_3 hl.1 (Nat.le_of_ble_eq_true rfl) ⟨Nat.le_of_ble_eq_true rfl, Nat.le_of_ble_eq_true rfl⟩ ⟨Nat.zero_le _, Nat.zero_le _⟩ dX10_play_277 (fun H locs hP hS => ?_)
  refine pM75 hC hP hS dX10_play_280 (fun H locs hP hS => ?_)
  obtain ⟨σ_5, eσ_5, hF⟩ := lt_ok hF
  rw [← eσ_5] at hP
  refine lv_goto (tgt := 481) hx hb dX10_play_283 (by decide) ?_
  exact hk481 x1 x2 x3 x4 x5 σ_5 hF H locs ls hP hS (lv_sub hl [0, 1, 2, 3, 4, 5] rfl)
def F_play_b182 (k481 : Int32 → Int32 → Int32 → Int32 → Int32 → MS → Option (Int32 × MS)) (x1 : Int32) (x2 : Int32) (x3 : Int32) (x4 : Int32) (x5 : Int32) (x6 : Int32) (x7 : Int32) (σ : MS) : Option (Int32 × MS) :=
  if x5 = 0 then
    k481 x1 x2 x3 x4 x5 σ
  else
    if x7 = 0 then
      gd (inb x6 104) <|
      bd (F_cardComes ((1 : Int32) - ((x1 >>> ((mA σ 23 (Int32.toNatClampNeg x6)) &&& 31)) &&& (1 : Int32))) σ) fun σ_5 =>
      k481 x1 x2 x3 x4 x5 σ_5
    else
      k481 x1 x2 x3 x4 x5 σ
set_option maxHeartbeats 4000000 in
theorem w_play_b182 {p : Program} {l : Launch} {e : Env} {s : State} {m : MethodId} {args : Array Value} {below : List Frame} {meth : Method} {c : Code} {G : MG} (hC : MCx G cX10_play 9 p s m args meth c) (hr : meth.sig.returnType = some .int) {x : (Int32 × MS)} (k481 : Int32 → Int32 → Int32 → Int32 → Int32 → MS → Option (Int32 × MS)) (hk481 : ∀ (x1 : Int32) (x2 : Int32) (x3 : Int32) (x4 : Int32) (x5 : Int32) (σ : MS), k481 x1 x2 x3 x4 x5 σ = some x → MJ p l e rmM_play s m args below meth c G 9 (some (.int x.1)) x.2 481 [(0, .ref (gM G)), (1, .int x1), (2, .int x2), (3, .int x3), (4, .int x4), (5, .int x5)] [] σ) :
    ∀ (x1 : Int32) (x2 : Int32) (x3 : Int32) (x4 : Int32) (x5 : Int32) (x6 : Int32) (x7 : Int32) (σ : MS), F_play_b182 k481 x1 x2 x3 x4 x5 x6 x7 σ = some x → MJ p l e rmM_play s m args below meth c G 9 (some (.int x.1)) x.2 182 [(0, .ref (gM G)), (1, .int x1), (2, .int x2), (3, .int x3), (4, .int x4), (5, .int x5), (6, .int x6), (7, .int x7)] [] σ := by
  have hx := hC.1
  have hb := hC.2.1
  intro x1 x2 x3 x4 x5 x6 x7 σ hF H locs ls hP hS hl
  rw [F_play_b182] at hF
  refine lv_iload hx hb dX10_play_182 (lv_at hl 5 rfl) ?_
  refine lv_if_eq (tgt := 481) hx hb dX10_play_184 (by decide) (fun c_1 => ?_) (fun c_1 => ?_)
  · replace hF := it_t hF c_1
    exact hk481 x1 x2 x3 x4 x5 σ hF H locs ls hP hS (lv_sub hl [0, 1, 2, 3, 4, 5] rfl)
  · replace hF := it_f hF c_1
    refine lv_iload hx hb dX10_play_187 (lv_at hl 7 rfl) ?_
    refine lv_if_ne (tgt := 481) hx hb dX10_play_189 (by decide) (fun c_2 => ?_) (fun c_2 => ?_)
    · replace hF := it_f hF c_2
      exact hk481 x1 x2 x3 x4 x5 σ hF H locs ls hP hS (lv_sub hl [0, 1, 2, 3, 4, 5] rfl)
    · replace hF := it_t hF c_2
      refine lv_aload_n hx hb dX10_play_192 rfl (lv_at hl 0 rfl) ?_
      refine lv_iconst (v := 1) hx hb dX10_play_193 (by decide) ?_
      refine lv_iload_n hx hb dX10_play_194 rfl (lv_at hl 1 rfl) ?_
      refine lv_aload_n hx hb dX10_play_195 rfl (lv_at hl 0 rfl) ?_
      refine gM23 hC hP dX10_play_196 ?_
      refine lv_iload hx hb dX10_play_199 (lv_at hl 6 rfl) ?_
      obtain ⟨h_3, hF⟩ := gd_ok hF
      refine M_iald hC hP 23 (by decide) rfl rfl rfl h_3 dX10_play_201 ?_
      refine lv_ishr hx hb dX10_play_202 ?_
      refine lv_iconst (v := 1) hx hb dX10_play_203 (by decide) ?_
      refine lv_iand hx hb dX10_play_204 ?_
      refine lv_isub hx hb dX10_play_205 ?_
      obtain ⟨σ_5, hc_4, hF⟩ := bd_ok hF
      refine iM_cardComes hC hP hS hc_4 hl.1 (Nat.le_of_ble_eq_true rfl) ⟨Nat.le_of_ble_eq_true rfl, Nat.le_of_ble_eq_true rfl⟩ ⟨Nat.zero_le _, Nat.zero_le _⟩ dX10_play_206 (fun H locs hP hS => ?_)
      refine lv_goto (tgt := 481) hx hb dX10_play_209 (by decide) ?_
      exact hk481 x1 x2 x3 x4 x5 σ_5 hF H locs ls hP hS (lv_sub hl [0, 1, 2, 3, 4, 5] rfl)
def F_play_b179 (k182 : Int32 → Int32 → Int32 → Int32 → Int32 → Int32 → Int32 → MS → Option (Int32 × MS)) (x1 : Int32) (x2 : Int32) (x3 : Int32) (x4 : Int32) (x5 : Int32) (x6 : Int32) (x7 : Int32) (y0 : Int32) (σ : MS) : Option (Int32 × MS) :=
  bd (F_cardComes y0 σ) fun σ_2 =>
  k182 x1 x2 x3 x4 x5 x6 x7 σ_2
set_option maxHeartbeats 4000000 in
theorem w_play_b179 {p : Program} {l : Launch} {e : Env} {s : State} {m : MethodId} {args : Array Value} {below : List Frame} {meth : Method} {c : Code} {G : MG} (hC : MCx G cX10_play 9 p s m args meth c) (hr : meth.sig.returnType = some .int) {x : (Int32 × MS)} (k182 : Int32 → Int32 → Int32 → Int32 → Int32 → Int32 → Int32 → MS → Option (Int32 × MS)) (hk182 : ∀ (x1 : Int32) (x2 : Int32) (x3 : Int32) (x4 : Int32) (x5 : Int32) (x6 : Int32) (x7 : Int32) (σ : MS), k182 x1 x2 x3 x4 x5 x6 x7 σ = some x → MJ p l e rmM_play s m args below meth c G 9 (some (.int x.1)) x.2 182 [(0, .ref (gM G)), (1, .int x1), (2, .int x2), (3, .int x3), (4, .int x4), (5, .int x5), (6, .int x6), (7, .int x7)] [] σ) :
    ∀ (x1 : Int32) (x2 : Int32) (x3 : Int32) (x4 : Int32) (x5 : Int32) (x6 : Int32) (x7 : Int32) (y0 : Int32) (σ : MS), F_play_b179 k182 x1 x2 x3 x4 x5 x6 x7 y0 σ = some x → MJ p l e rmM_play s m args below meth c G 9 (some (.int x.1)) x.2 179 [(0, .ref (gM G)), (1, .int x1), (2, .int x2), (3, .int x3), (4, .int x4), (5, .int x5), (6, .int x6), (7, .int x7)] [.int y0, .ref (gM G)] σ := by
  have hx := hC.1
  have hb := hC.2.1
  intro x1 x2 x3 x4 x5 x6 x7 y0 σ hF H locs ls hP hS hl
  rw [F_play_b179] at hF
  obtain ⟨σ_2, hc_1, hF⟩ := bd_ok hF
  refine iM_cardComes hC hP hS hc_1 hl.1 (Nat.le_of_ble_eq_true rfl) ⟨Nat.le_of_ble_eq_true rfl, Nat.le_of_ble_eq_true rfl⟩ ⟨Nat.zero_le _, Nat.zero_le _⟩ dX10_play_179 (fun H locs hP hS => ?_)
  exact hk182 x1 x2 x3 x4 x5 x6 x7 σ_2 hF H locs ls hP hS (lv_sub hl [0, 1, 2, 3, 4, 5, 6, 7] rfl)
def F_play_b144 (k481 : Int32 → Int32 → Int32 → Int32 → Int32 → MS → Option (Int32 × MS)) (x1 : Int32) (x2 : Int32) (x3 : Int32) (x4 : Int32) (x6 : Int32) (x7 : Int32) (y0 : Int32) (σ : MS) : Option (Int32 × MS) :=
  if y0 = 0 then
    F_play_b182 k481 x1 x2 x3 x4 y0 x6 x7 σ
  else
    if x7 = (1 : Int32) then
      gd (inb x6 104) <|
      F_play_b179 (F_play_b182 k481) x1 x2 x3 x4 y0 x6 x7 (mA σ 23 (Int32.toNatClampNeg x6)) σ
    else
      gd (inb x6 104) <|
      F_play_b179 (F_play_b182 k481) x1 x2 x3 x4 y0 x6 x7 ((x1 >>> ((mA σ 23 (Int32.toNatClampNeg x6)) &&& 31)) &&& (1 : Int32)) σ
set_option maxHeartbeats 4000000 in
theorem w_play_b144 {p : Program} {l : Launch} {e : Env} {s : State} {m : MethodId} {args : Array Value} {below : List Frame} {meth : Method} {c : Code} {G : MG} (hC : MCx G cX10_play 9 p s m args meth c) (hr : meth.sig.returnType = some .int) {x : (Int32 × MS)} (k481 : Int32 → Int32 → Int32 → Int32 → Int32 → MS → Option (Int32 × MS)) (hk481 : ∀ (x1 : Int32) (x2 : Int32) (x3 : Int32) (x4 : Int32) (x5 : Int32) (σ : MS), k481 x1 x2 x3 x4 x5 σ = some x → MJ p l e rmM_play s m args below meth c G 9 (some (.int x.1)) x.2 481 [(0, .ref (gM G)), (1, .int x1), (2, .int x2), (3, .int x3), (4, .int x4), (5, .int x5)] [] σ) :
    ∀ (x1 : Int32) (x2 : Int32) (x3 : Int32) (x4 : Int32) (x6 : Int32) (x7 : Int32) (y0 : Int32) (σ : MS), F_play_b144 k481 x1 x2 x3 x4 x6 x7 y0 σ = some x → MJ p l e rmM_play s m args below meth c G 9 (some (.int x.1)) x.2 144 [(0, .ref (gM G)), (1, .int x1), (2, .int x2), (3, .int x3), (4, .int x4), (6, .int x6), (7, .int x7)] [.int y0] σ := by
  have hx := hC.1
  have hb := hC.2.1
  intro x1 x2 x3 x4 x6 x7 y0 σ hF H locs ls hP hS hl
  rw [F_play_b144] at hF
  refine lv_istore (lv' := [(5, .int y0), (0, .ref (gM G)), (1, .int x1), (2, .int x2), (3, .int x3), (4, .int x4), (6, .int x6), (7, .int x7)]) hx hb dX10_play_144 hl (by decide) rfl (fun ls hl => ?_)
  refine lv_iload hx hb dX10_play_146 (lv_at hl 0 rfl) ?_
  refine lv_if_eq (tgt := 182) hx hb dX10_play_148 (by decide) (fun c_1 => ?_) (fun c_1 => ?_)
  · replace hF := it_t hF c_1
    exact w_play_b182 hC hr k481 hk481 x1 x2 x3 x4 y0 x6 x7 σ hF H locs ls hP hS (lv_sub hl [1, 2, 3, 4, 5, 0, 6, 7] rfl)
  · replace hF := it_f hF c_1
    refine lv_aload_n hx hb dX10_play_151 rfl (lv_at hl 1 rfl) ?_
    refine lv_iload hx hb dX10_play_152 (lv_at hl 7 rfl) ?_
    refine lv_iconst (v := 1) hx hb dX10_play_154 (by decide) ?_
    refine lv_icmp_ne (tgt := 168) hx hb dX10_play_155 (by decide) (fun c_2 => ?_) (fun c_2 => ?_)
    · replace hF := it_f hF c_2
      refine lv_iload_n hx hb dX10_play_168 rfl (lv_at hl 2 rfl) ?_
      refine lv_aload_n hx hb dX10_play_169 rfl (lv_at hl 1 rfl) ?_
      refine gM23 hC hP dX10_play_170 ?_
      refine lv_iload hx hb dX10_play_173 (lv_at hl 6 rfl) ?_
      obtain ⟨h_3, hF⟩ := gd_ok hF
      refine M_iald hC hP 23 (by decide) rfl rfl rfl h_3 dX10_play_175 ?_
      refine lv_ishr hx hb dX10_play_176 ?_
      refine lv_iconst (v := 1) hx hb dX10_play_177 (by decide) ?_
      refine lv_iand hx hb dX10_play_178 ?_
      exact w_play_b179 hC hr (F_play_b182 k481) (w_play_b182 hC hr k481 hk481) x1 x2 x3 x4 y0 x6 x7 ((x1 >>> ((mA σ 23 (Int32.toNatClampNeg x6)) &&& 31)) &&& (1 : Int32)) σ hF H locs ls hP hS (lv_sub hl [1, 2, 3, 4, 5, 0, 6, 7] rfl)
    · replace hF := it_t hF c_2
      refine lv_aload_n hx hb dX10_play_158 rfl (lv_at hl 1 rfl) ?_
      refine gM23 hC hP dX10_play_159 ?_
      refine lv_iload hx hb dX10_play_162 (lv_at hl 6 rfl) ?_
      obtain ⟨h_4, hF⟩ := gd_ok hF
      refine M_iald hC hP 23 (by decide) rfl rfl rfl h_4 dX10_play_164 ?_
      refine lv_goto (tgt := 179) hx hb dX10_play_165 (by decide) ?_
      exact w_play_b179 hC hr (F_play_b182 k481) (w_play_b182 hC hr k481 hk481) x1 x2 x3 x4 y0 x6 x7 (mA σ 23 (Int32.toNatClampNeg x6)) σ hF H locs ls hP hS (lv_sub hl [1, 2, 3, 4, 5, 0, 6, 7] rfl)
def F_play_b133 (k481 : Int32 → Int32 → Int32 → Int32 → Int32 → MS → Option (Int32 × MS)) (x1 : Int32) (x2 : Int32) (x3 : Int32) (x4 : Int32) (x6 : Int32) (x7 : Int32) (y0 : Int32) (y1 : Int32) (σ : MS) : Option (Int32 × MS) :=
  if (8 : Int32) < (y1 + y0) then
    F_play_b144 k481 x1 x2 x3 x4 x6 x7 (0 : Int32) σ
  else
    F_play_b144 k481 x1 x2 x3 x4 x6 x7 (1 : Int32) σ
set_option maxHeartbeats 4000000 in
theorem w_play_b133 {p : Program} {l : Launch} {e : Env} {s : State} {m : MethodId} {args : Array Value} {below : List Frame} {meth : Method} {c : Code} {G : MG} (hC : MCx G cX10_play 9 p s m args meth c) (hr : meth.sig.returnType = some .int) {x : (Int32 × MS)} (k481 : Int32 → Int32 → Int32 → Int32 → Int32 → MS → Option (Int32 × MS)) (hk481 : ∀ (x1 : Int32) (x2 : Int32) (x3 : Int32) (x4 : Int32) (x5 : Int32) (σ : MS), k481 x1 x2 x3 x4 x5 σ = some x → MJ p l e rmM_play s m args below meth c G 9 (some (.int x.1)) x.2 481 [(0, .ref (gM G)), (1, .int x1), (2, .int x2), (3, .int x3), (4, .int x4), (5, .int x5)] [] σ) :
    ∀ (x1 : Int32) (x2 : Int32) (x3 : Int32) (x4 : Int32) (x6 : Int32) (x7 : Int32) (y0 : Int32) (y1 : Int32) (σ : MS), F_play_b133 k481 x1 x2 x3 x4 x6 x7 y0 y1 σ = some x → MJ p l e rmM_play s m args below meth c G 9 (some (.int x.1)) x.2 133 [(0, .ref (gM G)), (1, .int x1), (2, .int x2), (3, .int x3), (4, .int x4), (6, .int x6), (7, .int x7)] [.int y0, .int y1] σ := by
  have hx := hC.1
  have hb := hC.2.1
  intro x1 x2 x3 x4 x6 x7 y0 y1 σ hF H locs ls hP hS hl
  rw [F_play_b133] at hF
  refine lv_iadd hx hb dX10_play_133 ?_
  refine lv_bipush (v := 8) hx hb dX10_play_134 (by decide) ?_
  refine lv_icmp_gt (tgt := 143) hx hb dX10_play_136 (by decide) (fun c_1 => ?_) (fun c_1 => ?_)
  · replace hF := it_t hF c_1
    refine lv_iconst (v := 0) hx hb dX10_play_143 (by decide) ?_
    exact w_play_b144 hC hr k481 hk481 x1 x2 x3 x4 x6 x7 (0 : Int32) σ hF H locs ls hP hS (lv_sub hl [0, 1, 2, 3, 4, 5, 6] rfl)
  · replace hF := it_f hF c_1
    refine lv_iconst (v := 1) hx hb dX10_play_139 (by decide) ?_
    refine lv_goto (tgt := 144) hx hb dX10_play_140 (by decide) ?_
    exact w_play_b144 hC hr k481 hk481 x1 x2 x3 x4 x6 x7 (1 : Int32) σ hF H locs ls hP hS (lv_sub hl [0, 1, 2, 3, 4, 5, 6] rfl)
def F_play_b119 (k481 : Int32 → Int32 → Int32 → Int32 → Int32 → MS → Option (Int32 × MS)) (x1 : Int32) (x2 : Int32) (x3 : Int32) (x4 : Int32) (x6 : Int32) (x7 : Int32) (σ : MS) : Option (Int32 × MS) :=
  if x7 = 0 then
    F_play_b133 k481 x1 x2 x3 x4 x6 x7 (2 : Int32) (mI σ 76) σ
  else
    F_play_b133 k481 x1 x2 x3 x4 x6 x7 (1 : Int32) (mI σ 76) σ
set_option maxHeartbeats 4000000 in
theorem w_play_b119 {p : Program} {l : Launch} {e : Env} {s : State} {m : MethodId} {args : Array Value} {below : List Frame} {meth : Method} {c : Code} {G : MG} (hC : MCx G cX10_play 9 p s m args meth c) (hr : meth.sig.returnType = some .int) {x : (Int32 × MS)} (k481 : Int32 → Int32 → Int32 → Int32 → Int32 → MS → Option (Int32 × MS)) (hk481 : ∀ (x1 : Int32) (x2 : Int32) (x3 : Int32) (x4 : Int32) (x5 : Int32) (σ : MS), k481 x1 x2 x3 x4 x5 σ = some x → MJ p l e rmM_play s m args below meth c G 9 (some (.int x.1)) x.2 481 [(0, .ref (gM G)), (1, .int x1), (2, .int x2), (3, .int x3), (4, .int x4), (5, .int x5)] [] σ) :
    ∀ (x1 : Int32) (x2 : Int32) (x3 : Int32) (x4 : Int32) (x6 : Int32) (x7 : Int32) (σ : MS), F_play_b119 k481 x1 x2 x3 x4 x6 x7 σ = some x → MJ p l e rmM_play s m args below meth c G 9 (some (.int x.1)) x.2 119 [(0, .ref (gM G)), (1, .int x1), (2, .int x2), (3, .int x3), (4, .int x4), (6, .int x6), (7, .int x7)] [] σ := by
  have hx := hC.1
  have hb := hC.2.1
  intro x1 x2 x3 x4 x6 x7 σ hF H locs ls hP hS hl
  rw [F_play_b119] at hF
  refine lv_aload_n hx hb dX10_play_119 rfl (lv_at hl 0 rfl) ?_
  refine gM76 hC hP dX10_play_120 ?_
  refine lv_iload hx hb dX10_play_123 (lv_at hl 6 rfl) ?_
  refine lv_if_ne (tgt := 132) hx hb dX10_play_125 (by decide) (fun c_1 => ?_) (fun c_1 => ?_)
  · replace hF := it_f hF c_1
    refine lv_iconst (v := 1) hx hb dX10_play_132 (by decide) ?_
    exact w_play_b133 hC hr k481 hk481 x1 x2 x3 x4 x6 x7 (1 : Int32) (mI σ 76) σ hF H locs ls hP hS (lv_sub hl [0, 1, 2, 3, 4, 5, 6] rfl)
  · replace hF := it_t hF c_1
    refine lv_iconst (v := 2) hx hb dX10_play_128 (by decide) ?_
    refine lv_goto (tgt := 133) hx hb dX10_play_129 (by decide) ?_
    exact w_play_b133 hC hr k481 hk481 x1 x2 x3 x4 x6 x7 (2 : Int32) (mI σ 76) σ hF H locs ls hP hS (lv_sub hl [0, 1, 2, 3, 4, 5, 6] rfl)
def F_play_L55 : Nat → Int32 → Int32 → Int32 → Int32 → Int32 → MS → Option (Int32 × MS)
  | 0, _, _, _, _, _, _ => none
  | fu + 1, x1, x2, x3, x4, x5, σ =>
    if x5 = 0 then
      F_play_b484 x3 σ
    else
      gd (inb (mI σ 35) 2) <|
      if (mA σ 13 (Int32.toNatClampNeg (mI σ 35))) ≤ x4 then
        F_play_b484 x3 σ
      else
        lt ((((52 : Int32) * (mI σ 35)) + x4)) fun x6_4 =>
        gd (inb x6_4 104) <|
        lt ((mA σ 22 (Int32.toNatClampNeg x6_4))) fun x7_6 =>
        lt (wI σ 74 ((mI σ 74) + (1 : Int32))) fun σ_7 =>
        lt (x4 + (1 : Int32)) fun x4_8 =>
        if x7_6 = 0 then
          F_play_b119 (F_play_b481 (F_play_L55 fu)) x1 x2 x3 x4_8 x6_4 x7_6 σ_7
        else
          if x7_6 = (1 : Int32) then
            F_play_b119 (F_play_b481 (F_play_L55 fu)) x1 x2 x3 x4_8 x6_4 x7_6 σ_7
          else
            if x7_6 < (2 : Int32) then
              F_play_b286 (F_play_L55 fu) (F_play_b481 (F_play_L55 fu)) x1 x2 x3 x4_8 x5 x6_4 x7_6 σ_7
            else
              if (7 : Int32) < x7_6 then
                F_play_b286 (F_play_L55 fu) (F_play_b481 (F_play_L55 fu)) x1 x2 x3 x4_8 x5 x6_4 x7_6 σ_7
              else
                bd (F_fits σ_7 x6_4 (mI σ_7 76)) fun r_14 =>
                if r_14 = 0 then
                  F_play_L55 fu x1 x2 x3 x4_8 r_14 σ_7
                else
                  if x7_6 < (4 : Int32) then
                    F_play_b268 (F_play_b481 (F_play_L55 fu)) x1 x2 x3 x4_8 r_14 (0 : Int32) x6_4 σ_7
                  else
                    bd (F_ways σ_7 x6_4) fun r_18 =>
                    bd2 (F_draw r_18 σ_7) fun r_21 σ_20 =>
                    F_play_b268 (F_play_b481 (F_play_L55 fu)) x1 x2 x3 x4_8 r_14 r_21 x6_4 σ_20
set_option maxHeartbeats 4000000 in
theorem w_play_L55 {p : Program} {l : Launch} {e : Env} {s : State} {m : MethodId} {args : Array Value} {below : List Frame} {meth : Method} {c : Code} {G : MG} (hC : MCx G cX10_play 9 p s m args meth c) (hr : meth.sig.returnType = some .int) {x : (Int32 × MS)} :
    ∀ (fu : Nat) (x1 : Int32) (x2 : Int32) (x3 : Int32) (x4 : Int32) (x5 : Int32) (σ : MS), F_play_L55 fu x1 x2 x3 x4 x5 σ = some x → MJ p l e rmM_play s m args below meth c G 9 (some (.int x.1)) x.2 55 [(0, .ref (gM G)), (1, .int x1), (2, .int x2), (3, .int x3), (4, .int x4), (5, .int x5)] [] σ := by
  have hx := hC.1
  have hb := hC.2.1
  intro fu
  induction fu with
  | zero => intro x1 x2 x3 x4 x5 σ hF; exact nm_none hF
  | succ fu ih =>
    intro x1 x2 x3 x4 x5 σ hF H locs ls hP hS hl
    rw [F_play_L55] at hF
    refine lv_iload hx hb dX10_play_55 (lv_at hl 5 rfl) ?_
    refine lv_if_eq (tgt := 484) hx hb dX10_play_57 (by decide) (fun c_1 => ?_) (fun c_1 => ?_)
    · replace hF := it_t hF c_1
      exact w_play_b484 hC hr x3 σ hF H locs ls hP hS (lv_sub hl [0, 3] rfl)
    · replace hF := it_f hF c_1
      refine lv_iload hx hb dX10_play_60 (lv_at hl 4 rfl) ?_
      refine lv_aload_n hx hb dX10_play_62 rfl (lv_at hl 0 rfl) ?_
      refine gM13 hC hP dX10_play_63 ?_
      refine lv_aload_n hx hb dX10_play_66 rfl (lv_at hl 0 rfl) ?_
      refine gM35 hC hP dX10_play_67 ?_
      obtain ⟨h_2, hF⟩ := gd_ok hF
      refine M_iald hC hP 13 (by decide) rfl rfl rfl h_2 dX10_play_70 ?_
      refine lv_icmp_ge (tgt := 484) hx hb dX10_play_71 (by decide) (fun c_3 => ?_) (fun c_3 => ?_)
      · replace hF := it_t hF c_3
        exact w_play_b484 hC hr x3 σ hF H locs ls hP hS (lv_sub hl [0, 3] rfl)
      · replace hF := it_f hF c_3
        refine lv_bipush (v := 52) hx hb dX10_play_74 (by decide) ?_
        refine lv_aload_n hx hb dX10_play_76 rfl (lv_at hl 0 rfl) ?_
        refine gM35 hC hP dX10_play_77 ?_
        refine lv_imul hx hb dX10_play_80 ?_
        refine lv_iload hx hb dX10_play_81 (lv_at hl 4 rfl) ?_
        refine lv_iadd hx hb dX10_play_83 ?_
        refine lv_topi (fun x6_4 ex6_4 => ?_)
        replace hF := lt_at hF ex6_4
        refine lv_istore (lv' := [(6, .int x6_4), (0, .ref (gM G)), (1, .int x1), (2, .int x2), (3, .int x3), (4, .int x4), (5, .int x5)]) hx hb dX10_play_84 hl (by decide) rfl (fun ls hl => ?_)
        refine lv_aload_n hx hb dX10_play_86 rfl (lv_at hl 1 rfl) ?_
        refine gM22 hC hP dX10_play_87 ?_
        refine lv_iload hx hb dX10_play_90 (lv_at hl 0 rfl) ?_
        obtain ⟨h_5, hF⟩ := gd_ok hF
        refine M_iald hC hP 22 (by decide) rfl rfl rfl h_5 dX10_play_92 ?_
        refine lv_topi (fun x7_6 ex7_6 => ?_)
        replace hF := lt_at hF ex7_6
        refine lv_istore (lv' := [(7, .int x7_6), (6, .int x6_4), (0, .ref (gM G)), (1, .int x1), (2, .int x2), (3, .int x3), (4, .int x4), (5, .int x5)]) hx hb dX10_play_93 hl (by decide) rfl (fun ls hl => ?_)
        refine lv_aload_n hx hb dX10_play_95 rfl (lv_at hl 2 rfl) ?_
        refine lv_dup hx hb dX10_play_96 rfl ?_
        refine gM74 hC hP dX10_play_97 ?_
        refine lv_iconst (v := 1) hx hb dX10_play_100 (by decide) ?_
        refine lv_iadd hx hb dX10_play_101 ?_
        refine pM74 hC hP hS dX10_play_102 (fun H locs hP hS => ?_)
        obtain ⟨σ_7, eσ_7, hF⟩ := lt_ok hF
        rw [← eσ_7] at hP
        obtain ⟨x4_8, ex4_8, hF⟩ := lt_ok hF
        refine lv_iinc (v := x4_8) (lv' := [(4, .int x4_8), (7, .int x7_6), (6, .int x6_4), (0, .ref (gM G)), (1, .int x1), (2, .int x2), (3, .int x3), (5, .int x5)]) hx hb dX10_play_105 hl (k := 6) rfl (by rw [ex4_8]; rfl) (by decide) rfl (fun ls hl => ?_)
        refine lv_iload hx hb dX10_play_108 (lv_at hl 1 rfl) ?_
        refine lv_if_eq (tgt := 119) hx hb dX10_play_110 (by decide) (fun c_9 => ?_) (fun c_9 => ?_)
        · replace hF := it_t hF c_9
          exact w_play_b119 hC hr (F_play_b481 (F_play_L55 fu)) (w_play_b481 hC hr (F_play_L55 fu) ih) x1 x2 x3 x4_8 x6_4 x7_6 σ_7 hF H locs ls hP hS (lv_sub hl [3, 4, 5, 6, 0, 2, 1] rfl)
        · replace hF := it_f hF c_9
          refine lv_iload hx hb dX10_play_113 (lv_at hl 1 rfl) ?_
          refine lv_iconst (v := 1) hx hb dX10_play_115 (by decide) ?_
          refine lv_icmp_ne (tgt := 212) hx hb dX10_play_116 (by decide) (fun c_10 => ?_) (fun c_10 => ?_)
          · replace hF := it_f hF c_10
            refine lv_iload hx hb dX10_play_212 (lv_at hl 1 rfl) ?_
            refine lv_iconst (v := 2) hx hb dX10_play_214 (by decide) ?_
            refine lv_icmp_lt (tgt := 286) hx hb dX10_play_215 (by decide) (fun c_11 => ?_) (fun c_11 => ?_)
            · replace hF := it_t hF c_11
              exact w_play_b286 hC hr (F_play_L55 fu) ih (F_play_b481 (F_play_L55 fu)) (w_play_b481 hC hr (F_play_L55 fu) ih) x1 x2 x3 x4_8 x5 x6_4 x7_6 σ_7 hF H locs ls hP hS (lv_sub hl [3, 4, 5, 6, 0, 7, 2, 1] rfl)
            · replace hF := it_f hF c_11
              refine lv_iload hx hb dX10_play_218 (lv_at hl 1 rfl) ?_
              refine lv_bipush (v := 7) hx hb dX10_play_220 (by decide) ?_
              refine lv_icmp_gt (tgt := 286) hx hb dX10_play_222 (by decide) (fun c_12 => ?_) (fun c_12 => ?_)
              · replace hF := it_t hF c_12
                exact w_play_b286 hC hr (F_play_L55 fu) ih (F_play_b481 (F_play_L55 fu)) (w_play_b481 hC hr (F_play_L55 fu) ih) x1 x2 x3 x4_8 x5 x6_4 x7_6 σ_7 hF H locs ls hP hS (lv_sub hl [3, 4, 5, 6, 0, 7, 2, 1] rfl)
              · replace hF := it_f hF c_12
                refine lv_aload_n hx hb dX10_play_225 rfl (lv_at hl 3 rfl) ?_
                refine lv_iload hx hb dX10_play_226 (lv_at hl 2 rfl) ?_
                refine lv_aload_n hx hb dX10_play_228 rfl (lv_at hl 3 rfl) ?_
                refine gM76 hC hP dX10_play_229 ?_
                obtain ⟨r_14, hc_13, hF⟩ := bd_ok hF
                refine iM_fits hC hP hS hc_13 hl.1 (Nat.le_of_ble_eq_true rfl) ⟨Nat.le_of_ble_eq_true rfl, Nat.le_of_ble_eq_true rfl⟩ ⟨Nat.zero_le _, Nat.zero_le _⟩ dX10_play_232 (fun H locs hP hS => ?_)
                refine lv_istore (lv' := [(5, .int r_14), (4, .int x4_8), (7, .int x7_6), (6, .int x6_4), (0, .ref (gM G)), (1, .int x1), (2, .int x2), (3, .int x3)]) hx hb dX10_play_235 hl (by decide) rfl (fun ls hl => ?_)
                refine lv_iload hx hb dX10_play_237 (lv_at hl 0 rfl) ?_
                refine lv_if_ne (tgt := 245) hx hb dX10_play_239 (by decide) (fun c_15 => ?_) (fun c_15 => ?_)
                · replace hF := it_f hF c_15
                  refine lv_aload_n hx hb dX10_play_245 rfl (lv_at hl 4 rfl) ?_
                  refine lv_iload hx hb dX10_play_246 (lv_at hl 3 rfl) ?_
                  refine lv_iload hx hb dX10_play_248 (lv_at hl 2 rfl) ?_
                  refine lv_iconst (v := 4) hx hb dX10_play_250 (by decide) ?_
                  refine lv_icmp_lt (tgt := 267) hx hb dX10_play_251 (by decide) (fun c_16 => ?_) (fun c_16 => ?_)
                  · replace hF := it_t hF c_16
                    refine lv_iconst (v := 0) hx hb dX10_play_267 (by decide) ?_
                    exact w_play_b268 hC hr (F_play_b481 (F_play_L55 fu)) (w_play_b481 hC hr (F_play_L55 fu) ih) x1 x2 x3 x4_8 r_14 (0 : Int32) x6_4 σ_7 hF H locs ls hP hS (lv_sub hl [4, 5, 6, 7, 1, 0] rfl)
                  · replace hF := it_f hF c_16
                    refine lv_aload_n hx hb dX10_play_254 rfl (lv_at hl 4 rfl) ?_
                    refine lv_aload_n hx hb dX10_play_255 rfl (lv_at hl 4 rfl) ?_
                    refine lv_iload hx hb dX10_play_256 (lv_at hl 3 rfl) ?_
                    obtain ⟨r_18, hc_17, hF⟩ := bd_ok hF
                    refine iM_ways hC hP hS hc_17 hl.1 (Nat.le_of_ble_eq_true rfl) ⟨Nat.le_of_ble_eq_true rfl, Nat.le_of_ble_eq_true rfl⟩ ⟨Nat.zero_le _, Nat.zero_le _⟩ dX10_play_258 (fun H locs hP hS => ?_)
                    obtain ⟨r_21, σ_20, hc_19, hF⟩ := bd2_ok hF
                    refine iM_draw hC hP hS hc_19 hl.1 (Nat.le_of_ble_eq_true rfl) ⟨Nat.le_of_ble_eq_true rfl, Nat.le_of_ble_eq_true rfl⟩ ⟨Nat.zero_le _, Nat.zero_le _⟩ dX10_play_261 (fun H locs hP hS => ?_)
                    refine lv_goto (tgt := 268) hx hb dX10_play_264 (by decide) ?_
                    exact w_play_b268 hC hr (F_play_b481 (F_play_L55 fu)) (w_play_b481 hC hr (F_play_L55 fu) ih) x1 x2 x3 x4_8 r_14 r_21 x6_4 σ_20 hF H locs ls hP hS (lv_sub hl [4, 5, 6, 7, 1, 0] rfl)
                · replace hF := it_t hF c_15
                  refine lv_goto (tgt := 55) hx hb dX10_play_242 (by decide) ?_
                  exact ih x1 x2 x3 x4_8 r_14 σ_7 hF H locs ls hP hS (lv_sub hl [4, 5, 6, 7, 1, 0] rfl)
          · replace hF := it_t hF c_10
            exact w_play_b119 hC hr (F_play_b481 (F_play_L55 fu)) (w_play_b481 hC hr (F_play_L55 fu) ih) x1 x2 x3 x4_8 x6_4 x7_6 σ_7 hF H locs ls hP hS (lv_sub hl [3, 4, 5, 6, 0, 2, 1] rfl)
def F_play (a0 : Int32) (σ : MS) : Option (Int32 × MS) :=
  bd (F_isInput σ a0) fun r_2 =>
  if r_2 = 0 then
    some ((-1 : Int32), σ)
  else
    if (mI σ 65) = 0 then
      lt (wI σ 77 (1 : Int32)) fun σ_5 =>
      lt (wI σ_5 73 (-1 : Int32)) fun σ_6 =>
      lt (wI σ_6 74 (0 : Int32)) fun σ_7 =>
      lt (wI σ_7 75 (0 : Int32)) fun σ_8 =>
      lt (wI σ_8 76 (0 : Int32)) fun σ_9 =>
      F_play_L55 MN a0 (0 : Int32) (0 : Int32) (0 : Int32) (1 : Int32) σ_9
    else
      some ((-2 : Int32), σ)
set_option maxHeartbeats 4000000 in
theorem w_play {p : Program} {l : Launch} {e : Env} {s : State} {m : MethodId} {args : Array Value} {below : List Frame} {meth : Method} {c : Code} {G : MG} (hC : MCx G cX10_play 9 p s m args meth c) (hr : meth.sig.returnType = some .int) {x : (Int32 × MS)} :
    ∀ (a0 : Int32) (σ : MS), F_play a0 σ = some x → MJ p l e rmM_play s m args below meth c G 9 (some (.int x.1)) x.2 0 [(0, .ref (gM G)), (1, .int a0)] [] σ := by
  have hx := hC.1
  have hb := hC.2.1
  intro a0 σ hF H locs ls hP hS hl
  rw [F_play] at hF
  refine lv_aload_n hx hb dX10_play_0 rfl (lv_at hl 0 rfl) ?_
  refine lv_iload_n hx hb dX10_play_1 rfl (lv_at hl 1 rfl) ?_
  obtain ⟨r_2, hc_1, hF⟩ := bd_ok hF
  refine iM_isInput hC hP hS hc_1 hl.1 (Nat.le_of_ble_eq_true rfl) ⟨Nat.le_of_ble_eq_true rfl, Nat.le_of_ble_eq_true rfl⟩ ⟨Nat.zero_le _, Nat.zero_le _⟩ dX10_play_2 (fun H locs hP hS => ?_)
  refine lv_if_ne (tgt := 10) hx hb dX10_play_5 (by decide) (fun c_3 => ?_) (fun c_3 => ?_)
  · replace hF := it_f hF c_3
    refine lv_aload_n hx hb dX10_play_10 rfl (lv_at hl 0 rfl) ?_
    refine gM65 hC hP dX10_play_11 ?_
    refine lv_if_eq (tgt := 20) hx hb dX10_play_14 (by decide) (fun c_4 => ?_) (fun c_4 => ?_)
    · replace hF := it_t hF c_4
      refine lv_aload_n hx hb dX10_play_20 rfl (lv_at hl 0 rfl) ?_
      refine lv_iconst (v := 1) hx hb dX10_play_21 (by decide) ?_
      refine pM77 hC hP hS (Or.inr rfl) dX10_play_22 (fun H locs hP hS => ?_)
      obtain ⟨σ_5, eσ_5, hF⟩ := lt_ok hF
      rw [← eσ_5] at hP
      refine lv_aload_n hx hb dX10_play_25 rfl (lv_at hl 0 rfl) ?_
      refine lv_iconst (v := -1) hx hb dX10_play_26 (by decide) ?_
      refine pM73 hC hP hS dX10_play_27 (fun H locs hP hS => ?_)
      obtain ⟨σ_6, eσ_6, hF⟩ := lt_ok hF
      rw [← eσ_6] at hP
      refine lv_aload_n hx hb dX10_play_30 rfl (lv_at hl 0 rfl) ?_
      refine lv_iconst (v := 0) hx hb dX10_play_31 (by decide) ?_
      refine pM74 hC hP hS dX10_play_32 (fun H locs hP hS => ?_)
      obtain ⟨σ_7, eσ_7, hF⟩ := lt_ok hF
      rw [← eσ_7] at hP
      refine lv_aload_n hx hb dX10_play_35 rfl (lv_at hl 0 rfl) ?_
      refine lv_iconst (v := 0) hx hb dX10_play_36 (by decide) ?_
      refine pM75 hC hP hS dX10_play_37 (fun H locs hP hS => ?_)
      obtain ⟨σ_8, eσ_8, hF⟩ := lt_ok hF
      rw [← eσ_8] at hP
      refine lv_aload_n hx hb dX10_play_40 rfl (lv_at hl 0 rfl) ?_
      refine lv_iconst (v := 0) hx hb dX10_play_41 (by decide) ?_
      refine pM76 hC hP hS dX10_play_42 (fun H locs hP hS => ?_)
      obtain ⟨σ_9, eσ_9, hF⟩ := lt_ok hF
      rw [← eσ_9] at hP
      refine lv_iconst (v := 0) hx hb dX10_play_45 (by decide) ?_
      refine lv_istore_n (lv' := [(2, .int (0 : Int32)), (0, .ref (gM G)), (1, .int a0)]) hx hb dX10_play_46 rfl hl (by decide) rfl (fun ls hl => ?_)
      refine lv_iconst (v := 0) hx hb dX10_play_47 (by decide) ?_
      refine lv_istore_n (lv' := [(3, .int (0 : Int32)), (2, .int (0 : Int32)), (0, .ref (gM G)), (1, .int a0)]) hx hb dX10_play_48 rfl hl (by decide) rfl (fun ls hl => ?_)
      refine lv_iconst (v := 0) hx hb dX10_play_49 (by decide) ?_
      refine lv_istore (lv' := [(4, .int (0 : Int32)), (3, .int (0 : Int32)), (2, .int (0 : Int32)), (0, .ref (gM G)), (1, .int a0)]) hx hb dX10_play_50 hl (by decide) rfl (fun ls hl => ?_)
      refine lv_iconst (v := 1) hx hb dX10_play_52 (by decide) ?_
      refine lv_istore (lv' := [(5, .int (1 : Int32)), (4, .int (0 : Int32)), (3, .int (0 : Int32)), (2, .int (0 : Int32)), (0, .ref (gM G)), (1, .int a0)]) hx hb dX10_play_53 hl (by decide) rfl (fun ls hl => ?_)
      exact w_play_L55 hC hr MN a0 (0 : Int32) (0 : Int32) (0 : Int32) (1 : Int32) σ_9 hF H locs ls hP hS (lv_sub hl [4, 5, 3, 2, 1, 0] rfl)
    · replace hF := it_f hF c_4
      refine lv_bipush (v := -2) hx hb dX10_play_17 (by decide) ?_
      exact M_reti hC hP hS hr (rt1 hF) (rt2 hF) dX10_play_19
  · replace hF := it_t hF c_3
    refine lv_iconst (v := -1) hx hb dX10_play_8 (by decide) ?_
    exact M_reti hC hP hS hr (rt1 hF) (rt2 hF) dX10_play_9
theorem m_play (l : Launch) (G : MG) (a0 : Int32) (σ : MS) (x : (Int32 × MS)) (hF : F_play a0 σ = some x) : Met l yX10_play (ws_ yX10_play cX10_play 9 (some .int)) rmM_play (mP G [.ref (gM G), .int a0] σ) (mQ G (some (.int x.1)) x.2) 0 0 (MA G) := by
  refine M_met rfl plM (Nat.le_of_ble_eq_true rfl) ?_
  intro p e s m below meth c hC hr ls hl hP
  exact w_play hC hr a0 σ hF s.heap [] ls hP va_S.rf hl
/-! played -/
abbrev rmM_played : Room := { frames := 0, cells := 0, slots := 0, locals := 0 }
def F_played (σ : MS) (a0 : Int32) : Option Int32 :=
  if (mI σ 77) = 0 then
    some (-1 : Int32)
  else
    if a0 = 0 then
      some (mI σ 73)
    else
      if a0 = (1 : Int32) then
        some (mI σ 74)
      else
        if a0 = (2 : Int32) then
          some (mI σ 75)
        else
          if a0 = (3 : Int32) then
            some (mI σ 76)
          else
            some (-1 : Int32)
set_option maxHeartbeats 4000000 in
theorem w_played {p : Program} {l : Launch} {e : Env} {s : State} {m : MethodId} {args : Array Value} {below : List Frame} {meth : Method} {c : Code} {G : MG} (hC : MCx G cX10_played 2 p s m args meth c) (hr : meth.sig.returnType = some .int) {x : Int32} {σ : MS} :
    ∀ (a0 : Int32), F_played σ a0 = some x → MJ p l e rmM_played s m args below meth c G 2 (some (.int x)) σ 0 [(0, .ref (gM G)), (1, .int a0)] [] σ := by
  have hx := hC.1
  have hb := hC.2.1
  intro a0 hF H locs ls hP hS hl
  rw [F_played] at hF
  refine lv_aload_n hx hb dX10_played_0 rfl (lv_at hl 0 rfl) ?_
  refine gM77 hC hP dX10_played_1 ?_
  refine lv_if_ne (tgt := 9) hx hb dX10_played_4 (by decide) (fun c_1 => ?_) (fun c_1 => ?_)
  · replace hF := it_f hF c_1
    refine lv_iload_n hx hb dX10_played_9 rfl (lv_at hl 1 rfl) ?_
    refine lv_if_ne (tgt := 20) hx hb dX10_played_10 (by decide) (fun c_2 => ?_) (fun c_2 => ?_)
    · replace hF := it_f hF c_2
      refine lv_iload_n hx hb dX10_played_20 rfl (lv_at hl 1 rfl) ?_
      refine lv_iconst (v := 1) hx hb dX10_played_21 (by decide) ?_
      refine lv_icmp_ne (tgt := 32) hx hb dX10_played_22 (by decide) (fun c_3 => ?_) (fun c_3 => ?_)
      · replace hF := it_f hF c_3
        refine lv_iload_n hx hb dX10_played_32 rfl (lv_at hl 1 rfl) ?_
        refine lv_iconst (v := 2) hx hb dX10_played_33 (by decide) ?_
        refine lv_icmp_ne (tgt := 44) hx hb dX10_played_34 (by decide) (fun c_4 => ?_) (fun c_4 => ?_)
        · replace hF := it_f hF c_4
          refine lv_iload_n hx hb dX10_played_44 rfl (lv_at hl 1 rfl) ?_
          refine lv_iconst (v := 3) hx hb dX10_played_45 (by decide) ?_
          refine lv_icmp_ne (tgt := 56) hx hb dX10_played_46 (by decide) (fun c_5 => ?_) (fun c_5 => ?_)
          · replace hF := it_f hF c_5
            refine lv_iconst (v := -1) hx hb dX10_played_56 (by decide) ?_
            exact M_reti hC hP hS hr (Option.some.inj hF) rfl dX10_played_57
          · replace hF := it_t hF c_5
            refine lv_aload_n hx hb dX10_played_49 rfl (lv_at hl 0 rfl) ?_
            refine gM76 hC hP dX10_played_50 ?_
            refine lv_goto (tgt := 57) hx hb dX10_played_53 (by decide) ?_
            exact M_reti hC hP hS hr (Option.some.inj hF) rfl dX10_played_57
        · replace hF := it_t hF c_4
          refine lv_aload_n hx hb dX10_played_37 rfl (lv_at hl 0 rfl) ?_
          refine gM75 hC hP dX10_played_38 ?_
          refine lv_goto (tgt := 57) hx hb dX10_played_41 (by decide) ?_
          exact M_reti hC hP hS hr (Option.some.inj hF) rfl dX10_played_57
      · replace hF := it_t hF c_3
        refine lv_aload_n hx hb dX10_played_25 rfl (lv_at hl 0 rfl) ?_
        refine gM74 hC hP dX10_played_26 ?_
        refine lv_goto (tgt := 57) hx hb dX10_played_29 (by decide) ?_
        exact M_reti hC hP hS hr (Option.some.inj hF) rfl dX10_played_57
    · replace hF := it_t hF c_2
      refine lv_aload_n hx hb dX10_played_13 rfl (lv_at hl 0 rfl) ?_
      refine gM73 hC hP dX10_played_14 ?_
      refine lv_goto (tgt := 57) hx hb dX10_played_17 (by decide) ?_
      exact M_reti hC hP hS hr (Option.some.inj hF) rfl dX10_played_57
  · replace hF := it_t hF c_1
    refine lv_iconst (v := -1) hx hb dX10_played_7 (by decide) ?_
    exact M_reti hC hP hS hr (Option.some.inj hF) rfl dX10_played_8
theorem m_played (l : Launch) (G : MG) (a0 : Int32) (σ : MS) (x : Int32) (hF : F_played σ a0 = some x) : Met l yX10_played (ws_ yX10_played cX10_played 2 (some .int)) rmM_played (mP G [.ref (gM G), .int a0] σ) (mQ G (some (.int x)) σ) 0 0 (MA G) := by
  refine M_met rfl plM (Nat.le_of_ble_eq_true rfl) ?_
  intro p e s m below meth c hC hr ls hl hP
  exact w_played hC hr a0 hF s.heap [] ls hP va_S.rf hl
/-! tell -/
abbrev rmM_tell : Room := { frames := 2, cells := 0, slots := 0, locals := 43 }
def F_tell (a0 : Int32) (σ : MS) : Option (Int32 × MS) :=
  bd (F_isPath σ a0) fun r_2 =>
  if r_2 = 0 then
    some ((-1 : Int32), σ)
  else
    if (mI σ 82) = (20 : Int32) then
      some ((-1 : Int32), σ)
    else
      gd (inb (mI σ 82) 20) <|
      lt (wA σ 79 (Int32.toNatClampNeg (mI σ 82)) a0) fun σ_6 =>
      gd (inb (mI σ_6 82) 20) <|
      lt (wA σ_6 80 (Int32.toNatClampNeg (mI σ_6 82)) (mI σ_6 83)) fun σ_8 =>
      gd (inb (mI σ_8 82) 20) <|
      lt (wA σ_8 81 (Int32.toNatClampNeg (mI σ_8 82)) (-1 : Int32)) fun σ_10 =>
      lt (wI σ_10 82 ((mI σ_10 82) + (1 : Int32))) fun σ_11 =>
      some (((mI σ_11 82) - (1 : Int32)), σ_11)
set_option maxHeartbeats 4000000 in
theorem w_tell {p : Program} {l : Launch} {e : Env} {s : State} {m : MethodId} {args : Array Value} {below : List Frame} {meth : Method} {c : Code} {G : MG} (hC : MCx G cX10_tell 2 p s m args meth c) (hr : meth.sig.returnType = some .int) {x : (Int32 × MS)} :
    ∀ (a0 : Int32) (σ : MS), F_tell a0 σ = some x → MJ p l e rmM_tell s m args below meth c G 2 (some (.int x.1)) x.2 0 [(0, .ref (gM G)), (1, .int a0)] [] σ := by
  have hx := hC.1
  have hb := hC.2.1
  intro a0 σ hF H locs ls hP hS hl
  rw [F_tell] at hF
  refine lv_aload_n hx hb dX10_tell_0 rfl (lv_at hl 0 rfl) ?_
  refine lv_iload_n hx hb dX10_tell_1 rfl (lv_at hl 1 rfl) ?_
  obtain ⟨r_2, hc_1, hF⟩ := bd_ok hF
  refine iM_isPath hC hP hS hc_1 hl.1 (Nat.le_of_ble_eq_true rfl) ⟨Nat.le_of_ble_eq_true rfl, Nat.le_of_ble_eq_true rfl⟩ ⟨Nat.zero_le _, Nat.zero_le _⟩ dX10_tell_2 (fun H locs hP hS => ?_)
  refine lv_if_eq (tgt := 17) hx hb dX10_tell_5 (by decide) (fun c_3 => ?_) (fun c_3 => ?_)
  · replace hF := it_t hF c_3
    refine lv_iconst (v := -1) hx hb dX10_tell_17 (by decide) ?_
    exact M_reti hC hP hS hr (rt1 hF) (rt2 hF) dX10_tell_18
  · replace hF := it_f hF c_3
    refine lv_aload_n hx hb dX10_tell_8 rfl (lv_at hl 0 rfl) ?_
    refine gM82 hC hP dX10_tell_9 ?_
    refine lv_bipush (v := 20) hx hb dX10_tell_12 (by decide) ?_
    refine lv_icmp_ne (tgt := 19) hx hb dX10_tell_14 (by decide) (fun c_4 => ?_) (fun c_4 => ?_)
    · replace hF := it_f hF c_4
      refine lv_aload_n hx hb dX10_tell_19 rfl (lv_at hl 0 rfl) ?_
      refine gM79 hC hP dX10_tell_20 ?_
      refine lv_aload_n hx hb dX10_tell_23 rfl (lv_at hl 0 rfl) ?_
      refine gM82 hC hP dX10_tell_24 ?_
      refine lv_iload_n hx hb dX10_tell_27 rfl (lv_at hl 1 rfl) ?_
      obtain ⟨h_5, hF⟩ := gd_ok hF
      refine M_iast hC hP hS 79 (by decide) rfl rfl rfl h_5 dX10_tell_28 (fun H locs hP hS => ?_)
      obtain ⟨σ_6, eσ_6, hF⟩ := lt_ok hF
      rw [← eσ_6] at hP
      refine lv_aload_n hx hb dX10_tell_29 rfl (lv_at hl 0 rfl) ?_
      refine gM80 hC hP dX10_tell_30 ?_
      refine lv_aload_n hx hb dX10_tell_33 rfl (lv_at hl 0 rfl) ?_
      refine gM82 hC hP dX10_tell_34 ?_
      refine lv_aload_n hx hb dX10_tell_37 rfl (lv_at hl 0 rfl) ?_
      refine gM83 hC hP dX10_tell_38 ?_
      obtain ⟨h_7, hF⟩ := gd_ok hF
      refine M_iast hC hP hS 80 (by decide) rfl rfl rfl h_7 dX10_tell_41 (fun H locs hP hS => ?_)
      obtain ⟨σ_8, eσ_8, hF⟩ := lt_ok hF
      rw [← eσ_8] at hP
      refine lv_aload_n hx hb dX10_tell_42 rfl (lv_at hl 0 rfl) ?_
      refine gM81 hC hP dX10_tell_43 ?_
      refine lv_aload_n hx hb dX10_tell_46 rfl (lv_at hl 0 rfl) ?_
      refine gM82 hC hP dX10_tell_47 ?_
      refine lv_iconst (v := -1) hx hb dX10_tell_50 (by decide) ?_
      obtain ⟨h_9, hF⟩ := gd_ok hF
      refine M_iast hC hP hS 81 (by decide) rfl rfl rfl h_9 dX10_tell_51 (fun H locs hP hS => ?_)
      obtain ⟨σ_10, eσ_10, hF⟩ := lt_ok hF
      rw [← eσ_10] at hP
      refine lv_aload_n hx hb dX10_tell_52 rfl (lv_at hl 0 rfl) ?_
      refine lv_dup hx hb dX10_tell_53 rfl ?_
      refine gM82 hC hP dX10_tell_54 ?_
      refine lv_iconst (v := 1) hx hb dX10_tell_57 (by decide) ?_
      refine lv_iadd hx hb dX10_tell_58 ?_
      refine pM82 hC hP hS dX10_tell_59 (fun H locs hP hS => ?_)
      obtain ⟨σ_11, eσ_11, hF⟩ := lt_ok hF
      rw [← eσ_11] at hP
      refine lv_aload_n hx hb dX10_tell_62 rfl (lv_at hl 0 rfl) ?_
      refine gM82 hC hP dX10_tell_63 ?_
      refine lv_iconst (v := 1) hx hb dX10_tell_66 (by decide) ?_
      refine lv_isub hx hb dX10_tell_67 ?_
      exact M_reti hC hP hS hr (rt1 hF) (rt2 hF) dX10_tell_68
    · replace hF := it_t hF c_4
      refine lv_iconst (v := -1) hx hb dX10_tell_17 (by decide) ?_
      exact M_reti hC hP hS hr (rt1 hF) (rt2 hF) dX10_tell_18
theorem m_tell (l : Launch) (G : MG) (a0 : Int32) (σ : MS) (x : (Int32 × MS)) (hF : F_tell a0 σ = some x) : Met l yX10_tell (ws_ yX10_tell cX10_tell 2 (some .int)) rmM_tell (mP G [.ref (gM G), .int a0] σ) (mQ G (some (.int x.1)) x.2) 0 0 (MA G) := by
  refine M_met rfl plM (Nat.le_of_ble_eq_true rfl) ?_
  intro p e s m below meth c hC hr ls hl hP
  exact w_tell hC hr a0 σ hF s.heap [] ls hP va_S.rf hl
/-! untell -/
abbrev rmM_untell : Room := { frames := 1, cells := 0, slots := 0, locals := 22 }
def F_untell (a0 : Int32) (σ : MS) : Option (Int32 × MS) :=
  bd (F_isIn a0 (0 : Int32) ((mI σ 82) - (1 : Int32))) fun r_2 =>
  if r_2 = 0 then
    some ((0 : Int32), σ)
  else
    gd (inb a0 20) <|
    if (mA σ 81 (Int32.toNatClampNeg a0)) < 0 then
      gd (inb a0 20) <|
      lt (wA σ 81 (Int32.toNatClampNeg a0) (mI σ 83)) fun σ_7 =>
      some ((1 : Int32), σ_7)
    else
      some ((0 : Int32), σ)
set_option maxHeartbeats 4000000 in
theorem w_untell {p : Program} {l : Launch} {e : Env} {s : State} {m : MethodId} {args : Array Value} {below : List Frame} {meth : Method} {c : Code} {G : MG} (hC : MCx G cX10_untell 2 p s m args meth c) (hr : meth.sig.returnType = some .boolean) {x : (Int32 × MS)} :
    ∀ (a0 : Int32) (σ : MS), F_untell a0 σ = some x → MJ p l e rmM_untell s m args below meth c G 2 (some (.int x.1)) x.2 0 [(0, .ref (gM G)), (1, .int a0)] [] σ := by
  have hx := hC.1
  have hb := hC.2.1
  intro a0 σ hF H locs ls hP hS hl
  rw [F_untell] at hF
  refine lv_iload_n hx hb dX10_untell_0 rfl (lv_at hl 1 rfl) ?_
  refine lv_iconst (v := 0) hx hb dX10_untell_1 (by decide) ?_
  refine lv_aload_n hx hb dX10_untell_2 rfl (lv_at hl 0 rfl) ?_
  refine gM82 hC hP dX10_untell_3 ?_
  refine lv_iconst (v := 1) hx hb dX10_untell_6 (by decide) ?_
  refine lv_isub hx hb dX10_untell_7 ?_
  obtain ⟨r_2, hc_1, hF⟩ := bd_ok hF
  refine iM_isIn hC hP hS hc_1 hl.1 (Nat.le_of_ble_eq_true rfl) ⟨Nat.le_of_ble_eq_true rfl, Nat.le_of_ble_eq_true rfl⟩ ⟨Nat.zero_le _, Nat.zero_le _⟩ dX10_untell_8 (fun H locs hP hS => ?_)
  refine lv_if_eq (tgt := 23) hx hb dX10_untell_11 (by decide) (fun c_3 => ?_) (fun c_3 => ?_)
  · replace hF := it_t hF c_3
    refine lv_iconst (v := 0) hx hb dX10_untell_23 (by decide) ?_
    exact M_retz hC hP hS hr (Or.inl rfl) (rt1 hF) (rt2 hF) dX10_untell_24
  · replace hF := it_f hF c_3
    refine lv_aload_n hx hb dX10_untell_14 rfl (lv_at hl 0 rfl) ?_
    refine gM81 hC hP dX10_untell_15 ?_
    refine lv_iload_n hx hb dX10_untell_18 rfl (lv_at hl 1 rfl) ?_
    obtain ⟨h_4, hF⟩ := gd_ok hF
    refine M_iald hC hP 81 (by decide) rfl rfl rfl h_4 dX10_untell_19 ?_
    refine lv_if_lt (tgt := 25) hx hb dX10_untell_20 (by decide) (fun c_5 => ?_) (fun c_5 => ?_)
    · replace hF := it_t hF c_5
      refine lv_aload_n hx hb dX10_untell_25 rfl (lv_at hl 0 rfl) ?_
      refine gM81 hC hP dX10_untell_26 ?_
      refine lv_iload_n hx hb dX10_untell_29 rfl (lv_at hl 1 rfl) ?_
      refine lv_aload_n hx hb dX10_untell_30 rfl (lv_at hl 0 rfl) ?_
      refine gM83 hC hP dX10_untell_31 ?_
      obtain ⟨h_6, hF⟩ := gd_ok hF
      refine M_iast hC hP hS 81 (by decide) rfl rfl rfl h_6 dX10_untell_34 (fun H locs hP hS => ?_)
      obtain ⟨σ_7, eσ_7, hF⟩ := lt_ok hF
      rw [← eσ_7] at hP
      refine lv_iconst (v := 1) hx hb dX10_untell_35 (by decide) ?_
      exact M_retz hC hP hS hr (Or.inr rfl) (rt1 hF) (rt2 hF) dX10_untell_36
    · replace hF := it_f hF c_5
      refine lv_iconst (v := 0) hx hb dX10_untell_23 (by decide) ?_
      exact M_retz hC hP hS hr (Or.inl rfl) (rt1 hF) (rt2 hF) dX10_untell_24
theorem m_untell (l : Launch) (G : MG) (a0 : Int32) (σ : MS) (x : (Int32 × MS)) (hF : F_untell a0 σ = some x) : Met l yX10_untell (ws_ yX10_untell cX10_untell 2 (some .boolean)) rmM_untell (mP G [.ref (gM G), .int a0] σ) (mQ G (some (.int x.1)) x.2) 0 0 (MA G) := by
  refine M_met rfl plM (Nat.le_of_ble_eq_true rfl) ?_
  intro p e s m below meth c hC hr ls hl hP
  exact w_untell hC hr a0 σ hF s.heap [] ls hP va_S.rf hl
/-! later -/
abbrev rmM_later : Room := { frames := 1, cells := 0, slots := 0, locals := 22 }
def F_later (a0 : Int32) (σ : MS) : Option (Int32 × MS) :=
  bd (F_isIn a0 (0 : Int32) (1000 : Int32)) fun r_2 =>
  if r_2 = 0 then
    some ((-1 : Int32), σ)
  else
    if ((mI σ 83) + a0) ≤ (100000 : Int32) then
      lt (wI σ 83 ((mI σ 83) + a0)) fun σ_5 =>
      some ((mI σ_5 83), σ_5)
    else
      some ((-1 : Int32), σ)
set_option maxHeartbeats 4000000 in
theorem w_later {p : Program} {l : Launch} {e : Env} {s : State} {m : MethodId} {args : Array Value} {below : List Frame} {meth : Method} {c : Code} {G : MG} (hC : MCx G cX10_later 2 p s m args meth c) (hr : meth.sig.returnType = some .int) {x : (Int32 × MS)} :
    ∀ (a0 : Int32) (σ : MS), F_later a0 σ = some x → MJ p l e rmM_later s m args below meth c G 2 (some (.int x.1)) x.2 0 [(0, .ref (gM G)), (1, .int a0)] [] σ := by
  have hx := hC.1
  have hb := hC.2.1
  intro a0 σ hF H locs ls hP hS hl
  rw [F_later] at hF
  refine lv_iload_n hx hb dX10_later_0 rfl (lv_at hl 1 rfl) ?_
  refine lv_iconst (v := 0) hx hb dX10_later_1 (by decide) ?_
  refine lv_sipush (v := 1000) hx hb dX10_later_2 (by decide) ?_
  obtain ⟨r_2, hc_1, hF⟩ := bd_ok hF
  refine iM_isIn hC hP hS hc_1 hl.1 (Nat.le_of_ble_eq_true rfl) ⟨Nat.le_of_ble_eq_true rfl, Nat.le_of_ble_eq_true rfl⟩ ⟨Nat.zero_le _, Nat.zero_le _⟩ dX10_later_5 (fun H locs hP hS => ?_)
  refine lv_if_eq (tgt := 23) hx hb dX10_later_8 (by decide) (fun c_3 => ?_) (fun c_3 => ?_)
  · replace hF := it_t hF c_3
    refine lv_iconst (v := -1) hx hb dX10_later_23 (by decide) ?_
    exact M_reti hC hP hS hr (rt1 hF) (rt2 hF) dX10_later_24
  · replace hF := it_f hF c_3
    refine lv_aload_n hx hb dX10_later_11 rfl (lv_at hl 0 rfl) ?_
    refine gM83 hC hP dX10_later_12 ?_
    refine lv_iload_n hx hb dX10_later_15 rfl (lv_at hl 1 rfl) ?_
    refine lv_iadd hx hb dX10_later_16 ?_
    refine lv_ldcw (v := 100000) hx hb hC.2.2.2.1 (hC.2.2.2.2.1 _ q2519) dX10_later_17 ?_
    refine lv_icmp_le (tgt := 25) hx hb dX10_later_20 (by decide) (fun c_4 => ?_) (fun c_4 => ?_)
    · replace hF := it_t hF c_4
      refine lv_aload_n hx hb dX10_later_25 rfl (lv_at hl 0 rfl) ?_
      refine lv_dup hx hb dX10_later_26 rfl ?_
      refine gM83 hC hP dX10_later_27 ?_
      refine lv_iload_n hx hb dX10_later_30 rfl (lv_at hl 1 rfl) ?_
      refine lv_iadd hx hb dX10_later_31 ?_
      refine pM83 hC hP hS dX10_later_32 (fun H locs hP hS => ?_)
      obtain ⟨σ_5, eσ_5, hF⟩ := lt_ok hF
      rw [← eσ_5] at hP
      refine lv_aload_n hx hb dX10_later_35 rfl (lv_at hl 0 rfl) ?_
      refine gM83 hC hP dX10_later_36 ?_
      exact M_reti hC hP hS hr (rt1 hF) (rt2 hF) dX10_later_39
    · replace hF := it_f hF c_4
      refine lv_iconst (v := -1) hx hb dX10_later_23 (by decide) ?_
      exact M_reti hC hP hS hr (rt1 hF) (rt2 hF) dX10_later_24
theorem m_later (l : Launch) (G : MG) (a0 : Int32) (σ : MS) (x : (Int32 × MS)) (hF : F_later a0 σ = some x) : Met l yX10_later (ws_ yX10_later cX10_later 2 (some .int)) rmM_later (mP G [.ref (gM G), .int a0] σ) (mQ G (some (.int x.1)) x.2) 0 0 (MA G) := by
  refine M_met rfl plM (Nat.le_of_ble_eq_true rfl) ?_
  intro p e s m below meth c hC hr ls hl hP
  exact w_later hC hr a0 σ hF s.heap [] ls hP va_S.rf hl
/-! can -/
abbrev rmM_can : Room := { frames := 1, cells := 0, slots := 0, locals := 20 }
def F_can_b100 (σ : MS) (k11 : Int32 → Int32 → Int32 → Option Int32) (x1 : Int32) (x2 : Int32) (x3 : Int32) : Option Int32 :=
  lt (x3 + (1 : Int32)) fun x3_1 =>
  k11 x1 x2 x3_1
set_option maxHeartbeats 4000000 in
theorem w_can_b100 {p : Program} {l : Launch} {e : Env} {s : State} {m : MethodId} {args : Array Value} {below : List Frame} {meth : Method} {c : Code} {G : MG} (hC : MCx G cX10_can 5 p s m args meth c) (hr : meth.sig.returnType = some .int) {x : Int32} {σ : MS} (k11 : Int32 → Int32 → Int32 → Option Int32) (hk11 : ∀ (x1 : Int32) (x2 : Int32) (x3 : Int32), k11 x1 x2 x3 = some x → MJ p l e rmM_can s m args below meth c G 5 (some (.int x)) σ 11 [(0, .ref (gM G)), (1, .int x1), (2, .int x2), (3, .int x3)] [] σ) :
    ∀ (x1 : Int32) (x2 : Int32) (x3 : Int32), F_can_b100 σ k11 x1 x2 x3 = some x → MJ p l e rmM_can s m args below meth c G 5 (some (.int x)) σ 100 [(0, .ref (gM G)), (1, .int x1), (2, .int x2), (3, .int x3)] [] σ := by
  have hx := hC.1
  have hb := hC.2.1
  intro x1 x2 x3 hF H locs ls hP hS hl
  rw [F_can_b100] at hF
  obtain ⟨x3_1, ex3_1, hF⟩ := lt_ok hF
  refine lv_iinc (v := x3_1) (lv' := [(3, .int x3_1), (0, .ref (gM G)), (1, .int x1), (2, .int x2)]) hx hb dX10_can_100 hl (k := 3) rfl (by rw [ex3_1]; rfl) (by decide) rfl (fun ls hl => ?_)
  refine lv_goto (tgt := 11) hx hb dX10_can_103 (by decide) ?_
  exact hk11 x1 x2 x3_1 hF H locs ls hP hS (lv_sub hl [1, 2, 3, 0] rfl)
def F_can_b94 (σ : MS) (k54 : Int32 → Int32 → Int32 → Int32 → Option Int32) (x1 : Int32) (x2 : Int32) (x3 : Int32) (x4 : Int32) : Option Int32 :=
  lt (x4 + (1 : Int32)) fun x4_1 =>
  k54 x1 x2 x3 x4_1
set_option maxHeartbeats 4000000 in
theorem w_can_b94 {p : Program} {l : Launch} {e : Env} {s : State} {m : MethodId} {args : Array Value} {below : List Frame} {meth : Method} {c : Code} {G : MG} (hC : MCx G cX10_can 5 p s m args meth c) (hr : meth.sig.returnType = some .int) {x : Int32} {σ : MS} (k54 : Int32 → Int32 → Int32 → Int32 → Option Int32) (hk54 : ∀ (x1 : Int32) (x2 : Int32) (x3 : Int32) (x4 : Int32), k54 x1 x2 x3 x4 = some x → MJ p l e rmM_can s m args below meth c G 5 (some (.int x)) σ 54 [(0, .ref (gM G)), (1, .int x1), (2, .int x2), (3, .int x3), (4, .int x4)] [] σ) :
    ∀ (x1 : Int32) (x2 : Int32) (x3 : Int32) (x4 : Int32), F_can_b94 σ k54 x1 x2 x3 x4 = some x → MJ p l e rmM_can s m args below meth c G 5 (some (.int x)) σ 94 [(0, .ref (gM G)), (1, .int x1), (2, .int x2), (3, .int x3), (4, .int x4)] [] σ := by
  have hx := hC.1
  have hb := hC.2.1
  intro x1 x2 x3 x4 hF H locs ls hP hS hl
  rw [F_can_b94] at hF
  obtain ⟨x4_1, ex4_1, hF⟩ := lt_ok hF
  refine lv_iinc (v := x4_1) (lv' := [(4, .int x4_1), (0, .ref (gM G)), (1, .int x1), (2, .int x2), (3, .int x3)]) hx hb dX10_can_94 hl (k := 4) rfl (by rw [ex4_1]; rfl) (by decide) rfl (fun ls hl => ?_)
  refine lv_goto (tgt := 54) hx hb dX10_can_97 (by decide) ?_
  exact hk54 x1 x2 x3 x4_1 hF H locs ls hP hS (lv_sub hl [1, 2, 3, 4, 0] rfl)
def F_can_L54 (σ : MS) (k100 : Int32 → Int32 → Int32 → Option Int32) : Nat → Int32 → Int32 → Int32 → Int32 → Option Int32
  | 0, _, _, _, _ => none
  | fu + 1, x1, x2, x3, x4 =>
    bd (F_inputs σ) fun r_2 =>
    if r_2 ≤ x4 then
      k100 x1 x2 x3
    else
      gd (inb x3 20) <|
      gd (inb (((8 : Int32) * (mA σ 79 (Int32.toNatClampNeg x3))) + x4) 1600) <|
      if (lg_cmp (mL σ 61 (Int32.toNatClampNeg (((8 : Int32) * (mA σ 79 (Int32.toNatClampNeg x3))) + x4))) (0 : Int64)) = 0 then
        lt ((x2 &&& (((1 : Int32) <<< (x4 &&& 31)) ^^^ (-1 : Int32)))) fun x2_7 =>
        F_can_b94 σ (F_can_L54 σ k100 fu) x1 x2_7 x3 x4
      else
        F_can_b94 σ (F_can_L54 σ k100 fu) x1 x2 x3 x4
set_option maxHeartbeats 4000000 in
theorem w_can_L54 {p : Program} {l : Launch} {e : Env} {s : State} {m : MethodId} {args : Array Value} {below : List Frame} {meth : Method} {c : Code} {G : MG} (hC : MCx G cX10_can 5 p s m args meth c) (hr : meth.sig.returnType = some .int) {x : Int32} {σ : MS} (k100 : Int32 → Int32 → Int32 → Option Int32) (hk100 : ∀ (x1 : Int32) (x2 : Int32) (x3 : Int32), k100 x1 x2 x3 = some x → MJ p l e rmM_can s m args below meth c G 5 (some (.int x)) σ 100 [(0, .ref (gM G)), (1, .int x1), (2, .int x2), (3, .int x3)] [] σ) :
    ∀ (fu : Nat) (x1 : Int32) (x2 : Int32) (x3 : Int32) (x4 : Int32), F_can_L54 σ k100 fu x1 x2 x3 x4 = some x → MJ p l e rmM_can s m args below meth c G 5 (some (.int x)) σ 54 [(0, .ref (gM G)), (1, .int x1), (2, .int x2), (3, .int x3), (4, .int x4)] [] σ := by
  have hx := hC.1
  have hb := hC.2.1
  intro fu
  induction fu with
  | zero => intro x1 x2 x3 x4 hF; exact nm_none hF
  | succ fu ih =>
    intro x1 x2 x3 x4 hF H locs ls hP hS hl
    rw [F_can_L54] at hF
    refine lv_iload hx hb dX10_can_54 (lv_at hl 4 rfl) ?_
    refine lv_aload_n hx hb dX10_can_56 rfl (lv_at hl 0 rfl) ?_
    obtain ⟨r_2, hc_1, hF⟩ := bd_ok hF
    refine iM_inputs hC hP hS hc_1 hl.1 (Nat.le_of_ble_eq_true rfl) ⟨Nat.le_of_ble_eq_true rfl, Nat.le_of_ble_eq_true rfl⟩ ⟨Nat.zero_le _, Nat.zero_le _⟩ dX10_can_57 (fun H locs hP hS => ?_)
    refine lv_icmp_ge (tgt := 100) hx hb dX10_can_60 (by decide) (fun c_3 => ?_) (fun c_3 => ?_)
    · replace hF := it_t hF c_3
      exact hk100 x1 x2 x3 hF H locs ls hP hS (lv_sub hl [0, 1, 2, 3] rfl)
    · replace hF := it_f hF c_3
      refine lv_aload_n hx hb dX10_can_63 rfl (lv_at hl 0 rfl) ?_
      refine gM61 hC hP dX10_can_64 ?_
      refine lv_bipush (v := 8) hx hb dX10_can_67 (by decide) ?_
      refine lv_aload_n hx hb dX10_can_69 rfl (lv_at hl 0 rfl) ?_
      refine gM79 hC hP dX10_can_70 ?_
      refine lv_iload_n hx hb dX10_can_73 rfl (lv_at hl 3 rfl) ?_
      obtain ⟨h_4, hF⟩ := gd_ok hF
      refine M_iald hC hP 79 (by decide) rfl rfl rfl h_4 dX10_can_74 ?_
      refine lv_imul hx hb dX10_can_75 ?_
      refine lv_iload hx hb dX10_can_76 (lv_at hl 4 rfl) ?_
      refine lv_iadd hx hb dX10_can_78 ?_
      obtain ⟨h_5, hF⟩ := gd_ok hF
      refine M_lald hC hP 61 (by decide) rfl rfl rfl h_5 dX10_can_79 ?_
      refine lv_lconst (v := 0) hx hb dX10_can_80 (by decide) ?_
      refine W.lcmp hx hb dX10_can_81 ?_
      refine lv_if_ne (tgt := 94) hx hb dX10_can_82 (by decide) (fun c_6 => ?_) (fun c_6 => ?_)
      · replace hF := it_f hF c_6
        exact w_can_b94 hC hr (F_can_L54 σ k100 fu) ih x1 x2 x3 x4 hF H locs ls hP hS (lv_sub hl [0, 1, 2, 3, 4] rfl)
      · replace hF := it_t hF c_6
        refine lv_iload_n hx hb dX10_can_85 rfl (lv_at hl 2 rfl) ?_
        refine lv_iconst (v := 1) hx hb dX10_can_86 (by decide) ?_
        refine lv_iload hx hb dX10_can_87 (lv_at hl 4 rfl) ?_
        refine lv_ishl hx hb dX10_can_89 ?_
        refine lv_iconst (v := -1) hx hb dX10_can_90 (by decide) ?_
        refine lv_ixor hx hb dX10_can_91 ?_
        refine lv_iand hx hb dX10_can_92 ?_
        refine lv_topi (fun x2_7 ex2_7 => ?_)
        replace hF := lt_at hF ex2_7
        refine lv_istore_n (lv' := [(2, .int x2_7), (0, .ref (gM G)), (1, .int x1), (3, .int x3), (4, .int x4)]) hx hb dX10_can_93 rfl hl (by decide) rfl (fun ls hl => ?_)
        exact w_can_b94 hC hr (F_can_L54 σ k100 fu) ih x1 x2_7 x3 x4 hF H locs ls hP hS (lv_sub hl [1, 2, 0, 3, 4] rfl)
def F_can_b51 (σ : MS) (k100 : Int32 → Int32 → Int32 → Option Int32) (x1 : Int32) (x2 : Int32) (x3 : Int32) : Option Int32 :=
  F_can_L54 σ k100 MN x1 x2 x3 (0 : Int32)
set_option maxHeartbeats 4000000 in
theorem w_can_b51 {p : Program} {l : Launch} {e : Env} {s : State} {m : MethodId} {args : Array Value} {below : List Frame} {meth : Method} {c : Code} {G : MG} (hC : MCx G cX10_can 5 p s m args meth c) (hr : meth.sig.returnType = some .int) {x : Int32} {σ : MS} (k100 : Int32 → Int32 → Int32 → Option Int32) (hk100 : ∀ (x1 : Int32) (x2 : Int32) (x3 : Int32), k100 x1 x2 x3 = some x → MJ p l e rmM_can s m args below meth c G 5 (some (.int x)) σ 100 [(0, .ref (gM G)), (1, .int x1), (2, .int x2), (3, .int x3)] [] σ) :
    ∀ (x1 : Int32) (x2 : Int32) (x3 : Int32), F_can_b51 σ k100 x1 x2 x3 = some x → MJ p l e rmM_can s m args below meth c G 5 (some (.int x)) σ 51 [(0, .ref (gM G)), (1, .int x1), (2, .int x2), (3, .int x3)] [] σ := by
  have hx := hC.1
  have hb := hC.2.1
  intro x1 x2 x3 hF H locs ls hP hS hl
  rw [F_can_b51] at hF
  refine lv_iconst (v := 0) hx hb dX10_can_51 (by decide) ?_
  refine lv_istore (lv' := [(4, .int (0 : Int32)), (0, .ref (gM G)), (1, .int x1), (2, .int x2), (3, .int x3)]) hx hb dX10_can_52 hl (by decide) rfl (fun ls hl => ?_)
  exact w_can_L54 hC hr k100 hk100 MN x1 x2 x3 (0 : Int32) hF H locs ls hP hS (lv_sub hl [1, 2, 3, 4, 0] rfl)
def F_can_L11 (σ : MS) : Nat → Int32 → Int32 → Int32 → Option Int32
  | 0, _, _, _ => none
  | fu + 1, x1, x2, x3 =>
    if (mI σ 82) ≤ x3 then
      some x2
    else
      gd (inb x3 20) <|
      if x1 < (mA σ 80 (Int32.toNatClampNeg x3)) then
        F_can_b100 σ (F_can_L11 σ fu) x1 x2 x3
      else
        gd (inb x3 20) <|
        if (mA σ 81 (Int32.toNatClampNeg x3)) < 0 then
          F_can_b51 σ (F_can_b100 σ (F_can_L11 σ fu)) x1 x2 x3
        else
          gd (inb x3 20) <|
          if x1 < (mA σ 81 (Int32.toNatClampNeg x3)) then
            F_can_b51 σ (F_can_b100 σ (F_can_L11 σ fu)) x1 x2 x3
          else
            F_can_b100 σ (F_can_L11 σ fu) x1 x2 x3
set_option maxHeartbeats 4000000 in
theorem w_can_L11 {p : Program} {l : Launch} {e : Env} {s : State} {m : MethodId} {args : Array Value} {below : List Frame} {meth : Method} {c : Code} {G : MG} (hC : MCx G cX10_can 5 p s m args meth c) (hr : meth.sig.returnType = some .int) {x : Int32} {σ : MS} :
    ∀ (fu : Nat) (x1 : Int32) (x2 : Int32) (x3 : Int32), F_can_L11 σ fu x1 x2 x3 = some x → MJ p l e rmM_can s m args below meth c G 5 (some (.int x)) σ 11 [(0, .ref (gM G)), (1, .int x1), (2, .int x2), (3, .int x3)] [] σ := by
  have hx := hC.1
  have hb := hC.2.1
  intro fu
  induction fu with
  | zero => intro x1 x2 x3 hF; exact nm_none hF
  | succ fu ih =>
    intro x1 x2 x3 hF H locs ls hP hS hl
    rw [F_can_L11] at hF
    refine lv_iload_n hx hb dX10_can_11 rfl (lv_at hl 3 rfl) ?_
    refine lv_aload_n hx hb dX10_can_12 rfl (lv_at hl 0 rfl) ?_
    refine gM82 hC hP dX10_can_13 ?_
    refine lv_icmp_ge (tgt := 106) hx hb dX10_can_16 (by decide) (fun c_1 => ?_) (fun c_1 => ?_)
    · replace hF := it_t hF c_1
      refine lv_iload_n hx hb dX10_can_106 rfl (lv_at hl 2 rfl) ?_
      exact M_reti hC hP hS hr (Option.some.inj hF) rfl dX10_can_107
    · replace hF := it_f hF c_1
      refine lv_aload_n hx hb dX10_can_19 rfl (lv_at hl 0 rfl) ?_
      refine gM80 hC hP dX10_can_20 ?_
      refine lv_iload_n hx hb dX10_can_23 rfl (lv_at hl 3 rfl) ?_
      obtain ⟨h_2, hF⟩ := gd_ok hF
      refine M_iald hC hP 80 (by decide) rfl rfl rfl h_2 dX10_can_24 ?_
      refine lv_iload_n hx hb dX10_can_25 rfl (lv_at hl 1 rfl) ?_
      refine lv_icmp_gt (tgt := 100) hx hb dX10_can_26 (by decide) (fun c_3 => ?_) (fun c_3 => ?_)
      · replace hF := it_t hF c_3
        exact w_can_b100 hC hr (F_can_L11 σ fu) ih x1 x2 x3 hF H locs ls hP hS (lv_sub hl [0, 1, 2, 3] rfl)
      · replace hF := it_f hF c_3
        refine lv_aload_n hx hb dX10_can_29 rfl (lv_at hl 0 rfl) ?_
        refine gM81 hC hP dX10_can_30 ?_
        refine lv_iload_n hx hb dX10_can_33 rfl (lv_at hl 3 rfl) ?_
        obtain ⟨h_4, hF⟩ := gd_ok hF
        refine M_iald hC hP 81 (by decide) rfl rfl rfl h_4 dX10_can_34 ?_
        refine lv_if_lt (tgt := 51) hx hb dX10_can_35 (by decide) (fun c_5 => ?_) (fun c_5 => ?_)
        · replace hF := it_t hF c_5
          exact w_can_b51 hC hr (F_can_b100 σ (F_can_L11 σ fu)) (w_can_b100 hC hr (F_can_L11 σ fu) ih) x1 x2 x3 hF H locs ls hP hS (lv_sub hl [0, 1, 2, 3] rfl)
        · replace hF := it_f hF c_5
          refine lv_aload_n hx hb dX10_can_38 rfl (lv_at hl 0 rfl) ?_
          refine gM81 hC hP dX10_can_39 ?_
          refine lv_iload_n hx hb dX10_can_42 rfl (lv_at hl 3 rfl) ?_
          obtain ⟨h_6, hF⟩ := gd_ok hF
          refine M_iald hC hP 81 (by decide) rfl rfl rfl h_6 dX10_can_43 ?_
          refine lv_iload_n hx hb dX10_can_44 rfl (lv_at hl 1 rfl) ?_
          refine lv_icmp_gt (tgt := 51) hx hb dX10_can_45 (by decide) (fun c_7 => ?_) (fun c_7 => ?_)
          · replace hF := it_t hF c_7
            exact w_can_b51 hC hr (F_can_b100 σ (F_can_L11 σ fu)) (w_can_b100 hC hr (F_can_L11 σ fu) ih) x1 x2 x3 hF H locs ls hP hS (lv_sub hl [0, 1, 2, 3] rfl)
          · replace hF := it_f hF c_7
            refine lv_goto (tgt := 100) hx hb dX10_can_48 (by decide) ?_
            exact w_can_b100 hC hr (F_can_L11 σ fu) ih x1 x2 x3 hF H locs ls hP hS (lv_sub hl [0, 1, 2, 3] rfl)
def F_can (σ : MS) (a0 : Int32) : Option Int32 :=
  bd (F_inputs σ) fun r_2 =>
  lt ((((1 : Int32) <<< (r_2 &&& 31)) - (1 : Int32))) fun x2_3 =>
  F_can_L11 σ MN a0 x2_3 (0 : Int32)
set_option maxHeartbeats 4000000 in
theorem w_can {p : Program} {l : Launch} {e : Env} {s : State} {m : MethodId} {args : Array Value} {below : List Frame} {meth : Method} {c : Code} {G : MG} (hC : MCx G cX10_can 5 p s m args meth c) (hr : meth.sig.returnType = some .int) {x : Int32} {σ : MS} :
    ∀ (a0 : Int32), F_can σ a0 = some x → MJ p l e rmM_can s m args below meth c G 5 (some (.int x)) σ 0 [(0, .ref (gM G)), (1, .int a0)] [] σ := by
  have hx := hC.1
  have hb := hC.2.1
  intro a0 hF H locs ls hP hS hl
  rw [F_can] at hF
  refine lv_iconst (v := 1) hx hb dX10_can_0 (by decide) ?_
  refine lv_aload_n hx hb dX10_can_1 rfl (lv_at hl 0 rfl) ?_
  obtain ⟨r_2, hc_1, hF⟩ := bd_ok hF
  refine iM_inputs hC hP hS hc_1 hl.1 (Nat.le_of_ble_eq_true rfl) ⟨Nat.le_of_ble_eq_true rfl, Nat.le_of_ble_eq_true rfl⟩ ⟨Nat.zero_le _, Nat.zero_le _⟩ dX10_can_2 (fun H locs hP hS => ?_)
  refine lv_ishl hx hb dX10_can_5 ?_
  refine lv_iconst (v := 1) hx hb dX10_can_6 (by decide) ?_
  refine lv_isub hx hb dX10_can_7 ?_
  refine lv_topi (fun x2_3 ex2_3 => ?_)
  replace hF := lt_at hF ex2_3
  refine lv_istore_n (lv' := [(2, .int x2_3), (0, .ref (gM G)), (1, .int a0)]) hx hb dX10_can_8 rfl hl (by decide) rfl (fun ls hl => ?_)
  refine lv_iconst (v := 0) hx hb dX10_can_9 (by decide) ?_
  refine lv_istore_n (lv' := [(3, .int (0 : Int32)), (2, .int x2_3), (0, .ref (gM G)), (1, .int a0)]) hx hb dX10_can_10 rfl hl (by decide) rfl (fun ls hl => ?_)
  exact w_can_L11 hC hr MN a0 x2_3 (0 : Int32) hF H locs ls hP hS (lv_sub hl [2, 3, 1, 0] rfl)
theorem m_can (l : Launch) (G : MG) (a0 : Int32) (σ : MS) (x : Int32) (hF : F_can σ a0 = some x) : Met l yX10_can (ws_ yX10_can cX10_can 5 (some .int)) rmM_can (mP G [.ref (gM G), .int a0] σ) (mQ G (some (.int x)) σ) 0 0 (MA G) := by
  refine M_met rfl plM (Nat.le_of_ble_eq_true rfl) ?_
  intro p e s m below meth c hC hr ls hl hP
  exact w_can hC hr a0 hF s.heap [] ls hP va_S.rf hl
/-! guess -/
abbrev rmM_guess : Room := { frames := 2, cells := 0, slots := 0, locals := 43 }
def F_guess_b78 (σ : MS) (x1 : Int32) (x2 : Int32) (x3 : Int32) (x4 : Int64) : Option Int64 :=
  gd (inb (((8 : Int32) * x1) + x2) 1600) <|
  bd (F_lowest (mL σ 61 (Int32.toNatClampNeg (((8 : Int32) * x1) + x2))) x4 x3) fun r_3 =>
  some r_3
set_option maxHeartbeats 4000000 in
theorem w_guess_b78 {p : Program} {l : Launch} {e : Env} {s : State} {m : MethodId} {args : Array Value} {below : List Frame} {meth : Method} {c : Code} {G : MG} (hC : MCx G cX10_guess 7 p s m args meth c) (hr : meth.sig.returnType = some .long) {x : Int64} {σ : MS} :
    ∀ (x1 : Int32) (x2 : Int32) (x3 : Int32) (x4 : Int64), F_guess_b78 σ x1 x2 x3 x4 = some x → MJ p l e rmM_guess s m args below meth c G 7 (some (.long x)) σ 78 [(0, .ref (gM G)), (1, .int x1), (2, .int x2), (3, .int x3), (4, .long x4)] [] σ := by
  have hx := hC.1
  have hb := hC.2.1
  intro x1 x2 x3 x4 hF H locs ls hP hS hl
  rw [F_guess_b78] at hF
  refine lv_aload_n hx hb dX10_guess_78 rfl (lv_at hl 0 rfl) ?_
  refine gM61 hC hP dX10_guess_79 ?_
  refine lv_bipush (v := 8) hx hb dX10_guess_82 (by decide) ?_
  refine lv_iload_n hx hb dX10_guess_84 rfl (lv_at hl 1 rfl) ?_
  refine lv_imul hx hb dX10_guess_85 ?_
  refine lv_iload_n hx hb dX10_guess_86 rfl (lv_at hl 2 rfl) ?_
  refine lv_iadd hx hb dX10_guess_87 ?_
  obtain ⟨h_1, hF⟩ := gd_ok hF
  refine M_lald hC hP 61 (by decide) rfl rfl rfl h_1 dX10_guess_88 ?_
  refine lv_lload hx hb dX10_guess_89 (lv_at hl 4 rfl) ?_
  refine lv_iload_n hx hb dX10_guess_91 rfl (lv_at hl 3 rfl) ?_
  obtain ⟨r_3, hc_2, hF⟩ := bd_ok hF
  refine iM_lowest hC hP hS hc_2 hl.1 (Nat.le_of_ble_eq_true rfl) ⟨Nat.le_of_ble_eq_true rfl, Nat.le_of_ble_eq_true rfl⟩ ⟨Nat.zero_le _, Nat.zero_le _⟩ dX10_guess_92 (fun H locs hP hS => ?_)
  exact M_retl hC hP hS hr (Option.some.inj hF) rfl dX10_guess_95
def F_guess_L46 (σ : MS) : Nat → Int32 → Int32 → Int32 → Int64 → Int32 → Option Int64
  | 0, _, _, _, _, _ => none
  | fu + 1, x1, x2, x3, x4, x6 =>
    bd (F_inputs σ) fun r_2 =>
    if r_2 ≤ x6 then
      F_guess_b78 σ x1 x2 x3 x4
    else
      gd (inb (((8 : Int32) * x1) + x6) 1600) <|
      lt ((x4 + (mL σ 61 (Int32.toNatClampNeg (((8 : Int32) * x1) + x6))))) fun x4_5 =>
      lt (x6 + (1 : Int32)) fun x6_6 =>
      F_guess_L46 σ fu x1 x2 x3 x4_5 x6_6
set_option maxHeartbeats 4000000 in
theorem w_guess_L46 {p : Program} {l : Launch} {e : Env} {s : State} {m : MethodId} {args : Array Value} {below : List Frame} {meth : Method} {c : Code} {G : MG} (hC : MCx G cX10_guess 7 p s m args meth c) (hr : meth.sig.returnType = some .long) {x : Int64} {σ : MS} :
    ∀ (fu : Nat) (x1 : Int32) (x2 : Int32) (x3 : Int32) (x4 : Int64) (x6 : Int32), F_guess_L46 σ fu x1 x2 x3 x4 x6 = some x → MJ p l e rmM_guess s m args below meth c G 7 (some (.long x)) σ 46 [(0, .ref (gM G)), (1, .int x1), (2, .int x2), (3, .int x3), (4, .long x4), (6, .int x6)] [] σ := by
  have hx := hC.1
  have hb := hC.2.1
  intro fu
  induction fu with
  | zero => intro x1 x2 x3 x4 x6 hF; exact nm_none hF
  | succ fu ih =>
    intro x1 x2 x3 x4 x6 hF H locs ls hP hS hl
    rw [F_guess_L46] at hF
    refine lv_iload hx hb dX10_guess_46 (lv_at hl 5 rfl) ?_
    refine lv_aload_n hx hb dX10_guess_48 rfl (lv_at hl 0 rfl) ?_
    obtain ⟨r_2, hc_1, hF⟩ := bd_ok hF
    refine iM_inputs hC hP hS hc_1 hl.1 (Nat.le_of_ble_eq_true rfl) ⟨Nat.le_of_ble_eq_true rfl, Nat.le_of_ble_eq_true rfl⟩ ⟨Nat.zero_le _, Nat.zero_le _⟩ dX10_guess_49 (fun H locs hP hS => ?_)
    refine lv_icmp_ge (tgt := 78) hx hb dX10_guess_52 (by decide) (fun c_3 => ?_) (fun c_3 => ?_)
    · replace hF := it_t hF c_3
      exact w_guess_b78 hC hr x1 x2 x3 x4 hF H locs ls hP hS (lv_sub hl [0, 1, 2, 3, 4] rfl)
    · replace hF := it_f hF c_3
      refine lv_lload hx hb dX10_guess_55 (lv_at hl 4 rfl) ?_
      refine lv_aload_n hx hb dX10_guess_57 rfl (lv_at hl 0 rfl) ?_
      refine gM61 hC hP dX10_guess_58 ?_
      refine lv_bipush (v := 8) hx hb dX10_guess_61 (by decide) ?_
      refine lv_iload_n hx hb dX10_guess_63 rfl (lv_at hl 1 rfl) ?_
      refine lv_imul hx hb dX10_guess_64 ?_
      refine lv_iload hx hb dX10_guess_65 (lv_at hl 5 rfl) ?_
      refine lv_iadd hx hb dX10_guess_67 ?_
      obtain ⟨h_4, hF⟩ := gd_ok hF
      refine M_lald hC hP 61 (by decide) rfl rfl rfl h_4 dX10_guess_68 ?_
      refine lv_ladd hx hb dX10_guess_69 ?_
      refine lv_topl (fun x4_5 ex4_5 => ?_)
      replace hF := lt_at hF ex4_5
      refine lv_lstore (lv' := [(4, .long x4_5), (0, .ref (gM G)), (1, .int x1), (2, .int x2), (3, .int x3), (6, .int x6)]) hx hb dX10_guess_70 hl (by decide) rfl (fun ls hl => ?_)
      obtain ⟨x6_6, ex6_6, hF⟩ := lt_ok hF
      refine lv_iinc (v := x6_6) (lv' := [(6, .int x6_6), (4, .long x4_5), (0, .ref (gM G)), (1, .int x1), (2, .int x2), (3, .int x3)]) hx hb dX10_guess_72 hl (k := 5) rfl (by rw [ex6_6]; rfl) (by decide) rfl (fun ls hl => ?_)
      refine lv_goto (tgt := 46) hx hb dX10_guess_75 (by decide) ?_
      exact ih x1 x2 x3 x4_5 x6_6 hF H locs ls hP hS (lv_sub hl [2, 3, 4, 5, 1, 0] rfl)
def F_guess (σ : MS) (a0 : Int32) (a1 : Int32) (a2 : Int32) : Option Int64 :=
  if (mI σ 65) = 0 then
    bd (F_isPath σ a0) fun r_3 =>
    if r_3 = 0 then
      some (-1 : Int64)
    else
      bd (F_isInput σ a1) fun r_6 =>
      if r_6 = 0 then
        some (-1 : Int64)
      else
        bd (F_isIn a2 (0 : Int32) (1 : Int32)) fun r_9 =>
        if r_9 = 0 then
          some (-1 : Int64)
        else
          F_guess_L46 σ MN a0 a1 a2 (0 : Int64) (0 : Int32)
  else
    some (-2 : Int64)
set_option maxHeartbeats 4000000 in
theorem w_guess {p : Program} {l : Launch} {e : Env} {s : State} {m : MethodId} {args : Array Value} {below : List Frame} {meth : Method} {c : Code} {G : MG} (hC : MCx G cX10_guess 7 p s m args meth c) (hr : meth.sig.returnType = some .long) {x : Int64} {σ : MS} :
    ∀ (a0 : Int32) (a1 : Int32) (a2 : Int32), F_guess σ a0 a1 a2 = some x → MJ p l e rmM_guess s m args below meth c G 7 (some (.long x)) σ 0 [(0, .ref (gM G)), (1, .int a0), (2, .int a1), (3, .int a2)] [] σ := by
  have hx := hC.1
  have hb := hC.2.1
  intro a0 a1 a2 hF H locs ls hP hS hl
  rw [F_guess] at hF
  refine lv_aload_n hx hb dX10_guess_0 rfl (lv_at hl 0 rfl) ?_
  refine gM65 hC hP dX10_guess_1 ?_
  refine lv_if_eq (tgt := 11) hx hb dX10_guess_4 (by decide) (fun c_1 => ?_) (fun c_1 => ?_)
  · replace hF := it_t hF c_1
    refine lv_aload_n hx hb dX10_guess_11 rfl (lv_at hl 0 rfl) ?_
    refine lv_iload_n hx hb dX10_guess_12 rfl (lv_at hl 1 rfl) ?_
    obtain ⟨r_3, hc_2, hF⟩ := bd_ok hF
    refine iM_isPath hC hP hS hc_2 hl.1 (Nat.le_of_ble_eq_true rfl) ⟨Nat.le_of_ble_eq_true rfl, Nat.le_of_ble_eq_true rfl⟩ ⟨Nat.zero_le _, Nat.zero_le _⟩ dX10_guess_13 (fun H locs hP hS => ?_)
    refine lv_if_eq (tgt := 36) hx hb dX10_guess_16 (by decide) (fun c_4 => ?_) (fun c_4 => ?_)
    · replace hF := it_t hF c_4
      refine lv_ldc2 (v := -1) hx hb hC.2.2.2.1 (hC.2.2.2.2.1 _ q2425) dX10_guess_36 ?_
      exact M_retl hC hP hS hr (Option.some.inj hF) rfl dX10_guess_39
    · replace hF := it_f hF c_4
      refine lv_aload_n hx hb dX10_guess_19 rfl (lv_at hl 0 rfl) ?_
      refine lv_iload_n hx hb dX10_guess_20 rfl (lv_at hl 2 rfl) ?_
      obtain ⟨r_6, hc_5, hF⟩ := bd_ok hF
      refine iM_isInput hC hP hS hc_5 hl.1 (Nat.le_of_ble_eq_true rfl) ⟨Nat.le_of_ble_eq_true rfl, Nat.le_of_ble_eq_true rfl⟩ ⟨Nat.zero_le _, Nat.zero_le _⟩ dX10_guess_21 (fun H locs hP hS => ?_)
      refine lv_if_eq (tgt := 36) hx hb dX10_guess_24 (by decide) (fun c_7 => ?_) (fun c_7 => ?_)
      · replace hF := it_t hF c_7
        refine lv_ldc2 (v := -1) hx hb hC.2.2.2.1 (hC.2.2.2.2.1 _ q2425) dX10_guess_36 ?_
        exact M_retl hC hP hS hr (Option.some.inj hF) rfl dX10_guess_39
      · replace hF := it_f hF c_7
        refine lv_iload_n hx hb dX10_guess_27 rfl (lv_at hl 3 rfl) ?_
        refine lv_iconst (v := 0) hx hb dX10_guess_28 (by decide) ?_
        refine lv_iconst (v := 1) hx hb dX10_guess_29 (by decide) ?_
        obtain ⟨r_9, hc_8, hF⟩ := bd_ok hF
        refine iM_isIn hC hP hS hc_8 hl.1 (Nat.le_of_ble_eq_true rfl) ⟨Nat.le_of_ble_eq_true rfl, Nat.le_of_ble_eq_true rfl⟩ ⟨Nat.zero_le _, Nat.zero_le _⟩ dX10_guess_30 (fun H locs hP hS => ?_)
        refine lv_if_ne (tgt := 40) hx hb dX10_guess_33 (by decide) (fun c_10 => ?_) (fun c_10 => ?_)
        · replace hF := it_f hF c_10
          refine lv_lconst (v := 0) hx hb dX10_guess_40 (by decide) ?_
          refine lv_lstore (lv' := [(4, .long (0 : Int64)), (0, .ref (gM G)), (1, .int a0), (2, .int a1), (3, .int a2)]) hx hb dX10_guess_41 hl (by decide) rfl (fun ls hl => ?_)
          refine lv_iconst (v := 0) hx hb dX10_guess_43 (by decide) ?_
          refine lv_istore (lv' := [(6, .int (0 : Int32)), (4, .long (0 : Int64)), (0, .ref (gM G)), (1, .int a0), (2, .int a1), (3, .int a2)]) hx hb dX10_guess_44 hl (by decide) rfl (fun ls hl => ?_)
          exact w_guess_L46 hC hr MN a0 a1 a2 (0 : Int64) (0 : Int32) hF H locs ls hP hS (lv_sub hl [2, 3, 4, 5, 1, 0] rfl)
        · replace hF := it_t hF c_10
          refine lv_ldc2 (v := -1) hx hb hC.2.2.2.1 (hC.2.2.2.2.1 _ q2425) dX10_guess_36 ?_
          exact M_retl hC hP hS hr (Option.some.inj hF) rfl dX10_guess_39
  · replace hF := it_f hF c_1
    refine lv_ldc2 (v := -2) hx hb hC.2.2.2.1 (hC.2.2.2.2.1 _ q2421) dX10_guess_7 ?_
    exact M_retl hC hP hS hr (Option.some.inj hF) rfl dX10_guess_10
theorem m_guess (l : Launch) (G : MG) (a0 : Int32) (a1 : Int32) (a2 : Int32) (σ : MS) (x : Int64) (hF : F_guess σ a0 a1 a2 = some x) : Met l yX10_guess (ws_ yX10_guess cX10_guess 7 (some .long)) rmM_guess (mP G [.ref (gM G), .int a0, .int a1, .int a2] σ) (mQ G (some (.long x)) σ) 0 0 (MA G) := by
  refine M_met rfl plM (Nat.le_of_ble_eq_true rfl) ?_
  intro p e s m below meth c hC hr ls hl hP
  exact w_guess hC hr a0 a1 a2 hF s.heap [] ls hP va_S.rf hl
/-! seed -/
abbrev rmM_seed : Room := { frames := 0, cells := 0, slots := 0, locals := 0 }
def F_seed (a0 : Int32) (σ : MS) : Option (Int32 × MS) :=
  lt ((mI σ 72)) fun x2_1 =>
  lt (wI σ 72 a0) fun σ_2 =>
  some (x2_1, σ_2)
set_option maxHeartbeats 4000000 in
theorem w_seed {p : Program} {l : Launch} {e : Env} {s : State} {m : MethodId} {args : Array Value} {below : List Frame} {meth : Method} {c : Code} {G : MG} (hC : MCx G cX10_seed 3 p s m args meth c) (hr : meth.sig.returnType = some .int) {x : (Int32 × MS)} :
    ∀ (a0 : Int32) (σ : MS), F_seed a0 σ = some x → MJ p l e rmM_seed s m args below meth c G 3 (some (.int x.1)) x.2 0 [(0, .ref (gM G)), (1, .int a0)] [] σ := by
  have hx := hC.1
  have hb := hC.2.1
  intro a0 σ hF H locs ls hP hS hl
  rw [F_seed] at hF
  refine lv_aload_n hx hb dX10_seed_0 rfl (lv_at hl 0 rfl) ?_
  refine gM72 hC hP dX10_seed_1 ?_
  refine lv_topi (fun x2_1 ex2_1 => ?_)
  replace hF := lt_at hF ex2_1
  refine lv_istore_n (lv' := [(2, .int x2_1), (0, .ref (gM G)), (1, .int a0)]) hx hb dX10_seed_4 rfl hl (by decide) rfl (fun ls hl => ?_)
  refine lv_aload_n hx hb dX10_seed_5 rfl (lv_at hl 1 rfl) ?_
  refine lv_iload_n hx hb dX10_seed_6 rfl (lv_at hl 2 rfl) ?_
  refine pM72 hC hP hS dX10_seed_7 (fun H locs hP hS => ?_)
  obtain ⟨σ_2, eσ_2, hF⟩ := lt_ok hF
  rw [← eσ_2] at hP
  refine lv_iload_n hx hb dX10_seed_10 rfl (lv_at hl 0 rfl) ?_
  exact M_reti hC hP hS hr (rt1 hF) (rt2 hF) dX10_seed_11
theorem m_seed (l : Launch) (G : MG) (a0 : Int32) (σ : MS) (x : (Int32 × MS)) (hF : F_seed a0 σ = some x) : Met l yX10_seed (ws_ yX10_seed cX10_seed 3 (some .int)) rmM_seed (mP G [.ref (gM G), .int a0] σ) (mQ G (some (.int x.1)) x.2) 0 0 (MA G) := by
  refine M_met rfl plM (Nat.le_of_ble_eq_true rfl) ?_
  intro p e s m below meth c hC hr ls hl hP
  exact w_seed hC hr a0 σ hF s.heap [] ls hP va_S.rf hl
/-! image -/
abbrev rmM_image : Room := { frames := 1, cells := 0, slots := 0, locals := 22 }
def F_image_L33 : Nat → Int32 → Int32 → MS → Option (Int32 × MS)
  | 0, _, _, _ => none
  | fu + 1, x1, x2, σ =>
    if (mI σ 82) ≤ x2 then
      some ((mI σ 82), σ)
    else
      gd (inb x2 20) <|
      gd (inb (((20 : Int32) * x1) + x2) 60) <|
      lt (wA σ 86 (Int32.toNatClampNeg (((20 : Int32) * x1) + x2)) (mA σ 79 (Int32.toNatClampNeg x2))) fun σ_4 =>
      gd (inb x2 20) <|
      gd (inb (((20 : Int32) * x1) + x2) 60) <|
      lt (wA σ_4 87 (Int32.toNatClampNeg (((20 : Int32) * x1) + x2)) (mA σ_4 80 (Int32.toNatClampNeg x2))) fun σ_7 =>
      gd (inb x2 20) <|
      gd (inb (((20 : Int32) * x1) + x2) 60) <|
      lt (wA σ_7 88 (Int32.toNatClampNeg (((20 : Int32) * x1) + x2)) (mA σ_7 81 (Int32.toNatClampNeg x2))) fun σ_10 =>
      lt (x2 + (1 : Int32)) fun x2_11 =>
      F_image_L33 fu x1 x2_11 σ_10
set_option maxHeartbeats 4000000 in
theorem w_image_L33 {p : Program} {l : Launch} {e : Env} {s : State} {m : MethodId} {args : Array Value} {below : List Frame} {meth : Method} {c : Code} {G : MG} (hC : MCx G cX10_image 3 p s m args meth c) (hr : meth.sig.returnType = some .int) {x : (Int32 × MS)} :
    ∀ (fu : Nat) (x1 : Int32) (x2 : Int32) (σ : MS), F_image_L33 fu x1 x2 σ = some x → MJ p l e rmM_image s m args below meth c G 3 (some (.int x.1)) x.2 33 [(0, .ref (gM G)), (1, .int x1), (2, .int x2)] [] σ := by
  have hx := hC.1
  have hb := hC.2.1
  intro fu
  induction fu with
  | zero => intro x1 x2 σ hF; exact nm_none hF
  | succ fu ih =>
    intro x1 x2 σ hF H locs ls hP hS hl
    rw [F_image_L33] at hF
    refine lv_iload_n hx hb dX10_image_33 rfl (lv_at hl 2 rfl) ?_
    refine lv_aload_n hx hb dX10_image_34 rfl (lv_at hl 0 rfl) ?_
    refine gM82 hC hP dX10_image_35 ?_
    refine lv_icmp_ge (tgt := 98) hx hb dX10_image_38 (by decide) (fun c_1 => ?_) (fun c_1 => ?_)
    · replace hF := it_t hF c_1
      refine lv_aload_n hx hb dX10_image_98 rfl (lv_at hl 0 rfl) ?_
      refine gM82 hC hP dX10_image_99 ?_
      exact M_reti hC hP hS hr (rt1 hF) (rt2 hF) dX10_image_102
    · replace hF := it_f hF c_1
      refine lv_aload_n hx hb dX10_image_41 rfl (lv_at hl 0 rfl) ?_
      refine gM86 hC hP dX10_image_42 ?_
      refine lv_bipush (v := 20) hx hb dX10_image_45 (by decide) ?_
      refine lv_iload_n hx hb dX10_image_47 rfl (lv_at hl 1 rfl) ?_
      refine lv_imul hx hb dX10_image_48 ?_
      refine lv_iload_n hx hb dX10_image_49 rfl (lv_at hl 2 rfl) ?_
      refine lv_iadd hx hb dX10_image_50 ?_
      refine lv_aload_n hx hb dX10_image_51 rfl (lv_at hl 0 rfl) ?_
      refine gM79 hC hP dX10_image_52 ?_
      refine lv_iload_n hx hb dX10_image_55 rfl (lv_at hl 2 rfl) ?_
      obtain ⟨h_2, hF⟩ := gd_ok hF
      refine M_iald hC hP 79 (by decide) rfl rfl rfl h_2 dX10_image_56 ?_
      obtain ⟨h_3, hF⟩ := gd_ok hF
      refine M_iast hC hP hS 86 (by decide) rfl rfl rfl h_3 dX10_image_57 (fun H locs hP hS => ?_)
      obtain ⟨σ_4, eσ_4, hF⟩ := lt_ok hF
      rw [← eσ_4] at hP
      refine lv_aload_n hx hb dX10_image_58 rfl (lv_at hl 0 rfl) ?_
      refine gM87 hC hP dX10_image_59 ?_
      refine lv_bipush (v := 20) hx hb dX10_image_62 (by decide) ?_
      refine lv_iload_n hx hb dX10_image_64 rfl (lv_at hl 1 rfl) ?_
      refine lv_imul hx hb dX10_image_65 ?_
      refine lv_iload_n hx hb dX10_image_66 rfl (lv_at hl 2 rfl) ?_
      refine lv_iadd hx hb dX10_image_67 ?_
      refine lv_aload_n hx hb dX10_image_68 rfl (lv_at hl 0 rfl) ?_
      refine gM80 hC hP dX10_image_69 ?_
      refine lv_iload_n hx hb dX10_image_72 rfl (lv_at hl 2 rfl) ?_
      obtain ⟨h_5, hF⟩ := gd_ok hF
      refine M_iald hC hP 80 (by decide) rfl rfl rfl h_5 dX10_image_73 ?_
      obtain ⟨h_6, hF⟩ := gd_ok hF
      refine M_iast hC hP hS 87 (by decide) rfl rfl rfl h_6 dX10_image_74 (fun H locs hP hS => ?_)
      obtain ⟨σ_7, eσ_7, hF⟩ := lt_ok hF
      rw [← eσ_7] at hP
      refine lv_aload_n hx hb dX10_image_75 rfl (lv_at hl 0 rfl) ?_
      refine gM88 hC hP dX10_image_76 ?_
      refine lv_bipush (v := 20) hx hb dX10_image_79 (by decide) ?_
      refine lv_iload_n hx hb dX10_image_81 rfl (lv_at hl 1 rfl) ?_
      refine lv_imul hx hb dX10_image_82 ?_
      refine lv_iload_n hx hb dX10_image_83 rfl (lv_at hl 2 rfl) ?_
      refine lv_iadd hx hb dX10_image_84 ?_
      refine lv_aload_n hx hb dX10_image_85 rfl (lv_at hl 0 rfl) ?_
      refine gM81 hC hP dX10_image_86 ?_
      refine lv_iload_n hx hb dX10_image_89 rfl (lv_at hl 2 rfl) ?_
      obtain ⟨h_8, hF⟩ := gd_ok hF
      refine M_iald hC hP 81 (by decide) rfl rfl rfl h_8 dX10_image_90 ?_
      obtain ⟨h_9, hF⟩ := gd_ok hF
      refine M_iast hC hP hS 88 (by decide) rfl rfl rfl h_9 dX10_image_91 (fun H locs hP hS => ?_)
      obtain ⟨σ_10, eσ_10, hF⟩ := lt_ok hF
      rw [← eσ_10] at hP
      obtain ⟨x2_11, ex2_11, hF⟩ := lt_ok hF
      refine lv_iinc (v := x2_11) (lv' := [(2, .int x2_11), (0, .ref (gM G)), (1, .int x1)]) hx hb dX10_image_92 hl (k := 2) rfl (by rw [ex2_11]; rfl) (by decide) rfl (fun ls hl => ?_)
      refine lv_goto (tgt := 33) hx hb dX10_image_95 (by decide) ?_
      exact ih x1 x2_11 σ_10 hF H locs ls hP hS (lv_sub hl [1, 2, 0] rfl)
def F_image (a0 : Int32) (σ : MS) : Option (Int32 × MS) :=
  bd (F_isIn a0 (0 : Int32) (2 : Int32)) fun r_2 =>
  if r_2 = 0 then
    some ((-1 : Int32), σ)
  else
    gd (inb a0 3) <|
    lt (wA σ 84 (Int32.toNatClampNeg a0) (mI σ 82)) fun σ_5 =>
    gd (inb a0 3) <|
    lt (wA σ_5 85 (Int32.toNatClampNeg a0) (mI σ_5 72)) fun σ_7 =>
    F_image_L33 MN a0 (0 : Int32) σ_7
set_option maxHeartbeats 4000000 in
theorem w_image {p : Program} {l : Launch} {e : Env} {s : State} {m : MethodId} {args : Array Value} {below : List Frame} {meth : Method} {c : Code} {G : MG} (hC : MCx G cX10_image 3 p s m args meth c) (hr : meth.sig.returnType = some .int) {x : (Int32 × MS)} :
    ∀ (a0 : Int32) (σ : MS), F_image a0 σ = some x → MJ p l e rmM_image s m args below meth c G 3 (some (.int x.1)) x.2 0 [(0, .ref (gM G)), (1, .int a0)] [] σ := by
  have hx := hC.1
  have hb := hC.2.1
  intro a0 σ hF H locs ls hP hS hl
  rw [F_image] at hF
  refine lv_iload_n hx hb dX10_image_0 rfl (lv_at hl 1 rfl) ?_
  refine lv_iconst (v := 0) hx hb dX10_image_1 (by decide) ?_
  refine lv_iconst (v := 2) hx hb dX10_image_2 (by decide) ?_
  obtain ⟨r_2, hc_1, hF⟩ := bd_ok hF
  refine iM_isIn hC hP hS hc_1 hl.1 (Nat.le_of_ble_eq_true rfl) ⟨Nat.le_of_ble_eq_true rfl, Nat.le_of_ble_eq_true rfl⟩ ⟨Nat.zero_le _, Nat.zero_le _⟩ dX10_image_3 (fun H locs hP hS => ?_)
  refine lv_if_ne (tgt := 11) hx hb dX10_image_6 (by decide) (fun c_3 => ?_) (fun c_3 => ?_)
  · replace hF := it_f hF c_3
    refine lv_aload_n hx hb dX10_image_11 rfl (lv_at hl 0 rfl) ?_
    refine gM84 hC hP dX10_image_12 ?_
    refine lv_iload_n hx hb dX10_image_15 rfl (lv_at hl 1 rfl) ?_
    refine lv_aload_n hx hb dX10_image_16 rfl (lv_at hl 0 rfl) ?_
    refine gM82 hC hP dX10_image_17 ?_
    obtain ⟨h_4, hF⟩ := gd_ok hF
    refine M_iast hC hP hS 84 (by decide) rfl rfl rfl h_4 dX10_image_20 (fun H locs hP hS => ?_)
    obtain ⟨σ_5, eσ_5, hF⟩ := lt_ok hF
    rw [← eσ_5] at hP
    refine lv_aload_n hx hb dX10_image_21 rfl (lv_at hl 0 rfl) ?_
    refine gM85 hC hP dX10_image_22 ?_
    refine lv_iload_n hx hb dX10_image_25 rfl (lv_at hl 1 rfl) ?_
    refine lv_aload_n hx hb dX10_image_26 rfl (lv_at hl 0 rfl) ?_
    refine gM72 hC hP dX10_image_27 ?_
    obtain ⟨h_6, hF⟩ := gd_ok hF
    refine M_iast hC hP hS 85 (by decide) rfl rfl rfl h_6 dX10_image_30 (fun H locs hP hS => ?_)
    obtain ⟨σ_7, eσ_7, hF⟩ := lt_ok hF
    rw [← eσ_7] at hP
    refine lv_iconst (v := 0) hx hb dX10_image_31 (by decide) ?_
    refine lv_istore_n (lv' := [(2, .int (0 : Int32)), (0, .ref (gM G)), (1, .int a0)]) hx hb dX10_image_32 rfl hl (by decide) rfl (fun ls hl => ?_)
    exact w_image_L33 hC hr MN a0 (0 : Int32) σ_7 hF H locs ls hP hS (lv_sub hl [1, 2, 0] rfl)
  · replace hF := it_t hF c_3
    refine lv_iconst (v := -1) hx hb dX10_image_9 (by decide) ?_
    exact M_reti hC hP hS hr (rt1 hF) (rt2 hF) dX10_image_10
theorem m_image (l : Launch) (G : MG) (a0 : Int32) (σ : MS) (x : (Int32 × MS)) (hF : F_image a0 σ = some x) : Met l yX10_image (ws_ yX10_image cX10_image 3 (some .int)) rmM_image (mP G [.ref (gM G), .int a0] σ) (mQ G (some (.int x.1)) x.2) 0 0 (MA G) := by
  refine M_met rfl plM (Nat.le_of_ble_eq_true rfl) ?_
  intro p e s m below meth c hC hr ls hl hP
  exact w_image hC hr a0 σ hF s.heap [] ls hP va_S.rf hl
/-! back -/
abbrev rmM_back : Room := { frames := 1, cells := 0, slots := 0, locals := 22 }
def F_back_L42 : Nat → Int32 → Int32 → MS → Option (Int32 × MS)
  | 0, _, _, _ => none
  | fu + 1, x1, x2, σ =>
    if (mI σ 82) ≤ x2 then
      some ((mI σ 82), σ)
    else
      gd (inb (((20 : Int32) * x1) + x2) 60) <|
      gd (inb x2 20) <|
      lt (wA σ 79 (Int32.toNatClampNeg x2) (mA σ 86 (Int32.toNatClampNeg (((20 : Int32) * x1) + x2)))) fun σ_4 =>
      gd (inb (((20 : Int32) * x1) + x2) 60) <|
      gd (inb x2 20) <|
      lt (wA σ_4 80 (Int32.toNatClampNeg x2) (mA σ_4 87 (Int32.toNatClampNeg (((20 : Int32) * x1) + x2)))) fun σ_7 =>
      gd (inb (((20 : Int32) * x1) + x2) 60) <|
      gd (inb x2 20) <|
      lt (wA σ_7 81 (Int32.toNatClampNeg x2) (mA σ_7 88 (Int32.toNatClampNeg (((20 : Int32) * x1) + x2)))) fun σ_10 =>
      lt (x2 + (1 : Int32)) fun x2_11 =>
      F_back_L42 fu x1 x2_11 σ_10
set_option maxHeartbeats 4000000 in
theorem w_back_L42 {p : Program} {l : Launch} {e : Env} {s : State} {m : MethodId} {args : Array Value} {below : List Frame} {meth : Method} {c : Code} {G : MG} (hC : MCx G cX10_back 3 p s m args meth c) (hr : meth.sig.returnType = some .int) {x : (Int32 × MS)} :
    ∀ (fu : Nat) (x1 : Int32) (x2 : Int32) (σ : MS), F_back_L42 fu x1 x2 σ = some x → MJ p l e rmM_back s m args below meth c G 3 (some (.int x.1)) x.2 42 [(0, .ref (gM G)), (1, .int x1), (2, .int x2)] [] σ := by
  have hx := hC.1
  have hb := hC.2.1
  intro fu
  induction fu with
  | zero => intro x1 x2 σ hF; exact nm_none hF
  | succ fu ih =>
    intro x1 x2 σ hF H locs ls hP hS hl
    rw [F_back_L42] at hF
    refine lv_iload_n hx hb dX10_back_42 rfl (lv_at hl 2 rfl) ?_
    refine lv_aload_n hx hb dX10_back_43 rfl (lv_at hl 0 rfl) ?_
    refine gM82 hC hP dX10_back_44 ?_
    refine lv_icmp_ge (tgt := 107) hx hb dX10_back_47 (by decide) (fun c_1 => ?_) (fun c_1 => ?_)
    · replace hF := it_t hF c_1
      refine lv_aload_n hx hb dX10_back_107 rfl (lv_at hl 0 rfl) ?_
      refine gM82 hC hP dX10_back_108 ?_
      exact M_reti hC hP hS hr (rt1 hF) (rt2 hF) dX10_back_111
    · replace hF := it_f hF c_1
      refine lv_aload_n hx hb dX10_back_50 rfl (lv_at hl 0 rfl) ?_
      refine gM79 hC hP dX10_back_51 ?_
      refine lv_iload_n hx hb dX10_back_54 rfl (lv_at hl 2 rfl) ?_
      refine lv_aload_n hx hb dX10_back_55 rfl (lv_at hl 0 rfl) ?_
      refine gM86 hC hP dX10_back_56 ?_
      refine lv_bipush (v := 20) hx hb dX10_back_59 (by decide) ?_
      refine lv_iload_n hx hb dX10_back_61 rfl (lv_at hl 1 rfl) ?_
      refine lv_imul hx hb dX10_back_62 ?_
      refine lv_iload_n hx hb dX10_back_63 rfl (lv_at hl 2 rfl) ?_
      refine lv_iadd hx hb dX10_back_64 ?_
      obtain ⟨h_2, hF⟩ := gd_ok hF
      refine M_iald hC hP 86 (by decide) rfl rfl rfl h_2 dX10_back_65 ?_
      obtain ⟨h_3, hF⟩ := gd_ok hF
      refine M_iast hC hP hS 79 (by decide) rfl rfl rfl h_3 dX10_back_66 (fun H locs hP hS => ?_)
      obtain ⟨σ_4, eσ_4, hF⟩ := lt_ok hF
      rw [← eσ_4] at hP
      refine lv_aload_n hx hb dX10_back_67 rfl (lv_at hl 0 rfl) ?_
      refine gM80 hC hP dX10_back_68 ?_
      refine lv_iload_n hx hb dX10_back_71 rfl (lv_at hl 2 rfl) ?_
      refine lv_aload_n hx hb dX10_back_72 rfl (lv_at hl 0 rfl) ?_
      refine gM87 hC hP dX10_back_73 ?_
      refine lv_bipush (v := 20) hx hb dX10_back_76 (by decide) ?_
      refine lv_iload_n hx hb dX10_back_78 rfl (lv_at hl 1 rfl) ?_
      refine lv_imul hx hb dX10_back_79 ?_
      refine lv_iload_n hx hb dX10_back_80 rfl (lv_at hl 2 rfl) ?_
      refine lv_iadd hx hb dX10_back_81 ?_
      obtain ⟨h_5, hF⟩ := gd_ok hF
      refine M_iald hC hP 87 (by decide) rfl rfl rfl h_5 dX10_back_82 ?_
      obtain ⟨h_6, hF⟩ := gd_ok hF
      refine M_iast hC hP hS 80 (by decide) rfl rfl rfl h_6 dX10_back_83 (fun H locs hP hS => ?_)
      obtain ⟨σ_7, eσ_7, hF⟩ := lt_ok hF
      rw [← eσ_7] at hP
      refine lv_aload_n hx hb dX10_back_84 rfl (lv_at hl 0 rfl) ?_
      refine gM81 hC hP dX10_back_85 ?_
      refine lv_iload_n hx hb dX10_back_88 rfl (lv_at hl 2 rfl) ?_
      refine lv_aload_n hx hb dX10_back_89 rfl (lv_at hl 0 rfl) ?_
      refine gM88 hC hP dX10_back_90 ?_
      refine lv_bipush (v := 20) hx hb dX10_back_93 (by decide) ?_
      refine lv_iload_n hx hb dX10_back_95 rfl (lv_at hl 1 rfl) ?_
      refine lv_imul hx hb dX10_back_96 ?_
      refine lv_iload_n hx hb dX10_back_97 rfl (lv_at hl 2 rfl) ?_
      refine lv_iadd hx hb dX10_back_98 ?_
      obtain ⟨h_8, hF⟩ := gd_ok hF
      refine M_iald hC hP 88 (by decide) rfl rfl rfl h_8 dX10_back_99 ?_
      obtain ⟨h_9, hF⟩ := gd_ok hF
      refine M_iast hC hP hS 81 (by decide) rfl rfl rfl h_9 dX10_back_100 (fun H locs hP hS => ?_)
      obtain ⟨σ_10, eσ_10, hF⟩ := lt_ok hF
      rw [← eσ_10] at hP
      obtain ⟨x2_11, ex2_11, hF⟩ := lt_ok hF
      refine lv_iinc (v := x2_11) (lv' := [(2, .int x2_11), (0, .ref (gM G)), (1, .int x1)]) hx hb dX10_back_101 hl (k := 2) rfl (by rw [ex2_11]; rfl) (by decide) rfl (fun ls hl => ?_)
      refine lv_goto (tgt := 42) hx hb dX10_back_104 (by decide) ?_
      exact ih x1 x2_11 σ_10 hF H locs ls hP hS (lv_sub hl [1, 2, 0] rfl)
def F_back (a0 : Int32) (σ : MS) : Option (Int32 × MS) :=
  bd (F_isIn a0 (0 : Int32) (2 : Int32)) fun r_2 =>
  if r_2 = 0 then
    some ((-1 : Int32), σ)
  else
    gd (inb a0 3) <|
    if 0 ≤ (mA σ 84 (Int32.toNatClampNeg a0)) then
      gd (inb a0 3) <|
      lt (wI σ 82 (mA σ 84 (Int32.toNatClampNeg a0))) fun σ_7 =>
      gd (inb a0 3) <|
      lt (wI σ_7 72 (mA σ_7 85 (Int32.toNatClampNeg a0))) fun σ_9 =>
      F_back_L42 MN a0 (0 : Int32) σ_9
    else
      some ((-1 : Int32), σ)
set_option maxHeartbeats 4000000 in
theorem w_back {p : Program} {l : Launch} {e : Env} {s : State} {m : MethodId} {args : Array Value} {below : List Frame} {meth : Method} {c : Code} {G : MG} (hC : MCx G cX10_back 3 p s m args meth c) (hr : meth.sig.returnType = some .int) {x : (Int32 × MS)} :
    ∀ (a0 : Int32) (σ : MS), F_back a0 σ = some x → MJ p l e rmM_back s m args below meth c G 3 (some (.int x.1)) x.2 0 [(0, .ref (gM G)), (1, .int a0)] [] σ := by
  have hx := hC.1
  have hb := hC.2.1
  intro a0 σ hF H locs ls hP hS hl
  rw [F_back] at hF
  refine lv_iload_n hx hb dX10_back_0 rfl (lv_at hl 1 rfl) ?_
  refine lv_iconst (v := 0) hx hb dX10_back_1 (by decide) ?_
  refine lv_iconst (v := 2) hx hb dX10_back_2 (by decide) ?_
  obtain ⟨r_2, hc_1, hF⟩ := bd_ok hF
  refine iM_isIn hC hP hS hc_1 hl.1 (Nat.le_of_ble_eq_true rfl) ⟨Nat.le_of_ble_eq_true rfl, Nat.le_of_ble_eq_true rfl⟩ ⟨Nat.zero_le _, Nat.zero_le _⟩ dX10_back_3 (fun H locs hP hS => ?_)
  refine lv_if_eq (tgt := 18) hx hb dX10_back_6 (by decide) (fun c_3 => ?_) (fun c_3 => ?_)
  · replace hF := it_t hF c_3
    refine lv_iconst (v := -1) hx hb dX10_back_18 (by decide) ?_
    exact M_reti hC hP hS hr (rt1 hF) (rt2 hF) dX10_back_19
  · replace hF := it_f hF c_3
    refine lv_aload_n hx hb dX10_back_9 rfl (lv_at hl 0 rfl) ?_
    refine gM84 hC hP dX10_back_10 ?_
    refine lv_iload_n hx hb dX10_back_13 rfl (lv_at hl 1 rfl) ?_
    obtain ⟨h_4, hF⟩ := gd_ok hF
    refine M_iald hC hP 84 (by decide) rfl rfl rfl h_4 dX10_back_14 ?_
    refine lv_if_ge (tgt := 20) hx hb dX10_back_15 (by decide) (fun c_5 => ?_) (fun c_5 => ?_)
    · replace hF := it_t hF c_5
      refine lv_aload_n hx hb dX10_back_20 rfl (lv_at hl 0 rfl) ?_
      refine lv_aload_n hx hb dX10_back_21 rfl (lv_at hl 0 rfl) ?_
      refine gM84 hC hP dX10_back_22 ?_
      refine lv_iload_n hx hb dX10_back_25 rfl (lv_at hl 1 rfl) ?_
      obtain ⟨h_6, hF⟩ := gd_ok hF
      refine M_iald hC hP 84 (by decide) rfl rfl rfl h_6 dX10_back_26 ?_
      refine pM82 hC hP hS dX10_back_27 (fun H locs hP hS => ?_)
      obtain ⟨σ_7, eσ_7, hF⟩ := lt_ok hF
      rw [← eσ_7] at hP
      refine lv_aload_n hx hb dX10_back_30 rfl (lv_at hl 0 rfl) ?_
      refine lv_aload_n hx hb dX10_back_31 rfl (lv_at hl 0 rfl) ?_
      refine gM85 hC hP dX10_back_32 ?_
      refine lv_iload_n hx hb dX10_back_35 rfl (lv_at hl 1 rfl) ?_
      obtain ⟨h_8, hF⟩ := gd_ok hF
      refine M_iald hC hP 85 (by decide) rfl rfl rfl h_8 dX10_back_36 ?_
      refine pM72 hC hP hS dX10_back_37 (fun H locs hP hS => ?_)
      obtain ⟨σ_9, eσ_9, hF⟩ := lt_ok hF
      rw [← eσ_9] at hP
      refine lv_iconst (v := 0) hx hb dX10_back_40 (by decide) ?_
      refine lv_istore_n (lv' := [(2, .int (0 : Int32)), (0, .ref (gM G)), (1, .int a0)]) hx hb dX10_back_41 rfl hl (by decide) rfl (fun ls hl => ?_)
      exact w_back_L42 hC hr MN a0 (0 : Int32) σ_9 hF H locs ls hP hS (lv_sub hl [1, 2, 0] rfl)
    · replace hF := it_f hF c_5
      refine lv_iconst (v := -1) hx hb dX10_back_18 (by decide) ?_
      exact M_reti hC hP hS hr (rt1 hF) (rt2 hF) dX10_back_19
theorem m_back (l : Launch) (G : MG) (a0 : Int32) (σ : MS) (x : (Int32 × MS)) (hF : F_back a0 σ = some x) : Met l yX10_back (ws_ yX10_back cX10_back 3 (some .int)) rmM_back (mP G [.ref (gM G), .int a0] σ) (mQ G (some (.int x.1)) x.2) 0 0 (MA G) := by
  refine M_met rfl plM (Nat.le_of_ble_eq_true rfl) ?_
  intro p e s m below meth c hC hr ls hl hP
  exact w_back hC hr a0 σ hF s.heap [] ls hP va_S.rf hl
/-! about -/
abbrev rmM_about : Room := { frames := 4, cells := 0, slots := 0, locals := 99 }
def F_about (a0 : Int32) (σ : MS) : Option (Int32 × MS) :=
  if a0 = (0 : Int32) then
    gd (inb (mI σ 35) 2) <|
    some ((mA σ 12 (Int32.toNatClampNeg (mI σ 35))), σ)
  else
  if a0 = (1 : Int32) then
    gd (inb (mI σ 35) 2) <|
    some ((mA σ 13 (Int32.toNatClampNeg (mI σ 35))), σ)
  else
  if a0 = (2 : Int32) then
    gd (inb (mI σ 35) 2) <|
    some ((mA σ 14 (Int32.toNatClampNeg (mI σ 35))), σ)
  else
  if a0 = (3 : Int32) then
    gd (inb (mI σ 35) 2) <|
    some ((mA σ 15 (Int32.toNatClampNeg (mI σ 35))), σ)
  else
  if a0 = (4 : Int32) then
    bd (F_layStart σ) fun σ_11 =>
    some ((mI σ_11 68), σ_11)
  else
  if a0 = (5 : Int32) then
    some ((mI σ 82), σ)
  else
  if a0 = (6 : Int32) then
    some ((mI σ 83), σ)
  else
  if a0 = (7 : Int32) then
    some ((mI σ 2), σ)
  else
  if a0 = (8 : Int32) then
    some ((mI σ 72), σ)
  else
  if a0 = (9 : Int32) then
    gd (inb (mI σ 35) 2) <|
    some ((mA σ 18 (Int32.toNatClampNeg (mI σ 35))), σ)
  else
    some ((-1 : Int32), σ)
set_option maxHeartbeats 4000000 in
theorem w_about {p : Program} {l : Launch} {e : Env} {s : State} {m : MethodId} {args : Array Value} {below : List Frame} {meth : Method} {c : Code} {G : MG} (hC : MCx G cX10_about 2 p s m args meth c) (hr : meth.sig.returnType = some .int) {x : (Int32 × MS)} :
    ∀ (a0 : Int32) (σ : MS), F_about a0 σ = some x → MJ p l e rmM_about s m args below meth c G 2 (some (.int x.1)) x.2 0 [(0, .ref (gM G)), (1, .int a0)] [] σ := by
  have hx := hC.1
  have hb := hC.2.1
  intro a0 σ hF H locs ls hP hS hl
  rw [F_about] at hF
  refine lv_iload_n hx hb dX10_about_0 rfl (lv_at hl 1 rfl) ?_
  by_cases c_1 : a0 = (0 : Int32)
  · replace hF := it_t hF c_1
    refine lv_tableIn (off := 55) (tgt := 56) hx hb dX10_about_1 (by rw [c_1]; decide) (by rw [c_1]; decide) (by rw [c_1]; rfl) (by decide) ?_
    refine lv_aload_n hx hb dX10_about_56 rfl (lv_at hl 0 rfl) ?_
    refine gM12 hC hP dX10_about_57 ?_
    refine lv_aload_n hx hb dX10_about_60 rfl (lv_at hl 0 rfl) ?_
    refine gM35 hC hP dX10_about_61 ?_
    obtain ⟨h_2, hF⟩ := gd_ok hF
    refine M_iald hC hP 12 (by decide) rfl rfl rfl h_2 dX10_about_64 ?_
    exact M_reti hC hP hS hr (rt1 hF) (rt2 hF) dX10_about_65
  replace hF := it_f hF c_1
  by_cases c_3 : a0 = (1 : Int32)
  · replace hF := it_t hF c_3
    refine lv_tableIn (off := 65) (tgt := 66) hx hb dX10_about_1 (by rw [c_3]; decide) (by rw [c_3]; decide) (by rw [c_3]; rfl) (by decide) ?_
    refine lv_aload_n hx hb dX10_about_66 rfl (lv_at hl 0 rfl) ?_
    refine gM13 hC hP dX10_about_67 ?_
    refine lv_aload_n hx hb dX10_about_70 rfl (lv_at hl 0 rfl) ?_
    refine gM35 hC hP dX10_about_71 ?_
    obtain ⟨h_4, hF⟩ := gd_ok hF
    refine M_iald hC hP 13 (by decide) rfl rfl rfl h_4 dX10_about_74 ?_
    exact M_reti hC hP hS hr (rt1 hF) (rt2 hF) dX10_about_75
  replace hF := it_f hF c_3
  by_cases c_5 : a0 = (2 : Int32)
  · replace hF := it_t hF c_5
    refine lv_tableIn (off := 75) (tgt := 76) hx hb dX10_about_1 (by rw [c_5]; decide) (by rw [c_5]; decide) (by rw [c_5]; rfl) (by decide) ?_
    refine lv_aload_n hx hb dX10_about_76 rfl (lv_at hl 0 rfl) ?_
    refine gM14 hC hP dX10_about_77 ?_
    refine lv_aload_n hx hb dX10_about_80 rfl (lv_at hl 0 rfl) ?_
    refine gM35 hC hP dX10_about_81 ?_
    obtain ⟨h_6, hF⟩ := gd_ok hF
    refine M_iald hC hP 14 (by decide) rfl rfl rfl h_6 dX10_about_84 ?_
    exact M_reti hC hP hS hr (rt1 hF) (rt2 hF) dX10_about_85
  replace hF := it_f hF c_5
  by_cases c_7 : a0 = (3 : Int32)
  · replace hF := it_t hF c_7
    refine lv_tableIn (off := 85) (tgt := 86) hx hb dX10_about_1 (by rw [c_7]; decide) (by rw [c_7]; decide) (by rw [c_7]; rfl) (by decide) ?_
    refine lv_aload_n hx hb dX10_about_86 rfl (lv_at hl 0 rfl) ?_
    refine gM15 hC hP dX10_about_87 ?_
    refine lv_aload_n hx hb dX10_about_90 rfl (lv_at hl 0 rfl) ?_
    refine gM35 hC hP dX10_about_91 ?_
    obtain ⟨h_8, hF⟩ := gd_ok hF
    refine M_iald hC hP 15 (by decide) rfl rfl rfl h_8 dX10_about_94 ?_
    exact M_reti hC hP hS hr (rt1 hF) (rt2 hF) dX10_about_95
  replace hF := it_f hF c_7
  by_cases c_9 : a0 = (4 : Int32)
  · replace hF := it_t hF c_9
    refine lv_tableIn (off := 95) (tgt := 96) hx hb dX10_about_1 (by rw [c_9]; decide) (by rw [c_9]; decide) (by rw [c_9]; rfl) (by decide) ?_
    refine lv_aload_n hx hb dX10_about_96 rfl (lv_at hl 0 rfl) ?_
    obtain ⟨σ_11, hc_10, hF⟩ := bd_ok hF
    refine iM_layStart hC hP hS hc_10 hl.1 (Nat.le_of_ble_eq_true rfl) ⟨Nat.le_of_ble_eq_true rfl, Nat.le_of_ble_eq_true rfl⟩ ⟨Nat.zero_le _, Nat.zero_le _⟩ dX10_about_97 (fun H locs hP hS => ?_)
    refine lv_aload_n hx hb dX10_about_100 rfl (lv_at hl 0 rfl) ?_
    refine gM68 hC hP dX10_about_101 ?_
    exact M_reti hC hP hS hr (rt1 hF) (rt2 hF) dX10_about_104
  replace hF := it_f hF c_9
  by_cases c_12 : a0 = (5 : Int32)
  · replace hF := it_t hF c_12
    refine lv_tableIn (off := 104) (tgt := 105) hx hb dX10_about_1 (by rw [c_12]; decide) (by rw [c_12]; decide) (by rw [c_12]; rfl) (by decide) ?_
    refine lv_aload_n hx hb dX10_about_105 rfl (lv_at hl 0 rfl) ?_
    refine gM82 hC hP dX10_about_106 ?_
    exact M_reti hC hP hS hr (rt1 hF) (rt2 hF) dX10_about_109
  replace hF := it_f hF c_12
  by_cases c_13 : a0 = (6 : Int32)
  · replace hF := it_t hF c_13
    refine lv_tableIn (off := 109) (tgt := 110) hx hb dX10_about_1 (by rw [c_13]; decide) (by rw [c_13]; decide) (by rw [c_13]; rfl) (by decide) ?_
    refine lv_aload_n hx hb dX10_about_110 rfl (lv_at hl 0 rfl) ?_
    refine gM83 hC hP dX10_about_111 ?_
    exact M_reti hC hP hS hr (rt1 hF) (rt2 hF) dX10_about_114
  replace hF := it_f hF c_13
  by_cases c_14 : a0 = (7 : Int32)
  · replace hF := it_t hF c_14
    refine lv_tableIn (off := 114) (tgt := 115) hx hb dX10_about_1 (by rw [c_14]; decide) (by rw [c_14]; decide) (by rw [c_14]; rfl) (by decide) ?_
    refine lv_aload_n hx hb dX10_about_115 rfl (lv_at hl 0 rfl) ?_
    refine gM2 hC hP dX10_about_116 ?_
    exact M_reti hC hP hS hr (rt1 hF) (rt2 hF) dX10_about_119
  replace hF := it_f hF c_14
  by_cases c_15 : a0 = (8 : Int32)
  · replace hF := it_t hF c_15
    refine lv_tableIn (off := 119) (tgt := 120) hx hb dX10_about_1 (by rw [c_15]; decide) (by rw [c_15]; decide) (by rw [c_15]; rfl) (by decide) ?_
    refine lv_aload_n hx hb dX10_about_120 rfl (lv_at hl 0 rfl) ?_
    refine gM72 hC hP dX10_about_121 ?_
    exact M_reti hC hP hS hr (rt1 hF) (rt2 hF) dX10_about_124
  replace hF := it_f hF c_15
  by_cases c_16 : a0 = (9 : Int32)
  · replace hF := it_t hF c_16
    refine lv_tableIn (off := 124) (tgt := 125) hx hb dX10_about_1 (by rw [c_16]; decide) (by rw [c_16]; decide) (by rw [c_16]; rfl) (by decide) ?_
    refine lv_aload_n hx hb dX10_about_125 rfl (lv_at hl 0 rfl) ?_
    refine gM18 hC hP dX10_about_126 ?_
    refine lv_aload_n hx hb dX10_about_129 rfl (lv_at hl 0 rfl) ?_
    refine gM35 hC hP dX10_about_130 ?_
    obtain ⟨h_17, hF⟩ := gd_ok hF
    refine M_iald hC hP 18 (by decide) rfl rfl rfl h_17 dX10_about_133 ?_
    exact M_reti hC hP hS hr (rt1 hF) (rt2 hF) dX10_about_134
  replace hF := it_f hF c_16
  refine lv_tableD (keys := [0, 1, 2, 3, 4, 5, 6, 7, 8, 9]) (tgt := 135) hx hb dX10_about_1 (List.forall_mem_cons.mpr ⟨ne_toInt c_1 rfl, (List.forall_mem_cons.mpr ⟨ne_toInt c_3 rfl, (List.forall_mem_cons.mpr ⟨ne_toInt c_5 rfl, (List.forall_mem_cons.mpr ⟨ne_toInt c_7 rfl, (List.forall_mem_cons.mpr ⟨ne_toInt c_9 rfl, (List.forall_mem_cons.mpr ⟨ne_toInt c_12 rfl, (List.forall_mem_cons.mpr ⟨ne_toInt c_13 rfl, (List.forall_mem_cons.mpr ⟨ne_toInt c_14 rfl, (List.forall_mem_cons.mpr ⟨ne_toInt c_15 rfl, (List.forall_mem_cons.mpr ⟨ne_toInt c_16 rfl, (fun _ h => nomatch h)⟩)⟩)⟩)⟩)⟩)⟩)⟩)⟩)⟩)⟩) rfl rfl (by decide) ?_
  refine lv_iconst (v := -1) hx hb dX10_about_135 (by decide) ?_
  exact M_reti hC hP hS hr (rt1 hF) (rt2 hF) dX10_about_136
theorem m_about (l : Launch) (G : MG) (a0 : Int32) (σ : MS) (x : (Int32 × MS)) (hF : F_about a0 σ = some x) : Met l yX10_about (ws_ yX10_about cX10_about 2 (some .int)) rmM_about (mP G [.ref (gM G), .int a0] σ) (mQ G (some (.int x.1)) x.2) 0 0 (MA G) := by
  refine M_met rfl plM (Nat.le_of_ble_eq_true rfl) ?_
  intro p e s m below meth c hC hr ls hl hP
  exact w_about hC hr a0 σ hF s.heap [] ls hP va_S.rf hl
end
