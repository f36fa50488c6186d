set_option maxRecDepth 100000
noncomputable section
/-! readAsks -/
abbrev rmM_readAsks : Room := { frames := 5, cells := 0, slots := 0, locals := 107 }
def F_readAsks_b16 (σ : MS) : Option MS :=
  bd (F_isGood σ) fun r_2 =>
  if r_2 = 0 then
    some σ
  else
    bd (F_goOn σ) fun σ_5 =>
    gd (inb (mI σ_5 36) 2) <|
    lt (wA σ_5 21 (Int32.toNatClampNeg (mI σ_5 36)) (1 : Int32)) fun σ_7 =>
    bd (F_e σ_7) fun σ_9 =>
    gd (inb (mI σ_9 36) 2) <|
    lt (wA σ_9 19 (Int32.toNatClampNeg (mI σ_9 36)) (mI σ_9 37)) fun σ_11 =>
    some σ_11
set_option maxHeartbeats 4000000 in
theorem w_readAsks_b16 {p : Program} {l : Launch} {e : Env} {s : State} {m : MethodId} {args : Array Value} {below : List Frame} {meth : Method} {c : Code} {G : MG} (hC : MCx G cX10_readAsks 1 p s m args meth c) (hr : meth.sig.returnType = none) {x : MS} :
    ∀ (σ : MS), F_readAsks_b16 σ = some x → MJ p l e rmM_readAsks s m args below meth c G 1 none x 16 [(0, .ref (gM G))] [] σ := by
  have hx := hC.1
  have hb := hC.2.1
  intro σ hF H locs ls hP hS hl
  rw [F_readAsks_b16] at hF
  refine lv_aload_n hx hb dX10_readAsks_16 rfl (lv_at hl 0 rfl) ?_
  obtain ⟨r_2, hc_1, hF⟩ := bd_ok hF
  refine iM_isGood hC hP hS hc_1 hl.1 (Nat.le_of_ble_eq_true rfl) ⟨Nat.le_of_ble_eq_true rfl, Nat.le_of_ble_eq_true rfl⟩ ⟨Nat.zero_le _, Nat.zero_le _⟩ dX10_readAsks_17 (fun H locs hP hS => ?_)
  refine lv_if_ne (tgt := 24) hx hb dX10_readAsks_20 (by decide) (fun c_3 => ?_) (fun c_3 => ?_)
  · replace hF := it_f hF c_3
    refine lv_aload_n hx hb dX10_readAsks_24 rfl (lv_at hl 0 rfl) ?_
    obtain ⟨σ_5, hc_4, hF⟩ := bd_ok hF
    refine iM_goOn hC hP hS hc_4 hl.1 (Nat.le_of_ble_eq_true rfl) ⟨Nat.le_of_ble_eq_true rfl, Nat.le_of_ble_eq_true rfl⟩ ⟨Nat.zero_le _, Nat.zero_le _⟩ dX10_readAsks_25 (fun H locs hP hS => ?_)
    refine lv_aload_n hx hb dX10_readAsks_28 rfl (lv_at hl 0 rfl) ?_
    refine gM21 hC hP dX10_readAsks_29 ?_
    refine lv_aload_n hx hb dX10_readAsks_32 rfl (lv_at hl 0 rfl) ?_
    refine gM36 hC hP dX10_readAsks_33 ?_
    refine lv_iconst (v := 1) hx hb dX10_readAsks_36 (by decide) ?_
    obtain ⟨h_6, hF⟩ := gd_ok hF
    refine M_zast hC hP hS 21 (by decide) rfl rfl rfl (Or.inr rfl) h_6 dX10_readAsks_37 (fun H locs hP hS => ?_)
    obtain ⟨σ_7, eσ_7, hF⟩ := lt_ok hF
    rw [← eσ_7] at hP
    refine lv_aload_n hx hb dX10_readAsks_38 rfl (lv_at hl 0 rfl) ?_
    obtain ⟨σ_9, hc_8, hF⟩ := bd_ok hF
    refine iM_e hC hP hS hc_8 hl.1 (Nat.le_of_ble_eq_true rfl) ⟨Nat.le_of_ble_eq_true rfl, Nat.le_of_ble_eq_true rfl⟩ ⟨Nat.zero_le _, Nat.zero_le _⟩ dX10_readAsks_39 (fun H locs hP hS => ?_)
    refine lv_aload_n hx hb dX10_readAsks_42 rfl (lv_at hl 0 rfl) ?_
    refine gM19 hC hP dX10_readAsks_43 ?_
    refine lv_aload_n hx hb dX10_readAsks_46 rfl (lv_at hl 0 rfl) ?_
    refine gM36 hC hP dX10_readAsks_47 ?_
    refine lv_aload_n hx hb dX10_readAsks_50 rfl (lv_at hl 0 rfl) ?_
    refine gM37 hC hP dX10_readAsks_51 ?_
    obtain ⟨h_10, hF⟩ := gd_ok hF
    refine M_iast hC hP hS 19 (by decide) rfl rfl rfl h_10 dX10_readAsks_54 (fun H locs hP hS => ?_)
    obtain ⟨σ_11, eσ_11, hF⟩ := lt_ok hF
    rw [← eσ_11] at hP
    exact M_retv hC hP hS hr (Option.some.inj hF) dX10_readAsks_55
  · replace hF := it_t hF c_3
    exact M_retv hC hP hS hr (Option.some.inj hF) dX10_readAsks_23
def F_readAsks (σ : MS) : Option MS :=
  gd (inb (mI σ 36) 2) <|
  if (mA σ 21 (Int32.toNatClampNeg (mI σ 36))) = 0 then
    F_readAsks_b16 σ
  else
    bd (F_misplaced σ) fun σ_4 =>
    F_readAsks_b16 σ_4
set_option maxHeartbeats 4000000 in
theorem w_readAsks {p : Program} {l : Launch} {e : Env} {s : State} {m : MethodId} {args : Array Value} {below : List Frame} {meth : Method} {c : Code} {G : MG} (hC : MCx G cX10_readAsks 1 p s m args meth c) (hr : meth.sig.returnType = none) {x : MS} :
    ∀ (σ : MS), F_readAsks σ = some x → MJ p l e rmM_readAsks s m args below meth c G 1 none x 0 [(0, .ref (gM G))] [] σ := by
  have hx := hC.1
  have hb := hC.2.1
  intro σ hF H locs ls hP hS hl
  rw [F_readAsks] at hF
  refine lv_aload_n hx hb dX10_readAsks_0 rfl (lv_at hl 0 rfl) ?_
  refine gM21 hC hP dX10_readAsks_1 ?_
  refine lv_aload_n hx hb dX10_readAsks_4 rfl (lv_at hl 0 rfl) ?_
  refine gM36 hC hP dX10_readAsks_5 ?_
  obtain ⟨h_1, hF⟩ := gd_ok hF
  refine M_zald hC hP 21 (by decide) rfl rfl rfl h_1 dX10_readAsks_8 ?_
  refine lv_if_eq (tgt := 16) hx hb dX10_readAsks_9 (by decide) (fun c_2 => ?_) (fun c_2 => ?_)
  · replace hF := it_t hF c_2
    exact w_readAsks_b16 hC hr σ hF H locs ls hP hS (lv_sub hl [0] rfl)
  · replace hF := it_f hF c_2
    refine lv_aload_n hx hb dX10_readAsks_12 rfl (lv_at hl 0 rfl) ?_
    obtain ⟨σ_4, hc_3, hF⟩ := bd_ok hF
    refine iM_misplaced hC hP hS hc_3 hl.1 (Nat.le_of_ble_eq_true rfl) ⟨Nat.le_of_ble_eq_true rfl, Nat.le_of_ble_eq_true rfl⟩ ⟨Nat.zero_le _, Nat.zero_le _⟩ dX10_readAsks_13 (fun H locs hP hS => ?_)
    exact w_readAsks_b16 hC hr σ_4 hF H locs ls hP hS (lv_sub hl [0] rfl)
theorem m_readAsks (l : Launch) (G : MG) (σ : MS) (x : MS) (hF : F_readAsks σ = some x) : Met l yX10_readAsks (ws_ yX10_readAsks cX10_readAsks 1 none) rmM_readAsks (mP G [.ref (gM G)] σ) (mQ G none x) 0 0 (MA G) := by
  refine M_met rfl plM (Nat.le_of_ble_eq_true rfl) ?_
  intro p e s m below meth c hC hr ls hl hP
  exact w_readAsks hC hr σ hF s.heap [] ls hP va_S.rf hl
theorem iM_readAsks {p : Program} {l : Launch} {e : Env} {R : Room} {s : State} {m : MethodId} {args : Array Value} {below : List Frame} {meth : Method} {c : Code} {H H0 : Heap} {locs : List Loc} {cells slots nL : Nat} {Q : State → Prop} {G : MG} {σ : MS} {cc : ByteArray} {pc : Nat} {ls : Array Slot} {rest : List Value} (hC : MCx G cc nL p s m args meth c) (hP : MRep G σ H) (hS : va_S (MA G) H0 H locs) {x : MS} (hF : F_readAsks σ = some x) (hl : ls.size = nL) (hW : (rest.map fun v => v.category).sum ≤ 8) (hR : rmM_readAsks.frames + 1 ≤ R.frames ∧ 8 + (1 + 11) + rmM_readAsks.locals ≤ R.locals) (hf : cells ≤ R.cells ∧ slots ≤ R.slots) (hdg : decode cc pc = .ok (.invokevirtual 337, 3))
    (kk : ∀ (H1 : Heap) (locs1 : List Loc), MRep G x H1 → va_S (MA G) H0 H1 locs1 → W p l e R s m args below meth c H1 locs1 cells slots Q (F0 m (pc + 3) ls (rest))) : W p l e R s m args below meth c H locs cells slots Q (F0 m pc ls (.ref (gM G) :: rest)) :=
  M_inv hC hP hS [] (m_readAsks l G σ _ hF) (cwV 0 hC.2.2.2.2.1 (lw_V q2305 q2307 qs90 q145 q2308) rfl rfl rfl (by decide +kernel) hR) rfl rfl hl hW hf hdg kk
/-! moveHere -/
abbrev rmM_moveHere : Room := { frames := 1, cells := 0, slots := 0, locals := 22 }
def F_moveHere (σ : MS) : Option Int32 :=
  bd (F_isWord σ (1937203568 : Int64)) fun r_2 =>
  if r_2 = 0 then
    bd (F_isWord σ (7499639 : Int64)) fun r_5 =>
    if r_5 = 0 then
      bd (F_isWord σ (6518132 : Int64)) fun r_8 =>
      if r_8 = 0 then
        bd (F_isWord σ (114767640814963 : Int64)) fun r_11 =>
        if r_11 = 0 then
          bd (F_isWord σ (482805048691 : Int64)) fun r_14 =>
          if r_14 = 0 then
            bd (F_isWord σ (7170424 : Int64)) fun r_17 =>
            if r_17 = 0 then
              some (-1 : Int32)
            else
              some (7 : Int32)
          else
            some (6 : Int32)
        else
          some (5 : Int32)
      else
        some (4 : Int32)
    else
      some (3 : Int32)
  else
    some (2 : Int32)
set_option maxHeartbeats 4000000 in
theorem w_moveHere {p : Program} {l : Launch} {e : Env} {s : State} {m : MethodId} {args : Array Value} {below : List Frame} {meth : Method} {c : Code} {G : MG} (hC : MCx G cX10_moveHere 1 p s m args meth c) (hr : meth.sig.returnType = some .int) {x : Int32} {σ : MS} :
    F_moveHere σ = some x → MJ p l e rmM_moveHere s m args below meth c G 1 (some (.int x)) σ 0 [(0, .ref (gM G))] [] σ := by
  have hx := hC.1
  have hb := hC.2.1
  intro hF H locs ls hP hS hl
  rw [F_moveHere] at hF
  refine lv_aload_n hx hb dX10_moveHere_0 rfl (lv_at hl 0 rfl) ?_
  refine lv_ldc2 (v := 1937203568) hx hb hC.2.2.2.1 (hC.2.2.2.2.1 _ q2251) dX10_moveHere_1 ?_
  obtain ⟨r_2, hc_1, hF⟩ := bd_ok hF
  refine iM_isWord hC hP hS hc_1 hl.1 (Nat.le_of_ble_eq_true rfl) ⟨Nat.le_of_ble_eq_true rfl, Nat.le_of_ble_eq_true rfl⟩ ⟨Nat.zero_le _, Nat.zero_le _⟩ dX10_moveHere_4 (fun H locs hP hS => ?_)
  refine lv_if_eq (tgt := 14) hx hb dX10_moveHere_7 (by decide) (fun c_3 => ?_) (fun c_3 => ?_)
  · replace hF := it_t hF c_3
    refine lv_aload_n hx hb dX10_moveHere_14 rfl (lv_at hl 0 rfl) ?_
    refine lv_ldc2 (v := 7499639) hx hb hC.2.2.2.1 (hC.2.2.2.2.1 _ q2252) dX10_moveHere_15 ?_
    obtain ⟨r_5, hc_4, hF⟩ := bd_ok hF
    refine iM_isWord hC hP hS hc_4 hl.1 (Nat.le_of_ble_eq_true rfl) ⟨Nat.le_of_ble_eq_true rfl, Nat.le_of_ble_eq_true rfl⟩ ⟨Nat.zero_le _, Nat.zero_le _⟩ dX10_moveHere_18 (fun H locs hP hS => ?_)
    refine lv_if_eq (tgt := 28) hx hb dX10_moveHere_21 (by decide) (fun c_6 => ?_) (fun c_6 => ?_)
    · replace hF := it_t hF c_6
      refine lv_aload_n hx hb dX10_moveHere_28 rfl (lv_at hl 0 rfl) ?_
      refine lv_ldc2 (v := 6518132) hx hb hC.2.2.2.1 (hC.2.2.2.2.1 _ q2253) dX10_moveHere_29 ?_
      obtain ⟨r_8, hc_7, hF⟩ := bd_ok hF
      refine iM_isWord hC hP hS hc_7 hl.1 (Nat.le_of_ble_eq_true rfl) ⟨Nat.le_of_ble_eq_true rfl, Nat.le_of_ble_eq_true rfl⟩ ⟨Nat.zero_le _, Nat.zero_le _⟩ dX10_moveHere_32 (fun H locs hP hS => ?_)
      refine lv_if_eq (tgt := 42) hx hb dX10_moveHere_35 (by decide) (fun c_9 => ?_) (fun c_9 => ?_)
      · replace hF := it_t hF c_9
        refine lv_aload_n hx hb dX10_moveHere_42 rfl (lv_at hl 0 rfl) ?_
        refine lv_ldc2 (v := 114767640814963) hx hb hC.2.2.2.1 (hC.2.2.2.2.1 _ q2255) dX10_moveHere_43 ?_
        obtain ⟨r_11, hc_10, hF⟩ := bd_ok hF
        refine iM_isWord hC hP hS hc_10 hl.1 (Nat.le_of_ble_eq_true rfl) ⟨Nat.le_of_ble_eq_true rfl, Nat.le_of_ble_eq_true rfl⟩ ⟨Nat.zero_le _, Nat.zero_le _⟩ dX10_moveHere_46 (fun H locs hP hS => ?_)
        refine lv_if_eq (tgt := 56) hx hb dX10_moveHere_49 (by decide) (fun c_12 => ?_) (fun c_12 => ?_)
        · replace hF := it_t hF c_12
          refine lv_aload_n hx hb dX10_moveHere_56 rfl (lv_at hl 0 rfl) ?_
          refine lv_ldc2 (v := 482805048691) hx hb hC.2.2.2.1 (hC.2.2.2.2.1 _ q2256) dX10_moveHere_57 ?_
          obtain ⟨r_14, hc_13, hF⟩ := bd_ok hF
          refine iM_isWord hC hP hS hc_13 hl.1 (Nat.le_of_ble_eq_true rfl) ⟨Nat.le_of_ble_eq_true rfl, Nat.le_of_ble_eq_true rfl⟩ ⟨Nat.zero_le _, Nat.zero_le _⟩ dX10_moveHere_60 (fun H locs hP hS => ?_)
          refine lv_if_eq (tgt := 71) hx hb dX10_moveHere_63 (by decide) (fun c_15 => ?_) (fun c_15 => ?_)
          · replace hF := it_t hF c_15
            refine lv_aload_n hx hb dX10_moveHere_71 rfl (lv_at hl 0 rfl) ?_
            refine lv_ldc2 (v := 7170424) hx hb hC.2.2.2.1 (hC.2.2.2.2.1 _ q2258) dX10_moveHere_72 ?_
            obtain ⟨r_17, hc_16, hF⟩ := bd_ok hF
            refine iM_isWord hC hP hS hc_16 hl.1 (Nat.le_of_ble_eq_true rfl) ⟨Nat.le_of_ble_eq_true rfl, Nat.le_of_ble_eq_true rfl⟩ ⟨Nat.zero_le _, Nat.zero_le _⟩ dX10_moveHere_75 (fun H locs hP hS => ?_)
            refine lv_if_eq (tgt := 86) hx hb dX10_moveHere_78 (by decide) (fun c_18 => ?_) (fun c_18 => ?_)
            · replace hF := it_t hF c_18
              refine lv_iconst (v := -1) hx hb dX10_moveHere_86 (by decide) ?_
              exact M_reti hC hP hS hr (Option.some.inj hF) rfl dX10_moveHere_87
            · replace hF := it_f hF c_18
              refine lv_bipush (v := 7) hx hb dX10_moveHere_81 (by decide) ?_
              refine lv_goto (tgt := 87) hx hb dX10_moveHere_83 (by decide) ?_
              exact M_reti hC hP hS hr (Option.some.inj hF) rfl dX10_moveHere_87
          · replace hF := it_f hF c_15
            refine lv_bipush (v := 6) hx hb dX10_moveHere_66 (by decide) ?_
            refine lv_goto (tgt := 87) hx hb dX10_moveHere_68 (by decide) ?_
            exact M_reti hC hP hS hr (Option.some.inj hF) rfl dX10_moveHere_87
        · replace hF := it_f hF c_12
          refine lv_iconst (v := 5) hx hb dX10_moveHere_52 (by decide) ?_
          refine lv_goto (tgt := 87) hx hb dX10_moveHere_53 (by decide) ?_
          exact M_reti hC hP hS hr (Option.some.inj hF) rfl dX10_moveHere_87
      · replace hF := it_f hF c_9
        refine lv_iconst (v := 4) hx hb dX10_moveHere_38 (by decide) ?_
        refine lv_goto (tgt := 87) hx hb dX10_moveHere_39 (by decide) ?_
        exact M_reti hC hP hS hr (Option.some.inj hF) rfl dX10_moveHere_87
    · replace hF := it_f hF c_6
      refine lv_iconst (v := 3) hx hb dX10_moveHere_24 (by decide) ?_
      refine lv_goto (tgt := 87) hx hb dX10_moveHere_25 (by decide) ?_
      exact M_reti hC hP hS hr (Option.some.inj hF) rfl dX10_moveHere_87
  · replace hF := it_f hF c_3
    refine lv_iconst (v := 2) hx hb dX10_moveHere_10 (by decide) ?_
    refine lv_goto (tgt := 87) hx hb dX10_moveHere_11 (by decide) ?_
    exact M_reti hC hP hS hr (Option.some.inj hF) rfl dX10_moveHere_87
theorem m_moveHere (l : Launch) (G : MG) (σ : MS) (x : Int32) (hF : F_moveHere σ = some x) : Met l yX10_moveHere (ws_ yX10_moveHere cX10_moveHere 1 (some .int)) rmM_moveHere (mP G [.ref (gM G)] σ) (mQ G (some (.int x)) σ) 0 0 (MA G) := by
  refine M_met rfl plM (Nat.le_of_ble_eq_true rfl) ?_
  intro p e s m below meth c hC hr ls hl hP
  exact w_moveHere hC hr hF s.heap [] ls hP va_S.rf hl
theorem iM_moveHere {p : Program} {l : Launch} {e : Env} {R : Room} {s : State} {m : MethodId} {args : Array Value} {below : List Frame} {meth : Method} {c : Code} {H H0 : Heap} {locs : List Loc} {cells slots nL : Nat} {Q : State → Prop} {G : MG} {σ : MS} {cc : ByteArray} {pc : Nat} {ls : Array Slot} {rest : List Value} (hC : MCx G cc nL p s m args meth c) (hP : MRep G σ H) (hS : va_S (MA G) H0 H locs) {x : Int32} (hF : F_moveHere σ = some x) (hl : ls.size = nL) (hW : (rest.map fun v => v.category).sum ≤ 8) (hR : rmM_moveHere.frames + 1 ≤ R.frames ∧ 8 + (1 + 11) + rmM_moveHere.locals ≤ R.locals) (hf : cells ≤ R.cells ∧ slots ≤ R.slots) (hdg : decode cc pc = .ok (.invokevirtual 327, 3))
    (kk : ∀ (H1 : Heap) (locs1 : List Loc), MRep G σ H1 → va_S (MA G) H0 H1 locs1 → W p l e R s m args below meth c H1 locs1 cells slots Q (F0 m (pc + 3) ls (.int x :: rest))) : W p l e R s m args below meth c H locs cells slots Q (F0 m pc ls (.ref (gM G) :: rest)) :=
  M_inv hC hP hS [] (m_moveHere l G σ _ hF) (cwV 0 hC.2.2.2.2.1 (lw_V q2281 q2283 qs84 q145 q2284) rfl rfl rfl (by decide +kernel) hR) rfl rfl hl hW hf hdg kk
/-! another -/
abbrev rmM_another : Room := { frames := 3, cells := 0, slots := 0, locals := 67 }
def F_another (a0 : Int32) (σ : MS) : Option (Int32 × MS) :=
  bd2 (F_numeral (0 : Int32) (7 : Int32) σ) fun r_3 σ_2 =>
  bd (F_isGood σ_2) fun r_5 =>
  if r_5 = 0 then
    some (r_3, σ_2)
  else
    if r_3 = a0 then
      bd (F_fails (4 : Int32) (mI σ_2 11) σ_2) fun σ_9 =>
      some (r_3, σ_9)
    else
      some (r_3, σ_2)
set_option maxHeartbeats 4000000 in
theorem w_another {p : Program} {l : Launch} {e : Env} {s : State} {m : MethodId} {args : Array Value} {below : List Frame} {meth : Method} {c : Code} {G : MG} (hC : MCx G cX10_another 3 p s m args meth c) (hr : meth.sig.returnType = some .int) {x : (Int32 × MS)} :
    ∀ (a0 : Int32) (σ : MS), F_another a0 σ = some x → MJ p l e rmM_another s m args below meth c G 3 (some (.int x.1)) x.2 0 [(0, .ref (gM G)), (1, .int a0)] [] σ := by
  have hx := hC.1
  have hb := hC.2.1
  intro a0 σ hF H locs ls hP hS hl
  rw [F_another] at hF
  refine lv_aload_n hx hb dX10_another_0 rfl (lv_at hl 0 rfl) ?_
  refine lv_iconst (v := 0) hx hb dX10_another_1 (by decide) ?_
  refine lv_bipush (v := 7) hx hb dX10_another_2 (by decide) ?_
  obtain ⟨r_3, σ_2, hc_1, hF⟩ := bd2_ok hF
  refine iM_numeral hC hP hS hc_1 hl.1 (Nat.le_of_ble_eq_true rfl) ⟨Nat.le_of_ble_eq_true rfl, Nat.le_of_ble_eq_true rfl⟩ ⟨Nat.zero_le _, Nat.zero_le _⟩ dX10_another_4 (fun H locs hP hS => ?_)
  refine lv_istore_n (lv' := [(2, .int r_3), (0, .ref (gM G)), (1, .int a0)]) hx hb dX10_another_7 rfl hl (by decide) rfl (fun ls hl => ?_)
  refine lv_aload_n hx hb dX10_another_8 rfl (lv_at hl 1 rfl) ?_
  obtain ⟨r_5, hc_4, hF⟩ := bd_ok hF
  refine iM_isGood hC hP hS hc_4 hl.1 (Nat.le_of_ble_eq_true rfl) ⟨Nat.le_of_ble_eq_true rfl, Nat.le_of_ble_eq_true rfl⟩ ⟨Nat.zero_le _, Nat.zero_le _⟩ dX10_another_9 (fun H locs hP hS => ?_)
  refine lv_if_eq (tgt := 29) hx hb dX10_another_12 (by decide) (fun c_6 => ?_) (fun c_6 => ?_)
  · replace hF := it_t hF c_6
    refine lv_iload_n hx hb dX10_another_29 rfl (lv_at hl 0 rfl) ?_
    exact M_reti hC hP hS hr (rt1 hF) (rt2 hF) dX10_another_30
  · replace hF := it_f hF c_6
    refine lv_iload_n hx hb dX10_another_15 rfl (lv_at hl 0 rfl) ?_
    refine lv_iload_n hx hb dX10_another_16 rfl (lv_at hl 2 rfl) ?_
    refine lv_icmp_ne (tgt := 29) hx hb dX10_another_17 (by decide) (fun c_7 => ?_) (fun c_7 => ?_)
    · replace hF := it_f hF c_7
      refine lv_iload_n hx hb dX10_another_29 rfl (lv_at hl 0 rfl) ?_
      exact M_reti hC hP hS hr (rt1 hF) (rt2 hF) dX10_another_30
    · replace hF := it_t hF c_7
      refine lv_aload_n hx hb dX10_another_20 rfl (lv_at hl 1 rfl) ?_
      refine lv_iconst (v := 4) hx hb dX10_another_21 (by decide) ?_
      refine lv_aload_n hx hb dX10_another_22 rfl (lv_at hl 1 rfl) ?_
      refine gM11 hC hP dX10_another_23 ?_
      obtain ⟨σ_9, hc_8, hF⟩ := bd_ok hF
      refine iM_fails hC hP hS hc_8 hl.1 (Nat.le_of_ble_eq_true rfl) ⟨Nat.le_of_ble_eq_true rfl, Nat.le_of_ble_eq_true rfl⟩ ⟨Nat.zero_le _, Nat.zero_le _⟩ dX10_another_26 (fun H locs hP hS => ?_)
      refine lv_iload_n hx hb dX10_another_29 rfl (lv_at hl 0 rfl) ?_
      exact M_reti hC hP hS hr (rt1 hF) (rt2 hF) dX10_another_30
theorem m_another (l : Launch) (G : MG) (a0 : Int32) (σ : MS) (x : (Int32 × MS)) (hF : F_another a0 σ = some x) : Met l yX10_another (ws_ yX10_another cX10_another 3 (some .int)) rmM_another (mP G [.ref (gM G), .int a0] σ) (mQ G (some (.int x.1)) x.2) 0 0 (MA G) := by
  refine M_met rfl plM (Nat.le_of_ble_eq_true rfl) ?_
  intro p e s m below meth c hC hr ls hl hP
  exact w_another hC hr a0 σ hF s.heap [] ls hP va_S.rf hl
theorem iM_another {p : Program} {l : Launch} {e : Env} {R : Room} {s : State} {m : MethodId} {args : Array Value} {below : List Frame} {meth : Method} {c : Code} {H H0 : Heap} {locs : List Loc} {cells slots nL : Nat} {Q : State → Prop} {G : MG} {σ : MS} {cc : ByteArray} {pc : Nat} {ls : Array Slot} {rest : List Value} (hC : MCx G cc nL p s m args meth c) (hP : MRep G σ H) (hS : va_S (MA G) H0 H locs) {a0 : Int32} {x : Int32} {σ1 : MS} (hF : F_another a0 σ = some (x, σ1)) (hl : ls.size = nL) (hW : (rest.map fun v => v.category).sum ≤ 8) (hR : rmM_another.frames + 1 ≤ R.frames ∧ 8 + (3 + 11) + rmM_another.locals ≤ R.locals) (hf : cells ≤ R.cells ∧ slots ≤ R.slots) (hdg : decode cc pc = .ok (.invokevirtual 379, 3))
    (kk : ∀ (H1 : Heap) (locs1 : List Loc), MRep G σ1 H1 → va_S (MA G) H0 H1 locs1 → W p l e R s m args below meth c H1 locs1 cells slots Q (F0 m (pc + 3) ls (.int x :: rest))) : W p l e R s m args below meth c H locs cells slots Q (F0 m pc ls (.int a0 :: .ref (gM G) :: rest)) :=
  M_inv hC hP hS [.int a0] (m_another l G a0 σ _ hF) (cwV 1 hC.2.2.2.2.1 (lw_V q2361 q2363 qs104 q145 q2364) rfl rfl rfl (by decide +kernel) hR) rfl rfl hl hW hf hdg kk
/-! readList -/
abbrev rmM_readList : Room := { frames := 3, cells := 0, slots := 0, locals := 67 }
def F_readList_b162 (x1 : Int32) (x2 : Int32) (x3 : Int32) (σ : MS) : Option MS :=
  bd (F_isGood σ) fun r_2 =>
  if r_2 = 0 then
    some σ
  else
    if x2 = 0 then
      some σ
    else
      gd (inb x1 104) <|
      if x3 < (mA σ 26 (Int32.toNatClampNeg x1)) then
        some σ
      else
        bd (F_fails (4 : Int32) (mI σ 11) σ) fun σ_8 =>
        some σ_8
set_option maxHeartbeats 4000000 in
theorem w_readList_b162 {p : Program} {l : Launch} {e : Env} {s : State} {m : MethodId} {args : Array Value} {below : List Frame} {meth : Method} {c : Code} {G : MG} (hC : MCx G cX10_readList 6 p s m args meth c) (hr : meth.sig.returnType = none) {x : MS} :
    ∀ (x1 : Int32) (x2 : Int32) (x3 : Int32) (σ : MS), F_readList_b162 x1 x2 x3 σ = some x → MJ p l e rmM_readList s m args below meth c G 6 none x 162 [(0, .ref (gM G)), (1, .int x1), (2, .int x2), (3, .int x3)] [] σ := by
  have hx := hC.1
  have hb := hC.2.1
  intro x1 x2 x3 σ hF H locs ls hP hS hl
  rw [F_readList_b162] at hF
  refine lv_aload_n hx hb dX10_readList_162 rfl (lv_at hl 0 rfl) ?_
  obtain ⟨r_2, hc_1, hF⟩ := bd_ok hF
  refine iM_isGood hC hP hS hc_1 hl.1 (Nat.le_of_ble_eq_true rfl) ⟨Nat.le_of_ble_eq_true rfl, Nat.le_of_ble_eq_true rfl⟩ ⟨Nat.zero_le _, Nat.zero_le _⟩ dX10_readList_163 (fun H locs hP hS => ?_)
  refine lv_if_eq (tgt := 192) hx hb dX10_readList_166 (by decide) (fun c_3 => ?_) (fun c_3 => ?_)
  · replace hF := it_t hF c_3
    exact M_retv hC hP hS hr (Option.some.inj hF) dX10_readList_192
  · replace hF := it_f hF c_3
    refine lv_iload_n hx hb dX10_readList_169 rfl (lv_at hl 2 rfl) ?_
    refine lv_if_eq (tgt := 192) hx hb dX10_readList_170 (by decide) (fun c_4 => ?_) (fun c_4 => ?_)
    · replace hF := it_t hF c_4
      exact M_retv hC hP hS hr (Option.some.inj hF) dX10_readList_192
    · replace hF := it_f hF c_4
      refine lv_iload_n hx hb dX10_readList_173 rfl (lv_at hl 3 rfl) ?_
      refine lv_aload_n hx hb dX10_readList_174 rfl (lv_at hl 0 rfl) ?_
      refine gM26 hC hP dX10_readList_175 ?_
      refine lv_iload_n hx hb dX10_readList_178 rfl (lv_at hl 1 rfl) ?_
      obtain ⟨h_5, hF⟩ := gd_ok hF
      refine M_iald hC hP 26 (by decide) rfl rfl rfl h_5 dX10_readList_179 ?_
      refine lv_icmp_lt (tgt := 192) hx hb dX10_readList_180 (by decide) (fun c_6 => ?_) (fun c_6 => ?_)
      · replace hF := it_t hF c_6
        exact M_retv hC hP hS hr (Option.some.inj hF) dX10_readList_192
      · replace hF := it_f hF c_6
        refine lv_aload_n hx hb dX10_readList_183 rfl (lv_at hl 0 rfl) ?_
        refine lv_iconst (v := 4) hx hb dX10_readList_184 (by decide) ?_
        refine lv_aload_n hx hb dX10_readList_185 rfl (lv_at hl 0 rfl) ?_
        refine gM11 hC hP dX10_readList_186 ?_
        obtain ⟨σ_8, hc_7, hF⟩ := bd_ok hF
        refine iM_fails hC hP hS hc_7 hl.1 (Nat.le_of_ble_eq_true rfl) ⟨Nat.le_of_ble_eq_true rfl, Nat.le_of_ble_eq_true rfl⟩ ⟨Nat.zero_le _, Nat.zero_le _⟩ dX10_readList_189 (fun H locs hP hS => ?_)
        exact M_retv hC hP hS hr (Option.some.inj hF) dX10_readList_192
def F_readList_b158 (k9 : Int32 → Int32 → Int32 → MS → Option MS) (x1 : Int32) (x2 : Int32) (y0 : Int32) (σ : MS) : Option MS :=
  k9 x1 x2 y0 σ
set_option maxHeartbeats 4000000 in
theorem w_readList_b158 {p : Program} {l : Launch} {e : Env} {s : State} {m : MethodId} {args : Array Value} {below : List Frame} {meth : Method} {c : Code} {G : MG} (hC : MCx G cX10_readList 6 p s m args meth c) (hr : meth.sig.returnType = none) {x : MS} (k9 : Int32 → Int32 → Int32 → MS → Option MS) (hk9 : ∀ (x1 : Int32) (x2 : Int32) (x3 : Int32) (σ : MS), k9 x1 x2 x3 σ = some x → MJ p l e rmM_readList s m args below meth c G 6 none x 9 [(0, .ref (gM G)), (1, .int x1), (2, .int x2), (3, .int x3)] [] σ) :
    ∀ (x1 : Int32) (x2 : Int32) (y0 : Int32) (σ : MS), F_readList_b158 k9 x1 x2 y0 σ = some x → MJ p l e rmM_readList s m args below meth c G 6 none x 158 [(0, .ref (gM G)), (1, .int x1), (2, .int x2)] [.int y0] σ := by
  have hx := hC.1
  have hb := hC.2.1
  intro x1 x2 y0 σ hF H locs ls hP hS hl
  rw [F_readList_b158] at hF
  refine lv_istore_n (lv' := [(3, .int y0), (0, .ref (gM G)), (1, .int x1), (2, .int x2)]) hx hb dX10_readList_158 rfl hl (by decide) rfl (fun ls hl => ?_)
  refine lv_goto (tgt := 9) hx hb dX10_readList_159 (by decide) ?_
  exact hk9 x1 x2 y0 σ hF H locs ls hP hS (lv_sub hl [1, 2, 3, 0] rfl)
def F_readList_b110 (k9 : Int32 → Int32 → Int32 → MS → Option MS) (x1 : Int32) (x2 : Int32) (x3 : Int32) (x4 : Int32) (σ : MS) : Option MS :=
  bd (F_isGood σ) fun r_2 =>
  if r_2 = 0 then
    some σ
  else
    gd (inb x1 104) <|
    gd (inb (((8 : Int32) * x1) + (mA σ 26 (Int32.toNatClampNeg x1))) 832) <|
    lt (wA σ 27 (Int32.toNatClampNeg (((8 : Int32) * x1) + (mA σ 26 (Int32.toNatClampNeg x1)))) x4) fun σ_6 =>
    gd (inb x1 104) <|
    gd (inb x1 104) <|
    lt (wA σ_6 26 (Int32.toNatClampNeg x1) ((mA σ_6 26 (Int32.toNatClampNeg x1)) + (1 : Int32))) fun σ_9 =>
    if x4 ≤ x3 then
      F_readList_b158 k9 x1 x2 x3 σ_9
    else
      F_readList_b158 k9 x1 x2 x4 σ_9
set_option maxHeartbeats 4000000 in
theorem w_readList_b110 {p : Program} {l : Launch} {e : Env} {s : State} {m : MethodId} {args : Array Value} {below : List Frame} {meth : Method} {c : Code} {G : MG} (hC : MCx G cX10_readList 6 p s m args meth c) (hr : meth.sig.returnType = none) {x : MS} (k9 : Int32 → Int32 → Int32 → MS → Option MS) (hk9 : ∀ (x1 : Int32) (x2 : Int32) (x3 : Int32) (σ : MS), k9 x1 x2 x3 σ = some x → MJ p l e rmM_readList s m args below meth c G 6 none x 9 [(0, .ref (gM G)), (1, .int x1), (2, .int x2), (3, .int x3)] [] σ) :
    ∀ (x1 : Int32) (x2 : Int32) (x3 : Int32) (x4 : Int32) (σ : MS), F_readList_b110 k9 x1 x2 x3 x4 σ = some x → MJ p l e rmM_readList s m args below meth c G 6 none x 110 [(0, .ref (gM G)), (1, .int x1), (2, .int x2), (3, .int x3), (4, .int x4)] [] σ := by
  have hx := hC.1
  have hb := hC.2.1
  intro x1 x2 x3 x4 σ hF H locs ls hP hS hl
  rw [F_readList_b110] at hF
  refine lv_aload_n hx hb dX10_readList_110 rfl (lv_at hl 0 rfl) ?_
  obtain ⟨r_2, hc_1, hF⟩ := bd_ok hF
  refine iM_isGood hC hP hS hc_1 hl.1 (Nat.le_of_ble_eq_true rfl) ⟨Nat.le_of_ble_eq_true rfl, Nat.le_of_ble_eq_true rfl⟩ ⟨Nat.zero_le _, Nat.zero_le _⟩ dX10_readList_111 (fun H locs hP hS => ?_)
  refine lv_if_ne (tgt := 118) hx hb dX10_readList_114 (by decide) (fun c_3 => ?_) (fun c_3 => ?_)
  · replace hF := it_f hF c_3
    refine lv_aload_n hx hb dX10_readList_118 rfl (lv_at hl 0 rfl) ?_
    refine gM27 hC hP dX10_readList_119 ?_
    refine lv_bipush (v := 8) hx hb dX10_readList_122 (by decide) ?_
    refine lv_iload_n hx hb dX10_readList_124 rfl (lv_at hl 1 rfl) ?_
    refine lv_imul hx hb dX10_readList_125 ?_
    refine lv_aload_n hx hb dX10_readList_126 rfl (lv_at hl 0 rfl) ?_
    refine gM26 hC hP dX10_readList_127 ?_
    refine lv_iload_n hx hb dX10_readList_130 rfl (lv_at hl 1 rfl) ?_
    obtain ⟨h_4, hF⟩ := gd_ok hF
    refine M_iald hC hP 26 (by decide) rfl rfl rfl h_4 dX10_readList_131 ?_
    refine lv_iadd hx hb dX10_readList_132 ?_
    refine lv_iload hx hb dX10_readList_133 (lv_at hl 4 rfl) ?_
    obtain ⟨h_5, hF⟩ := gd_ok hF
    refine M_iast hC hP hS 27 (by decide) rfl rfl rfl h_5 dX10_readList_135 (fun H locs hP hS => ?_)
    obtain ⟨σ_6, eσ_6, hF⟩ := lt_ok hF
    rw [← eσ_6] at hP
    refine lv_aload_n hx hb dX10_readList_136 rfl (lv_at hl 0 rfl) ?_
    refine gM26 hC hP dX10_readList_137 ?_
    refine lv_iload_n hx hb dX10_readList_140 rfl (lv_at hl 1 rfl) ?_
    refine lv_dup2_11 hx hb dX10_readList_141 rfl rfl ?_
    obtain ⟨h_7, hF⟩ := gd_ok hF
    refine M_iald hC hP 26 (by decide) rfl rfl rfl h_7 dX10_readList_142 ?_
    refine lv_iconst (v := 1) hx hb dX10_readList_143 (by decide) ?_
    refine lv_iadd hx hb dX10_readList_144 ?_
    obtain ⟨h_8, hF⟩ := gd_ok hF
    refine M_iast hC hP hS 26 (by decide) rfl rfl rfl h_8 dX10_readList_145 (fun H locs hP hS => ?_)
    obtain ⟨σ_9, eσ_9, hF⟩ := lt_ok hF
    rw [← eσ_9] at hP
    refine lv_iload hx hb dX10_readList_146 (lv_at hl 4 rfl) ?_
    refine lv_iload_n hx hb dX10_readList_148 rfl (lv_at hl 3 rfl) ?_
    refine lv_icmp_le (tgt := 157) hx hb dX10_readList_149 (by decide) (fun c_10 => ?_) (fun c_10 => ?_)
    · replace hF := it_t hF c_10
      refine lv_iload_n hx hb dX10_readList_157 rfl (lv_at hl 3 rfl) ?_
      exact w_readList_b158 hC hr k9 hk9 x1 x2 x3 σ_9 hF H locs ls hP hS (lv_sub hl [0, 1, 2] rfl)
    · replace hF := it_f hF c_10
      refine lv_iload hx hb dX10_readList_152 (lv_at hl 4 rfl) ?_
      refine lv_goto (tgt := 158) hx hb dX10_readList_154 (by decide) ?_
      exact w_readList_b158 hC hr k9 hk9 x1 x2 x4 σ_9 hF H locs ls hP hS (lv_sub hl [0, 1, 2] rfl)
  · replace hF := it_t hF c_3
    exact M_retv hC hP hS hr (Option.some.inj hF) dX10_readList_117
def F_readList_b104 (k60 : Int32 → Int32 → Int32 → Int32 → Int32 → MS → Option MS) (x1 : Int32) (x2 : Int32) (x3 : Int32) (x4 : Int32) (x5 : Int32) (σ : MS) : Option MS :=
  lt (x5 + (1 : Int32)) fun x5_1 =>
  k60 x1 x2 x3 x4 x5_1 σ
set_option maxHeartbeats 4000000 in
theorem w_readList_b104 {p : Program} {l : Launch} {e : Env} {s : State} {m : MethodId} {args : Array Value} {below : List Frame} {meth : Method} {c : Code} {G : MG} (hC : MCx G cX10_readList 6 p s m args meth c) (hr : meth.sig.returnType = none) {x : MS} (k60 : Int32 → Int32 → Int32 → Int32 → Int32 → MS → Option MS) (hk60 : ∀ (x1 : Int32) (x2 : Int32) (x3 : Int32) (x4 : Int32) (x5 : Int32) (σ : MS), k60 x1 x2 x3 x4 x5 σ = some x → MJ p l e rmM_readList s m args below meth c G 6 none x 60 [(0, .ref (gM G)), (1, .int x1), (2, .int x2), (3, .int x3), (4, .int x4), (5, .int x5)] [] σ) :
    ∀ (x1 : Int32) (x2 : Int32) (x3 : Int32) (x4 : Int32) (x5 : Int32) (σ : MS), F_readList_b104 k60 x1 x2 x3 x4 x5 σ = some x → MJ p l e rmM_readList s m args below meth c G 6 none x 104 [(0, .ref (gM G)), (1, .int x1), (2, .int x2), (3, .int x3), (4, .int x4), (5, .int x5)] [] σ := by
  have hx := hC.1
  have hb := hC.2.1
  intro x1 x2 x3 x4 x5 σ hF H locs ls hP hS hl
  rw [F_readList_b104] at hF
  obtain ⟨x5_1, ex5_1, hF⟩ := lt_ok hF
  refine lv_iinc (v := x5_1) (lv' := [(5, .int x5_1), (0, .ref (gM G)), (1, .int x1), (2, .int x2), (3, .int x3), (4, .int x4)]) hx hb dX10_readList_104 hl (k := 5) rfl (by rw [ex5_1]; rfl) (by decide) rfl (fun ls hl => ?_)
  refine lv_goto (tgt := 60) hx hb dX10_readList_107 (by decide) ?_
  exact hk60 x1 x2 x3 x4 x5_1 σ hF H locs ls hP hS (lv_sub hl [1, 2, 3, 4, 5, 0] rfl)
def F_readList_L60 (k9 : Int32 → Int32 → Int32 → MS → Option MS) : Nat → Int32 → Int32 → Int32 → Int32 → Int32 → MS → Option MS
  | 0, _, _, _, _, _, _ => none
  | fu + 1, x1, x2, x3, x4, x5, σ =>
    gd (inb x1 104) <|
    if (mA σ 26 (Int32.toNatClampNeg x1)) ≤ x5 then
      F_readList_b110 k9 x1 x2 x3 x4 σ
    else
      bd (F_isGood σ) fun r_4 =>
      if r_4 = 0 then
        F_readList_b104 (F_readList_L60 k9 fu) x1 x2 x3 x4 x5 σ
      else
        gd (inb (((8 : Int32) * x1) + x5) 832) <|
        if (mA σ 27 (Int32.toNatClampNeg (((8 : Int32) * x1) + x5))) = x4 then
          bd (F_fails (4 : Int32) (mI σ 11) σ) fun σ_9 =>
          F_readList_b104 (F_readList_L60 k9 fu) x1 x2 x3 x4 x5 σ_9
        else
          F_readList_b104 (F_readList_L60 k9 fu) x1 x2 x3 x4 x5 σ
set_option maxHeartbeats 4000000 in
theorem w_readList_L60 {p : Program} {l : Launch} {e : Env} {s : State} {m : MethodId} {args : Array Value} {below : List Frame} {meth : Method} {c : Code} {G : MG} (hC : MCx G cX10_readList 6 p s m args meth c) (hr : meth.sig.returnType = none) {x : MS} (k9 : Int32 → Int32 → Int32 → MS → Option MS) (hk9 : ∀ (x1 : Int32) (x2 : Int32) (x3 : Int32) (σ : MS), k9 x1 x2 x3 σ = some x → MJ p l e rmM_readList s m args below meth c G 6 none x 9 [(0, .ref (gM G)), (1, .int x1), (2, .int x2), (3, .int x3)] [] σ) :
    ∀ (fu : Nat) (x1 : Int32) (x2 : Int32) (x3 : Int32) (x4 : Int32) (x5 : Int32) (σ : MS), F_readList_L60 k9 fu x1 x2 x3 x4 x5 σ = some x → MJ p l e rmM_readList s m args below meth c G 6 none x 60 [(0, .ref (gM G)), (1, .int x1), (2, .int x2), (3, .int x3), (4, .int x4), (5, .int x5)] [] σ := by
  have hx := hC.1
  have hb := hC.2.1
  intro fu
  induction fu with
  | zero => intro x1 x2 x3 x4 x5 σ hF; exact nm_none hF
  | succ fu ih =>
    intro x1 x2 x3 x4 x5 σ hF H locs ls hP hS hl
    rw [F_readList_L60] at hF
    refine lv_iload hx hb dX10_readList_60 (lv_at hl 5 rfl) ?_
    refine lv_aload_n hx hb dX10_readList_62 rfl (lv_at hl 0 rfl) ?_
    refine gM26 hC hP dX10_readList_63 ?_
    refine lv_iload_n hx hb dX10_readList_66 rfl (lv_at hl 1 rfl) ?_
    obtain ⟨h_1, hF⟩ := gd_ok hF
    refine M_iald hC hP 26 (by decide) rfl rfl rfl h_1 dX10_readList_67 ?_
    refine lv_icmp_ge (tgt := 110) hx hb dX10_readList_68 (by decide) (fun c_2 => ?_) (fun c_2 => ?_)
    · replace hF := it_t hF c_2
      exact w_readList_b110 hC hr k9 hk9 x1 x2 x3 x4 σ hF H locs ls hP hS (lv_sub hl [0, 1, 2, 3, 4] rfl)
    · replace hF := it_f hF c_2
      refine lv_aload_n hx hb dX10_readList_71 rfl (lv_at hl 0 rfl) ?_
      obtain ⟨r_4, hc_3, hF⟩ := bd_ok hF
      refine iM_isGood hC hP hS hc_3 hl.1 (Nat.le_of_ble_eq_true rfl) ⟨Nat.le_of_ble_eq_true rfl, Nat.le_of_ble_eq_true rfl⟩ ⟨Nat.zero_le _, Nat.zero_le _⟩ dX10_readList_72 (fun H locs hP hS => ?_)
      refine lv_if_eq (tgt := 104) hx hb dX10_readList_75 (by decide) (fun c_5 => ?_) (fun c_5 => ?_)
      · replace hF := it_t hF c_5
        exact w_readList_b104 hC hr (F_readList_L60 k9 fu) ih x1 x2 x3 x4 x5 σ hF H locs ls hP hS (lv_sub hl [0, 1, 2, 3, 4, 5] rfl)
      · replace hF := it_f hF c_5
        refine lv_aload_n hx hb dX10_readList_78 rfl (lv_at hl 0 rfl) ?_
        refine gM27 hC hP dX10_readList_79 ?_
        refine lv_bipush (v := 8) hx hb dX10_readList_82 (by decide) ?_
        refine lv_iload_n hx hb dX10_readList_84 rfl (lv_at hl 1 rfl) ?_
        refine lv_imul hx hb dX10_readList_85 ?_
        refine lv_iload hx hb dX10_readList_86 (lv_at hl 5 rfl) ?_
        refine lv_iadd hx hb dX10_readList_88 ?_
        obtain ⟨h_6, hF⟩ := gd_ok hF
        refine M_iald hC hP 27 (by decide) rfl rfl rfl h_6 dX10_readList_89 ?_
        refine lv_iload hx hb dX10_readList_90 (lv_at hl 4 rfl) ?_
        refine lv_icmp_ne (tgt := 104) hx hb dX10_readList_92 (by decide) (fun c_7 => ?_) (fun c_7 => ?_)
        · replace hF := it_f hF c_7
          exact w_readList_b104 hC hr (F_readList_L60 k9 fu) ih x1 x2 x3 x4 x5 σ hF H locs ls hP hS (lv_sub hl [0, 1, 2, 3, 4, 5] rfl)
        · replace hF := it_t hF c_7
          refine lv_aload_n hx hb dX10_readList_95 rfl (lv_at hl 0 rfl) ?_
          refine lv_iconst (v := 4) hx hb dX10_readList_96 (by decide) ?_
          refine lv_aload_n hx hb dX10_readList_97 rfl (lv_at hl 0 rfl) ?_
          refine gM11 hC hP dX10_readList_98 ?_
          obtain ⟨σ_9, hc_8, hF⟩ := bd_ok hF
          refine iM_fails hC hP hS hc_8 hl.1 (Nat.le_of_ble_eq_true rfl) ⟨Nat.le_of_ble_eq_true rfl, Nat.le_of_ble_eq_true rfl⟩ ⟨Nat.zero_le _, Nat.zero_le _⟩ dX10_readList_101 (fun H locs hP hS => ?_)
          exact w_readList_b104 hC hr (F_readList_L60 k9 fu) ih x1 x2 x3 x4 x5 σ_9 hF H locs ls hP hS (lv_sub hl [0, 1, 2, 3, 4, 5] rfl)
def F_readList_b48 (k9 : Int32 → Int32 → Int32 → MS → Option MS) (x1 : Int32) (x2 : Int32) (x3 : Int32) (σ : MS) : Option MS :=
  bd2 (F_numeral (0 : Int32) (7 : Int32) σ) fun r_3 σ_2 =>
  F_readList_L60 k9 MN x1 x2 x3 r_3 (0 : Int32) σ_2
set_option maxHeartbeats 4000000 in
theorem w_readList_b48 {p : Program} {l : Launch} {e : Env} {s : State} {m : MethodId} {args : Array Value} {below : List Frame} {meth : Method} {c : Code} {G : MG} (hC : MCx G cX10_readList 6 p s m args meth c) (hr : meth.sig.returnType = none) {x : MS} (k9 : Int32 → Int32 → Int32 → MS → Option MS) (hk9 : ∀ (x1 : Int32) (x2 : Int32) (x3 : Int32) (σ : MS), k9 x1 x2 x3 σ = some x → MJ p l e rmM_readList s m args below meth c G 6 none x 9 [(0, .ref (gM G)), (1, .int x1), (2, .int x2), (3, .int x3)] [] σ) :
    ∀ (x1 : Int32) (x2 : Int32) (x3 : Int32) (σ : MS), F_readList_b48 k9 x1 x2 x3 σ = some x → MJ p l e rmM_readList s m args below meth c G 6 none x 48 [(0, .ref (gM G)), (1, .int x1), (2, .int x2), (3, .int x3)] [] σ := by
  have hx := hC.1
  have hb := hC.2.1
  intro x1 x2 x3 σ hF H locs ls hP hS hl
  rw [F_readList_b48] at hF
  refine lv_aload_n hx hb dX10_readList_48 rfl (lv_at hl 0 rfl) ?_
  refine lv_iconst (v := 0) hx hb dX10_readList_49 (by decide) ?_
  refine lv_bipush (v := 7) hx hb dX10_readList_50 (by decide) ?_
  obtain ⟨r_3, σ_2, hc_1, hF⟩ := bd2_ok hF
  refine iM_numeral hC hP hS hc_1 hl.1 (Nat.le_of_ble_eq_true rfl) ⟨Nat.le_of_ble_eq_true rfl, Nat.le_of_ble_eq_true rfl⟩ ⟨Nat.zero_le _, Nat.zero_le _⟩ dX10_readList_52 (fun H locs hP hS => ?_)
  refine lv_istore (lv' := [(4, .int r_3), (0, .ref (gM G)), (1, .int x1), (2, .int x2), (3, .int x3)]) hx hb dX10_readList_55 hl (by decide) rfl (fun ls hl => ?_)
  refine lv_iconst (v := 0) hx hb dX10_readList_57 (by decide) ?_
  refine lv_istore (lv' := [(5, .int (0 : Int32)), (4, .int r_3), (0, .ref (gM G)), (1, .int x1), (2, .int x2), (3, .int x3)]) hx hb dX10_readList_58 hl (by decide) rfl (fun ls hl => ?_)
  exact w_readList_L60 hC hr k9 hk9 MN x1 x2 x3 r_3 (0 : Int32) σ_2 hF H locs ls hP hS (lv_sub hl [2, 3, 4, 5, 1, 0] rfl)
def F_readList_b33 (k9 : Int32 → Int32 → Int32 → MS → Option MS) (x1 : Int32) (x2 : Int32) (x3 : Int32) (σ : MS) : Option MS :=
  gd (inb x1 104) <|
  if (mA σ 26 (Int32.toNatClampNeg x1)) = (8 : Int32) then
    bd (F_misplaced σ) fun σ_4 =>
    F_readList_b48 k9 x1 x2 x3 σ_4
  else
    F_readList_b48 k9 x1 x2 x3 σ
set_option maxHeartbeats 4000000 in
theorem w_readList_b33 {p : Program} {l : Launch} {e : Env} {s : State} {m : MethodId} {args : Array Value} {below : List Frame} {meth : Method} {c : Code} {G : MG} (hC : MCx G cX10_readList 6 p s m args meth c) (hr : meth.sig.returnType = none) {x : MS} (k9 : Int32 → Int32 → Int32 → MS → Option MS) (hk9 : ∀ (x1 : Int32) (x2 : Int32) (x3 : Int32) (σ : MS), k9 x1 x2 x3 σ = some x → MJ p l e rmM_readList s m args below meth c G 6 none x 9 [(0, .ref (gM G)), (1, .int x1), (2, .int x2), (3, .int x3)] [] σ) :
    ∀ (x1 : Int32) (x2 : Int32) (x3 : Int32) (σ : MS), F_readList_b33 k9 x1 x2 x3 σ = some x → MJ p l e rmM_readList s m args below meth c G 6 none x 33 [(0, .ref (gM G)), (1, .int x1), (2, .int x2), (3, .int x3)] [] σ := by
  have hx := hC.1
  have hb := hC.2.1
  intro x1 x2 x3 σ hF H locs ls hP hS hl
  rw [F_readList_b33] at hF
  refine lv_aload_n hx hb dX10_readList_33 rfl (lv_at hl 0 rfl) ?_
  refine gM26 hC hP dX10_readList_34 ?_
  refine lv_iload_n hx hb dX10_readList_37 rfl (lv_at hl 1 rfl) ?_
  obtain ⟨h_1, hF⟩ := gd_ok hF
  refine M_iald hC hP 26 (by decide) rfl rfl rfl h_1 dX10_readList_38 ?_
  refine lv_bipush (v := 8) hx hb dX10_readList_39 (by decide) ?_
  refine lv_icmp_ne (tgt := 48) hx hb dX10_readList_41 (by decide) (fun c_2 => ?_) (fun c_2 => ?_)
  · replace hF := it_f hF c_2
    exact w_readList_b48 hC hr k9 hk9 x1 x2 x3 σ hF H locs ls hP hS (lv_sub hl [0, 1, 2, 3] rfl)
  · replace hF := it_t hF c_2
    refine lv_aload_n hx hb dX10_readList_44 rfl (lv_at hl 0 rfl) ?_
    obtain ⟨σ_4, hc_3, hF⟩ := bd_ok hF
    refine iM_misplaced hC hP hS hc_3 hl.1 (Nat.le_of_ble_eq_true rfl) ⟨Nat.le_of_ble_eq_true rfl, Nat.le_of_ble_eq_true rfl⟩ ⟨Nat.zero_le _, Nat.zero_le _⟩ dX10_readList_45 (fun H locs hP hS => ?_)
    exact w_readList_b48 hC hr k9 hk9 x1 x2 x3 σ_4 hF H locs ls hP hS (lv_sub hl [0, 1, 2, 3] rfl)
def F_readList_L9 : Nat → Int32 → Int32 → Int32 → MS → Option MS
  | 0, _, _, _, _ => none
  | fu + 1, x1, x2, x3, σ =>
    bd (F_isGood σ) fun r_2 =>
    if r_2 = 0 then
      F_readList_b162 x1 x2 x3 σ
    else
      gd (inb x1 104) <|
      if (mA σ 26 (Int32.toNatClampNeg x1)) = 0 then
        F_readList_b33 (F_readList_L9 fu) x1 x2 x3 σ
      else
        if (mI σ 8) = (4 : Int32) then
          F_readList_b33 (F_readList_L9 fu) x1 x2 x3 σ
        else
          F_readList_b162 x1 x2 x3 σ
set_option maxHeartbeats 4000000 in
theorem w_readList_L9 {p : Program} {l : Launch} {e : Env} {s : State} {m : MethodId} {args : Array Value} {below : List Frame} {meth : Method} {c : Code} {G : MG} (hC : MCx G cX10_readList 6 p s m args meth c) (hr : meth.sig.returnType = none) {x : MS} :
    ∀ (fu : Nat) (x1 : Int32) (x2 : Int32) (x3 : Int32) (σ : MS), F_readList_L9 fu x1 x2 x3 σ = some x → MJ p l e rmM_readList s m args below meth c G 6 none x 9 [(0, .ref (gM G)), (1, .int x1), (2, .int x2), (3, .int x3)] [] σ := by
  have hx := hC.1
  have hb := hC.2.1
  intro fu
  induction fu with
  | zero => intro x1 x2 x3 σ hF; exact nm_none hF
  | succ fu ih =>
    intro x1 x2 x3 σ hF H locs ls hP hS hl
    rw [F_readList_L9] at hF
    refine lv_aload_n hx hb dX10_readList_9 rfl (lv_at hl 0 rfl) ?_
    obtain ⟨r_2, hc_1, hF⟩ := bd_ok hF
    refine iM_isGood hC hP hS hc_1 hl.1 (Nat.le_of_ble_eq_true rfl) ⟨Nat.le_of_ble_eq_true rfl, Nat.le_of_ble_eq_true rfl⟩ ⟨Nat.zero_le _, Nat.zero_le _⟩ dX10_readList_10 (fun H locs hP hS => ?_)
    refine lv_if_eq (tgt := 162) hx hb dX10_readList_13 (by decide) (fun c_3 => ?_) (fun c_3 => ?_)
    · replace hF := it_t hF c_3
      exact w_readList_b162 hC hr x1 x2 x3 σ hF H locs ls hP hS (lv_sub hl [0, 1, 2, 3] rfl)
    · replace hF := it_f hF c_3
      refine lv_aload_n hx hb dX10_readList_16 rfl (lv_at hl 0 rfl) ?_
      refine gM26 hC hP dX10_readList_17 ?_
      refine lv_iload_n hx hb dX10_readList_20 rfl (lv_at hl 1 rfl) ?_
      obtain ⟨h_4, hF⟩ := gd_ok hF
      refine M_iald hC hP 26 (by decide) rfl rfl rfl h_4 dX10_readList_21 ?_
      refine lv_if_eq (tgt := 33) hx hb dX10_readList_22 (by decide) (fun c_5 => ?_) (fun c_5 => ?_)
      · replace hF := it_t hF c_5
        exact w_readList_b33 hC hr (F_readList_L9 fu) ih x1 x2 x3 σ hF H locs ls hP hS (lv_sub hl [0, 1, 2, 3] rfl)
      · replace hF := it_f hF c_5
        refine lv_aload_n hx hb dX10_readList_25 rfl (lv_at hl 0 rfl) ?_
        refine gM8 hC hP dX10_readList_26 ?_
        refine lv_iconst (v := 4) hx hb dX10_readList_29 (by decide) ?_
        refine lv_icmp_ne (tgt := 162) hx hb dX10_readList_30 (by decide) (fun c_6 => ?_) (fun c_6 => ?_)
        · replace hF := it_f hF c_6
          exact w_readList_b162 hC hr x1 x2 x3 σ hF H locs ls hP hS (lv_sub hl [0, 1, 2, 3] rfl)
        · replace hF := it_t hF c_6
          exact w_readList_b33 hC hr (F_readList_L9 fu) ih x1 x2 x3 σ hF H locs ls hP hS (lv_sub hl [0, 1, 2, 3] rfl)
def F_readList (a0 : Int32) (a1 : Int32) (σ : MS) : Option MS :=
  gd (inb a0 104) <|
  lt (wA σ 26 (Int32.toNatClampNeg a0) (0 : Int32)) fun σ_2 =>
  F_readList_L9 MN a0 a1 (0 : Int32) σ_2
set_option maxHeartbeats 4000000 in
theorem w_readList {p : Program} {l : Launch} {e : Env} {s : State} {m : MethodId} {args : Array Value} {below : List Frame} {meth : Method} {c : Code} {G : MG} (hC : MCx G cX10_readList 6 p s m args meth c) (hr : meth.sig.returnType = none) {x : MS} :
    ∀ (a0 : Int32) (a1 : Int32) (σ : MS), F_readList a0 a1 σ = some x → MJ p l e rmM_readList s m args below meth c G 6 none x 0 [(0, .ref (gM G)), (1, .int a0), (2, .int a1)] [] σ := by
  have hx := hC.1
  have hb := hC.2.1
  intro a0 a1 σ hF H locs ls hP hS hl
  rw [F_readList] at hF
  refine lv_aload_n hx hb dX10_readList_0 rfl (lv_at hl 0 rfl) ?_
  refine gM26 hC hP dX10_readList_1 ?_
  refine lv_iload_n hx hb dX10_readList_4 rfl (lv_at hl 1 rfl) ?_
  refine lv_iconst (v := 0) hx hb dX10_readList_5 (by decide) ?_
  obtain ⟨h_1, hF⟩ := gd_ok hF
  refine M_iast hC hP hS 26 (by decide) rfl rfl rfl h_1 dX10_readList_6 (fun H locs hP hS => ?_)
  obtain ⟨σ_2, eσ_2, hF⟩ := lt_ok hF
  rw [← eσ_2] at hP
  refine lv_iconst (v := 0) hx hb dX10_readList_7 (by decide) ?_
  refine lv_istore_n (lv' := [(3, .int (0 : Int32)), (0, .ref (gM G)), (1, .int a0), (2, .int a1)]) hx hb dX10_readList_8 rfl hl (by decide) rfl (fun ls hl => ?_)
  exact w_readList_L9 hC hr MN a0 a1 (0 : Int32) σ_2 hF H locs ls hP hS (lv_sub hl [1, 2, 3, 0] rfl)
theorem m_readList (l : Launch) (G : MG) (a0 : Int32) (a1 : Int32) (σ : MS) (x : MS) (hF : F_readList a0 a1 σ = some x) : Met l yX10_readList (ws_ yX10_readList cX10_readList 6 none) rmM_readList (mP G [.ref (gM G), .int a0, .int a1] σ) (mQ G none x) 0 0 (MA G) := by
  refine M_met rfl plM (Nat.le_of_ble_eq_true rfl) ?_
  intro p e s m below meth c hC hr ls hl hP
  exact w_readList hC hr a0 a1 σ hF s.heap [] ls hP va_S.rf hl
theorem iM_readList {p : Program} {l : Launch} {e : Env} {R : Room} {s : State} {m : MethodId} {args : Array Value} {below : List Frame} {meth : Method} {c : Code} {H H0 : Heap} {locs : List Loc} {cells slots nL : Nat} {Q : State → Prop} {G : MG} {σ : MS} {cc : ByteArray} {pc : Nat} {ls : Array Slot} {rest : List Value} (hC : MCx G cc nL p s m args meth c) (hP : MRep G σ H) (hS : va_S (MA G) H0 H locs) {a0 : Int32} {a1 : Int32} {x : MS} (hF : F_readList a0 a1 σ = some x) (hl : ls.size = nL) (hW : (rest.map fun v => v.category).sum ≤ 8) (hR : rmM_readList.frames + 1 ≤ R.frames ∧ 8 + (6 + 11) + rmM_readList.locals ≤ R.locals) (hf : cells ≤ R.cells ∧ slots ≤ R.slots) (hdg : decode cc pc = .ok (.invokevirtual 382, 3))
    (kk : ∀ (H1 : Heap) (locs1 : List Loc), MRep G x H1 → va_S (MA G) H0 H1 locs1 → W p l e R s m args below meth c H1 locs1 cells slots Q (F0 m (pc + 3) ls (rest))) : W p l e R s m args below meth c H locs cells slots Q (F0 m pc ls (.int a1 :: .int a0 :: .ref (gM G) :: rest)) :=
  M_inv hC hP hS [.int a0, .int a1] (m_readList l G a0 a1 σ _ hF) (cwV 2 hC.2.2.2.2.1 (lw_V q2357 q2359 qs103 q145 q2360) rfl rfl rfl (by decide +kernel) hR) rfl rfl hl hW hf hdg kk
/-! readMove -/
abbrev rmM_readMove : Room := { frames := 4, cells := 0, slots := 0, locals := 92 }
def F_readMove_b256 (y0 : Int32) (σ : MS) : Option MS :=
  bd (F_isGood σ) fun r_2 =>
  if r_2 = 0 then
    some σ
  else
    if y0 = 0 then
      bd (F_fails (4 : Int32) (mI σ 11) σ) fun σ_6 =>
      some σ_6
    else
      some σ
set_option maxHeartbeats 4000000 in
theorem w_readMove_b256 {p : Program} {l : Launch} {e : Env} {s : State} {m : MethodId} {args : Array Value} {below : List Frame} {meth : Method} {c : Code} {G : MG} (hC : MCx G cX10_readMove 5 p s m args meth c) (hr : meth.sig.returnType = none) {x : MS} :
    ∀ (y0 : Int32) (σ : MS), F_readMove_b256 y0 σ = some x → MJ p l e rmM_readMove s m args below meth c G 5 none x 256 [(0, .ref (gM G))] [.int y0] σ := by
  have hx := hC.1
  have hb := hC.2.1
  intro y0 σ hF H locs ls hP hS hl
  rw [F_readMove_b256] at hF
  refine lv_istore (lv' := [(4, .int y0), (0, .ref (gM G))]) hx hb dX10_readMove_256 hl (by decide) rfl (fun ls hl => ?_)
  refine lv_aload_n hx hb dX10_readMove_258 rfl (lv_at hl 1 rfl) ?_
  obtain ⟨r_2, hc_1, hF⟩ := bd_ok hF
  refine iM_isGood hC hP hS hc_1 hl.1 (Nat.le_of_ble_eq_true rfl) ⟨Nat.le_of_ble_eq_true rfl, Nat.le_of_ble_eq_true rfl⟩ ⟨Nat.zero_le _, Nat.zero_le _⟩ dX10_readMove_259 (fun H locs hP hS => ?_)
  refine lv_if_eq (tgt := 279) hx hb dX10_readMove_262 (by decide) (fun c_3 => ?_) (fun c_3 => ?_)
  · replace hF := it_t hF c_3
    exact M_retv hC hP hS hr (Option.some.inj hF) dX10_readMove_279
  · replace hF := it_f hF c_3
    refine lv_iload hx hb dX10_readMove_265 (lv_at hl 0 rfl) ?_
    refine lv_if_ne (tgt := 279) hx hb dX10_readMove_267 (by decide) (fun c_4 => ?_) (fun c_4 => ?_)
    · replace hF := it_f hF c_4
      exact M_retv hC hP hS hr (Option.some.inj hF) dX10_readMove_279
    · replace hF := it_t hF c_4
      refine lv_aload_n hx hb dX10_readMove_270 rfl (lv_at hl 1 rfl) ?_
      refine lv_iconst (v := 4) hx hb dX10_readMove_271 (by decide) ?_
      refine lv_aload_n hx hb dX10_readMove_272 rfl (lv_at hl 1 rfl) ?_
      refine gM11 hC hP dX10_readMove_273 ?_
      obtain ⟨σ_6, hc_5, hF⟩ := bd_ok hF
      refine iM_fails hC hP hS hc_5 hl.1 (Nat.le_of_ble_eq_true rfl) ⟨Nat.le_of_ble_eq_true rfl, Nat.le_of_ble_eq_true rfl⟩ ⟨Nat.zero_le _, Nat.zero_le _⟩ dX10_readMove_276 (fun H locs hP hS => ?_)
      exact M_retv hC hP hS hr (Option.some.inj hF) dX10_readMove_279
def F_readMove_b255 (k256 : Int32 → MS → Option MS) (σ : MS) : Option MS :=
  k256 (0 : Int32) σ
set_option maxHeartbeats 4000000 in
theorem w_readMove_b255 {p : Program} {l : Launch} {e : Env} {s : State} {m : MethodId} {args : Array Value} {below : List Frame} {meth : Method} {c : Code} {G : MG} (hC : MCx G cX10_readMove 5 p s m args meth c) (hr : meth.sig.returnType = none) {x : MS} (k256 : Int32 → MS → Option MS) (hk256 : ∀ (y0 : Int32) (σ : MS), k256 y0 σ = some x → MJ p l e rmM_readMove s m args below meth c G 5 none x 256 [(0, .ref (gM G))] [.int y0] σ) :
    ∀ (σ : MS), F_readMove_b255 k256 σ = some x → MJ p l e rmM_readMove s m args below meth c G 5 none x 255 [(0, .ref (gM G))] [] σ := by
  have hx := hC.1
  have hb := hC.2.1
  intro σ hF H locs ls hP hS hl
  rw [F_readMove_b255] at hF
  refine lv_iconst (v := 0) hx hb dX10_readMove_255 (by decide) ?_
  exact hk256 (0 : Int32) σ hF H locs ls hP hS (lv_sub hl [0] rfl)
def F_readMove_b237 (k256 : Int32 → MS → Option MS) (σ : MS) : Option MS :=
  k256 (0 : Int32) σ
set_option maxHeartbeats 4000000 in
theorem w_readMove_b237 {p : Program} {l : Launch} {e : Env} {s : State} {m : MethodId} {args : Array Value} {below : List Frame} {meth : Method} {c : Code} {G : MG} (hC : MCx G cX10_readMove 5 p s m args meth c) (hr : meth.sig.returnType = none) {x : MS} (k256 : Int32 → MS → Option MS) (hk256 : ∀ (y0 : Int32) (σ : MS), k256 y0 σ = some x → MJ p l e rmM_readMove s m args below meth c G 5 none x 256 [(0, .ref (gM G))] [.int y0] σ) :
    ∀ (σ : MS), F_readMove_b237 k256 σ = some x → MJ p l e rmM_readMove s m args below meth c G 5 none x 237 [(0, .ref (gM G))] [] σ := by
  have hx := hC.1
  have hb := hC.2.1
  intro σ hF H locs ls hP hS hl
  rw [F_readMove_b237] at hF
  refine lv_iconst (v := 0) hx hb dX10_readMove_237 (by decide) ?_
  refine lv_goto (tgt := 256) hx hb dX10_readMove_238 (by decide) ?_
  exact hk256 (0 : Int32) σ hF H locs ls hP hS (lv_sub hl [0] rfl)
def F_readMove_b200 (k256 : Int32 → MS → Option MS) (σ : MS) : Option MS :=
  k256 (0 : Int32) σ
set_option maxHeartbeats 4000000 in
theorem w_readMove_b200 {p : Program} {l : Launch} {e : Env} {s : State} {m : MethodId} {args : Array Value} {below : List Frame} {meth : Method} {c : Code} {G : MG} (hC : MCx G cX10_readMove 5 p s m args meth c) (hr : meth.sig.returnType = none) {x : MS} (k256 : Int32 → MS → Option MS) (hk256 : ∀ (y0 : Int32) (σ : MS), k256 y0 σ = some x → MJ p l e rmM_readMove s m args below meth c G 5 none x 256 [(0, .ref (gM G))] [.int y0] σ) :
    ∀ (σ : MS), F_readMove_b200 k256 σ = some x → MJ p l e rmM_readMove s m args below meth c G 5 none x 200 [(0, .ref (gM G))] [] σ := by
  have hx := hC.1
  have hb := hC.2.1
  intro σ hF H locs ls hP hS hl
  rw [F_readMove_b200] at hF
  refine lv_iconst (v := 0) hx hb dX10_readMove_200 (by decide) ?_
  refine lv_goto (tgt := 256) hx hb dX10_readMove_201 (by decide) ?_
  exact hk256 (0 : Int32) σ hF H locs ls hP hS (lv_sub hl [0] rfl)
def F_readMove_b109 (x1 : Int32) (x2 : Int32) (σ : MS) : Option MS :=
  bd2 (F_numeral (0 : Int32) (7 : Int32) σ) fun r_3 σ_2 =>
  gd (inb x1 104) <|
  lt (wA σ_2 23 (Int32.toNatClampNeg x1) r_3) fun σ_5 =>
  bd (F_isWord σ_5 (29807 : Int64)) fun r_7 =>
  bd (F_must r_7 σ_5) fun σ_9 =>
  bd2 (F_numeral (0 : Int32) (7 : Int32) σ_9) fun r_12 σ_11 =>
  gd (inb x1 104) <|
  lt (wA σ_11 24 (Int32.toNatClampNeg x1) r_12) fun σ_14 =>
  gd (inb x1 104) <|
  gd (inb x1 104) <|
  lt ((((mA σ_14 24 (Int32.toNatClampNeg x1)) - (mA σ_14 23 (Int32.toNatClampNeg x1))) + (1 : Int32))) fun x3_17 =>
  if x2 = (4 : Int32) then
    if x3_17 ≤ (1 : Int32) then
      F_readMove_b256 (0 : Int32) σ_14
    else
      F_readMove_b256 (1 : Int32) σ_14
  else
    if x2 = (5 : Int32) then
      if x3_17 ≤ (1 : Int32) then
        F_readMove_b200 (F_readMove_b256) σ_14
      else
        if (x3_17 - x3_17 / (2 : Int32) * (2 : Int32)) = 0 then
          F_readMove_b256 (1 : Int32) σ_14
        else
          F_readMove_b200 (F_readMove_b256) σ_14
    else
      if x2 = (6 : Int32) then
        gd (inb x1 104) <|
        gd (¬ (mA σ_14 25 (Int32.toNatClampNeg x1)) = 0) <|
        if (x3_17 - x3_17 / (mA σ_14 25 (Int32.toNatClampNeg x1)) * (mA σ_14 25 (Int32.toNatClampNeg x1))) = 0 then
          gd (inb x1 104) <|
          gd (¬ (mA σ_14 25 (Int32.toNatClampNeg x1)) = 0) <|
          if (x3_17 / (mA σ_14 25 (Int32.toNatClampNeg x1))) ≤ (1 : Int32) then
            F_readMove_b237 (F_readMove_b256) σ_14
          else
            F_readMove_b256 (1 : Int32) σ_14
        else
          F_readMove_b237 (F_readMove_b256) σ_14
      else
        if x3_17 ≤ (1 : Int32) then
          F_readMove_b255 (F_readMove_b256) σ_14
        else
          if (5 : Int32) ≤ x3_17 then
            F_readMove_b255 (F_readMove_b256) σ_14
          else
            F_readMove_b256 (1 : Int32) σ_14
set_option maxHeartbeats 4000000 in
theorem w_readMove_b109 {p : Program} {l : Launch} {e : Env} {s : State} {m : MethodId} {args : Array Value} {below : List Frame} {meth : Method} {c : Code} {G : MG} (hC : MCx G cX10_readMove 5 p s m args meth c) (hr : meth.sig.returnType = none) {x : MS} :
    ∀ (x1 : Int32) (x2 : Int32) (σ : MS), F_readMove_b109 x1 x2 σ = some x → MJ p l e rmM_readMove s m args below meth c G 5 none x 109 [(0, .ref (gM G)), (1, .int x1), (2, .int x2)] [] σ := by
  have hx := hC.1
  have hb := hC.2.1
  intro x1 x2 σ hF H locs ls hP hS hl
  rw [F_readMove_b109] at hF
  refine lv_aload_n hx hb dX10_readMove_109 rfl (lv_at hl 0 rfl) ?_
  refine gM23 hC hP dX10_readMove_110 ?_
  refine lv_iload_n hx hb dX10_readMove_113 rfl (lv_at hl 1 rfl) ?_
  refine lv_aload_n hx hb dX10_readMove_114 rfl (lv_at hl 0 rfl) ?_
  refine lv_iconst (v := 0) hx hb dX10_readMove_115 (by decide) ?_
  refine lv_bipush (v := 7) hx hb dX10_readMove_116 (by decide) ?_
  obtain ⟨r_3, σ_2, hc_1, hF⟩ := bd2_ok hF
  refine iM_numeral hC hP hS hc_1 hl.1 (Nat.le_of_ble_eq_true rfl) ⟨Nat.le_of_ble_eq_true rfl, Nat.le_of_ble_eq_true rfl⟩ ⟨Nat.zero_le _, Nat.zero_le _⟩ dX10_readMove_118 (fun H locs hP hS => ?_)
  obtain ⟨h_4, hF⟩ := gd_ok hF
  refine M_iast hC hP hS 23 (by decide) rfl rfl rfl h_4 dX10_readMove_121 (fun H locs hP hS => ?_)
  obtain ⟨σ_5, eσ_5, hF⟩ := lt_ok hF
  rw [← eσ_5] at hP
  refine lv_aload_n hx hb dX10_readMove_122 rfl (lv_at hl 0 rfl) ?_
  refine lv_aload_n hx hb dX10_readMove_123 rfl (lv_at hl 0 rfl) ?_
  refine lv_ldc2 (v := 29807) hx hb hC.2.2.2.1 (hC.2.2.2.2.1 _ q2254) dX10_readMove_124 ?_
  obtain ⟨r_7, hc_6, hF⟩ := bd_ok hF
  refine iM_isWord hC hP hS hc_6 hl.1 (Nat.le_of_ble_eq_true rfl) ⟨Nat.le_of_ble_eq_true rfl, Nat.le_of_ble_eq_true rfl⟩ ⟨Nat.zero_le _, Nat.zero_le _⟩ dX10_readMove_127 (fun H locs hP hS => ?_)
  obtain ⟨σ_9, hc_8, hF⟩ := bd_ok hF
  refine iM_must hC hP hS hc_8 hl.1 (Nat.le_of_ble_eq_true rfl) ⟨Nat.le_of_ble_eq_true rfl, Nat.le_of_ble_eq_true rfl⟩ ⟨Nat.zero_le _, Nat.zero_le _⟩ dX10_readMove_130 (fun H locs hP hS => ?_)
  refine lv_aload_n hx hb dX10_readMove_133 rfl (lv_at hl 0 rfl) ?_
  refine gM24 hC hP dX10_readMove_134 ?_
  refine lv_iload_n hx hb dX10_readMove_137 rfl (lv_at hl 1 rfl) ?_
  refine lv_aload_n hx hb dX10_readMove_138 rfl (lv_at hl 0 rfl) ?_
  refine lv_iconst (v := 0) hx hb dX10_readMove_139 (by decide) ?_
  refine lv_bipush (v := 7) hx hb dX10_readMove_140 (by decide) ?_
  obtain ⟨r_12, σ_11, hc_10, hF⟩ := bd2_ok hF
  refine iM_numeral hC hP hS hc_10 hl.1 (Nat.le_of_ble_eq_true rfl) ⟨Nat.le_of_ble_eq_true rfl, Nat.le_of_ble_eq_true rfl⟩ ⟨Nat.zero_le _, Nat.zero_le _⟩ dX10_readMove_142 (fun H locs hP hS => ?_)
  obtain ⟨h_13, hF⟩ := gd_ok hF
  refine M_iast hC hP hS 24 (by decide) rfl rfl rfl h_13 dX10_readMove_145 (fun H locs hP hS => ?_)
  obtain ⟨σ_14, eσ_14, hF⟩ := lt_ok hF
  rw [← eσ_14] at hP
  refine lv_aload_n hx hb dX10_readMove_146 rfl (lv_at hl 0 rfl) ?_
  refine gM24 hC hP dX10_readMove_147 ?_
  refine lv_iload_n hx hb dX10_readMove_150 rfl (lv_at hl 1 rfl) ?_
  obtain ⟨h_15, hF⟩ := gd_ok hF
  refine M_iald hC hP 24 (by decide) rfl rfl rfl h_15 dX10_readMove_151 ?_
  refine lv_aload_n hx hb dX10_readMove_152 rfl (lv_at hl 0 rfl) ?_
  refine gM23 hC hP dX10_readMove_153 ?_
  refine lv_iload_n hx hb dX10_readMove_156 rfl (lv_at hl 1 rfl) ?_
  obtain ⟨h_16, hF⟩ := gd_ok hF
  refine M_iald hC hP 23 (by decide) rfl rfl rfl h_16 dX10_readMove_157 ?_
  refine lv_isub hx hb dX10_readMove_158 ?_
  refine lv_iconst (v := 1) hx hb dX10_readMove_159 (by decide) ?_
  refine lv_iadd hx hb dX10_readMove_160 ?_
  refine lv_topi (fun x3_17 ex3_17 => ?_)
  replace hF := lt_at hF ex3_17
  refine lv_istore_n (lv' := [(3, .int x3_17), (0, .ref (gM G)), (1, .int x1), (2, .int x2)]) hx hb dX10_readMove_161 rfl hl (by decide) rfl (fun ls hl => ?_)
  refine lv_iload_n hx hb dX10_readMove_162 rfl (lv_at hl 3 rfl) ?_
  refine lv_iconst (v := 4) hx hb dX10_readMove_163 (by decide) ?_
  refine lv_icmp_ne (tgt := 180) hx hb dX10_readMove_164 (by decide) (fun c_18 => ?_) (fun c_18 => ?_)
  · replace hF := it_f hF c_18
    refine lv_iload_n hx hb dX10_readMove_180 rfl (lv_at hl 3 rfl) ?_
    refine lv_iconst (v := 5) hx hb dX10_readMove_181 (by decide) ?_
    refine lv_icmp_ne (tgt := 204) hx hb dX10_readMove_182 (by decide) (fun c_19 => ?_) (fun c_19 => ?_)
    · replace hF := it_f hF c_19
      refine lv_iload_n hx hb dX10_readMove_204 rfl (lv_at hl 3 rfl) ?_
      refine lv_bipush (v := 6) hx hb dX10_readMove_205 (by decide) ?_
      refine lv_icmp_ne (tgt := 241) hx hb dX10_readMove_207 (by decide) (fun c_20 => ?_) (fun c_20 => ?_)
      · replace hF := it_f hF c_20
        refine lv_iload_n hx hb dX10_readMove_241 rfl (lv_at hl 0 rfl) ?_
        refine lv_iconst (v := 1) hx hb dX10_readMove_242 (by decide) ?_
        refine lv_icmp_le (tgt := 255) hx hb dX10_readMove_243 (by decide) (fun c_21 => ?_) (fun c_21 => ?_)
        · replace hF := it_t hF c_21
          exact w_readMove_b255 hC hr (F_readMove_b256) (w_readMove_b256 hC hr) σ_14 hF H locs ls hP hS (lv_sub hl [1] rfl)
        · replace hF := it_f hF c_21
          refine lv_iload_n hx hb dX10_readMove_246 rfl (lv_at hl 0 rfl) ?_
          refine lv_iconst (v := 5) hx hb dX10_readMove_247 (by decide) ?_
          refine lv_icmp_ge (tgt := 255) hx hb dX10_readMove_248 (by decide) (fun c_22 => ?_) (fun c_22 => ?_)
          · replace hF := it_t hF c_22
            exact w_readMove_b255 hC hr (F_readMove_b256) (w_readMove_b256 hC hr) σ_14 hF H locs ls hP hS (lv_sub hl [1] rfl)
          · replace hF := it_f hF c_22
            refine lv_iconst (v := 1) hx hb dX10_readMove_251 (by decide) ?_
            refine lv_goto (tgt := 256) hx hb dX10_readMove_252 (by decide) ?_
            exact w_readMove_b256 hC hr (1 : Int32) σ_14 hF H locs ls hP hS (lv_sub hl [1] rfl)
      · replace hF := it_t hF c_20
        refine lv_iload_n hx hb dX10_readMove_210 rfl (lv_at hl 0 rfl) ?_
        refine lv_aload_n hx hb dX10_readMove_211 rfl (lv_at hl 1 rfl) ?_
        refine gM25 hC hP dX10_readMove_212 ?_
        refine lv_iload_n hx hb dX10_readMove_215 rfl (lv_at hl 2 rfl) ?_
        obtain ⟨h_23, hF⟩ := gd_ok hF
        refine M_iald hC hP 25 (by decide) rfl rfl rfl h_23 dX10_readMove_216 ?_
        obtain ⟨h_24, hF⟩ := gd_ok hF
        refine lv_irem hx hb dX10_readMove_217 h_24 ?_
        refine lv_if_ne (tgt := 237) hx hb dX10_readMove_218 (by decide) (fun c_25 => ?_) (fun c_25 => ?_)
        · replace hF := it_f hF c_25
          exact w_readMove_b237 hC hr (F_readMove_b256) (w_readMove_b256 hC hr) σ_14 hF H locs ls hP hS (lv_sub hl [1] rfl)
        · replace hF := it_t hF c_25
          refine lv_iload_n hx hb dX10_readMove_221 rfl (lv_at hl 0 rfl) ?_
          refine lv_aload_n hx hb dX10_readMove_222 rfl (lv_at hl 1 rfl) ?_
          refine gM25 hC hP dX10_readMove_223 ?_
          refine lv_iload_n hx hb dX10_readMove_226 rfl (lv_at hl 2 rfl) ?_
          obtain ⟨h_26, hF⟩ := gd_ok hF
          refine M_iald hC hP 25 (by decide) rfl rfl rfl h_26 dX10_readMove_227 ?_
          obtain ⟨h_27, hF⟩ := gd_ok hF
          refine lv_idiv hx hb dX10_readMove_228 h_27 ?_
          refine lv_iconst (v := 1) hx hb dX10_readMove_229 (by decide) ?_
          refine lv_icmp_le (tgt := 237) hx hb dX10_readMove_230 (by decide) (fun c_28 => ?_) (fun c_28 => ?_)
          · replace hF := it_t hF c_28
            exact w_readMove_b237 hC hr (F_readMove_b256) (w_readMove_b256 hC hr) σ_14 hF H locs ls hP hS (lv_sub hl [1] rfl)
          · replace hF := it_f hF c_28
            refine lv_iconst (v := 1) hx hb dX10_readMove_233 (by decide) ?_
            refine lv_goto (tgt := 256) hx hb dX10_readMove_234 (by decide) ?_
            exact w_readMove_b256 hC hr (1 : Int32) σ_14 hF H locs ls hP hS (lv_sub hl [1] rfl)
    · replace hF := it_t hF c_19
      refine lv_iload_n hx hb dX10_readMove_185 rfl (lv_at hl 0 rfl) ?_
      refine lv_iconst (v := 1) hx hb dX10_readMove_186 (by decide) ?_
      refine lv_icmp_le (tgt := 200) hx hb dX10_readMove_187 (by decide) (fun c_29 => ?_) (fun c_29 => ?_)
      · replace hF := it_t hF c_29
        exact w_readMove_b200 hC hr (F_readMove_b256) (w_readMove_b256 hC hr) σ_14 hF H locs ls hP hS (lv_sub hl [1] rfl)
      · replace hF := it_f hF c_29
        refine lv_iload_n hx hb dX10_readMove_190 rfl (lv_at hl 0 rfl) ?_
        refine lv_iconst (v := 2) hx hb dX10_readMove_191 (by decide) ?_
        refine lv_irem hx hb dX10_readMove_192 (by decide) ?_
        refine lv_if_ne (tgt := 200) hx hb dX10_readMove_193 (by decide) (fun c_30 => ?_) (fun c_30 => ?_)
        · replace hF := it_f hF c_30
          exact w_readMove_b200 hC hr (F_readMove_b256) (w_readMove_b256 hC hr) σ_14 hF H locs ls hP hS (lv_sub hl [1] rfl)
        · replace hF := it_t hF c_30
          refine lv_iconst (v := 1) hx hb dX10_readMove_196 (by decide) ?_
          refine lv_goto (tgt := 256) hx hb dX10_readMove_197 (by decide) ?_
          exact w_readMove_b256 hC hr (1 : Int32) σ_14 hF H locs ls hP hS (lv_sub hl [1] rfl)
  · replace hF := it_t hF c_18
    refine lv_iload_n hx hb dX10_readMove_167 rfl (lv_at hl 0 rfl) ?_
    refine lv_iconst (v := 1) hx hb dX10_readMove_168 (by decide) ?_
    refine lv_icmp_le (tgt := 176) hx hb dX10_readMove_169 (by decide) (fun c_31 => ?_) (fun c_31 => ?_)
    · replace hF := it_t hF c_31
      refine lv_iconst (v := 0) hx hb dX10_readMove_176 (by decide) ?_
      refine lv_goto (tgt := 256) hx hb dX10_readMove_177 (by decide) ?_
      exact w_readMove_b256 hC hr (0 : Int32) σ_14 hF H locs ls hP hS (lv_sub hl [1] rfl)
    · replace hF := it_f hF c_31
      refine lv_iconst (v := 1) hx hb dX10_readMove_172 (by decide) ?_
      refine lv_goto (tgt := 256) hx hb dX10_readMove_173 (by decide) ?_
      exact w_readMove_b256 hC hr (1 : Int32) σ_14 hF H locs ls hP hS (lv_sub hl [1] rfl)
def F_readMove_b30 (y0 : Int32) (y1 : Int32) (σ : MS) : Option MS :=
  bd (F_readList y1 y0 σ) fun σ_2 =>
  some σ_2
set_option maxHeartbeats 4000000 in
theorem w_readMove_b30 {p : Program} {l : Launch} {e : Env} {s : State} {m : MethodId} {args : Array Value} {below : List Frame} {meth : Method} {c : Code} {G : MG} (hC : MCx G cX10_readMove 5 p s m args meth c) (hr : meth.sig.returnType = none) {x : MS} :
    ∀ (y0 : Int32) (y1 : Int32) (σ : MS), F_readMove_b30 y0 y1 σ = some x → MJ p l e rmM_readMove s m args below meth c G 5 none x 30 [] [.int y0, .int y1, .ref (gM G)] σ := by
  have hx := hC.1
  have hb := hC.2.1
  intro y0 y1 σ hF H locs ls hP hS hl
  rw [F_readMove_b30] at hF
  obtain ⟨σ_2, hc_1, hF⟩ := bd_ok hF
  refine iM_readList hC hP hS hc_1 hl.1 (Nat.le_of_ble_eq_true rfl) ⟨Nat.le_of_ble_eq_true rfl, Nat.le_of_ble_eq_true rfl⟩ ⟨Nat.zero_le _, Nat.zero_le _⟩ dX10_readMove_30 (fun H locs hP hS => ?_)
  refine lv_goto (tgt := 279) hx hb dX10_readMove_33 (by decide) ?_
  exact M_retv hC hP hS hr (Option.some.inj hF) dX10_readMove_279
def F_readMove_b18 (x1 : Int32) (x2 : Int32) (σ : MS) : Option MS :=
  if x2 = (3 : Int32) then
    F_readMove_b30 (1 : Int32) x1 σ
  else
    F_readMove_b30 (0 : Int32) x1 σ
set_option maxHeartbeats 4000000 in
theorem w_readMove_b18 {p : Program} {l : Launch} {e : Env} {s : State} {m : MethodId} {args : Array Value} {below : List Frame} {meth : Method} {c : Code} {G : MG} (hC : MCx G cX10_readMove 5 p s m args meth c) (hr : meth.sig.returnType = none) {x : MS} :
    ∀ (x1 : Int32) (x2 : Int32) (σ : MS), F_readMove_b18 x1 x2 σ = some x → MJ p l e rmM_readMove s m args below meth c G 5 none x 18 [(0, .ref (gM G)), (1, .int x1), (2, .int x2)] [] σ := by
  have hx := hC.1
  have hb := hC.2.1
  intro x1 x2 σ hF H locs ls hP hS hl
  rw [F_readMove_b18] at hF
  refine lv_aload_n hx hb dX10_readMove_18 rfl (lv_at hl 0 rfl) ?_
  refine lv_iload_n hx hb dX10_readMove_19 rfl (lv_at hl 1 rfl) ?_
  refine lv_iload_n hx hb dX10_readMove_20 rfl (lv_at hl 2 rfl) ?_
  refine lv_iconst (v := 3) hx hb dX10_readMove_21 (by decide) ?_
  refine lv_icmp_ne (tgt := 29) hx hb dX10_readMove_22 (by decide) (fun c_1 => ?_) (fun c_1 => ?_)
  · replace hF := it_f hF c_1
    refine lv_iconst (v := 0) hx hb dX10_readMove_29 (by decide) ?_
    exact w_readMove_b30 hC hr (0 : Int32) x1 σ hF H locs ls hP hS (lv_sub hl [] rfl)
  · replace hF := it_t hF c_1
    refine lv_iconst (v := 1) hx hb dX10_readMove_25 (by decide) ?_
    refine lv_goto (tgt := 30) hx hb dX10_readMove_26 (by decide) ?_
    exact w_readMove_b30 hC hr (1 : Int32) x1 σ hF H locs ls hP hS (lv_sub hl [] rfl)
def F_readMove (a0 : Int32) (a1 : Int32) (σ : MS) : Option MS :=
  gd (inb a0 104) <|
  lt (wA σ 22 (Int32.toNatClampNeg a0) a1) fun σ_2 =>
  if a1 = (3 : Int32) then
    F_readMove_b18 a0 a1 σ_2
  else
    if a1 = (8 : Int32) then
      F_readMove_b18 a0 a1 σ_2
    else
      if a1 = (2 : Int32) then
        bd2 (F_numeral (0 : Int32) (7 : Int32) σ_2) fun r_20 σ_19 =>
        gd (inb a0 104) <|
        lt (wA σ_19 23 (Int32.toNatClampNeg a0) r_20) fun σ_22 =>
        gd (inb a0 104) <|
        bd2 (F_another (mA σ_22 23 (Int32.toNatClampNeg a0)) σ_22) fun r_26 σ_25 =>
        gd (inb a0 104) <|
        lt (wA σ_25 24 (Int32.toNatClampNeg a0) r_26) fun σ_28 =>
        some σ_28
      else
        gd (inb a0 104) <|
        lt (wA σ_2 25 (Int32.toNatClampNeg a0) (1 : Int32)) fun σ_7 =>
        if a1 = (6 : Int32) then
          bd2 (F_numeral (1 : Int32) (4 : Int32) σ_7) fun r_11 σ_10 =>
          gd (inb a0 104) <|
          lt (wA σ_10 25 (Int32.toNatClampNeg a0) r_11) fun σ_13 =>
          bd (F_isWord σ_13 (28518 : Int64)) fun r_15 =>
          bd (F_must r_15 σ_13) fun σ_17 =>
          F_readMove_b109 a0 a1 σ_17
        else
          F_readMove_b109 a0 a1 σ_7
set_option maxHeartbeats 4000000 in
theorem w_readMove {p : Program} {l : Launch} {e : Env} {s : State} {m : MethodId} {args : Array Value} {below : List Frame} {meth : Method} {c : Code} {G : MG} (hC : MCx G cX10_readMove 5 p s m args meth c) (hr : meth.sig.returnType = none) {x : MS} :
    ∀ (a0 : Int32) (a1 : Int32) (σ : MS), F_readMove a0 a1 σ = some x → MJ p l e rmM_readMove s m args below meth c G 5 none x 0 [(0, .ref (gM G)), (1, .int a0), (2, .int a1)] [] σ := by
  have hx := hC.1
  have hb := hC.2.1
  intro a0 a1 σ hF H locs ls hP hS hl
  rw [F_readMove] at hF
  refine lv_aload_n hx hb dX10_readMove_0 rfl (lv_at hl 0 rfl) ?_
  refine gM22 hC hP dX10_readMove_1 ?_
  refine lv_iload_n hx hb dX10_readMove_4 rfl (lv_at hl 1 rfl) ?_
  refine lv_iload_n hx hb dX10_readMove_5 rfl (lv_at hl 2 rfl) ?_
  obtain ⟨h_1, hF⟩ := gd_ok hF
  refine M_iast hC hP hS 22 (by decide) rfl rfl rfl h_1 dX10_readMove_6 (fun H locs hP hS => ?_)
  obtain ⟨σ_2, eσ_2, hF⟩ := lt_ok hF
  rw [← eσ_2] at hP
  refine lv_iload_n hx hb dX10_readMove_7 rfl (lv_at hl 2 rfl) ?_
  refine lv_iconst (v := 3) hx hb dX10_readMove_8 (by decide) ?_
  refine lv_icmp_eq (tgt := 18) hx hb dX10_readMove_9 (by decide) (fun c_3 => ?_) (fun c_3 => ?_)
  · replace hF := it_t hF c_3
    exact w_readMove_b18 hC hr a0 a1 σ_2 hF H locs ls hP hS (lv_sub hl [0, 1, 2] rfl)
  · replace hF := it_f hF c_3
    refine lv_iload_n hx hb dX10_readMove_12 rfl (lv_at hl 2 rfl) ?_
    refine lv_bipush (v := 8) hx hb dX10_readMove_13 (by decide) ?_
    refine lv_icmp_ne (tgt := 36) hx hb dX10_readMove_15 (by decide) (fun c_4 => ?_) (fun c_4 => ?_)
    · replace hF := it_f hF c_4
      refine lv_iload_n hx hb dX10_readMove_36 rfl (lv_at hl 2 rfl) ?_
      refine lv_iconst (v := 2) hx hb dX10_readMove_37 (by decide) ?_
      refine lv_icmp_ne (tgt := 73) hx hb dX10_readMove_38 (by decide) (fun c_5 => ?_) (fun c_5 => ?_)
      · replace hF := it_f hF c_5
        refine lv_aload_n hx hb dX10_readMove_73 rfl (lv_at hl 0 rfl) ?_
        refine gM25 hC hP dX10_readMove_74 ?_
        refine lv_iload_n hx hb dX10_readMove_77 rfl (lv_at hl 1 rfl) ?_
        refine lv_iconst (v := 1) hx hb dX10_readMove_78 (by decide) ?_
        obtain ⟨h_6, hF⟩ := gd_ok hF
        refine M_iast hC hP hS 25 (by decide) rfl rfl rfl h_6 dX10_readMove_79 (fun H locs hP hS => ?_)
        obtain ⟨σ_7, eσ_7, hF⟩ := lt_ok hF
        rw [← eσ_7] at hP
        refine lv_iload_n hx hb dX10_readMove_80 rfl (lv_at hl 2 rfl) ?_
        refine lv_bipush (v := 6) hx hb dX10_readMove_81 (by decide) ?_
        refine lv_icmp_ne (tgt := 109) hx hb dX10_readMove_83 (by decide) (fun c_8 => ?_) (fun c_8 => ?_)
        · replace hF := it_f hF c_8
          exact w_readMove_b109 hC hr a0 a1 σ_7 hF H locs ls hP hS (lv_sub hl [0, 1, 2] rfl)
        · replace hF := it_t hF c_8
          refine lv_aload_n hx hb dX10_readMove_86 rfl (lv_at hl 0 rfl) ?_
          refine gM25 hC hP dX10_readMove_87 ?_
          refine lv_iload_n hx hb dX10_readMove_90 rfl (lv_at hl 1 rfl) ?_
          refine lv_aload_n hx hb dX10_readMove_91 rfl (lv_at hl 0 rfl) ?_
          refine lv_iconst (v := 1) hx hb dX10_readMove_92 (by decide) ?_
          refine lv_iconst (v := 4) hx hb dX10_readMove_93 (by decide) ?_
          obtain ⟨r_11, σ_10, hc_9, hF⟩ := bd2_ok hF
          refine iM_numeral hC hP hS hc_9 hl.1 (Nat.le_of_ble_eq_true rfl) ⟨Nat.le_of_ble_eq_true rfl, Nat.le_of_ble_eq_true rfl⟩ ⟨Nat.zero_le _, Nat.zero_le _⟩ dX10_readMove_94 (fun H locs hP hS => ?_)
          obtain ⟨h_12, hF⟩ := gd_ok hF
          refine M_iast hC hP hS 25 (by decide) rfl rfl rfl h_12 dX10_readMove_97 (fun H locs hP hS => ?_)
          obtain ⟨σ_13, eσ_13, hF⟩ := lt_ok hF
          rw [← eσ_13] at hP
          refine lv_aload_n hx hb dX10_readMove_98 rfl (lv_at hl 0 rfl) ?_
          refine lv_aload_n hx hb dX10_readMove_99 rfl (lv_at hl 0 rfl) ?_
          refine lv_ldc2 (v := 28518) hx hb hC.2.2.2.1 (hC.2.2.2.2.1 _ q2257) dX10_readMove_100 ?_
          obtain ⟨r_15, hc_14, hF⟩ := bd_ok hF
          refine iM_isWord hC hP hS hc_14 hl.1 (Nat.le_of_ble_eq_true rfl) ⟨Nat.le_of_ble_eq_true rfl, Nat.le_of_ble_eq_true rfl⟩ ⟨Nat.zero_le _, Nat.zero_le _⟩ dX10_readMove_103 (fun H locs hP hS => ?_)
          obtain ⟨σ_17, hc_16, hF⟩ := bd_ok hF
          refine iM_must hC hP hS hc_16 hl.1 (Nat.le_of_ble_eq_true rfl) ⟨Nat.le_of_ble_eq_true rfl, Nat.le_of_ble_eq_true rfl⟩ ⟨Nat.zero_le _, Nat.zero_le _⟩ dX10_readMove_106 (fun H locs hP hS => ?_)
          exact w_readMove_b109 hC hr a0 a1 σ_17 hF H locs ls hP hS (lv_sub hl [0, 1, 2] rfl)
      · replace hF := it_t hF c_5
        refine lv_aload_n hx hb dX10_readMove_41 rfl (lv_at hl 0 rfl) ?_
        refine gM23 hC hP dX10_readMove_42 ?_
        refine lv_iload_n hx hb dX10_readMove_45 rfl (lv_at hl 1 rfl) ?_
        refine lv_aload_n hx hb dX10_readMove_46 rfl (lv_at hl 0 rfl) ?_
        refine lv_iconst (v := 0) hx hb dX10_readMove_47 (by decide) ?_
        refine lv_bipush (v := 7) hx hb dX10_readMove_48 (by decide) ?_
        obtain ⟨r_20, σ_19, hc_18, hF⟩ := bd2_ok hF
        refine iM_numeral hC hP hS hc_18 hl.1 (Nat.le_of_ble_eq_true rfl) ⟨Nat.le_of_ble_eq_true rfl, Nat.le_of_ble_eq_true rfl⟩ ⟨Nat.zero_le _, Nat.zero_le _⟩ dX10_readMove_50 (fun H locs hP hS => ?_)
        obtain ⟨h_21, hF⟩ := gd_ok hF
        refine M_iast hC hP hS 23 (by decide) rfl rfl rfl h_21 dX10_readMove_53 (fun H locs hP hS => ?_)
        obtain ⟨σ_22, eσ_22, hF⟩ := lt_ok hF
        rw [← eσ_22] at hP
        refine lv_aload_n hx hb dX10_readMove_54 rfl (lv_at hl 0 rfl) ?_
        refine gM24 hC hP dX10_readMove_55 ?_
        refine lv_iload_n hx hb dX10_readMove_58 rfl (lv_at hl 1 rfl) ?_
        refine lv_aload_n hx hb dX10_readMove_59 rfl (lv_at hl 0 rfl) ?_
        refine lv_aload_n hx hb dX10_readMove_60 rfl (lv_at hl 0 rfl) ?_
        refine gM23 hC hP dX10_readMove_61 ?_
        refine lv_iload_n hx hb dX10_readMove_64 rfl (lv_at hl 1 rfl) ?_
        obtain ⟨h_23, hF⟩ := gd_ok hF
        refine M_iald hC hP 23 (by decide) rfl rfl rfl h_23 dX10_readMove_65 ?_
        obtain ⟨r_26, σ_25, hc_24, hF⟩ := bd2_ok hF
        refine iM_another hC hP hS hc_24 hl.1 (Nat.le_of_ble_eq_true rfl) ⟨Nat.le_of_ble_eq_true rfl, Nat.le_of_ble_eq_true rfl⟩ ⟨Nat.zero_le _, Nat.zero_le _⟩ dX10_readMove_66 (fun H locs hP hS => ?_)
        obtain ⟨h_27, hF⟩ := gd_ok hF
        refine M_iast hC hP hS 24 (by decide) rfl rfl rfl h_27 dX10_readMove_69 (fun H locs hP hS => ?_)
        obtain ⟨σ_28, eσ_28, hF⟩ := lt_ok hF
        rw [← eσ_28] at hP
        refine lv_goto (tgt := 279) hx hb dX10_readMove_70 (by decide) ?_
        exact M_retv hC hP hS hr (Option.some.inj hF) dX10_readMove_279
    · replace hF := it_t hF c_4
      exact w_readMove_b18 hC hr a0 a1 σ_2 hF H locs ls hP hS (lv_sub hl [0, 1, 2] rfl)
theorem m_readMove (l : Launch) (G : MG) (a0 : Int32) (a1 : Int32) (σ : MS) (x : MS) (hF : F_readMove a0 a1 σ = some x) : Met l yX10_readMove (ws_ yX10_readMove cX10_readMove 5 none) rmM_readMove (mP G [.ref (gM G), .int a0, .int a1] σ) (mQ G none x) 0 0 (MA G) := by
  refine M_met rfl plM (Nat.le_of_ble_eq_true rfl) ?_
  intro p e s m below meth c hC hr ls hl hP
  exact w_readMove hC hr a0 a1 σ hF s.heap [] ls hP va_S.rf hl
theorem iM_readMove {p : Program} {l : Launch} {e : Env} {R : Room} {s : State} {m : MethodId} {args : Array Value} {below : List Frame} {meth : Method} {c : Code} {H H0 : Heap} {locs : List Loc} {cells slots nL : Nat} {Q : State → Prop} {G : MG} {σ : MS} {cc : ByteArray} {pc : Nat} {ls : Array Slot} {rest : List Value} (hC : MCx G cc nL p s m args meth c) (hP : MRep G σ H) (hS : va_S (MA G) H0 H locs) {a0 : Int32} {a1 : Int32} {x : MS} (hF : F_readMove a0 a1 σ = some x) (hl : ls.size = nL) (hW : (rest.map fun v => v.category).sum ≤ 8) (hR : rmM_readMove.frames + 1 ≤ R.frames ∧ 8 + (5 + 11) + rmM_readMove.locals ≤ R.locals) (hf : cells ≤ R.cells ∧ slots ≤ R.slots) (hdg : decode cc pc = .ok (.invokevirtual 361, 3))
    (kk : ∀ (H1 : Heap) (locs1 : List Loc), MRep G x H1 → va_S (MA G) H0 H1 locs1 → W p l e R s m args below meth c H1 locs1 cells slots Q (F0 m (pc + 3) ls (rest))) : W p l e R s m args below meth c H locs cells slots Q (F0 m pc ls (.int a1 :: .int a0 :: .ref (gM G) :: rest)) :=
  M_inv hC hP hS [.int a0, .int a1] (m_readMove l G a0 a1 σ _ hF) (cwV 2 hC.2.2.2.2.1 (lw_V q2353 q2355 qs102 q145 q2356) rfl rfl rfl (by decide +kernel) hR) rfl rfl hl hW hf hdg kk
/-! readMay -/
abbrev rmM_readMay : Room := { frames := 5, cells := 0, slots := 0, locals := 116 }
def F_readMay_b141 (x3 : Int32) (y0 : Int32) (y1 : Int32) (σ : MS) : Option MS :=
  bd (F_readMove y1 y0 σ) fun σ_2 =>
  if x3 = 0 then
    gd (inb (mI σ_2 36) 2) <|
    gd (inb (mI σ_2 36) 2) <|
    lt (wA σ_2 14 (Int32.toNatClampNeg (mI σ_2 36)) ((mA σ_2 14 (Int32.toNatClampNeg (mI σ_2 36))) + (1 : Int32))) fun σ_6 =>
    some σ_6
  else
    gd (inb (mI σ_2 36) 2) <|
    gd (inb (mI σ_2 36) 2) <|
    lt (wA σ_2 15 (Int32.toNatClampNeg (mI σ_2 36)) ((mA σ_2 15 (Int32.toNatClampNeg (mI σ_2 36))) + (1 : Int32))) fun σ_9 =>
    some σ_9
set_option maxHeartbeats 4000000 in
theorem w_readMay_b141 {p : Program} {l : Launch} {e : Env} {s : State} {m : MethodId} {args : Array Value} {below : List Frame} {meth : Method} {c : Code} {G : MG} (hC : MCx G cX10_readMay 5 p s m args meth c) (hr : meth.sig.returnType = none) {x : MS} :
    ∀ (x3 : Int32) (y0 : Int32) (y1 : Int32) (σ : MS), F_readMay_b141 x3 y0 y1 σ = some x → MJ p l e rmM_readMay s m args below meth c G 5 none x 141 [(0, .ref (gM G)), (3, .int x3)] [.int y0, .int y1, .ref (gM G)] σ := by
  have hx := hC.1
  have hb := hC.2.1
  intro x3 y0 y1 σ hF H locs ls hP hS hl
  rw [F_readMay_b141] at hF
  obtain ⟨σ_2, hc_1, hF⟩ := bd_ok hF
  refine iM_readMove hC hP hS hc_1 hl.1 (Nat.le_of_ble_eq_true rfl) ⟨Nat.le_of_ble_eq_true rfl, Nat.le_of_ble_eq_true rfl⟩ ⟨Nat.zero_le _, Nat.zero_le _⟩ dX10_readMay_141 (fun H locs hP hS => ?_)
  refine lv_iload_n hx hb dX10_readMay_144 rfl (lv_at hl 1 rfl) ?_
  refine lv_if_eq (tgt := 164) hx hb dX10_readMay_145 (by decide) (fun c_3 => ?_) (fun c_3 => ?_)
  · replace hF := it_t hF c_3
    refine lv_aload_n hx hb dX10_readMay_164 rfl (lv_at hl 0 rfl) ?_
    refine gM14 hC hP dX10_readMay_165 ?_
    refine lv_aload_n hx hb dX10_readMay_168 rfl (lv_at hl 0 rfl) ?_
    refine gM36 hC hP dX10_readMay_169 ?_
    refine lv_dup2_11 hx hb dX10_readMay_172 rfl rfl ?_
    obtain ⟨h_4, hF⟩ := gd_ok hF
    refine M_iald hC hP 14 (by decide) rfl rfl rfl h_4 dX10_readMay_173 ?_
    refine lv_iconst (v := 1) hx hb dX10_readMay_174 (by decide) ?_
    refine lv_iadd hx hb dX10_readMay_175 ?_
    obtain ⟨h_5, hF⟩ := gd_ok hF
    refine M_iast hC hP hS 14 (by decide) rfl rfl rfl h_5 dX10_readMay_176 (fun H locs hP hS => ?_)
    obtain ⟨σ_6, eσ_6, hF⟩ := lt_ok hF
    rw [← eσ_6] at hP
    exact M_retv hC hP hS hr (Option.some.inj hF) dX10_readMay_177
  · replace hF := it_f hF c_3
    refine lv_aload_n hx hb dX10_readMay_148 rfl (lv_at hl 0 rfl) ?_
    refine gM15 hC hP dX10_readMay_149 ?_
    refine lv_aload_n hx hb dX10_readMay_152 rfl (lv_at hl 0 rfl) ?_
    refine gM36 hC hP dX10_readMay_153 ?_
    refine lv_dup2_11 hx hb dX10_readMay_156 rfl rfl ?_
    obtain ⟨h_7, hF⟩ := gd_ok hF
    refine M_iald hC hP 15 (by decide) rfl rfl rfl h_7 dX10_readMay_157 ?_
    refine lv_iconst (v := 1) hx hb dX10_readMay_158 (by decide) ?_
    refine lv_iadd hx hb dX10_readMay_159 ?_
    obtain ⟨h_8, hF⟩ := gd_ok hF
    refine M_iast hC hP hS 15 (by decide) rfl rfl rfl h_8 dX10_readMay_160 (fun H locs hP hS => ?_)
    obtain ⟨σ_9, eσ_9, hF⟩ := lt_ok hF
    rw [← eσ_9] at hP
    refine lv_goto (tgt := 177) hx hb dX10_readMay_161 (by decide) ?_
    exact M_retv hC hP hS hr (Option.some.inj hF) dX10_readMay_177
def F_readMay_b125 (x2 : Int32) (x3 : Int32) (y0 : Int32) (y1 : Int32) (σ : MS) : Option MS :=
  lt ((y1 + y0)) fun x4_1 =>
  if x3 = 0 then
    F_readMay_b141 x3 x2 x4_1 σ
  else
    F_readMay_b141 x3 (8 : Int32) x4_1 σ
set_option maxHeartbeats 4000000 in
theorem w_readMay_b125 {p : Program} {l : Launch} {e : Env} {s : State} {m : MethodId} {args : Array Value} {below : List Frame} {meth : Method} {c : Code} {G : MG} (hC : MCx G cX10_readMay 5 p s m args meth c) (hr : meth.sig.returnType = none) {x : MS} :
    ∀ (x2 : Int32) (x3 : Int32) (y0 : Int32) (y1 : Int32) (σ : MS), F_readMay_b125 x2 x3 y0 y1 σ = some x → MJ p l e rmM_readMay s m args below meth c G 5 none x 125 [(0, .ref (gM G)), (2, .int x2), (3, .int x3)] [.int y0, .int y1] σ := by
  have hx := hC.1
  have hb := hC.2.1
  intro x2 x3 y0 y1 σ hF H locs ls hP hS hl
  rw [F_readMay_b125] at hF
  refine lv_iadd hx hb dX10_readMay_125 ?_
  refine lv_topi (fun x4_1 ex4_1 => ?_)
  replace hF := lt_at hF ex4_1
  refine lv_istore (lv' := [(4, .int x4_1), (0, .ref (gM G)), (2, .int x2), (3, .int x3)]) hx hb dX10_readMay_126 hl (by decide) rfl (fun ls hl => ?_)
  refine lv_aload_n hx hb dX10_readMay_128 rfl (lv_at hl 1 rfl) ?_
  refine lv_iload hx hb dX10_readMay_129 (lv_at hl 0 rfl) ?_
  refine lv_iload_n hx hb dX10_readMay_131 rfl (lv_at hl 3 rfl) ?_
  refine lv_if_eq (tgt := 140) hx hb dX10_readMay_132 (by decide) (fun c_2 => ?_) (fun c_2 => ?_)
  · replace hF := it_t hF c_2
    refine lv_iload_n hx hb dX10_readMay_140 rfl (lv_at hl 2 rfl) ?_
    exact w_readMay_b141 hC hr x3 x2 x4_1 σ hF H locs ls hP hS (lv_sub hl [1, 3] rfl)
  · replace hF := it_f hF c_2
    refine lv_bipush (v := 8) hx hb dX10_readMay_135 (by decide) ?_
    refine lv_goto (tgt := 141) hx hb dX10_readMay_137 (by decide) ?_
    exact w_readMay_b141 hC hr x3 (8 : Int32) x4_1 σ hF H locs ls hP hS (lv_sub hl [1, 3] rfl)
def F_readMay_b75 (x2 : Int32) (x3 : Int32) (σ : MS) : Option MS :=
  bd (F_isGood σ) fun r_2 =>
  if r_2 = 0 then
    some σ
  else
    bd (F_goOn σ) fun σ_5 =>
    if x3 = 0 then
      gd (inb (mI σ_5 36) 2) <|
      F_readMay_b125 x2 x3 ((40 : Int32) + (mA σ_5 14 (Int32.toNatClampNeg (mI σ_5 36)))) ((52 : Int32) * (mI σ_5 36)) σ_5
    else
      gd (inb (mI σ_5 36) 2) <|
      F_readMay_b125 x2 x3 ((48 : Int32) + (mA σ_5 15 (Int32.toNatClampNeg (mI σ_5 36)))) ((52 : Int32) * (mI σ_5 36)) σ_5
set_option maxHeartbeats 4000000 in
theorem w_readMay_b75 {p : Program} {l : Launch} {e : Env} {s : State} {m : MethodId} {args : Array Value} {below : List Frame} {meth : Method} {c : Code} {G : MG} (hC : MCx G cX10_readMay 5 p s m args meth c) (hr : meth.sig.returnType = none) {x : MS} :
    ∀ (x2 : Int32) (x3 : Int32) (σ : MS), F_readMay_b75 x2 x3 σ = some x → MJ p l e rmM_readMay s m args below meth c G 5 none x 75 [(0, .ref (gM G)), (2, .int x2), (3, .int x3)] [] σ := by
  have hx := hC.1
  have hb := hC.2.1
  intro x2 x3 σ hF H locs ls hP hS hl
  rw [F_readMay_b75] at hF
  refine lv_aload_n hx hb dX10_readMay_75 rfl (lv_at hl 0 rfl) ?_
  obtain ⟨r_2, hc_1, hF⟩ := bd_ok hF
  refine iM_isGood hC hP hS hc_1 hl.1 (Nat.le_of_ble_eq_true rfl) ⟨Nat.le_of_ble_eq_true rfl, Nat.le_of_ble_eq_true rfl⟩ ⟨Nat.zero_le _, Nat.zero_le _⟩ dX10_readMay_76 (fun H locs hP hS => ?_)
  refine lv_if_ne (tgt := 83) hx hb dX10_readMay_79 (by decide) (fun c_3 => ?_) (fun c_3 => ?_)
  · replace hF := it_f hF c_3
    refine lv_aload_n hx hb dX10_readMay_83 rfl (lv_at hl 0 rfl) ?_
    obtain ⟨σ_5, hc_4, hF⟩ := bd_ok hF
    refine iM_goOn hC hP hS hc_4 hl.1 (Nat.le_of_ble_eq_true rfl) ⟨Nat.le_of_ble_eq_true rfl, Nat.le_of_ble_eq_true rfl⟩ ⟨Nat.zero_le _, Nat.zero_le _⟩ dX10_readMay_84 (fun H locs hP hS => ?_)
    refine lv_bipush (v := 52) hx hb dX10_readMay_87 (by decide) ?_
    refine lv_aload_n hx hb dX10_readMay_89 rfl (lv_at hl 0 rfl) ?_
    refine gM36 hC hP dX10_readMay_90 ?_
    refine lv_imul hx hb dX10_readMay_93 ?_
    refine lv_iload_n hx hb dX10_readMay_94 rfl (lv_at hl 2 rfl) ?_
    refine lv_if_eq (tgt := 113) hx hb dX10_readMay_95 (by decide) (fun c_6 => ?_) (fun c_6 => ?_)
    · replace hF := it_t hF c_6
      refine lv_bipush (v := 40) hx hb dX10_readMay_113 (by decide) ?_
      refine lv_aload_n hx hb dX10_readMay_115 rfl (lv_at hl 0 rfl) ?_
      refine gM14 hC hP dX10_readMay_116 ?_
      refine lv_aload_n hx hb dX10_readMay_119 rfl (lv_at hl 0 rfl) ?_
      refine gM36 hC hP dX10_readMay_120 ?_
      obtain ⟨h_7, hF⟩ := gd_ok hF
      refine M_iald hC hP 14 (by decide) rfl rfl rfl h_7 dX10_readMay_123 ?_
      refine lv_iadd hx hb dX10_readMay_124 ?_
      exact w_readMay_b125 hC hr x2 x3 ((40 : Int32) + (mA σ_5 14 (Int32.toNatClampNeg (mI σ_5 36)))) ((52 : Int32) * (mI σ_5 36)) σ_5 hF H locs ls hP hS (lv_sub hl [0, 1, 2] rfl)
    · replace hF := it_f hF c_6
      refine lv_bipush (v := 48) hx hb dX10_readMay_98 (by decide) ?_
      refine lv_aload_n hx hb dX10_readMay_100 rfl (lv_at hl 0 rfl) ?_
      refine gM15 hC hP dX10_readMay_101 ?_
      refine lv_aload_n hx hb dX10_readMay_104 rfl (lv_at hl 0 rfl) ?_
      refine gM36 hC hP dX10_readMay_105 ?_
      obtain ⟨h_8, hF⟩ := gd_ok hF
      refine M_iald hC hP 15 (by decide) rfl rfl rfl h_8 dX10_readMay_108 ?_
      refine lv_iadd hx hb dX10_readMay_109 ?_
      refine lv_goto (tgt := 125) hx hb dX10_readMay_110 (by decide) ?_
      exact w_readMay_b125 hC hr x2 x3 ((48 : Int32) + (mA σ_5 15 (Int32.toNatClampNeg (mI σ_5 36)))) ((52 : Int32) * (mI σ_5 36)) σ_5 hF H locs ls hP hS (lv_sub hl [0, 1, 2] rfl)
  · replace hF := it_t hF c_3
    exact M_retv hC hP hS hr (Option.some.inj hF) dX10_readMay_82
def F_readMay_b63 (x2 : Int32) (x3 : Int32) (σ : MS) : Option MS :=
  if 0 ≤ x2 then
    F_readMay_b75 x2 x3 σ
  else
    if x3 = 0 then
      bd (F_misplaced σ) fun σ_4 =>
      F_readMay_b75 x2 x3 σ_4
    else
      F_readMay_b75 x2 x3 σ
set_option maxHeartbeats 4000000 in
theorem w_readMay_b63 {p : Program} {l : Launch} {e : Env} {s : State} {m : MethodId} {args : Array Value} {below : List Frame} {meth : Method} {c : Code} {G : MG} (hC : MCx G cX10_readMay 5 p s m args meth c) (hr : meth.sig.returnType = none) {x : MS} :
    ∀ (x2 : Int32) (x3 : Int32) (σ : MS), F_readMay_b63 x2 x3 σ = some x → MJ p l e rmM_readMay s m args below meth c G 5 none x 63 [(0, .ref (gM G)), (2, .int x2), (3, .int x3)] [] σ := by
  have hx := hC.1
  have hb := hC.2.1
  intro x2 x3 σ hF H locs ls hP hS hl
  rw [F_readMay_b63] at hF
  refine lv_iload_n hx hb dX10_readMay_63 rfl (lv_at hl 1 rfl) ?_
  refine lv_if_ge (tgt := 75) hx hb dX10_readMay_64 (by decide) (fun c_1 => ?_) (fun c_1 => ?_)
  · replace hF := it_t hF c_1
    exact w_readMay_b75 hC hr x2 x3 σ hF H locs ls hP hS (lv_sub hl [0, 1, 2] rfl)
  · replace hF := it_f hF c_1
    refine lv_iload_n hx hb dX10_readMay_67 rfl (lv_at hl 2 rfl) ?_
    refine lv_if_ne (tgt := 75) hx hb dX10_readMay_68 (by decide) (fun c_2 => ?_) (fun c_2 => ?_)
    · replace hF := it_f hF c_2
      exact w_readMay_b75 hC hr x2 x3 σ hF H locs ls hP hS (lv_sub hl [0, 1, 2] rfl)
    · replace hF := it_t hF c_2
      refine lv_aload_n hx hb dX10_readMay_71 rfl (lv_at hl 0 rfl) ?_
      obtain ⟨σ_4, hc_3, hF⟩ := bd_ok hF
      refine iM_misplaced hC hP hS hc_3 hl.1 (Nat.le_of_ble_eq_true rfl) ⟨Nat.le_of_ble_eq_true rfl, Nat.le_of_ble_eq_true rfl⟩ ⟨Nat.zero_le _, Nat.zero_le _⟩ dX10_readMay_72 (fun H locs hP hS => ?_)
      exact w_readMay_b75 hC hr x2 x3 σ_4 hF H locs ls hP hS (lv_sub hl [0, 1, 2] rfl)
def F_readMay_b57 (k63 : Int32 → Int32 → MS → Option MS) (x1 : Int32) (x2 : Int32) (x3 : Int32) (σ : MS) : Option MS :=
  bd (F_fails (2 : Int32) x1 σ) fun σ_2 =>
  k63 x2 x3 σ_2
set_option maxHeartbeats 4000000 in
theorem w_readMay_b57 {p : Program} {l : Launch} {e : Env} {s : State} {m : MethodId} {args : Array Value} {below : List Frame} {meth : Method} {c : Code} {G : MG} (hC : MCx G cX10_readMay 5 p s m args meth c) (hr : meth.sig.returnType = none) {x : MS} (k63 : Int32 → Int32 → MS → Option MS) (hk63 : ∀ (x2 : Int32) (x3 : Int32) (σ : MS), k63 x2 x3 σ = some x → MJ p l e rmM_readMay s m args below meth c G 5 none x 63 [(0, .ref (gM G)), (2, .int x2), (3, .int x3)] [] σ) :
    ∀ (x1 : Int32) (x2 : Int32) (x3 : Int32) (σ : MS), F_readMay_b57 k63 x1 x2 x3 σ = some x → MJ p l e rmM_readMay s m args below meth c G 5 none x 57 [(0, .ref (gM G)), (1, .int x1), (2, .int x2), (3, .int x3)] [] σ := by
  have hx := hC.1
  have hb := hC.2.1
  intro x1 x2 x3 σ hF H locs ls hP hS hl
  rw [F_readMay_b57] at hF
  refine lv_aload_n hx hb dX10_readMay_57 rfl (lv_at hl 0 rfl) ?_
  refine lv_iconst (v := 2) hx hb dX10_readMay_58 (by decide) ?_
  refine lv_iload_n hx hb dX10_readMay_59 rfl (lv_at hl 1 rfl) ?_
  obtain ⟨σ_2, hc_1, hF⟩ := bd_ok hF
  refine iM_fails hC hP hS hc_1 hl.1 (Nat.le_of_ble_eq_true rfl) ⟨Nat.le_of_ble_eq_true rfl, Nat.le_of_ble_eq_true rfl⟩ ⟨Nat.zero_le _, Nat.zero_le _⟩ dX10_readMay_60 (fun H locs hP hS => ?_)
  exact hk63 x2 x3 σ_2 hF H locs ls hP hS (lv_sub hl [0, 2, 3] rfl)
def F_readMay_b40 (k57 : Int32 → Int32 → Int32 → MS → Option MS) (k63 : Int32 → Int32 → MS → Option MS) (x1 : Int32) (x2 : Int32) (x3 : Int32) (σ : MS) : Option MS :=
  if x3 = 0 then
    k63 x2 x3 σ
  else
    gd (inb (mI σ 36) 2) <|
    if (mA σ 15 (Int32.toNatClampNeg (mI σ 36))) = (4 : Int32) then
      k57 x1 x2 x3 σ
    else
      k63 x2 x3 σ
set_option maxHeartbeats 4000000 in
theorem w_readMay_b40 {p : Program} {l : Launch} {e : Env} {s : State} {m : MethodId} {args : Array Value} {below : List Frame} {meth : Method} {c : Code} {G : MG} (hC : MCx G cX10_readMay 5 p s m args meth c) (hr : meth.sig.returnType = none) {x : MS} (k57 : Int32 → Int32 → Int32 → MS → Option MS) (hk57 : ∀ (x1 : Int32) (x2 : Int32) (x3 : Int32) (σ : MS), k57 x1 x2 x3 σ = some x → MJ p l e rmM_readMay s m args below meth c G 5 none x 57 [(0, .ref (gM G)), (1, .int x1), (2, .int x2), (3, .int x3)] [] σ) (k63 : Int32 → Int32 → MS → Option MS) (hk63 : ∀ (x2 : Int32) (x3 : Int32) (σ : MS), k63 x2 x3 σ = some x → MJ p l e rmM_readMay s m args below meth c G 5 none x 63 [(0, .ref (gM G)), (2, .int x2), (3, .int x3)] [] σ) :
    ∀ (x1 : Int32) (x2 : Int32) (x3 : Int32) (σ : MS), F_readMay_b40 k57 k63 x1 x2 x3 σ = some x → MJ p l e rmM_readMay s m args below meth c G 5 none x 40 [(0, .ref (gM G)), (1, .int x1), (2, .int x2), (3, .int x3)] [] σ := by
  have hx := hC.1
  have hb := hC.2.1
  intro x1 x2 x3 σ hF H locs ls hP hS hl
  rw [F_readMay_b40] at hF
  refine lv_iload_n hx hb dX10_readMay_40 rfl (lv_at hl 3 rfl) ?_
  refine lv_if_eq (tgt := 63) hx hb dX10_readMay_41 (by decide) (fun c_1 => ?_) (fun c_1 => ?_)
  · replace hF := it_t hF c_1
    exact hk63 x2 x3 σ hF H locs ls hP hS (lv_sub hl [0, 2, 3] rfl)
  · replace hF := it_f hF c_1
    refine lv_aload_n hx hb dX10_readMay_44 rfl (lv_at hl 0 rfl) ?_
    refine gM15 hC hP dX10_readMay_45 ?_
    refine lv_aload_n hx hb dX10_readMay_48 rfl (lv_at hl 0 rfl) ?_
    refine gM36 hC hP dX10_readMay_49 ?_
    obtain ⟨h_2, hF⟩ := gd_ok hF
    refine M_iald hC hP 15 (by decide) rfl rfl rfl h_2 dX10_readMay_52 ?_
    refine lv_iconst (v := 4) hx hb dX10_readMay_53 (by decide) ?_
    refine lv_icmp_ne (tgt := 63) hx hb dX10_readMay_54 (by decide) (fun c_3 => ?_) (fun c_3 => ?_)
    · replace hF := it_f hF c_3
      exact hk63 x2 x3 σ hF H locs ls hP hS (lv_sub hl [0, 2, 3] rfl)
    · replace hF := it_t hF c_3
      exact hk57 x1 x2 x3 σ hF H locs ls hP hS (lv_sub hl [0, 1, 2, 3] rfl)
def F_readMay (σ : MS) : Option MS :=
  lt ((mI σ 6)) fun x1_1 =>
  bd (F_goOn σ) fun σ_3 =>
  bd (F_moveHere σ_3) fun r_5 =>
  bd (F_isWord σ_3 (1869636974 : Int64)) fun r_7 =>
  if r_5 < 0 then
    F_readMay_b40 (F_readMay_b57 (F_readMay_b63)) (F_readMay_b63) x1_1 r_5 r_7 σ_3
  else
    gd (inb (mI σ_3 36) 2) <|
    if (mA σ_3 14 (Int32.toNatClampNeg (mI σ_3 36))) = (8 : Int32) then
      F_readMay_b57 (F_readMay_b63) x1_1 r_5 r_7 σ_3
    else
      F_readMay_b40 (F_readMay_b57 (F_readMay_b63)) (F_readMay_b63) x1_1 r_5 r_7 σ_3
set_option maxHeartbeats 4000000 in
theorem w_readMay {p : Program} {l : Launch} {e : Env} {s : State} {m : MethodId} {args : Array Value} {below : List Frame} {meth : Method} {c : Code} {G : MG} (hC : MCx G cX10_readMay 5 p s m args meth c) (hr : meth.sig.returnType = none) {x : MS} :
    ∀ (σ : MS), F_readMay σ = some x → MJ p l e rmM_readMay s m args below meth c G 5 none x 0 [(0, .ref (gM G))] [] σ := by
  have hx := hC.1
  have hb := hC.2.1
  intro σ hF H locs ls hP hS hl
  rw [F_readMay] at hF
  refine lv_aload_n hx hb dX10_readMay_0 rfl (lv_at hl 0 rfl) ?_
  refine gM6 hC hP dX10_readMay_1 ?_
  refine lv_topi (fun x1_1 ex1_1 => ?_)
  replace hF := lt_at hF ex1_1
  refine lv_istore_n (lv' := [(1, .int x1_1), (0, .ref (gM G))]) hx hb dX10_readMay_4 rfl hl (by decide) rfl (fun ls hl => ?_)
  refine lv_aload_n hx hb dX10_readMay_5 rfl (lv_at hl 1 rfl) ?_
  obtain ⟨σ_3, hc_2, hF⟩ := bd_ok hF
  refine iM_goOn hC hP hS hc_2 hl.1 (Nat.le_of_ble_eq_true rfl) ⟨Nat.le_of_ble_eq_true rfl, Nat.le_of_ble_eq_true rfl⟩ ⟨Nat.zero_le _, Nat.zero_le _⟩ dX10_readMay_6 (fun H locs hP hS => ?_)
  refine lv_aload_n hx hb dX10_readMay_9 rfl (lv_at hl 1 rfl) ?_
  obtain ⟨r_5, hc_4, hF⟩ := bd_ok hF
  refine iM_moveHere hC hP hS hc_4 hl.1 (Nat.le_of_ble_eq_true rfl) ⟨Nat.le_of_ble_eq_true rfl, Nat.le_of_ble_eq_true rfl⟩ ⟨Nat.zero_le _, Nat.zero_le _⟩ dX10_readMay_10 (fun H locs hP hS => ?_)
  refine lv_istore_n (lv' := [(2, .int r_5), (1, .int x1_1), (0, .ref (gM G))]) hx hb dX10_readMay_13 rfl hl (by decide) rfl (fun ls hl => ?_)
  refine lv_aload_n hx hb dX10_readMay_14 rfl (lv_at hl 2 rfl) ?_
  refine lv_ldc2 (v := 1869636974) hx hb hC.2.2.2.1 (hC.2.2.2.2.1 _ q2240) dX10_readMay_15 ?_
  obtain ⟨r_7, hc_6, hF⟩ := bd_ok hF
  refine iM_isWord hC hP hS hc_6 hl.1 (Nat.le_of_ble_eq_true rfl) ⟨Nat.le_of_ble_eq_true rfl, Nat.le_of_ble_eq_true rfl⟩ ⟨Nat.zero_le _, Nat.zero_le _⟩ dX10_readMay_18 (fun H locs hP hS => ?_)
  refine lv_istore_n (lv' := [(3, .int r_7), (2, .int r_5), (1, .int x1_1), (0, .ref (gM G))]) hx hb dX10_readMay_21 rfl hl (by decide) rfl (fun ls hl => ?_)
  refine lv_iload_n hx hb dX10_readMay_22 rfl (lv_at hl 1 rfl) ?_
  refine lv_if_lt (tgt := 40) hx hb dX10_readMay_23 (by decide) (fun c_8 => ?_) (fun c_8 => ?_)
  · replace hF := it_t hF c_8
    exact w_readMay_b40 hC hr (F_readMay_b57 (F_readMay_b63)) (w_readMay_b57 hC hr (F_readMay_b63) (w_readMay_b63 hC hr)) (F_readMay_b63) (w_readMay_b63 hC hr) x1_1 r_5 r_7 σ_3 hF H locs ls hP hS (lv_sub hl [3, 2, 1, 0] rfl)
  · replace hF := it_f hF c_8
    refine lv_aload_n hx hb dX10_readMay_26 rfl (lv_at hl 3 rfl) ?_
    refine gM14 hC hP dX10_readMay_27 ?_
    refine lv_aload_n hx hb dX10_readMay_30 rfl (lv_at hl 3 rfl) ?_
    refine gM36 hC hP dX10_readMay_31 ?_
    obtain ⟨h_9, hF⟩ := gd_ok hF
    refine M_iald hC hP 14 (by decide) rfl rfl rfl h_9 dX10_readMay_34 ?_
    refine lv_bipush (v := 8) hx hb dX10_readMay_35 (by decide) ?_
    refine lv_icmp_eq (tgt := 57) hx hb dX10_readMay_37 (by decide) (fun c_10 => ?_) (fun c_10 => ?_)
    · replace hF := it_t hF c_10
      exact w_readMay_b57 hC hr (F_readMay_b63) (w_readMay_b63 hC hr) x1_1 r_5 r_7 σ_3 hF H locs ls hP hS (lv_sub hl [3, 2, 1, 0] rfl)
    · replace hF := it_f hF c_10
      exact w_readMay_b40 hC hr (F_readMay_b57 (F_readMay_b63)) (w_readMay_b57 hC hr (F_readMay_b63) (w_readMay_b63 hC hr)) (F_readMay_b63) (w_readMay_b63 hC hr) x1_1 r_5 r_7 σ_3 hF H locs ls hP hS (lv_sub hl [3, 2, 1, 0] rfl)
theorem m_readMay (l : Launch) (G : MG) (σ : MS) (x : MS) (hF : F_readMay σ = some x) : Met l yX10_readMay (ws_ yX10_readMay cX10_readMay 5 none) rmM_readMay (mP G [.ref (gM G)] σ) (mQ G none x) 0 0 (MA G) := by
  refine M_met rfl plM (Nat.le_of_ble_eq_true rfl) ?_
  intro p e s m below meth c hC hr ls hl hP
  exact w_readMay hC hr σ hF s.heap [] ls hP va_S.rf hl
theorem iM_readMay {p : Program} {l : Launch} {e : Env} {R : Room} {s : State} {m : MethodId} {args : Array Value} {below : List Frame} {meth : Method} {c : Code} {H H0 : Heap} {locs : List Loc} {cells slots nL : Nat} {Q : State → Prop} {G : MG} {σ : MS} {cc : ByteArray} {pc : Nat} {ls : Array Slot} {rest : List Value} (hC : MCx G cc nL p s m args meth c) (hP : MRep G σ H) (hS : va_S (MA G) H0 H locs) {x : MS} (hF : F_readMay σ = some x) (hl : ls.size = nL) (hW : (rest.map fun v => v.category).sum ≤ 8) (hR : rmM_readMay.frames + 1 ≤ R.frames ∧ 8 + (5 + 11) + rmM_readMay.locals ≤ R.locals) (hf : cells ≤ R.cells ∧ slots ≤ R.slots) (hdg : decode cc pc = .ok (.invokevirtual 340, 3))
    (kk : ∀ (H1 : Heap) (locs1 : List Loc), MRep G x H1 → va_S (MA G) H0 H1 locs1 → W p l e R s m args below meth c H1 locs1 cells slots Q (F0 m (pc + 3) ls (rest))) : W p l e R s m args below meth c H locs cells slots Q (F0 m pc ls (.ref (gM G) :: rest)) :=
  M_inv hC hP hS [] (m_readMay l G σ _ hF) (cwV 0 hC.2.2.2.2.1 (lw_V q2349 q2351 qs101 q145 q2352) rfl rfl rfl (by decide +kernel) hR) rfl rfl hl hW hf hdg kk
/-! readPeople -/
abbrev rmM_readPeople : Room := { frames := 3, cells := 0, slots := 0, locals := 67 }
def F_readPeople_b35 (σ : MS) : Option MS :=
  bd (F_isGood σ) fun r_2 =>
  if r_2 = 0 then
    some σ
  else
    bd (F_goOn σ) fun σ_5 =>
    bd2 (F_numeral (1 : Int32) (3 : Int32) σ_5) fun r_8 σ_7 =>
    gd (inb (mI σ_5 36) 2) <|
    lt (wA σ_7 12 (Int32.toNatClampNeg (mI σ_5 36)) r_8) fun σ_10 =>
    gd (inb (mI σ_10 36) 2) <|
    lt (wA σ_10 20 (Int32.toNatClampNeg (mI σ_10 36)) (1 : Int32)) fun σ_12 =>
    some σ_12
set_option maxHeartbeats 4000000 in
theorem w_readPeople_b35 {p : Program} {l : Launch} {e : Env} {s : State} {m : MethodId} {args : Array Value} {below : List Frame} {meth : Method} {c : Code} {G : MG} (hC : MCx G cX10_readPeople 1 p s m args meth c) (hr : meth.sig.returnType = none) {x : MS} :
    ∀ (σ : MS), F_readPeople_b35 σ = some x → MJ p l e rmM_readPeople s m args below meth c G 1 none x 35 [(0, .ref (gM G))] [] σ := by
  have hx := hC.1
  have hb := hC.2.1
  intro σ hF H locs ls hP hS hl
  rw [F_readPeople_b35] at hF
  refine lv_aload_n hx hb dX10_readPeople_35 rfl (lv_at hl 0 rfl) ?_
  obtain ⟨r_2, hc_1, hF⟩ := bd_ok hF
  refine iM_isGood hC hP hS hc_1 hl.1 (Nat.le_of_ble_eq_true rfl) ⟨Nat.le_of_ble_eq_true rfl, Nat.le_of_ble_eq_true rfl⟩ ⟨Nat.zero_le _, Nat.zero_le _⟩ dX10_readPeople_36 (fun H locs hP hS => ?_)
  refine lv_if_ne (tgt := 43) hx hb dX10_readPeople_39 (by decide) (fun c_3 => ?_) (fun c_3 => ?_)
  · replace hF := it_f hF c_3
    refine lv_aload_n hx hb dX10_readPeople_43 rfl (lv_at hl 0 rfl) ?_
    obtain ⟨σ_5, hc_4, hF⟩ := bd_ok hF
    refine iM_goOn hC hP hS hc_4 hl.1 (Nat.le_of_ble_eq_true rfl) ⟨Nat.le_of_ble_eq_true rfl, Nat.le_of_ble_eq_true rfl⟩ ⟨Nat.zero_le _, Nat.zero_le _⟩ dX10_readPeople_44 (fun H locs hP hS => ?_)
    refine lv_aload_n hx hb dX10_readPeople_47 rfl (lv_at hl 0 rfl) ?_
    refine gM12 hC hP dX10_readPeople_48 ?_
    refine lv_aload_n hx hb dX10_readPeople_51 rfl (lv_at hl 0 rfl) ?_
    refine gM36 hC hP dX10_readPeople_52 ?_
    refine lv_aload_n hx hb dX10_readPeople_55 rfl (lv_at hl 0 rfl) ?_
    refine lv_iconst (v := 1) hx hb dX10_readPeople_56 (by decide) ?_
    refine lv_iconst (v := 3) hx hb dX10_readPeople_57 (by decide) ?_
    obtain ⟨r_8, σ_7, hc_6, hF⟩ := bd2_ok hF
    refine iM_numeral hC hP hS hc_6 hl.1 (Nat.le_of_ble_eq_true rfl) ⟨Nat.le_of_ble_eq_true rfl, Nat.le_of_ble_eq_true rfl⟩ ⟨Nat.zero_le _, Nat.zero_le _⟩ dX10_readPeople_58 (fun H locs hP hS => ?_)
    obtain ⟨h_9, hF⟩ := gd_ok hF
    refine M_iast hC hP hS 12 (by decide) rfl rfl rfl h_9 dX10_readPeople_61 (fun H locs hP hS => ?_)
    obtain ⟨σ_10, eσ_10, hF⟩ := lt_ok hF
    rw [← eσ_10] at hP
    refine lv_aload_n hx hb dX10_readPeople_62 rfl (lv_at hl 0 rfl) ?_
    refine gM20 hC hP dX10_readPeople_63 ?_
    refine lv_aload_n hx hb dX10_readPeople_66 rfl (lv_at hl 0 rfl) ?_
    refine gM36 hC hP dX10_readPeople_67 ?_
    refine lv_iconst (v := 1) hx hb dX10_readPeople_70 (by decide) ?_
    obtain ⟨h_11, hF⟩ := gd_ok hF
    refine M_zast hC hP hS 20 (by decide) rfl rfl rfl (Or.inr rfl) h_11 dX10_readPeople_71 (fun H locs hP hS => ?_)
    obtain ⟨σ_12, eσ_12, hF⟩ := lt_ok hF
    rw [← eσ_12] at hP
    exact M_retv hC hP hS hr (Option.some.inj hF) dX10_readPeople_72
  · replace hF := it_t hF c_3
    exact M_retv hC hP hS hr (Option.some.inj hF) dX10_readPeople_42
def F_readPeople_b31 (k35 : MS → Option MS) (σ : MS) : Option MS :=
  bd (F_misplaced σ) fun σ_2 =>
  k35 σ_2
set_option maxHeartbeats 4000000 in
theorem w_readPeople_b31 {p : Program} {l : Launch} {e : Env} {s : State} {m : MethodId} {args : Array Value} {below : List Frame} {meth : Method} {c : Code} {G : MG} (hC : MCx G cX10_readPeople 1 p s m args meth c) (hr : meth.sig.returnType = none) {x : MS} (k35 : MS → Option MS) (hk35 : ∀ (σ : MS), k35 σ = some x → MJ p l e rmM_readPeople s m args below meth c G 1 none x 35 [(0, .ref (gM G))] [] σ) :
    ∀ (σ : MS), F_readPeople_b31 k35 σ = some x → MJ p l e rmM_readPeople s m args below meth c G 1 none x 31 [(0, .ref (gM G))] [] σ := by
  have hx := hC.1
  have hb := hC.2.1
  intro σ hF H locs ls hP hS hl
  rw [F_readPeople_b31] at hF
  refine lv_aload_n hx hb dX10_readPeople_31 rfl (lv_at hl 0 rfl) ?_
  obtain ⟨σ_2, hc_1, hF⟩ := bd_ok hF
  refine iM_misplaced hC hP hS hc_1 hl.1 (Nat.le_of_ble_eq_true rfl) ⟨Nat.le_of_ble_eq_true rfl, Nat.le_of_ble_eq_true rfl⟩ ⟨Nat.zero_le _, Nat.zero_le _⟩ dX10_readPeople_32 (fun H locs hP hS => ?_)
  exact hk35 σ_2 hF H locs ls hP hS (lv_sub hl [0] rfl)
def F_readPeople (σ : MS) : Option MS :=
  gd (inb (mI σ 36) 2) <|
  if (mA σ 20 (Int32.toNatClampNeg (mI σ 36))) = 0 then
    gd (inb (mI σ 36) 2) <|
    if (mA σ 21 (Int32.toNatClampNeg (mI σ 36))) = 0 then
      if (mI σ 40) = 0 then
        F_readPeople_b35 σ
      else
        F_readPeople_b31 (F_readPeople_b35) σ
    else
      F_readPeople_b31 (F_readPeople_b35) σ
  else
    F_readPeople_b31 (F_readPeople_b35) σ
set_option maxHeartbeats 4000000 in
theorem w_readPeople {p : Program} {l : Launch} {e : Env} {s : State} {m : MethodId} {args : Array Value} {below : List Frame} {meth : Method} {c : Code} {G : MG} (hC : MCx G cX10_readPeople 1 p s m args meth c) (hr : meth.sig.returnType = none) {x : MS} :
    ∀ (σ : MS), F_readPeople σ = some x → MJ p l e rmM_readPeople s m args below meth c G 1 none x 0 [(0, .ref (gM G))] [] σ := by
  have hx := hC.1
  have hb := hC.2.1
  intro σ hF H locs ls hP hS hl
  rw [F_readPeople] at hF
  refine lv_aload_n hx hb dX10_readPeople_0 rfl (lv_at hl 0 rfl) ?_
  refine gM20 hC hP dX10_readPeople_1 ?_
  refine lv_aload_n hx hb dX10_readPeople_4 rfl (lv_at hl 0 rfl) ?_
  refine gM36 hC hP dX10_readPeople_5 ?_
  obtain ⟨h_1, hF⟩ := gd_ok hF
  refine M_zald hC hP 20 (by decide) rfl rfl rfl h_1 dX10_readPeople_8 ?_
  refine lv_if_ne (tgt := 31) hx hb dX10_readPeople_9 (by decide) (fun c_2 => ?_) (fun c_2 => ?_)
  · replace hF := it_f hF c_2
    exact w_readPeople_b31 hC hr (F_readPeople_b35) (w_readPeople_b35 hC hr) σ hF H locs ls hP hS (lv_sub hl [0] rfl)
  · replace hF := it_t hF c_2
    refine lv_aload_n hx hb dX10_readPeople_12 rfl (lv_at hl 0 rfl) ?_
    refine gM21 hC hP dX10_readPeople_13 ?_
    refine lv_aload_n hx hb dX10_readPeople_16 rfl (lv_at hl 0 rfl) ?_
    refine gM36 hC hP dX10_readPeople_17 ?_
    obtain ⟨h_3, hF⟩ := gd_ok hF
    refine M_zald hC hP 21 (by decide) rfl rfl rfl h_3 dX10_readPeople_20 ?_
    refine lv_if_ne (tgt := 31) hx hb dX10_readPeople_21 (by decide) (fun c_4 => ?_) (fun c_4 => ?_)
    · replace hF := it_f hF c_4
      exact w_readPeople_b31 hC hr (F_readPeople_b35) (w_readPeople_b35 hC hr) σ hF H locs ls hP hS (lv_sub hl [0] rfl)
    · replace hF := it_t hF c_4
      refine lv_aload_n hx hb dX10_readPeople_24 rfl (lv_at hl 0 rfl) ?_
      refine gM40 hC hP dX10_readPeople_25 ?_
      refine lv_if_eq (tgt := 35) hx hb dX10_readPeople_28 (by decide) (fun c_5 => ?_) (fun c_5 => ?_)
      · replace hF := it_t hF c_5
        exact w_readPeople_b35 hC hr σ hF H locs ls hP hS (lv_sub hl [0] rfl)
      · replace hF := it_f hF c_5
        exact w_readPeople_b31 hC hr (F_readPeople_b35) (w_readPeople_b35 hC hr) σ hF H locs ls hP hS (lv_sub hl [0] rfl)
theorem m_readPeople (l : Launch) (G : MG) (σ : MS) (x : MS) (hF : F_readPeople σ = some x) : Met l yX10_readPeople (ws_ yX10_readPeople cX10_readPeople 1 none) rmM_readPeople (mP G [.ref (gM G)] σ) (mQ G none x) 0 0 (MA G) := by
  refine M_met rfl plM (Nat.le_of_ble_eq_true rfl) ?_
  intro p e s m below meth c hC hr ls hl hP
  exact w_readPeople hC hr σ hF s.heap [] ls hP va_S.rf hl
theorem iM_readPeople {p : Program} {l : Launch} {e : Env} {R : Room} {s : State} {m : MethodId} {args : Array Value} {below : List Frame} {meth : Method} {c : Code} {H H0 : Heap} {locs : List Loc} {cells slots nL : Nat} {Q : State → Prop} {G : MG} {σ : MS} {cc : ByteArray} {pc : Nat} {ls : Array Slot} {rest : List Value} (hC : MCx G cc nL p s m args meth c) (hP : MRep G σ H) (hS : va_S (MA G) H0 H locs) {x : MS} (hF : F_readPeople σ = some x) (hl : ls.size = nL) (hW : (rest.map fun v => v.category).sum ≤ 8) (hR : rmM_readPeople.frames + 1 ≤ R.frames ∧ 8 + (1 + 11) + rmM_readPeople.locals ≤ R.locals) (hf : cells ≤ R.cells ∧ slots ≤ R.slots) (hdg : decode cc pc = .ok (.invokevirtual 334, 3))
    (kk : ∀ (H1 : Heap) (locs1 : List Loc), MRep G x H1 → va_S (MA G) H0 H1 locs1 → W p l e R s m args below meth c H1 locs1 cells slots Q (F0 m (pc + 3) ls (rest))) : W p l e R s m args below meth c H locs cells slots Q (F0 m pc ls (.ref (gM G) :: rest)) :=
  M_inv hC hP hS [] (m_readPeople l G σ _ hF) (cwV 0 hC.2.2.2.2.1 (lw_V q2289 q2291 qs86 q145 q2292) rfl rfl rfl (by decide +kernel) hR) rfl rfl hl hW hf hdg kk
/-! colour -/
abbrev rmM_colour : Room := { frames := 3, cells := 0, slots := 0, locals := 65 }
def F_colour_b51 (x1 : Int32) (y0 : Int32) (σ : MS) : Option (Int32 × MS) :=
  bd (F_must y0 σ) fun σ_2 =>
  some (x1, σ_2)
set_option maxHeartbeats 4000000 in
theorem w_colour_b51 {p : Program} {l : Launch} {e : Env} {s : State} {m : MethodId} {args : Array Value} {below : List Frame} {meth : Method} {c : Code} {G : MG} (hC : MCx G cX10_colour 2 p s m args meth c) (hr : meth.sig.returnType = some .int) {x : (Int32 × MS)} :
    ∀ (x1 : Int32) (y0 : Int32) (σ : MS), F_colour_b51 x1 y0 σ = some x → MJ p l e rmM_colour s m args below meth c G 2 (some (.int x.1)) x.2 51 [(1, .int x1)] [.int y0, .ref (gM G)] σ := by
  have hx := hC.1
  have hb := hC.2.1
  intro x1 y0 σ hF H locs ls hP hS hl
  rw [F_colour_b51] at hF
  obtain ⟨σ_2, hc_1, hF⟩ := bd_ok hF
  refine iM_must hC hP hS hc_1 hl.1 (Nat.le_of_ble_eq_true rfl) ⟨Nat.le_of_ble_eq_true rfl, Nat.le_of_ble_eq_true rfl⟩ ⟨Nat.zero_le _, Nat.zero_le _⟩ dX10_colour_51 (fun H locs hP hS => ?_)
  refine lv_iload_n hx hb dX10_colour_54 rfl (lv_at hl 0 rfl) ?_
  exact M_reti hC hP hS hr (rt1 hF) (rt2 hF) dX10_colour_55
def F_colour_b46 (k51 : Int32 → Int32 → MS → Option (Int32 × MS)) (x1 : Int32) (σ : MS) : Option (Int32 × MS) :=
  k51 x1 (1 : Int32) σ
set_option maxHeartbeats 4000000 in
theorem w_colour_b46 {p : Program} {l : Launch} {e : Env} {s : State} {m : MethodId} {args : Array Value} {below : List Frame} {meth : Method} {c : Code} {G : MG} (hC : MCx G cX10_colour 2 p s m args meth c) (hr : meth.sig.returnType = some .int) {x : (Int32 × MS)} (k51 : Int32 → Int32 → MS → Option (Int32 × MS)) (hk51 : ∀ (x1 : Int32) (y0 : Int32) (σ : MS), k51 x1 y0 σ = some x → MJ p l e rmM_colour s m args below meth c G 2 (some (.int x.1)) x.2 51 [(1, .int x1)] [.int y0, .ref (gM G)] σ) :
    ∀ (x1 : Int32) (σ : MS), F_colour_b46 k51 x1 σ = some x → MJ p l e rmM_colour s m args below meth c G 2 (some (.int x.1)) x.2 46 [(1, .int x1)] [.ref (gM G)] σ := by
  have hx := hC.1
  have hb := hC.2.1
  intro x1 σ hF H locs ls hP hS hl
  rw [F_colour_b46] at hF
  refine lv_iconst (v := 1) hx hb dX10_colour_46 (by decide) ?_
  refine lv_goto (tgt := 51) hx hb dX10_colour_47 (by decide) ?_
  exact hk51 x1 (1 : Int32) σ hF H locs ls hP hS (lv_sub hl [0] rfl)
def F_colour_b24 (y0 : Int32) (σ : MS) : Option (Int32 × MS) :=
  bd (F_isWord σ (7497060 : Int64)) fun r_2 =>
  if r_2 = 0 then
    bd (F_isWord σ (422725116779 : Int64)) fun r_5 =>
    if r_5 = 0 then
      F_colour_b51 y0 (0 : Int32) σ
    else
      F_colour_b46 (F_colour_b51) y0 σ
  else
    F_colour_b46 (F_colour_b51) y0 σ
set_option maxHeartbeats 4000000 in
theorem w_colour_b24 {p : Program} {l : Launch} {e : Env} {s : State} {m : MethodId} {args : Array Value} {below : List Frame} {meth : Method} {c : Code} {G : MG} (hC : MCx G cX10_colour 2 p s m args meth c) (hr : meth.sig.returnType = some .int) {x : (Int32 × MS)} :
    ∀ (y0 : Int32) (σ : MS), F_colour_b24 y0 σ = some x → MJ p l e rmM_colour s m args below meth c G 2 (some (.int x.1)) x.2 24 [(0, .ref (gM G))] [.int y0] σ := by
  have hx := hC.1
  have hb := hC.2.1
  intro y0 σ hF H locs ls hP hS hl
  rw [F_colour_b24] at hF
  refine lv_istore_n (lv' := [(1, .int y0), (0, .ref (gM G))]) hx hb dX10_colour_24 rfl hl (by decide) rfl (fun ls hl => ?_)
  refine lv_aload_n hx hb dX10_colour_25 rfl (lv_at hl 1 rfl) ?_
  refine lv_aload_n hx hb dX10_colour_26 rfl (lv_at hl 1 rfl) ?_
  refine lv_ldc2 (v := 7497060) hx hb hC.2.2.2.1 (hC.2.2.2.2.1 _ q2249) dX10_colour_27 ?_
  obtain ⟨r_2, hc_1, hF⟩ := bd_ok hF
  refine iM_isWord hC hP hS hc_1 hl.1 (Nat.le_of_ble_eq_true rfl) ⟨Nat.le_of_ble_eq_true rfl, Nat.le_of_ble_eq_true rfl⟩ ⟨Nat.zero_le _, Nat.zero_le _⟩ dX10_colour_30 (fun H locs hP hS => ?_)
  refine lv_if_ne (tgt := 46) hx hb dX10_colour_33 (by decide) (fun c_3 => ?_) (fun c_3 => ?_)
  · replace hF := it_f hF c_3
    exact w_colour_b46 hC hr (F_colour_b51) (w_colour_b51 hC hr) y0 σ hF H locs ls hP hS (lv_sub hl [0] rfl)
  · replace hF := it_t hF c_3
    refine lv_aload_n hx hb dX10_colour_36 rfl (lv_at hl 1 rfl) ?_
    refine lv_ldc2 (v := 422725116779) hx hb hC.2.2.2.1 (hC.2.2.2.2.1 _ q2250) dX10_colour_37 ?_
    obtain ⟨r_5, hc_4, hF⟩ := bd_ok hF
    refine iM_isWord hC hP hS hc_4 hl.1 (Nat.le_of_ble_eq_true rfl) ⟨Nat.le_of_ble_eq_true rfl, Nat.le_of_ble_eq_true rfl⟩ ⟨Nat.zero_le _, Nat.zero_le _⟩ dX10_colour_40 (fun H locs hP hS => ?_)
    refine lv_if_eq (tgt := 50) hx hb dX10_colour_43 (by decide) (fun c_6 => ?_) (fun c_6 => ?_)
    · replace hF := it_t hF c_6
      refine lv_iconst (v := 0) hx hb dX10_colour_50 (by decide) ?_
      exact w_colour_b51 hC hr y0 (0 : Int32) σ hF H locs ls hP hS (lv_sub hl [0] rfl)
    · replace hF := it_f hF c_6
      exact w_colour_b46 hC hr (F_colour_b51) (w_colour_b51 hC hr) y0 σ hF H locs ls hP hS (lv_sub hl [0] rfl)
def F_colour (σ : MS) : Option (Int32 × MS) :=
  bd (F_isGood σ) fun r_2 =>
  if r_2 = 0 then
    some ((0 : Int32), σ)
  else
    bd (F_isWord σ (7497060 : Int64)) fun r_5 =>
    if r_5 = 0 then
      F_colour_b24 (0 : Int32) σ
    else
      F_colour_b24 (1 : Int32) σ
set_option maxHeartbeats 4000000 in
theorem w_colour {p : Program} {l : Launch} {e : Env} {s : State} {m : MethodId} {args : Array Value} {below : List Frame} {meth : Method} {c : Code} {G : MG} (hC : MCx G cX10_colour 2 p s m args meth c) (hr : meth.sig.returnType = some .int) {x : (Int32 × MS)} :
    ∀ (σ : MS), F_colour σ = some x → MJ p l e rmM_colour s m args below meth c G 2 (some (.int x.1)) x.2 0 [(0, .ref (gM G))] [] σ := by
  have hx := hC.1
  have hb := hC.2.1
  intro σ hF H locs ls hP hS hl
  rw [F_colour] at hF
  refine lv_aload_n hx hb dX10_colour_0 rfl (lv_at hl 0 rfl) ?_
  obtain ⟨r_2, hc_1, hF⟩ := bd_ok hF
  refine iM_isGood hC hP hS hc_1 hl.1 (Nat.le_of_ble_eq_true rfl) ⟨Nat.le_of_ble_eq_true rfl, Nat.le_of_ble_eq_true rfl⟩ ⟨Nat.zero_le _, Nat.zero_le _⟩ dX10_colour_1 (fun H locs hP hS => ?_)
  refine lv_if_ne (tgt := 9) hx hb dX10_colour_4 (by decide) (fun c_3 => ?_) (fun c_3 => ?_)
  · replace hF := it_f hF c_3
    refine lv_aload_n hx hb dX10_colour_9 rfl (lv_at hl 0 rfl) ?_
    refine lv_ldc2 (v := 7497060) hx hb hC.2.2.2.1 (hC.2.2.2.2.1 _ q2249) dX10_colour_10 ?_
    obtain ⟨r_5, hc_4, hF⟩ := bd_ok hF
    refine iM_isWord hC hP hS hc_4 hl.1 (Nat.le_of_ble_eq_true rfl) ⟨Nat.le_of_ble_eq_true rfl, Nat.le_of_ble_eq_true rfl⟩ ⟨Nat.zero_le _, Nat.zero_le _⟩ dX10_colour_13 (fun H locs hP hS => ?_)
    refine lv_if_eq (tgt := 23) hx hb dX10_colour_16 (by decide) (fun c_6 => ?_) (fun c_6 => ?_)
    · replace hF := it_t hF c_6
      refine lv_iconst (v := 0) hx hb dX10_colour_23 (by decide) ?_
      exact w_colour_b24 hC hr (0 : Int32) σ hF H locs ls hP hS (lv_sub hl [0] rfl)
    · replace hF := it_f hF c_6
      refine lv_iconst (v := 1) hx hb dX10_colour_19 (by decide) ?_
      refine lv_goto (tgt := 24) hx hb dX10_colour_20 (by decide) ?_
      exact w_colour_b24 hC hr (1 : Int32) σ hF H locs ls hP hS (lv_sub hl [0] rfl)
  · replace hF := it_t hF c_3
    refine lv_iconst (v := 0) hx hb dX10_colour_7 (by decide) ?_
    exact M_reti hC hP hS hr (rt1 hF) (rt2 hF) dX10_colour_8
theorem m_colour (l : Launch) (G : MG) (σ : MS) (x : (Int32 × MS)) (hF : F_colour σ = some x) : Met l yX10_colour (ws_ yX10_colour cX10_colour 2 (some .int)) rmM_colour (mP G [.ref (gM G)] σ) (mQ G (some (.int x.1)) x.2) 0 0 (MA G) := by
  refine M_met rfl plM (Nat.le_of_ble_eq_true rfl) ?_
  intro p e s m below meth c hC hr ls hl hP
  exact w_colour hC hr σ hF s.heap [] ls hP va_S.rf hl
theorem iM_colour {p : Program} {l : Launch} {e : Env} {R : Room} {s : State} {m : MethodId} {args : Array Value} {below : List Frame} {meth : Method} {c : Code} {H H0 : Heap} {locs : List Loc} {cells slots nL : Nat} {Q : State → Prop} {G : MG} {σ : MS} {cc : ByteArray} {pc : Nat} {ls : Array Slot} {rest : List Value} (hC : MCx G cc nL p s m args meth c) (hP : MRep G σ H) (hS : va_S (MA G) H0 H locs) {x : Int32} {σ1 : MS} (hF : F_colour σ = some (x, σ1)) (hl : ls.size = nL) (hW : (rest.map fun v => v.category).sum ≤ 8) (hR : rmM_colour.frames + 1 ≤ R.frames ∧ 8 + (2 + 11) + rmM_colour.locals ≤ R.locals) (hf : cells ≤ R.cells ∧ slots ≤ R.slots) (hdg : decode cc pc = .ok (.invokevirtual 373, 3))
    (kk : ∀ (H1 : Heap) (locs1 : List Loc), MRep G σ1 H1 → va_S (MA G) H0 H1 locs1 → W p l e R s m args below meth c H1 locs1 cells slots Q (F0 m (pc + 3) ls (.int x :: rest))) : W p l e R s m args below meth c H locs cells slots Q (F0 m pc ls (.ref (gM G) :: rest)) :=
  M_inv hC hP hS [] (m_colour l G σ _ hF) (cwV 0 hC.2.2.2.2.1 (lw_V q2377 q2379 qs108 q145 q2380) rfl rfl rfl (by decide +kernel) hR) rfl rfl hl hW hf hdg kk
/-! isMarked -/
abbrev rmM_isMarked : Room := { frames := 0, cells := 0, slots := 0, locals := 0 }
def F_isMarked_b48 (σ : MS) (k8 : Int32 → Int32 → Option Int32) (x1 : Int32) (x2 : Int32) : Option Int32 :=
  lt (x2 + (1 : Int32)) fun x2_1 =>
  k8 x1 x2_1
set_option maxHeartbeats 4000000 in
theorem w_isMarked_b48 {p : Program} {l : Launch} {e : Env} {s : State} {m : MethodId} {args : Array Value} {below : List Frame} {meth : Method} {c : Code} {G : MG} (hC : MCx G cX10_isMarked 3 p s m args meth c) (hr : meth.sig.returnType = some .boolean) {x : Int32} {σ : MS} (k8 : Int32 → Int32 → Option Int32) (hk8 : ∀ (x1 : Int32) (x2 : Int32), k8 x1 x2 = some x → MJ p l e rmM_isMarked s m args below meth c G 3 (some (.int x)) σ 8 [(0, .ref (gM G)), (1, .int x1), (2, .int x2)] [] σ) :
    ∀ (x1 : Int32) (x2 : Int32), F_isMarked_b48 σ k8 x1 x2 = some x → MJ p l e rmM_isMarked s m args below meth c G 3 (some (.int x)) σ 48 [(0, .ref (gM G)), (1, .int x1), (2, .int x2)] [] σ := by
  have hx := hC.1
  have hb := hC.2.1
  intro x1 x2 hF H locs ls hP hS hl
  rw [F_isMarked_b48] at hF
  obtain ⟨x2_1, ex2_1, hF⟩ := lt_ok hF
  refine lv_iinc (v := x2_1) (lv' := [(2, .int x2_1), (0, .ref (gM G)), (1, .int x1)]) hx hb dX10_isMarked_48 hl (k := 2) rfl (by rw [ex2_1]; rfl) (by decide) rfl (fun ls hl => ?_)
  refine lv_goto (tgt := 8) hx hb dX10_isMarked_51 (by decide) ?_
  exact hk8 x1 x2_1 hF H locs ls hP hS (lv_sub hl [1, 2, 0] rfl)
def F_isMarked_L8 (σ : MS) : Nat → Int32 → Int32 → Option Int32
  | 0, _, _ => none
  | fu + 1, x1, x2 =>
    if x1 ≤ x2 then
      some (0 : Int32)
    else
      if (mI σ 8) = (2 : Int32) then
        gd (inb x2 104) <|
        if (mA σ 22 (Int32.toNatClampNeg x2)) = (10 : Int32) then
          gd (inb x2 104) <|
          if (lg_cmp (mL σ 29 (Int32.toNatClampNeg x2)) (mL σ 10 0)) = 0 then
            some (1 : Int32)
          else
            F_isMarked_b48 σ (F_isMarked_L8 σ fu) x1 x2
        else
          F_isMarked_b48 σ (F_isMarked_L8 σ fu) x1 x2
      else
        F_isMarked_b48 σ (F_isMarked_L8 σ fu) x1 x2
set_option maxHeartbeats 4000000 in
theorem w_isMarked_L8 {p : Program} {l : Launch} {e : Env} {s : State} {m : MethodId} {args : Array Value} {below : List Frame} {meth : Method} {c : Code} {G : MG} (hC : MCx G cX10_isMarked 3 p s m args meth c) (hr : meth.sig.returnType = some .boolean) {x : Int32} {σ : MS} :
    ∀ (fu : Nat) (x1 : Int32) (x2 : Int32), F_isMarked_L8 σ fu x1 x2 = some x → MJ p l e rmM_isMarked s m args below meth c G 3 (some (.int x)) σ 8 [(0, .ref (gM G)), (1, .int x1), (2, .int x2)] [] σ := by
  have hx := hC.1
  have hb := hC.2.1
  intro fu
  induction fu with
  | zero => intro x1 x2 hF; exact nm_none hF
  | succ fu ih =>
    intro x1 x2 hF H locs ls hP hS hl
    rw [F_isMarked_L8] at hF
    refine lv_iload_n hx hb dX10_isMarked_8 rfl (lv_at hl 2 rfl) ?_
    refine lv_iload_n hx hb dX10_isMarked_9 rfl (lv_at hl 1 rfl) ?_
    refine lv_icmp_ge (tgt := 54) hx hb dX10_isMarked_10 (by decide) (fun c_1 => ?_) (fun c_1 => ?_)
    · replace hF := it_t hF c_1
      refine lv_iconst (v := 0) hx hb dX10_isMarked_54 (by decide) ?_
      exact M_retz hC hP hS hr (Or.inl rfl) (Option.some.inj hF) rfl dX10_isMarked_55
    · replace hF := it_f hF c_1
      refine lv_aload_n hx hb dX10_isMarked_13 rfl (lv_at hl 0 rfl) ?_
      refine gM8 hC hP dX10_isMarked_14 ?_
      refine lv_iconst (v := 2) hx hb dX10_isMarked_17 (by decide) ?_
      refine lv_icmp_ne (tgt := 48) hx hb dX10_isMarked_18 (by decide) (fun c_2 => ?_) (fun c_2 => ?_)
      · replace hF := it_f hF c_2
        exact w_isMarked_b48 hC hr (F_isMarked_L8 σ fu) ih x1 x2 hF H locs ls hP hS (lv_sub hl [0, 1, 2] rfl)
      · replace hF := it_t hF c_2
        refine lv_aload_n hx hb dX10_isMarked_21 rfl (lv_at hl 0 rfl) ?_
        refine gM22 hC hP dX10_isMarked_22 ?_
        refine lv_iload_n hx hb dX10_isMarked_25 rfl (lv_at hl 2 rfl) ?_
        obtain ⟨h_3, hF⟩ := gd_ok hF
        refine M_iald hC hP 22 (by decide) rfl rfl rfl h_3 dX10_isMarked_26 ?_
        refine lv_bipush (v := 10) hx hb dX10_isMarked_27 (by decide) ?_
        refine lv_icmp_ne (tgt := 48) hx hb dX10_isMarked_29 (by decide) (fun c_4 => ?_) (fun c_4 => ?_)
        · replace hF := it_f hF c_4
          exact w_isMarked_b48 hC hr (F_isMarked_L8 σ fu) ih x1 x2 hF H locs ls hP hS (lv_sub hl [0, 1, 2] rfl)
        · replace hF := it_t hF c_4
          refine lv_aload_n hx hb dX10_isMarked_32 rfl (lv_at hl 0 rfl) ?_
          refine gM29 hC hP dX10_isMarked_33 ?_
          refine lv_iload_n hx hb dX10_isMarked_36 rfl (lv_at hl 2 rfl) ?_
          obtain ⟨h_5, hF⟩ := gd_ok hF
          refine M_lald hC hP 29 (by decide) rfl rfl rfl h_5 dX10_isMarked_37 ?_
          refine lv_aload_n hx hb dX10_isMarked_38 rfl (lv_at hl 0 rfl) ?_
          refine gM10 hC hP dX10_isMarked_39 ?_
          refine W.lcmp hx hb dX10_isMarked_42 ?_
          refine lv_if_ne (tgt := 48) hx hb dX10_isMarked_43 (by decide) (fun c_6 => ?_) (fun c_6 => ?_)
          · replace hF := it_f hF c_6
            exact w_isMarked_b48 hC hr (F_isMarked_L8 σ fu) ih x1 x2 hF H locs ls hP hS (lv_sub hl [0, 1, 2] rfl)
          · replace hF := it_t hF c_6
            refine lv_iconst (v := 1) hx hb dX10_isMarked_46 (by decide) ?_
            exact M_retz hC hP hS hr (Or.inr rfl) (Option.some.inj hF) rfl dX10_isMarked_47
def F_isMarked (σ : MS) (a0 : Int32) : Option Int32 :=
  lt (((52 : Int32) * (mI σ 36))) fun x2_1 =>
  F_isMarked_L8 σ MN a0 x2_1
set_option maxHeartbeats 4000000 in
theorem w_isMarked {p : Program} {l : Launch} {e : Env} {s : State} {m : MethodId} {args : Array Value} {below : List Frame} {meth : Method} {c : Code} {G : MG} (hC : MCx G cX10_isMarked 3 p s m args meth c) (hr : meth.sig.returnType = some .boolean) {x : Int32} {σ : MS} :
    ∀ (a0 : Int32), F_isMarked σ a0 = some x → MJ p l e rmM_isMarked s m args below meth c G 3 (some (.int x)) σ 0 [(0, .ref (gM G)), (1, .int a0)] [] σ := by
  have hx := hC.1
  have hb := hC.2.1
  intro a0 hF H locs ls hP hS hl
  rw [F_isMarked] at hF
  refine lv_bipush (v := 52) hx hb dX10_isMarked_0 (by decide) ?_
  refine lv_aload_n hx hb dX10_isMarked_2 rfl (lv_at hl 0 rfl) ?_
  refine gM36 hC hP dX10_isMarked_3 ?_
  refine lv_imul hx hb dX10_isMarked_6 ?_
  refine lv_topi (fun x2_1 ex2_1 => ?_)
  replace hF := lt_at hF ex2_1
  refine lv_istore_n (lv' := [(2, .int x2_1), (0, .ref (gM G)), (1, .int a0)]) hx hb dX10_isMarked_7 rfl hl (by decide) rfl (fun ls hl => ?_)
  exact w_isMarked_L8 hC hr MN a0 x2_1 hF H locs ls hP hS (lv_sub hl [1, 2, 0] rfl)
theorem m_isMarked (l : Launch) (G : MG) (a0 : Int32) (σ : MS) (x : Int32) (hF : F_isMarked σ a0 = some x) : Met l yX10_isMarked (ws_ yX10_isMarked cX10_isMarked 3 (some .boolean)) rmM_isMarked (mP G [.ref (gM G), .int a0] σ) (mQ G (some (.int x)) σ) 0 0 (MA G) := by
  refine M_met rfl plM (Nat.le_of_ble_eq_true rfl) ?_
  intro p e s m below meth c hC hr ls hl hP
  exact w_isMarked hC hr a0 hF s.heap [] ls hP va_S.rf hl
theorem iM_isMarked {p : Program} {l : Launch} {e : Env} {R : Room} {s : State} {m : MethodId} {args : Array Value} {below : List Frame} {meth : Method} {c : Code} {H H0 : Heap} {locs : List Loc} {cells slots nL : Nat} {Q : State → Prop} {G : MG} {σ : MS} {cc : ByteArray} {pc : Nat} {ls : Array Slot} {rest : List Value} (hC : MCx G cc nL p s m args meth c) (hP : MRep G σ H) (hS : va_S (MA G) H0 H locs) {a0 : Int32} {x : Int32} (hF : F_isMarked σ a0 = some x) (hl : ls.size = nL) (hW : (rest.map fun v => v.category).sum ≤ 8) (hR : rmM_isMarked.frames + 1 ≤ R.frames ∧ 8 + (3 + 11) + rmM_isMarked.locals ≤ R.locals) (hf : cells ≤ R.cells ∧ slots ≤ R.slots) (hdg : decode cc pc = .ok (.invokevirtual 376, 3))
    (kk : ∀ (H1 : Heap) (locs1 : List Loc), MRep G σ H1 → va_S (MA G) H0 H1 locs1 → W p l e R s m args below meth c H1 locs1 cells slots Q (F0 m (pc + 3) ls (.int x :: rest))) : W p l e R s m args below meth c H locs cells slots Q (F0 m pc ls (.int a0 :: .ref (gM G) :: rest)) :=
  M_inv hC hP hS [.int a0] (m_isMarked l G a0 σ _ hF) (cwV 1 hC.2.2.2.2.1 (lw_V q2381 q2383 qs109 q145 q2384) rfl rfl rfl (by decide +kernel) hR) rfl rfl hl hW hf hdg kk
/-! who -/
abbrev rmM_who : Room := { frames := 2, cells := 0, slots := 0, locals := 44 }
def F_who_b38 (x1 : Int32) (σ : MS) : Option (Int32 × MS) :=
  bd (F_isGood σ) fun r_2 =>
  if r_2 = 0 then
    some (x1, σ)
  else
    bd (F_goOn σ) fun σ_5 =>
    some (x1, σ_5)
set_option maxHeartbeats 4000000 in
theorem w_who_b38 {p : Program} {l : Launch} {e : Env} {s : State} {m : MethodId} {args : Array Value} {below : List Frame} {meth : Method} {c : Code} {G : MG} (hC : MCx G cX10_who 2 p s m args meth c) (hr : meth.sig.returnType = some .int) {x : (Int32 × MS)} :
    ∀ (x1 : Int32) (σ : MS), F_who_b38 x1 σ = some x → MJ p l e rmM_who s m args below meth c G 2 (some (.int x.1)) x.2 38 [(0, .ref (gM G)), (1, .int x1)] [] σ := by
  have hx := hC.1
  have hb := hC.2.1
  intro x1 σ hF H locs ls hP hS hl
  rw [F_who_b38] at hF
  refine lv_aload_n hx hb dX10_who_38 rfl (lv_at hl 0 rfl) ?_
  obtain ⟨r_2, hc_1, hF⟩ := bd_ok hF
  refine iM_isGood hC hP hS hc_1 hl.1 (Nat.le_of_ble_eq_true rfl) ⟨Nat.le_of_ble_eq_true rfl, Nat.le_of_ble_eq_true rfl⟩ ⟨Nat.zero_le _, Nat.zero_le _⟩ dX10_who_39 (fun H locs hP hS => ?_)
  refine lv_if_eq (tgt := 49) hx hb dX10_who_42 (by decide) (fun c_3 => ?_) (fun c_3 => ?_)
  · replace hF := it_t hF c_3
    refine lv_iload_n hx hb dX10_who_49 rfl (lv_at hl 1 rfl) ?_
    exact M_reti hC hP hS hr (rt1 hF) (rt2 hF) dX10_who_50
  · replace hF := it_f hF c_3
    refine lv_aload_n hx hb dX10_who_45 rfl (lv_at hl 0 rfl) ?_
    obtain ⟨σ_5, hc_4, hF⟩ := bd_ok hF
    refine iM_goOn hC hP hS hc_4 hl.1 (Nat.le_of_ble_eq_true rfl) ⟨Nat.le_of_ble_eq_true rfl, Nat.le_of_ble_eq_true rfl⟩ ⟨Nat.zero_le _, Nat.zero_le _⟩ dX10_who_46 (fun H locs hP hS => ?_)
    refine lv_iload_n hx hb dX10_who_49 rfl (lv_at hl 1 rfl) ?_
    exact M_reti hC hP hS hr (rt1 hF) (rt2 hF) dX10_who_50
def F_who (σ : MS) : Option (Int32 × MS) :=
  bd (F_whoHere σ) fun r_2 =>
  if 0 ≤ r_2 then
    gd (inb (mI σ 36) 2) <|
    if r_2 < (mA σ 12 (Int32.toNatClampNeg (mI σ 36))) then
      F_who_b38 r_2 σ
    else
      bd (F_fails (4 : Int32) (mI σ 6) σ) fun σ_7 =>
      F_who_b38 r_2 σ_7
  else
    bd (F_misplaced σ) fun σ_9 =>
    F_who_b38 r_2 σ_9
set_option maxHeartbeats 4000000 in
theorem w_who {p : Program} {l : Launch} {e : Env} {s : State} {m : MethodId} {args : Array Value} {below : List Frame} {meth : Method} {c : Code} {G : MG} (hC : MCx G cX10_who 2 p s m args meth c) (hr : meth.sig.returnType = some .int) {x : (Int32 × MS)} :
    ∀ (σ : MS), F_who σ = some x → MJ p l e rmM_who s m args below meth c G 2 (some (.int x.1)) x.2 0 [(0, .ref (gM G))] [] σ := by
  have hx := hC.1
  have hb := hC.2.1
  intro σ hF H locs ls hP hS hl
  rw [F_who] at hF
  refine lv_aload_n hx hb dX10_who_0 rfl (lv_at hl 0 rfl) ?_
  obtain ⟨r_2, hc_1, hF⟩ := bd_ok hF
  refine iM_whoHere hC hP hS hc_1 hl.1 (Nat.le_of_ble_eq_true rfl) ⟨Nat.le_of_ble_eq_true rfl, Nat.le_of_ble_eq_true rfl⟩ ⟨Nat.zero_le _, Nat.zero_le _⟩ dX10_who_1 (fun H locs hP hS => ?_)
  refine lv_istore_n (lv' := [(1, .int r_2), (0, .ref (gM G))]) hx hb dX10_who_4 rfl hl (by decide) rfl (fun ls hl => ?_)
  refine lv_iload_n hx hb dX10_who_5 rfl (lv_at hl 0 rfl) ?_
  refine lv_if_ge (tgt := 16) hx hb dX10_who_6 (by decide) (fun c_3 => ?_) (fun c_3 => ?_)
  · replace hF := it_t hF c_3
    refine lv_iload_n hx hb dX10_who_16 rfl (lv_at hl 0 rfl) ?_
    refine lv_aload_n hx hb dX10_who_17 rfl (lv_at hl 1 rfl) ?_
    refine gM12 hC hP dX10_who_18 ?_
    refine lv_aload_n hx hb dX10_who_21 rfl (lv_at hl 1 rfl) ?_
    refine gM36 hC hP dX10_who_22 ?_
    obtain ⟨h_4, hF⟩ := gd_ok hF
    refine M_iald hC hP 12 (by decide) rfl rfl rfl h_4 dX10_who_25 ?_
    refine lv_icmp_lt (tgt := 38) hx hb dX10_who_26 (by decide) (fun c_5 => ?_) (fun c_5 => ?_)
    · replace hF := it_t hF c_5
      exact w_who_b38 hC hr r_2 σ hF H locs ls hP hS (lv_sub hl [1, 0] rfl)
    · replace hF := it_f hF c_5
      refine lv_aload_n hx hb dX10_who_29 rfl (lv_at hl 1 rfl) ?_
      refine lv_iconst (v := 4) hx hb dX10_who_30 (by decide) ?_
      refine lv_aload_n hx hb dX10_who_31 rfl (lv_at hl 1 rfl) ?_
      refine gM6 hC hP dX10_who_32 ?_
      obtain ⟨σ_7, hc_6, hF⟩ := bd_ok hF
      refine iM_fails hC hP hS hc_6 hl.1 (Nat.le_of_ble_eq_true rfl) ⟨Nat.le_of_ble_eq_true rfl, Nat.le_of_ble_eq_true rfl⟩ ⟨Nat.zero_le _, Nat.zero_le _⟩ dX10_who_35 (fun H locs hP hS => ?_)
      exact w_who_b38 hC hr r_2 σ_7 hF H locs ls hP hS (lv_sub hl [1, 0] rfl)
  · replace hF := it_f hF c_3
    refine lv_aload_n hx hb dX10_who_9 rfl (lv_at hl 1 rfl) ?_
    obtain ⟨σ_9, hc_8, hF⟩ := bd_ok hF
    refine iM_misplaced hC hP hS hc_8 hl.1 (Nat.le_of_ble_eq_true rfl) ⟨Nat.le_of_ble_eq_true rfl, Nat.le_of_ble_eq_true rfl⟩ ⟨Nat.zero_le _, Nat.zero_le _⟩ dX10_who_10 (fun H locs hP hS => ?_)
    refine lv_goto (tgt := 38) hx hb dX10_who_13 (by decide) ?_
    exact w_who_b38 hC hr r_2 σ_9 hF H locs ls hP hS (lv_sub hl [1, 0] rfl)
theorem m_who (l : Launch) (G : MG) (σ : MS) (x : (Int32 × MS)) (hF : F_who σ = some x) : Met l yX10_who (ws_ yX10_who cX10_who 2 (some .int)) rmM_who (mP G [.ref (gM G)] σ) (mQ G (some (.int x.1)) x.2) 0 0 (MA G) := by
  refine M_met rfl plM (Nat.le_of_ble_eq_true rfl) ?_
  intro p e s m below meth c hC hr ls hl hP
  exact w_who hC hr σ hF s.heap [] ls hP va_S.rf hl
theorem iM_who {p : Program} {l : Launch} {e : Env} {R : Room} {s : State} {m : MethodId} {args : Array Value} {below : List Frame} {meth : Method} {c : Code} {H H0 : Heap} {locs : List Loc} {cells slots nL : Nat} {Q : State → Prop} {G : MG} {σ : MS} {cc : ByteArray} {pc : Nat} {ls : Array Slot} {rest : List Value} (hC : MCx G cc nL p s m args meth c) (hP : MRep G σ H) (hS : va_S (MA G) H0 H locs) {x : Int32} {σ1 : MS} (hF : F_who σ = some (x, σ1)) (hl : ls.size = nL) (hW : (rest.map fun v => v.category).sum ≤ 8) (hR : rmM_who.frames + 1 ≤ R.frames ∧ 8 + (2 + 11) + rmM_who.locals ≤ R.locals) (hf : cells ≤ R.cells ∧ slots ≤ R.slots) (hdg : decode cc pc = .ok (.invokevirtual 370, 3))
    (kk : ∀ (H1 : Heap) (locs1 : List Loc), MRep G σ1 H1 → va_S (MA G) H0 H1 locs1 → W p l e R s m args below meth c H1 locs1 cells slots Q (F0 m (pc + 3) ls (.int x :: rest))) : W p l e R s m args below meth c H locs cells slots Q (F0 m pc ls (.ref (gM G) :: rest)) :=
  M_inv hC hP hS [] (m_who l G σ _ hF) (cwV 0 hC.2.2.2.2.1 (lw_V q2373 q2375 qs107 q145 q2376) rfl rfl rfl (by decide +kernel) hR) rfl rfl hl hW hf hdg kk
/-! readOther -/
abbrev rmM_readOther : Room := { frames := 4, cells := 0, slots := 0, locals := 89 }
def F_readOther_b206 (y0 : Int32) (σ : MS) : Option MS :=
  bd (F_must y0 σ) fun σ_2 =>
  some σ_2
set_option maxHeartbeats 4000000 in
theorem w_readOther_b206 {p : Program} {l : Launch} {e : Env} {s : State} {m : MethodId} {args : Array Value} {below : List Frame} {meth : Method} {c : Code} {G : MG} (hC : MCx G cX10_readOther 3 p s m args meth c) (hr : meth.sig.returnType = none) {x : MS} :
    ∀ (y0 : Int32) (σ : MS), F_readOther_b206 y0 σ = some x → MJ p l e rmM_readOther s m args below meth c G 3 none x 206 [] [.int y0, .ref (gM G)] σ := by
  have hx := hC.1
  have hb := hC.2.1
  intro y0 σ hF H locs ls hP hS hl
  rw [F_readOther_b206] at hF
  obtain ⟨σ_2, hc_1, hF⟩ := bd_ok hF
  refine iM_must hC hP hS hc_1 hl.1 (Nat.le_of_ble_eq_true rfl) ⟨Nat.le_of_ble_eq_true rfl, Nat.le_of_ble_eq_true rfl⟩ ⟨Nat.zero_le _, Nat.zero_le _⟩ dX10_readOther_206 (fun H locs hP hS => ?_)
  refine lv_goto (tgt := 264) hx hb dX10_readOther_209 (by decide) ?_
  exact M_retv hC hP hS hr (Option.some.inj hF) dX10_readOther_264
def F_readOther_b182 (x1 : Int32) (σ : MS) : Option MS :=
  gd (inb x1 104) <|
  lt (wL σ 29 (Int32.toNatClampNeg x1) (mL σ 10 0)) fun σ_2 =>
  if (mI σ_2 8) = (2 : Int32) then
    F_readOther_b206 (1 : Int32) σ_2
  else
    F_readOther_b206 (0 : Int32) σ_2
set_option maxHeartbeats 4000000 in
theorem w_readOther_b182 {p : Program} {l : Launch} {e : Env} {s : State} {m : MethodId} {args : Array Value} {below : List Frame} {meth : Method} {c : Code} {G : MG} (hC : MCx G cX10_readOther 3 p s m args meth c) (hr : meth.sig.returnType = none) {x : MS} :
    ∀ (x1 : Int32) (σ : MS), F_readOther_b182 x1 σ = some x → MJ p l e rmM_readOther s m args below meth c G 3 none x 182 [(0, .ref (gM G)), (1, .int x1)] [] σ := by
  have hx := hC.1
  have hb := hC.2.1
  intro x1 σ hF H locs ls hP hS hl
  rw [F_readOther_b182] at hF
  refine lv_aload_n hx hb dX10_readOther_182 rfl (lv_at hl 0 rfl) ?_
  refine gM29 hC hP dX10_readOther_183 ?_
  refine lv_iload_n hx hb dX10_readOther_186 rfl (lv_at hl 1 rfl) ?_
  refine lv_aload_n hx hb dX10_readOther_187 rfl (lv_at hl 0 rfl) ?_
  refine gM10 hC hP dX10_readOther_188 ?_
  obtain ⟨h_1, hF⟩ := gd_ok hF
  refine M_last hC hP hS 29 (by decide) rfl rfl rfl h_1 dX10_readOther_191 (fun H locs hP hS => ?_)
  obtain ⟨σ_2, eσ_2, hF⟩ := lt_ok hF
  rw [← eσ_2] at hP
  refine lv_aload_n hx hb dX10_readOther_192 rfl (lv_at hl 0 rfl) ?_
  refine lv_aload_n hx hb dX10_readOther_193 rfl (lv_at hl 0 rfl) ?_
  refine gM8 hC hP dX10_readOther_194 ?_
  refine lv_iconst (v := 2) hx hb dX10_readOther_197 (by decide) ?_
  refine lv_icmp_ne (tgt := 205) hx hb dX10_readOther_198 (by decide) (fun c_3 => ?_) (fun c_3 => ?_)
  · replace hF := it_f hF c_3
    refine lv_iconst (v := 0) hx hb dX10_readOther_205 (by decide) ?_
    exact w_readOther_b206 hC hr (0 : Int32) σ_2 hF H locs ls hP hS (lv_sub hl [] rfl)
  · replace hF := it_t hF c_3
    refine lv_iconst (v := 1) hx hb dX10_readOther_201 (by decide) ?_
    refine lv_goto (tgt := 206) hx hb dX10_readOther_202 (by decide) ?_
    exact w_readOther_b206 hC hr (1 : Int32) σ_2 hF H locs ls hP hS (lv_sub hl [] rfl)
def F_readOther_b146 (y0 : Int32) (σ : MS) : Option MS :=
  bd (F_must y0 σ) fun σ_2 =>
  some σ_2
set_option maxHeartbeats 4000000 in
theorem w_readOther_b146 {p : Program} {l : Launch} {e : Env} {s : State} {m : MethodId} {args : Array Value} {below : List Frame} {meth : Method} {c : Code} {G : MG} (hC : MCx G cX10_readOther 3 p s m args meth c) (hr : meth.sig.returnType = none) {x : MS} :
    ∀ (y0 : Int32) (σ : MS), F_readOther_b146 y0 σ = some x → MJ p l e rmM_readOther s m args below meth c G 3 none x 146 [] [.int y0, .ref (gM G)] σ := by
  have hx := hC.1
  have hb := hC.2.1
  intro y0 σ hF H locs ls hP hS hl
  rw [F_readOther_b146] at hF
  obtain ⟨σ_2, hc_1, hF⟩ := bd_ok hF
  refine iM_must hC hP hS hc_1 hl.1 (Nat.le_of_ble_eq_true rfl) ⟨Nat.le_of_ble_eq_true rfl, Nat.le_of_ble_eq_true rfl⟩ ⟨Nat.zero_le _, Nat.zero_le _⟩ dX10_readOther_146 (fun H locs hP hS => ?_)
  refine lv_goto (tgt := 264) hx hb dX10_readOther_149 (by decide) ?_
  exact M_retv hC hP hS hr (Option.some.inj hF) dX10_readOther_264
def F_readOther_b132 (σ : MS) : Option MS :=
  if (mI σ 8) = (2 : Int32) then
    F_readOther_b146 (1 : Int32) σ
  else
    F_readOther_b146 (0 : Int32) σ
set_option maxHeartbeats 4000000 in
theorem w_readOther_b132 {p : Program} {l : Launch} {e : Env} {s : State} {m : MethodId} {args : Array Value} {below : List Frame} {meth : Method} {c : Code} {G : MG} (hC : MCx G cX10_readOther 3 p s m args meth c) (hr : meth.sig.returnType = none) {x : MS} :
    ∀ (σ : MS), F_readOther_b132 σ = some x → MJ p l e rmM_readOther s m args below meth c G 3 none x 132 [(0, .ref (gM G))] [] σ := by
  have hx := hC.1
  have hb := hC.2.1
  intro σ hF H locs ls hP hS hl
  rw [F_readOther_b132] at hF
  refine lv_aload_n hx hb dX10_readOther_132 rfl (lv_at hl 0 rfl) ?_
  refine lv_aload_n hx hb dX10_readOther_133 rfl (lv_at hl 0 rfl) ?_
  refine gM8 hC hP dX10_readOther_134 ?_
  refine lv_iconst (v := 2) hx hb dX10_readOther_137 (by decide) ?_
  refine lv_icmp_ne (tgt := 145) hx hb dX10_readOther_138 (by decide) (fun c_1 => ?_) (fun c_1 => ?_)
  · replace hF := it_f hF c_1
    refine lv_iconst (v := 0) hx hb dX10_readOther_145 (by decide) ?_
    exact w_readOther_b146 hC hr (0 : Int32) σ hF H locs ls hP hS (lv_sub hl [] rfl)
  · replace hF := it_t hF c_1
    refine lv_iconst (v := 1) hx hb dX10_readOther_141 (by decide) ?_
    refine lv_goto (tgt := 146) hx hb dX10_readOther_142 (by decide) ?_
    exact w_readOther_b146 hC hr (1 : Int32) σ hF H locs ls hP hS (lv_sub hl [] rfl)
def F_readOther (a0 : Int32) (a1 : Int32) (σ : MS) : Option MS :=
  gd (inb a0 104) <|
  lt (wA σ 22 (Int32.toNatClampNeg a0) a1) fun σ_2 =>
  if a1 = 0 then
    bd2 (F_who σ_2) fun r_65 σ_64 =>
    gd (inb a0 104) <|
    lt (wA σ_64 23 (Int32.toNatClampNeg a0) r_65) fun σ_67 =>
    lt (wI σ_67 40 (1 : Int32)) fun σ_68 =>
    some σ_68
  else
    if a1 = (1 : Int32) then
      bd2 (F_colour σ_2) fun r_60 σ_59 =>
      gd (inb a0 104) <|
      lt (wA σ_59 23 (Int32.toNatClampNeg a0) r_60) fun σ_62 =>
      some σ_62
    else
      if a1 = (9 : Int32) then
        bd2 (F_numeral (0 : Int32) (7 : Int32) σ_2) fun r_34 σ_33 =>
        gd (inb a0 104) <|
        lt (wA σ_33 23 (Int32.toNatClampNeg a0) r_34) fun σ_36 =>
        bd2 (F_colour σ_36) fun r_39 σ_38 =>
        gd (inb a0 104) <|
        lt (wA σ_38 24 (Int32.toNatClampNeg a0) r_39) fun σ_41 =>
        bd (F_isWord σ_41 (26479 : Int64)) fun r_43 =>
        bd (F_must r_43 σ_41) fun σ_45 =>
        gd (inb a0 104) <|
        lt (wA σ_45 28 (Int32.toNatClampNeg a0) (mI σ_45 6)) fun σ_47 =>
        gd (inb a0 104) <|
        lt (wL σ_47 29 (Int32.toNatClampNeg a0) (mL σ_47 10 0)) fun σ_49 =>
        bd (F_isGood σ_49) fun r_51 =>
        if r_51 = 0 then
          F_readOther_b132 σ_49
        else
          bd (F_isMarked σ_49 a0) fun r_54 =>
          if r_54 = 0 then
            F_readOther_b132 σ_49
          else
            bd (F_fails (6 : Int32) (mI σ_49 6) σ_49) fun σ_57 =>
            F_readOther_b132 σ_57
      else
        if a1 = (10 : Int32) then
          bd (F_isGood σ_2) fun r_25 =>
          if r_25 = 0 then
            F_readOther_b182 a0 σ_2
          else
            bd (F_isMarked σ_2 a0) fun r_28 =>
            if r_28 = 0 then
              F_readOther_b182 a0 σ_2
            else
              bd (F_fails (3 : Int32) (mI σ_2 6) σ_2) fun σ_31 =>
              F_readOther_b182 a0 σ_31
        else
          if a1 = (11 : Int32) then
            bd2 (F_numeral (0 : Int32) (7 : Int32) σ_2) fun r_15 σ_14 =>
            gd (inb a0 104) <|
            lt (wA σ_14 23 (Int32.toNatClampNeg a0) r_15) fun σ_17 =>
            gd (inb a0 104) <|
            bd2 (F_another (mA σ_17 23 (Int32.toNatClampNeg a0)) σ_17) fun r_21 σ_20 =>
            gd (inb a0 104) <|
            lt (wA σ_20 24 (Int32.toNatClampNeg a0) r_21) fun σ_23 =>
            some σ_23
          else
            bd2 (F_numeral (0 : Int32) (9999 : Int32) σ_2) fun r_10 σ_9 =>
            gd (inb a0 104) <|
            lt (wA σ_9 23 (Int32.toNatClampNeg a0) r_10) fun σ_12 =>
            some σ_12
set_option maxHeartbeats 4000000 in
theorem w_readOther {p : Program} {l : Launch} {e : Env} {s : State} {m : MethodId} {args : Array Value} {below : List Frame} {meth : Method} {c : Code} {G : MG} (hC : MCx G cX10_readOther 3 p s m args meth c) (hr : meth.sig.returnType = none) {x : MS} :
    ∀ (a0 : Int32) (a1 : Int32) (σ : MS), F_readOther a0 a1 σ = some x → MJ p l e rmM_readOther s m args below meth c G 3 none x 0 [(0, .ref (gM G)), (1, .int a0), (2, .int a1)] [] σ := by
  have hx := hC.1
  have hb := hC.2.1
  intro a0 a1 σ hF H locs ls hP hS hl
  rw [F_readOther] at hF
  refine lv_aload_n hx hb dX10_readOther_0 rfl (lv_at hl 0 rfl) ?_
  refine gM22 hC hP dX10_readOther_1 ?_
  refine lv_iload_n hx hb dX10_readOther_4 rfl (lv_at hl 1 rfl) ?_
  refine lv_iload_n hx hb dX10_readOther_5 rfl (lv_at hl 2 rfl) ?_
  obtain ⟨h_1, hF⟩ := gd_ok hF
  refine M_iast hC hP hS 22 (by decide) rfl rfl rfl h_1 dX10_readOther_6 (fun H locs hP hS => ?_)
  obtain ⟨σ_2, eσ_2, hF⟩ := lt_ok hF
  rw [← eσ_2] at hP
  refine lv_iload_n hx hb dX10_readOther_7 rfl (lv_at hl 2 rfl) ?_
  refine lv_if_ne (tgt := 29) hx hb dX10_readOther_8 (by decide) (fun c_3 => ?_) (fun c_3 => ?_)
  · replace hF := it_f hF c_3
    refine lv_iload_n hx hb dX10_readOther_29 rfl (lv_at hl 2 rfl) ?_
    refine lv_iconst (v := 1) hx hb dX10_readOther_30 (by decide) ?_
    refine lv_icmp_ne (tgt := 47) hx hb dX10_readOther_31 (by decide) (fun c_4 => ?_) (fun c_4 => ?_)
    · replace hF := it_f hF c_4
      refine lv_iload_n hx hb dX10_readOther_47 rfl (lv_at hl 2 rfl) ?_
      refine lv_bipush (v := 9) hx hb dX10_readOther_48 (by decide) ?_
      refine lv_icmp_ne (tgt := 152) hx hb dX10_readOther_50 (by decide) (fun c_5 => ?_) (fun c_5 => ?_)
      · replace hF := it_f hF c_5
        refine lv_iload_n hx hb dX10_readOther_152 rfl (lv_at hl 2 rfl) ?_
        refine lv_bipush (v := 10) hx hb dX10_readOther_153 (by decide) ?_
        refine lv_icmp_ne (tgt := 212) hx hb dX10_readOther_155 (by decide) (fun c_6 => ?_) (fun c_6 => ?_)
        · replace hF := it_f hF c_6
          refine lv_iload_n hx hb dX10_readOther_212 rfl (lv_at hl 2 rfl) ?_
          refine lv_bipush (v := 11) hx hb dX10_readOther_213 (by decide) ?_
          refine lv_icmp_ne (tgt := 250) hx hb dX10_readOther_215 (by decide) (fun c_7 => ?_) (fun c_7 => ?_)
          · replace hF := it_f hF c_7
            refine lv_aload_n hx hb dX10_readOther_250 rfl (lv_at hl 0 rfl) ?_
            refine gM23 hC hP dX10_readOther_251 ?_
            refine lv_iload_n hx hb dX10_readOther_254 rfl (lv_at hl 1 rfl) ?_
            refine lv_aload_n hx hb dX10_readOther_255 rfl (lv_at hl 0 rfl) ?_
            refine lv_iconst (v := 0) hx hb dX10_readOther_256 (by decide) ?_
            refine lv_sipush (v := 9999) hx hb dX10_readOther_257 (by decide) ?_
            obtain ⟨r_10, σ_9, hc_8, hF⟩ := bd2_ok hF
            refine iM_numeral hC hP hS hc_8 hl.1 (Nat.le_of_ble_eq_true rfl) ⟨Nat.le_of_ble_eq_true rfl, Nat.le_of_ble_eq_true rfl⟩ ⟨Nat.zero_le _, Nat.zero_le _⟩ dX10_readOther_260 (fun H locs hP hS => ?_)
            obtain ⟨h_11, hF⟩ := gd_ok hF
            refine M_iast hC hP hS 23 (by decide) rfl rfl rfl h_11 dX10_readOther_263 (fun H locs hP hS => ?_)
            obtain ⟨σ_12, eσ_12, hF⟩ := lt_ok hF
            rw [← eσ_12] at hP
            exact M_retv hC hP hS hr (Option.some.inj hF) dX10_readOther_264
          · replace hF := it_t hF c_7
            refine lv_aload_n hx hb dX10_readOther_218 rfl (lv_at hl 0 rfl) ?_
            refine gM23 hC hP dX10_readOther_219 ?_
            refine lv_iload_n hx hb dX10_readOther_222 rfl (lv_at hl 1 rfl) ?_
            refine lv_aload_n hx hb dX10_readOther_223 rfl (lv_at hl 0 rfl) ?_
            refine lv_iconst (v := 0) hx hb dX10_readOther_224 (by decide) ?_
            refine lv_bipush (v := 7) hx hb dX10_readOther_225 (by decide) ?_
            obtain ⟨r_15, σ_14, hc_13, hF⟩ := bd2_ok hF
            refine iM_numeral hC hP hS hc_13 hl.1 (Nat.le_of_ble_eq_true rfl) ⟨Nat.le_of_ble_eq_true rfl, Nat.le_of_ble_eq_true rfl⟩ ⟨Nat.zero_le _, Nat.zero_le _⟩ dX10_readOther_227 (fun H locs hP hS => ?_)
            obtain ⟨h_16, hF⟩ := gd_ok hF
            refine M_iast hC hP hS 23 (by decide) rfl rfl rfl h_16 dX10_readOther_230 (fun H locs hP hS => ?_)
            obtain ⟨σ_17, eσ_17, hF⟩ := lt_ok hF
            rw [← eσ_17] at hP
            refine lv_aload_n hx hb dX10_readOther_231 rfl (lv_at hl 0 rfl) ?_
            refine gM24 hC hP dX10_readOther_232 ?_
            refine lv_iload_n hx hb dX10_readOther_235 rfl (lv_at hl 1 rfl) ?_
            refine lv_aload_n hx hb dX10_readOther_236 rfl (lv_at hl 0 rfl) ?_
            refine lv_aload_n hx hb dX10_readOther_237 rfl (lv_at hl 0 rfl) ?_
            refine gM23 hC hP dX10_readOther_238 ?_
            refine lv_iload_n hx hb dX10_readOther_241 rfl (lv_at hl 1 rfl) ?_
            obtain ⟨h_18, hF⟩ := gd_ok hF
            refine M_iald hC hP 23 (by decide) rfl rfl rfl h_18 dX10_readOther_242 ?_
            obtain ⟨r_21, σ_20, hc_19, hF⟩ := bd2_ok hF
            refine iM_another hC hP hS hc_19 hl.1 (Nat.le_of_ble_eq_true rfl) ⟨Nat.le_of_ble_eq_true rfl, Nat.le_of_ble_eq_true rfl⟩ ⟨Nat.zero_le _, Nat.zero_le _⟩ dX10_readOther_243 (fun H locs hP hS => ?_)
            obtain ⟨h_22, hF⟩ := gd_ok hF
            refine M_iast hC hP hS 24 (by decide) rfl rfl rfl h_22 dX10_readOther_246 (fun H locs hP hS => ?_)
            obtain ⟨σ_23, eσ_23, hF⟩ := lt_ok hF
            rw [← eσ_23] at hP
            refine lv_goto (tgt := 264) hx hb dX10_readOther_247 (by decide) ?_
            exact M_retv hC hP hS hr (Option.some.inj hF) dX10_readOther_264
        · replace hF := it_t hF c_6
          refine lv_aload_n hx hb dX10_readOther_158 rfl (lv_at hl 0 rfl) ?_
          obtain ⟨r_25, hc_24, hF⟩ := bd_ok hF
          refine iM_isGood hC hP hS hc_24 hl.1 (Nat.le_of_ble_eq_true rfl) ⟨Nat.le_of_ble_eq_true rfl, Nat.le_of_ble_eq_true rfl⟩ ⟨Nat.zero_le _, Nat.zero_le _⟩ dX10_readOther_159 (fun H locs hP hS => ?_)
          refine lv_if_eq (tgt := 182) hx hb dX10_readOther_162 (by decide) (fun c_26 => ?_) (fun c_26 => ?_)
          · replace hF := it_t hF c_26
            exact w_readOther_b182 hC hr a0 σ_2 hF H locs ls hP hS (lv_sub hl [0, 1] rfl)
          · replace hF := it_f hF c_26
            refine lv_aload_n hx hb dX10_readOther_165 rfl (lv_at hl 0 rfl) ?_
            refine lv_iload_n hx hb dX10_readOther_166 rfl (lv_at hl 1 rfl) ?_
            obtain ⟨r_28, hc_27, hF⟩ := bd_ok hF
            refine iM_isMarked hC hP hS hc_27 hl.1 (Nat.le_of_ble_eq_true rfl) ⟨Nat.le_of_ble_eq_true rfl, Nat.le_of_ble_eq_true rfl⟩ ⟨Nat.zero_le _, Nat.zero_le _⟩ dX10_readOther_167 (fun H locs hP hS => ?_)
            refine lv_if_eq (tgt := 182) hx hb dX10_readOther_170 (by decide) (fun c_29 => ?_) (fun c_29 => ?_)
            · replace hF := it_t hF c_29
              exact w_readOther_b182 hC hr a0 σ_2 hF H locs ls hP hS (lv_sub hl [0, 1] rfl)
            · replace hF := it_f hF c_29
              refine lv_aload_n hx hb dX10_readOther_173 rfl (lv_at hl 0 rfl) ?_
              refine lv_iconst (v := 3) hx hb dX10_readOther_174 (by decide) ?_
              refine lv_aload_n hx hb dX10_readOther_175 rfl (lv_at hl 0 rfl) ?_
              refine gM6 hC hP dX10_readOther_176 ?_
              obtain ⟨σ_31, hc_30, hF⟩ := bd_ok hF
              refine iM_fails hC hP hS hc_30 hl.1 (Nat.le_of_ble_eq_true rfl) ⟨Nat.le_of_ble_eq_true rfl, Nat.le_of_ble_eq_true rfl⟩ ⟨Nat.zero_le _, Nat.zero_le _⟩ dX10_readOther_179 (fun H locs hP hS => ?_)
              exact w_readOther_b182 hC hr a0 σ_31 hF H locs ls hP hS (lv_sub hl [0, 1] rfl)
      · replace hF := it_t hF c_5
        refine lv_aload_n hx hb dX10_readOther_53 rfl (lv_at hl 0 rfl) ?_
        refine gM23 hC hP dX10_readOther_54 ?_
        refine lv_iload_n hx hb dX10_readOther_57 rfl (lv_at hl 1 rfl) ?_
        refine lv_aload_n hx hb dX10_readOther_58 rfl (lv_at hl 0 rfl) ?_
        refine lv_iconst (v := 0) hx hb dX10_readOther_59 (by decide) ?_
        refine lv_bipush (v := 7) hx hb dX10_readOther_60 (by decide) ?_
        obtain ⟨r_34, σ_33, hc_32, hF⟩ := bd2_ok hF
        refine iM_numeral hC hP hS hc_32 hl.1 (Nat.le_of_ble_eq_true rfl) ⟨Nat.le_of_ble_eq_true rfl, Nat.le_of_ble_eq_true rfl⟩ ⟨Nat.zero_le _, Nat.zero_le _⟩ dX10_readOther_62 (fun H locs hP hS => ?_)
        obtain ⟨h_35, hF⟩ := gd_ok hF
        refine M_iast hC hP hS 23 (by decide) rfl rfl rfl h_35 dX10_readOther_65 (fun H locs hP hS => ?_)
        obtain ⟨σ_36, eσ_36, hF⟩ := lt_ok hF
        rw [← eσ_36] at hP
        refine lv_aload_n hx hb dX10_readOther_66 rfl (lv_at hl 0 rfl) ?_
        refine gM24 hC hP dX10_readOther_67 ?_
        refine lv_iload_n hx hb dX10_readOther_70 rfl (lv_at hl 1 rfl) ?_
        refine lv_aload_n hx hb dX10_readOther_71 rfl (lv_at hl 0 rfl) ?_
        obtain ⟨r_39, σ_38, hc_37, hF⟩ := bd2_ok hF
        refine iM_colour hC hP hS hc_37 hl.1 (Nat.le_of_ble_eq_true rfl) ⟨Nat.le_of_ble_eq_true rfl, Nat.le_of_ble_eq_true rfl⟩ ⟨Nat.zero_le _, Nat.zero_le _⟩ dX10_readOther_72 (fun H locs hP hS => ?_)
        obtain ⟨h_40, hF⟩ := gd_ok hF
        refine M_iast hC hP hS 24 (by decide) rfl rfl rfl h_40 dX10_readOther_75 (fun H locs hP hS => ?_)
        obtain ⟨σ_41, eσ_41, hF⟩ := lt_ok hF
        rw [← eσ_41] at hP
        refine lv_aload_n hx hb dX10_readOther_76 rfl (lv_at hl 0 rfl) ?_
        refine lv_aload_n hx hb dX10_readOther_77 rfl (lv_at hl 0 rfl) ?_
        refine lv_ldc2 (v := 26479) hx hb hC.2.2.2.1 (hC.2.2.2.2.1 _ q2242) dX10_readOther_78 ?_
        obtain ⟨r_43, hc_42, hF⟩ := bd_ok hF
        refine iM_isWord hC hP hS hc_42 hl.1 (Nat.le_of_ble_eq_true rfl) ⟨Nat.le_of_ble_eq_true rfl, Nat.le_of_ble_eq_true rfl⟩ ⟨Nat.zero_le _, Nat.zero_le _⟩ dX10_readOther_81 (fun H locs hP hS => ?_)
        obtain ⟨σ_45, hc_44, hF⟩ := bd_ok hF
        refine iM_must hC hP hS hc_44 hl.1 (Nat.le_of_ble_eq_true rfl) ⟨Nat.le_of_ble_eq_true rfl, Nat.le_of_ble_eq_true rfl⟩ ⟨Nat.zero_le _, Nat.zero_le _⟩ dX10_readOther_84 (fun H locs hP hS => ?_)
        refine lv_aload_n hx hb dX10_readOther_87 rfl (lv_at hl 0 rfl) ?_
        refine gM28 hC hP dX10_readOther_88 ?_
        refine lv_iload_n hx hb dX10_readOther_91 rfl (lv_at hl 1 rfl) ?_
        refine lv_aload_n hx hb dX10_readOther_92 rfl (lv_at hl 0 rfl) ?_
        refine gM6 hC hP dX10_readOther_93 ?_
        obtain ⟨h_46, hF⟩ := gd_ok hF
        refine M_iast hC hP hS 28 (by decide) rfl rfl rfl h_46 dX10_readOther_96 (fun H locs hP hS => ?_)
        obtain ⟨σ_47, eσ_47, hF⟩ := lt_ok hF
        rw [← eσ_47] at hP
        refine lv_aload_n hx hb dX10_readOther_97 rfl (lv_at hl 0 rfl) ?_
        refine gM29 hC hP dX10_readOther_98 ?_
        refine lv_iload_n hx hb dX10_readOther_101 rfl (lv_at hl 1 rfl) ?_
        refine lv_aload_n hx hb dX10_readOther_102 rfl (lv_at hl 0 rfl) ?_
        refine gM10 hC hP dX10_readOther_103 ?_
        obtain ⟨h_48, hF⟩ := gd_ok hF
        refine M_last hC hP hS 29 (by decide) rfl rfl rfl h_48 dX10_readOther_106 (fun H locs hP hS => ?_)
        obtain ⟨σ_49, eσ_49, hF⟩ := lt_ok hF
        rw [← eσ_49] at hP
        refine lv_aload_n hx hb dX10_readOther_107 rfl (lv_at hl 0 rfl) ?_
        obtain ⟨r_51, hc_50, hF⟩ := bd_ok hF
        refine iM_isGood hC hP hS hc_50 hl.1 (Nat.le_of_ble_eq_true rfl) ⟨Nat.le_of_ble_eq_true rfl, Nat.le_of_ble_eq_true rfl⟩ ⟨Nat.zero_le _, Nat.zero_le _⟩ dX10_readOther_108 (fun H locs hP hS => ?_)
        refine lv_if_eq (tgt := 132) hx hb dX10_readOther_111 (by decide) (fun c_52 => ?_) (fun c_52 => ?_)
        · replace hF := it_t hF c_52
          exact w_readOther_b132 hC hr σ_49 hF H locs ls hP hS (lv_sub hl [0] rfl)
        · replace hF := it_f hF c_52
          refine lv_aload_n hx hb dX10_readOther_114 rfl (lv_at hl 0 rfl) ?_
          refine lv_iload_n hx hb dX10_readOther_115 rfl (lv_at hl 1 rfl) ?_
          obtain ⟨r_54, hc_53, hF⟩ := bd_ok hF
          refine iM_isMarked hC hP hS hc_53 hl.1 (Nat.le_of_ble_eq_true rfl) ⟨Nat.le_of_ble_eq_true rfl, Nat.le_of_ble_eq_true rfl⟩ ⟨Nat.zero_le _, Nat.zero_le _⟩ dX10_readOther_116 (fun H locs hP hS => ?_)
          refine lv_if_eq (tgt := 132) hx hb dX10_readOther_119 (by decide) (fun c_55 => ?_) (fun c_55 => ?_)
          · replace hF := it_t hF c_55
            exact w_readOther_b132 hC hr σ_49 hF H locs ls hP hS (lv_sub hl [0] rfl)
          · replace hF := it_f hF c_55
            refine lv_aload_n hx hb dX10_readOther_122 rfl (lv_at hl 0 rfl) ?_
            refine lv_bipush (v := 6) hx hb dX10_readOther_123 (by decide) ?_
            refine lv_aload_n hx hb dX10_readOther_125 rfl (lv_at hl 0 rfl) ?_
            refine gM6 hC hP dX10_readOther_126 ?_
            obtain ⟨σ_57, hc_56, hF⟩ := bd_ok hF
            refine iM_fails hC hP hS hc_56 hl.1 (Nat.le_of_ble_eq_true rfl) ⟨Nat.le_of_ble_eq_true rfl, Nat.le_of_ble_eq_true rfl⟩ ⟨Nat.zero_le _, Nat.zero_le _⟩ dX10_readOther_129 (fun H locs hP hS => ?_)
            exact w_readOther_b132 hC hr σ_57 hF H locs ls hP hS (lv_sub hl [0] rfl)
    · replace hF := it_t hF c_4
      refine lv_aload_n hx hb dX10_readOther_34 rfl (lv_at hl 0 rfl) ?_
      refine gM23 hC hP dX10_readOther_35 ?_
      refine lv_iload_n hx hb dX10_readOther_38 rfl (lv_at hl 1 rfl) ?_
      refine lv_aload_n hx hb dX10_readOther_39 rfl (lv_at hl 0 rfl) ?_
      obtain ⟨r_60, σ_59, hc_58, hF⟩ := bd2_ok hF
      refine iM_colour hC hP hS hc_58 hl.1 (Nat.le_of_ble_eq_true rfl) ⟨Nat.le_of_ble_eq_true rfl, Nat.le_of_ble_eq_true rfl⟩ ⟨Nat.zero_le _, Nat.zero_le _⟩ dX10_readOther_40 (fun H locs hP hS => ?_)
      obtain ⟨h_61, hF⟩ := gd_ok hF
      refine M_iast hC hP hS 23 (by decide) rfl rfl rfl h_61 dX10_readOther_43 (fun H locs hP hS => ?_)
      obtain ⟨σ_62, eσ_62, hF⟩ := lt_ok hF
      rw [← eσ_62] at hP
      refine lv_goto (tgt := 264) hx hb dX10_readOther_44 (by decide) ?_
      exact M_retv hC hP hS hr (Option.some.inj hF) dX10_readOther_264
  · replace hF := it_t hF c_3
    refine lv_aload_n hx hb dX10_readOther_11 rfl (lv_at hl 0 rfl) ?_
    refine gM23 hC hP dX10_readOther_12 ?_
    refine lv_iload_n hx hb dX10_readOther_15 rfl (lv_at hl 1 rfl) ?_
    refine lv_aload_n hx hb dX10_readOther_16 rfl (lv_at hl 0 rfl) ?_
    obtain ⟨r_65, σ_64, hc_63, hF⟩ := bd2_ok hF
    refine iM_who hC hP hS hc_63 hl.1 (Nat.le_of_ble_eq_true rfl) ⟨Nat.le_of_ble_eq_true rfl, Nat.le_of_ble_eq_true rfl⟩ ⟨Nat.zero_le _, Nat.zero_le _⟩ dX10_readOther_17 (fun H locs hP hS => ?_)
    obtain ⟨h_66, hF⟩ := gd_ok hF
    refine M_iast hC hP hS 23 (by decide) rfl rfl rfl h_66 dX10_readOther_20 (fun H locs hP hS => ?_)
    obtain ⟨σ_67, eσ_67, hF⟩ := lt_ok hF
    rw [← eσ_67] at hP
    refine lv_aload_n hx hb dX10_readOther_21 rfl (lv_at hl 0 rfl) ?_
    refine lv_iconst (v := 1) hx hb dX10_readOther_22 (by decide) ?_
    refine pM40 hC hP hS (Or.inr rfl) dX10_readOther_23 (fun H locs hP hS => ?_)
    obtain ⟨σ_68, eσ_68, hF⟩ := lt_ok hF
    rw [← eσ_68] at hP
    refine lv_goto (tgt := 264) hx hb dX10_readOther_26 (by decide) ?_
    exact M_retv hC hP hS hr (Option.some.inj hF) dX10_readOther_264
theorem m_readOther (l : Launch) (G : MG) (a0 : Int32) (a1 : Int32) (σ : MS) (x : MS) (hF : F_readOther a0 a1 σ = some x) : Met l yX10_readOther (ws_ yX10_readOther cX10_readOther 3 none) rmM_readOther (mP G [.ref (gM G), .int a0, .int a1] σ) (mQ G none x) 0 0 (MA G) := by
  refine M_met rfl plM (Nat.le_of_ble_eq_true rfl) ?_
  intro p e s m below meth c hC hr ls hl hP
  exact w_readOther hC hr a0 a1 σ hF s.heap [] ls hP va_S.rf hl
theorem iM_readOther {p : Program} {l : Launch} {e : Env} {R : Room} {s : State} {m : MethodId} {args : Array Value} {below : List Frame} {meth : Method} {c : Code} {H H0 : Heap} {locs : List Loc} {cells slots nL : Nat} {Q : State → Prop} {G : MG} {σ : MS} {cc : ByteArray} {pc : Nat} {ls : Array Slot} {rest : List Value} (hC : MCx G cc nL p s m args meth c) (hP : MRep G σ H) (hS : va_S (MA G) H0 H locs) {a0 : Int32} {a1 : Int32} {x : MS} (hF : F_readOther a0 a1 σ = some x) (hl : ls.size = nL) (hW : (rest.map fun v => v.category).sum ≤ 8) (hR : rmM_readOther.frames + 1 ≤ R.frames ∧ 8 + (3 + 11) + rmM_readOther.locals ≤ R.locals) (hf : cells ≤ R.cells ∧ slots ≤ R.slots) (hdg : decode cc pc = .ok (.invokevirtual 364, 3))
    (kk : ∀ (H1 : Heap) (locs1 : List Loc), MRep G x H1 → va_S (MA G) H0 H1 locs1 → W p l e R s m args below meth c H1 locs1 cells slots Q (F0 m (pc + 3) ls (rest))) : W p l e R s m args below meth c H locs cells slots Q (F0 m pc ls (.int a1 :: .int a0 :: .ref (gM G) :: rest)) :=
  M_inv hC hP hS [.int a0, .int a1] (m_readOther l G a0 a1 σ _ hF) (cwV 2 hC.2.2.2.2.1 (lw_V q2369 q2371 qs106 q145 q2372) rfl rfl rfl (by decide +kernel) hR) rfl rfl hl hW hf hdg kk
/-! readStep -/
abbrev rmM_readStep : Room := { frames := 5, cells := 0, slots := 0, locals := 116 }
def F_readStep_b184 (y0 : Int32) (y1 : Int32) (y2 : Int32) (σ : MS) : Option MS :=
  gd (inb y2 2) <|
  lt (wA σ 17 (Int32.toNatClampNeg y2) (y1 + y0)) fun σ_2 =>
  some σ_2
set_option maxHeartbeats 4000000 in
theorem w_readStep_b184 {p : Program} {l : Launch} {e : Env} {s : State} {m : MethodId} {args : Array Value} {below : List Frame} {meth : Method} {c : Code} {G : MG} (hC : MCx G cX10_readStep 4 p s m args meth c) (hr : meth.sig.returnType = none) {x : MS} :
    ∀ (y0 : Int32) (y1 : Int32) (y2 : Int32) (σ : MS), F_readStep_b184 y0 y1 y2 σ = some x → MJ p l e rmM_readStep s m args below meth c G 4 none x 184 [] [.int y0, .int y1, .int y2, .ref (gA G 17)] σ := by
  have hx := hC.1
  have hb := hC.2.1
  intro y0 y1 y2 σ hF H locs ls hP hS hl
  rw [F_readStep_b184] at hF
  refine lv_iadd hx hb dX10_readStep_184 ?_
  obtain ⟨h_1, hF⟩ := gd_ok hF
  refine M_iast hC hP hS 17 (by decide) rfl rfl rfl h_1 dX10_readStep_185 (fun H locs hP hS => ?_)
  obtain ⟨σ_2, eσ_2, hF⟩ := lt_ok hF
  rw [← eσ_2] at hP
  exact M_retv hC hP hS hr (Option.some.inj hF) dX10_readStep_186
def F_readStep_b163 (x2 : Int32) (y0 : Int32) (y1 : Int32) (y2 : Int32) (σ : MS) : Option MS :=
  gd (inb y2 2) <|
  lt (wA σ 16 (Int32.toNatClampNeg y2) (y1 + y0)) fun σ_2 =>
  gd (inb (mI σ_2 36) 2) <|
  if x2 = 0 then
    F_readStep_b184 (0 : Int32) (mA σ_2 17 (Int32.toNatClampNeg (mI σ_2 36))) (mI σ_2 36) σ_2
  else
    F_readStep_b184 (1 : Int32) (mA σ_2 17 (Int32.toNatClampNeg (mI σ_2 36))) (mI σ_2 36) σ_2
set_option maxHeartbeats 4000000 in
theorem w_readStep_b163 {p : Program} {l : Launch} {e : Env} {s : State} {m : MethodId} {args : Array Value} {below : List Frame} {meth : Method} {c : Code} {G : MG} (hC : MCx G cX10_readStep 4 p s m args meth c) (hr : meth.sig.returnType = none) {x : MS} :
    ∀ (x2 : Int32) (y0 : Int32) (y1 : Int32) (y2 : Int32) (σ : MS), F_readStep_b163 x2 y0 y1 y2 σ = some x → MJ p l e rmM_readStep s m args below meth c G 4 none x 163 [(0, .ref (gM G)), (2, .int x2)] [.int y0, .int y1, .int y2, .ref (gA G 16)] σ := by
  have hx := hC.1
  have hb := hC.2.1
  intro x2 y0 y1 y2 σ hF H locs ls hP hS hl
  rw [F_readStep_b163] at hF
  refine lv_iadd hx hb dX10_readStep_163 ?_
  obtain ⟨h_1, hF⟩ := gd_ok hF
  refine M_iast hC hP hS 16 (by decide) rfl rfl rfl h_1 dX10_readStep_164 (fun H locs hP hS => ?_)
  obtain ⟨σ_2, eσ_2, hF⟩ := lt_ok hF
  rw [← eσ_2] at hP
  refine lv_aload_n hx hb dX10_readStep_165 rfl (lv_at hl 0 rfl) ?_
  refine gM17 hC hP dX10_readStep_166 ?_
  refine lv_aload_n hx hb dX10_readStep_169 rfl (lv_at hl 0 rfl) ?_
  refine gM36 hC hP dX10_readStep_170 ?_
  refine lv_dup2_11 hx hb dX10_readStep_173 rfl rfl ?_
  obtain ⟨h_3, hF⟩ := gd_ok hF
  refine M_iald hC hP 17 (by decide) rfl rfl rfl h_3 dX10_readStep_174 ?_
  refine lv_iload_n hx hb dX10_readStep_175 rfl (lv_at hl 1 rfl) ?_
  refine lv_if_eq (tgt := 183) hx hb dX10_readStep_176 (by decide) (fun c_4 => ?_) (fun c_4 => ?_)
  · replace hF := it_t hF c_4
    refine lv_iconst (v := 0) hx hb dX10_readStep_183 (by decide) ?_
    exact w_readStep_b184 hC hr (0 : Int32) (mA σ_2 17 (Int32.toNatClampNeg (mI σ_2 36))) (mI σ_2 36) σ_2 hF H locs ls hP hS (lv_sub hl [] rfl)
  · replace hF := it_f hF c_4
    refine lv_iconst (v := 1) hx hb dX10_readStep_179 (by decide) ?_
    refine lv_goto (tgt := 184) hx hb dX10_readStep_180 (by decide) ?_
    exact w_readStep_b184 hC hr (1 : Int32) (mA σ_2 17 (Int32.toNatClampNeg (mI σ_2 36))) (mI σ_2 36) σ_2 hF H locs ls hP hS (lv_sub hl [] rfl)
def F_readStep_b129 (x1 : Int32) (x2 : Int32) (σ : MS) : Option MS :=
  gd (inb (mI σ 36) 2) <|
  gd (inb (mI σ 36) 2) <|
  lt (wA σ 13 (Int32.toNatClampNeg (mI σ 36)) ((mA σ 13 (Int32.toNatClampNeg (mI σ 36))) + (1 : Int32))) fun σ_3 =>
  gd (inb (mI σ_3 36) 2) <|
  if x1 = (8 : Int32) then
    F_readStep_b163 x2 (1 : Int32) (mA σ_3 16 (Int32.toNatClampNeg (mI σ_3 36))) (mI σ_3 36) σ_3
  else
    F_readStep_b163 x2 (0 : Int32) (mA σ_3 16 (Int32.toNatClampNeg (mI σ_3 36))) (mI σ_3 36) σ_3
set_option maxHeartbeats 4000000 in
theorem w_readStep_b129 {p : Program} {l : Launch} {e : Env} {s : State} {m : MethodId} {args : Array Value} {below : List Frame} {meth : Method} {c : Code} {G : MG} (hC : MCx G cX10_readStep 4 p s m args meth c) (hr : meth.sig.returnType = none) {x : MS} :
    ∀ (x1 : Int32) (x2 : Int32) (σ : MS), F_readStep_b129 x1 x2 σ = some x → MJ p l e rmM_readStep s m args below meth c G 4 none x 129 [(0, .ref (gM G)), (1, .int x1), (2, .int x2)] [] σ := by
  have hx := hC.1
  have hb := hC.2.1
  intro x1 x2 σ hF H locs ls hP hS hl
  rw [F_readStep_b129] at hF
  refine lv_aload_n hx hb dX10_readStep_129 rfl (lv_at hl 0 rfl) ?_
  refine gM13 hC hP dX10_readStep_130 ?_
  refine lv_aload_n hx hb dX10_readStep_133 rfl (lv_at hl 0 rfl) ?_
  refine gM36 hC hP dX10_readStep_134 ?_
  refine lv_dup2_11 hx hb dX10_readStep_137 rfl rfl ?_
  obtain ⟨h_1, hF⟩ := gd_ok hF
  refine M_iald hC hP 13 (by decide) rfl rfl rfl h_1 dX10_readStep_138 ?_
  refine lv_iconst (v := 1) hx hb dX10_readStep_139 (by decide) ?_
  refine lv_iadd hx hb dX10_readStep_140 ?_
  obtain ⟨h_2, hF⟩ := gd_ok hF
  refine M_iast hC hP hS 13 (by decide) rfl rfl rfl h_2 dX10_readStep_141 (fun H locs hP hS => ?_)
  obtain ⟨σ_3, eσ_3, hF⟩ := lt_ok hF
  rw [← eσ_3] at hP
  refine lv_aload_n hx hb dX10_readStep_142 rfl (lv_at hl 0 rfl) ?_
  refine gM16 hC hP dX10_readStep_143 ?_
  refine lv_aload_n hx hb dX10_readStep_146 rfl (lv_at hl 0 rfl) ?_
  refine gM36 hC hP dX10_readStep_147 ?_
  refine lv_dup2_11 hx hb dX10_readStep_150 rfl rfl ?_
  obtain ⟨h_4, hF⟩ := gd_ok hF
  refine M_iald hC hP 16 (by decide) rfl rfl rfl h_4 dX10_readStep_151 ?_
  refine lv_iload_n hx hb dX10_readStep_152 rfl (lv_at hl 1 rfl) ?_
  refine lv_bipush (v := 8) hx hb dX10_readStep_153 (by decide) ?_
  refine lv_icmp_ne (tgt := 162) hx hb dX10_readStep_155 (by decide) (fun c_5 => ?_) (fun c_5 => ?_)
  · replace hF := it_f hF c_5
    refine lv_iconst (v := 0) hx hb dX10_readStep_162 (by decide) ?_
    exact w_readStep_b163 hC hr x2 (0 : Int32) (mA σ_3 16 (Int32.toNatClampNeg (mI σ_3 36))) (mI σ_3 36) σ_3 hF H locs ls hP hS (lv_sub hl [0, 2] rfl)
  · replace hF := it_t hF c_5
    refine lv_iconst (v := 1) hx hb dX10_readStep_158 (by decide) ?_
    refine lv_goto (tgt := 163) hx hb dX10_readStep_159 (by decide) ?_
    exact w_readStep_b163 hC hr x2 (1 : Int32) (mA σ_3 16 (Int32.toNatClampNeg (mI σ_3 36))) (mI σ_3 36) σ_3 hF H locs ls hP hS (lv_sub hl [0, 2] rfl)
def F_readStep_b123 (k129 : Int32 → Int32 → MS → Option MS) (x1 : Int32) (x2 : Int32) (x3 : Int32) (σ : MS) : Option MS :=
  bd (F_readOther x3 x1 σ) fun σ_2 =>
  k129 x1 x2 σ_2
set_option maxHeartbeats 4000000 in
theorem w_readStep_b123 {p : Program} {l : Launch} {e : Env} {s : State} {m : MethodId} {args : Array Value} {below : List Frame} {meth : Method} {c : Code} {G : MG} (hC : MCx G cX10_readStep 4 p s m args meth c) (hr : meth.sig.returnType = none) {x : MS} (k129 : Int32 → Int32 → MS → Option MS) (hk129 : ∀ (x1 : Int32) (x2 : Int32) (σ : MS), k129 x1 x2 σ = some x → MJ p l e rmM_readStep s m args below meth c G 4 none x 129 [(0, .ref (gM G)), (1, .int x1), (2, .int x2)] [] σ) :
    ∀ (x1 : Int32) (x2 : Int32) (x3 : Int32) (σ : MS), F_readStep_b123 k129 x1 x2 x3 σ = some x → MJ p l e rmM_readStep s m args below meth c G 4 none x 123 [(0, .ref (gM G)), (1, .int x1), (2, .int x2), (3, .int x3)] [] σ := by
  have hx := hC.1
  have hb := hC.2.1
  intro x1 x2 x3 σ hF H locs ls hP hS hl
  rw [F_readStep_b123] at hF
  refine lv_aload_n hx hb dX10_readStep_123 rfl (lv_at hl 0 rfl) ?_
  refine lv_iload_n hx hb dX10_readStep_124 rfl (lv_at hl 3 rfl) ?_
  refine lv_iload_n hx hb dX10_readStep_125 rfl (lv_at hl 1 rfl) ?_
  obtain ⟨σ_2, hc_1, hF⟩ := bd_ok hF
  refine iM_readOther hC hP hS hc_1 hl.1 (Nat.le_of_ble_eq_true rfl) ⟨Nat.le_of_ble_eq_true rfl, Nat.le_of_ble_eq_true rfl⟩ ⟨Nat.zero_le _, Nat.zero_le _⟩ dX10_readStep_126 (fun H locs hP hS => ?_)
  exact hk129 x1 x2 σ_2 hF H locs ls hP hS (lv_sub hl [0, 1, 2] rfl)
def F_readStep_b73 (x1 : Int32) (x2 : Int32) (σ : MS) : Option MS :=
  bd (F_isGood σ) fun r_2 =>
  if r_2 = 0 then
    some σ
  else
    bd (F_goOn σ) fun σ_5 =>
    gd (inb (mI σ_5 36) 2) <|
    lt ((((52 : Int32) * (mI σ_5 36)) + (mA σ_5 13 (Int32.toNatClampNeg (mI σ_5 36))))) fun x3_7 =>
    if x1 < (2 : Int32) then
      F_readStep_b123 (F_readStep_b129) x1 x2 x3_7 σ_5
    else
      if (8 : Int32) < x1 then
        F_readStep_b123 (F_readStep_b129) x1 x2 x3_7 σ_5
      else
        bd (F_readMove x3_7 x1 σ_5) fun σ_11 =>
        F_readStep_b129 x1 x2 σ_11
set_option maxHeartbeats 4000000 in
theorem w_readStep_b73 {p : Program} {l : Launch} {e : Env} {s : State} {m : MethodId} {args : Array Value} {below : List Frame} {meth : Method} {c : Code} {G : MG} (hC : MCx G cX10_readStep 4 p s m args meth c) (hr : meth.sig.returnType = none) {x : MS} :
    ∀ (x1 : Int32) (x2 : Int32) (σ : MS), F_readStep_b73 x1 x2 σ = some x → MJ p l e rmM_readStep s m args below meth c G 4 none x 73 [(0, .ref (gM G)), (1, .int x1), (2, .int x2)] [] σ := by
  have hx := hC.1
  have hb := hC.2.1
  intro x1 x2 σ hF H locs ls hP hS hl
  rw [F_readStep_b73] at hF
  refine lv_aload_n hx hb dX10_readStep_73 rfl (lv_at hl 0 rfl) ?_
  obtain ⟨r_2, hc_1, hF⟩ := bd_ok hF
  refine iM_isGood hC hP hS hc_1 hl.1 (Nat.le_of_ble_eq_true rfl) ⟨Nat.le_of_ble_eq_true rfl, Nat.le_of_ble_eq_true rfl⟩ ⟨Nat.zero_le _, Nat.zero_le _⟩ dX10_readStep_74 (fun H locs hP hS => ?_)
  refine lv_if_ne (tgt := 81) hx hb dX10_readStep_77 (by decide) (fun c_3 => ?_) (fun c_3 => ?_)
  · replace hF := it_f hF c_3
    refine lv_aload_n hx hb dX10_readStep_81 rfl (lv_at hl 0 rfl) ?_
    obtain ⟨σ_5, hc_4, hF⟩ := bd_ok hF
    refine iM_goOn hC hP hS hc_4 hl.1 (Nat.le_of_ble_eq_true rfl) ⟨Nat.le_of_ble_eq_true rfl, Nat.le_of_ble_eq_true rfl⟩ ⟨Nat.zero_le _, Nat.zero_le _⟩ dX10_readStep_82 (fun H locs hP hS => ?_)
    refine lv_bipush (v := 52) hx hb dX10_readStep_85 (by decide) ?_
    refine lv_aload_n hx hb dX10_readStep_87 rfl (lv_at hl 0 rfl) ?_
    refine gM36 hC hP dX10_readStep_88 ?_
    refine lv_imul hx hb dX10_readStep_91 ?_
    refine lv_aload_n hx hb dX10_readStep_92 rfl (lv_at hl 0 rfl) ?_
    refine gM13 hC hP dX10_readStep_93 ?_
    refine lv_aload_n hx hb dX10_readStep_96 rfl (lv_at hl 0 rfl) ?_
    refine gM36 hC hP dX10_readStep_97 ?_
    obtain ⟨h_6, hF⟩ := gd_ok hF
    refine M_iald hC hP 13 (by decide) rfl rfl rfl h_6 dX10_readStep_100 ?_
    refine lv_iadd hx hb dX10_readStep_101 ?_
    refine lv_topi (fun x3_7 ex3_7 => ?_)
    replace hF := lt_at hF ex3_7
    refine lv_istore_n (lv' := [(3, .int x3_7), (0, .ref (gM G)), (1, .int x1), (2, .int x2)]) hx hb dX10_readStep_102 rfl hl (by decide) rfl (fun ls hl => ?_)
    refine lv_iload_n hx hb dX10_readStep_103 rfl (lv_at hl 2 rfl) ?_
    refine lv_iconst (v := 2) hx hb dX10_readStep_104 (by decide) ?_
    refine lv_icmp_lt (tgt := 123) hx hb dX10_readStep_105 (by decide) (fun c_8 => ?_) (fun c_8 => ?_)
    · replace hF := it_t hF c_8
      exact w_readStep_b123 hC hr (F_readStep_b129) (w_readStep_b129 hC hr) x1 x2 x3_7 σ_5 hF H locs ls hP hS (lv_sub hl [1, 2, 3, 0] rfl)
    · replace hF := it_f hF c_8
      refine lv_iload_n hx hb dX10_readStep_108 rfl (lv_at hl 2 rfl) ?_
      refine lv_bipush (v := 8) hx hb dX10_readStep_109 (by decide) ?_
      refine lv_icmp_gt (tgt := 123) hx hb dX10_readStep_111 (by decide) (fun c_9 => ?_) (fun c_9 => ?_)
      · replace hF := it_t hF c_9
        exact w_readStep_b123 hC hr (F_readStep_b129) (w_readStep_b129 hC hr) x1 x2 x3_7 σ_5 hF H locs ls hP hS (lv_sub hl [1, 2, 3, 0] rfl)
      · replace hF := it_f hF c_9
        refine lv_aload_n hx hb dX10_readStep_114 rfl (lv_at hl 1 rfl) ?_
        refine lv_iload_n hx hb dX10_readStep_115 rfl (lv_at hl 0 rfl) ?_
        refine lv_iload_n hx hb dX10_readStep_116 rfl (lv_at hl 2 rfl) ?_
        obtain ⟨σ_11, hc_10, hF⟩ := bd_ok hF
        refine iM_readMove hC hP hS hc_10 hl.1 (Nat.le_of_ble_eq_true rfl) ⟨Nat.le_of_ble_eq_true rfl, Nat.le_of_ble_eq_true rfl⟩ ⟨Nat.zero_le _, Nat.zero_le _⟩ dX10_readStep_117 (fun H locs hP hS => ?_)
        refine lv_goto (tgt := 129) hx hb dX10_readStep_120 (by decide) ?_
        exact w_readStep_b129 hC hr x1 x2 σ_11 hF H locs ls hP hS (lv_sub hl [1, 2, 3] rfl)
  · replace hF := it_t hF c_3
    exact M_retv hC hP hS hr (Option.some.inj hF) dX10_readStep_80
def F_readStep_b69 (k73 : Int32 → Int32 → MS → Option MS) (x1 : Int32) (x2 : Int32) (σ : MS) : Option MS :=
  bd (F_misplaced σ) fun σ_2 =>
  k73 x1 x2 σ_2
set_option maxHeartbeats 4000000 in
theorem w_readStep_b69 {p : Program} {l : Launch} {e : Env} {s : State} {m : MethodId} {args : Array Value} {below : List Frame} {meth : Method} {c : Code} {G : MG} (hC : MCx G cX10_readStep 4 p s m args meth c) (hr : meth.sig.returnType = none) {x : MS} (k73 : Int32 → Int32 → MS → Option MS) (hk73 : ∀ (x1 : Int32) (x2 : Int32) (σ : MS), k73 x1 x2 σ = some x → MJ p l e rmM_readStep s m args below meth c G 4 none x 73 [(0, .ref (gM G)), (1, .int x1), (2, .int x2)] [] σ) :
    ∀ (x1 : Int32) (x2 : Int32) (σ : MS), F_readStep_b69 k73 x1 x2 σ = some x → MJ p l e rmM_readStep s m args below meth c G 4 none x 69 [(0, .ref (gM G)), (1, .int x1), (2, .int x2)] [] σ := by
  have hx := hC.1
  have hb := hC.2.1
  intro x1 x2 σ hF H locs ls hP hS hl
  rw [F_readStep_b69] at hF
  refine lv_aload_n hx hb dX10_readStep_69 rfl (lv_at hl 0 rfl) ?_
  obtain ⟨σ_2, hc_1, hF⟩ := bd_ok hF
  refine iM_misplaced hC hP hS hc_1 hl.1 (Nat.le_of_ble_eq_true rfl) ⟨Nat.le_of_ble_eq_true rfl, Nat.le_of_ble_eq_true rfl⟩ ⟨Nat.zero_le _, Nat.zero_le _⟩ dX10_readStep_70 (fun H locs hP hS => ?_)
  exact hk73 x1 x2 σ_2 hF H locs ls hP hS (lv_sub hl [0, 1, 2] rfl)
def F_readStep_b51 (k69 : Int32 → Int32 → MS → Option MS) (k73 : Int32 → Int32 → MS → Option MS) (x1 : Int32) (x2 : Int32) (σ : MS) : Option MS :=
  if x2 = 0 then
    k73 x1 x2 σ
  else
    gd (inb (mI σ 36) 2) <|
    if (mA σ 17 (Int32.toNatClampNeg (mI σ 36))) = (8 : Int32) then
      k69 x1 x2 σ
    else
      k73 x1 x2 σ
set_option maxHeartbeats 4000000 in
theorem w_readStep_b51 {p : Program} {l : Launch} {e : Env} {s : State} {m : MethodId} {args : Array Value} {below : List Frame} {meth : Method} {c : Code} {G : MG} (hC : MCx G cX10_readStep 4 p s m args meth c) (hr : meth.sig.returnType = none) {x : MS} (k69 : Int32 → Int32 → MS → Option MS) (hk69 : ∀ (x1 : Int32) (x2 : Int32) (σ : MS), k69 x1 x2 σ = some x → MJ p l e rmM_readStep s m args below meth c G 4 none x 69 [(0, .ref (gM G)), (1, .int x1), (2, .int x2)] [] σ) (k73 : Int32 → Int32 → MS → Option MS) (hk73 : ∀ (x1 : Int32) (x2 : Int32) (σ : MS), k73 x1 x2 σ = some x → MJ p l e rmM_readStep s m args below meth c G 4 none x 73 [(0, .ref (gM G)), (1, .int x1), (2, .int x2)] [] σ) :
    ∀ (x1 : Int32) (x2 : Int32) (σ : MS), F_readStep_b51 k69 k73 x1 x2 σ = some x → MJ p l e rmM_readStep s m args below meth c G 4 none x 51 [(0, .ref (gM G)), (1, .int x1), (2, .int x2)] [] σ := by
  have hx := hC.1
  have hb := hC.2.1
  intro x1 x2 σ hF H locs ls hP hS hl
  rw [F_readStep_b51] at hF
  refine lv_iload_n hx hb dX10_readStep_51 rfl (lv_at hl 2 rfl) ?_
  refine lv_if_eq (tgt := 73) hx hb dX10_readStep_52 (by decide) (fun c_1 => ?_) (fun c_1 => ?_)
  · replace hF := it_t hF c_1
    exact hk73 x1 x2 σ hF H locs ls hP hS (lv_sub hl [0, 1, 2] rfl)
  · replace hF := it_f hF c_1
    refine lv_aload_n hx hb dX10_readStep_55 rfl (lv_at hl 0 rfl) ?_
    refine gM17 hC hP dX10_readStep_56 ?_
    refine lv_aload_n hx hb dX10_readStep_59 rfl (lv_at hl 0 rfl) ?_
    refine gM36 hC hP dX10_readStep_60 ?_
    obtain ⟨h_2, hF⟩ := gd_ok hF
    refine M_iald hC hP 17 (by decide) rfl rfl rfl h_2 dX10_readStep_63 ?_
    refine lv_bipush (v := 8) hx hb dX10_readStep_64 (by decide) ?_
    refine lv_icmp_ne (tgt := 73) hx hb dX10_readStep_66 (by decide) (fun c_3 => ?_) (fun c_3 => ?_)
    · replace hF := it_f hF c_3
      exact hk73 x1 x2 σ hF H locs ls hP hS (lv_sub hl [0, 1, 2] rfl)
    · replace hF := it_t hF c_3
      exact hk69 x1 x2 σ hF H locs ls hP hS (lv_sub hl [0, 1, 2] rfl)
def F_readStep_b16 (x1 : Int32) (y0 : Int32) (σ : MS) : Option MS :=
  gd (inb (mI σ 36) 2) <|
  if (mA σ 13 (Int32.toNatClampNeg (mI σ 36))) = (40 : Int32) then
    F_readStep_b69 (F_readStep_b73) x1 y0 σ
  else
    if x1 = (8 : Int32) then
      gd (inb (mI σ 36) 2) <|
      if (mA σ 16 (Int32.toNatClampNeg (mI σ 36))) = (6 : Int32) then
        F_readStep_b69 (F_readStep_b73) x1 y0 σ
      else
        F_readStep_b51 (F_readStep_b69 (F_readStep_b73)) (F_readStep_b73) x1 y0 σ
    else
      F_readStep_b51 (F_readStep_b69 (F_readStep_b73)) (F_readStep_b73) x1 y0 σ
set_option maxHeartbeats 4000000 in
theorem w_readStep_b16 {p : Program} {l : Launch} {e : Env} {s : State} {m : MethodId} {args : Array Value} {below : List Frame} {meth : Method} {c : Code} {G : MG} (hC : MCx G cX10_readStep 4 p s m args meth c) (hr : meth.sig.returnType = none) {x : MS} :
    ∀ (x1 : Int32) (y0 : Int32) (σ : MS), F_readStep_b16 x1 y0 σ = some x → MJ p l e rmM_readStep s m args below meth c G 4 none x 16 [(0, .ref (gM G)), (1, .int x1)] [.int y0] σ := by
  have hx := hC.1
  have hb := hC.2.1
  intro x1 y0 σ hF H locs ls hP hS hl
  rw [F_readStep_b16] at hF
  refine lv_istore_n (lv' := [(2, .int y0), (0, .ref (gM G)), (1, .int x1)]) hx hb dX10_readStep_16 rfl hl (by decide) rfl (fun ls hl => ?_)
  refine lv_aload_n hx hb dX10_readStep_17 rfl (lv_at hl 1 rfl) ?_
  refine gM13 hC hP dX10_readStep_18 ?_
  refine lv_aload_n hx hb dX10_readStep_21 rfl (lv_at hl 1 rfl) ?_
  refine gM36 hC hP dX10_readStep_22 ?_
  obtain ⟨h_1, hF⟩ := gd_ok hF
  refine M_iald hC hP 13 (by decide) rfl rfl rfl h_1 dX10_readStep_25 ?_
  refine lv_bipush (v := 40) hx hb dX10_readStep_26 (by decide) ?_
  refine lv_icmp_eq (tgt := 69) hx hb dX10_readStep_28 (by decide) (fun c_2 => ?_) (fun c_2 => ?_)
  · replace hF := it_t hF c_2
    exact w_readStep_b69 hC hr (F_readStep_b73) (w_readStep_b73 hC hr) x1 y0 σ hF H locs ls hP hS (lv_sub hl [1, 2, 0] rfl)
  · replace hF := it_f hF c_2
    refine lv_iload_n hx hb dX10_readStep_31 rfl (lv_at hl 2 rfl) ?_
    refine lv_bipush (v := 8) hx hb dX10_readStep_32 (by decide) ?_
    refine lv_icmp_ne (tgt := 51) hx hb dX10_readStep_34 (by decide) (fun c_3 => ?_) (fun c_3 => ?_)
    · replace hF := it_f hF c_3
      exact w_readStep_b51 hC hr (F_readStep_b69 (F_readStep_b73)) (w_readStep_b69 hC hr (F_readStep_b73) (w_readStep_b73 hC hr)) (F_readStep_b73) (w_readStep_b73 hC hr) x1 y0 σ hF H locs ls hP hS (lv_sub hl [1, 2, 0] rfl)
    · replace hF := it_t hF c_3
      refine lv_aload_n hx hb dX10_readStep_37 rfl (lv_at hl 1 rfl) ?_
      refine gM16 hC hP dX10_readStep_38 ?_
      refine lv_aload_n hx hb dX10_readStep_41 rfl (lv_at hl 1 rfl) ?_
      refine gM36 hC hP dX10_readStep_42 ?_
      obtain ⟨h_4, hF⟩ := gd_ok hF
      refine M_iald hC hP 16 (by decide) rfl rfl rfl h_4 dX10_readStep_45 ?_
      refine lv_bipush (v := 6) hx hb dX10_readStep_46 (by decide) ?_
      refine lv_icmp_eq (tgt := 69) hx hb dX10_readStep_48 (by decide) (fun c_5 => ?_) (fun c_5 => ?_)
      · replace hF := it_t hF c_5
        exact w_readStep_b69 hC hr (F_readStep_b73) (w_readStep_b73 hC hr) x1 y0 σ hF H locs ls hP hS (lv_sub hl [1, 2, 0] rfl)
      · replace hF := it_f hF c_5
        exact w_readStep_b51 hC hr (F_readStep_b69 (F_readStep_b73)) (w_readStep_b69 hC hr (F_readStep_b73) (w_readStep_b73 hC hr)) (F_readStep_b73) (w_readStep_b73 hC hr) x1 y0 σ hF H locs ls hP hS (lv_sub hl [1, 2, 0] rfl)
def F_readStep_b15 (k16 : Int32 → Int32 → MS → Option MS) (x1 : Int32) (σ : MS) : Option MS :=
  k16 x1 (0 : Int32) σ
set_option maxHeartbeats 4000000 in
theorem w_readStep_b15 {p : Program} {l : Launch} {e : Env} {s : State} {m : MethodId} {args : Array Value} {below : List Frame} {meth : Method} {c : Code} {G : MG} (hC : MCx G cX10_readStep 4 p s m args meth c) (hr : meth.sig.returnType = none) {x : MS} (k16 : Int32 → Int32 → MS → Option MS) (hk16 : ∀ (x1 : Int32) (y0 : Int32) (σ : MS), k16 x1 y0 σ = some x → MJ p l e rmM_readStep s m args below meth c G 4 none x 16 [(0, .ref (gM G)), (1, .int x1)] [.int y0] σ) :
    ∀ (x1 : Int32) (σ : MS), F_readStep_b15 k16 x1 σ = some x → MJ p l e rmM_readStep s m args below meth c G 4 none x 15 [(0, .ref (gM G)), (1, .int x1)] [] σ := by
  have hx := hC.1
  have hb := hC.2.1
  intro x1 σ hF H locs ls hP hS hl
  rw [F_readStep_b15] at hF
  refine lv_iconst (v := 0) hx hb dX10_readStep_15 (by decide) ?_
  exact hk16 x1 (0 : Int32) σ hF H locs ls hP hS (lv_sub hl [0, 1] rfl)
def F_readStep (a0 : Int32) (σ : MS) : Option MS :=
  if a0 < (4 : Int32) then
    F_readStep_b15 (F_readStep_b16) a0 σ
  else
    if (7 : Int32) < a0 then
      F_readStep_b15 (F_readStep_b16) a0 σ
    else
      F_readStep_b16 a0 (1 : Int32) σ
set_option maxHeartbeats 4000000 in
theorem w_readStep {p : Program} {l : Launch} {e : Env} {s : State} {m : MethodId} {args : Array Value} {below : List Frame} {meth : Method} {c : Code} {G : MG} (hC : MCx G cX10_readStep 4 p s m args meth c) (hr : meth.sig.returnType = none) {x : MS} :
    ∀ (a0 : Int32) (σ : MS), F_readStep a0 σ = some x → MJ p l e rmM_readStep s m args below meth c G 4 none x 0 [(0, .ref (gM G)), (1, .int a0)] [] σ := by
  have hx := hC.1
  have hb := hC.2.1
  intro a0 σ hF H locs ls hP hS hl
  rw [F_readStep] at hF
  refine lv_iload_n hx hb dX10_readStep_0 rfl (lv_at hl 1 rfl) ?_
  refine lv_iconst (v := 4) hx hb dX10_readStep_1 (by decide) ?_
  refine lv_icmp_lt (tgt := 15) hx hb dX10_readStep_2 (by decide) (fun c_1 => ?_) (fun c_1 => ?_)
  · replace hF := it_t hF c_1
    exact w_readStep_b15 hC hr (F_readStep_b16) (w_readStep_b16 hC hr) a0 σ hF H locs ls hP hS (lv_sub hl [0, 1] rfl)
  · replace hF := it_f hF c_1
    refine lv_iload_n hx hb dX10_readStep_5 rfl (lv_at hl 1 rfl) ?_
    refine lv_bipush (v := 7) hx hb dX10_readStep_6 (by decide) ?_
    refine lv_icmp_gt (tgt := 15) hx hb dX10_readStep_8 (by decide) (fun c_2 => ?_) (fun c_2 => ?_)
    · replace hF := it_t hF c_2
      exact w_readStep_b15 hC hr (F_readStep_b16) (w_readStep_b16 hC hr) a0 σ hF H locs ls hP hS (lv_sub hl [0, 1] rfl)
    · replace hF := it_f hF c_2
      refine lv_iconst (v := 1) hx hb dX10_readStep_11 (by decide) ?_
      refine lv_goto (tgt := 16) hx hb dX10_readStep_12 (by decide) ?_
      exact w_readStep_b16 hC hr a0 (1 : Int32) σ hF H locs ls hP hS (lv_sub hl [0, 1] rfl)
theorem m_readStep (l : Launch) (G : MG) (a0 : Int32) (σ : MS) (x : MS) (hF : F_readStep a0 σ = some x) : Met l yX10_readStep (ws_ yX10_readStep cX10_readStep 4 none) rmM_readStep (mP G [.ref (gM G), .int a0] σ) (mQ G none x) 0 0 (MA G) := by
  refine M_met rfl plM (Nat.le_of_ble_eq_true rfl) ?_
  intro p e s m below meth c hC hr ls hl hP
  exact w_readStep hC hr a0 σ hF s.heap [] ls hP va_S.rf hl
theorem iM_readStep {p : Program} {l : Launch} {e : Env} {R : Room} {s : State} {m : MethodId} {args : Array Value} {below : List Frame} {meth : Method} {c : Code} {H H0 : Heap} {locs : List Loc} {cells slots nL : Nat} {Q : State → Prop} {G : MG} {σ : MS} {cc : ByteArray} {pc : Nat} {ls : Array Slot} {rest : List Value} (hC : MCx G cc nL p s m args meth c) (hP : MRep G σ H) (hS : va_S (MA G) H0 H locs) {a0 : Int32} {x : MS} (hF : F_readStep a0 σ = some x) (hl : ls.size = nL) (hW : (rest.map fun v => v.category).sum ≤ 8) (hR : rmM_readStep.frames + 1 ≤ R.frames ∧ 8 + (4 + 11) + rmM_readStep.locals ≤ R.locals) (hf : cells ≤ R.cells ∧ slots ≤ R.slots) (hdg : decode cc pc = .ok (.invokevirtual 343, 3))
    (kk : ∀ (H1 : Heap) (locs1 : List Loc), MRep G x H1 → va_S (MA G) H0 H1 locs1 → W p l e R s m args below meth c H1 locs1 cells slots Q (F0 m (pc + 3) ls (rest))) : W p l e R s m args below meth c H locs cells slots Q (F0 m pc ls (.int a0 :: .ref (gM G) :: rest)) :=
  M_inv hC hP hS [.int a0] (m_readStep l G a0 σ _ hF) (cwV 1 hC.2.2.2.2.1 (lw_V q2365 q2367 qs105 q145 q2368) rfl rfl rfl (by decide +kernel) hR) rfl rfl hl hW hf hdg kk
/-! stepHere -/
abbrev rmM_stepHere : Room := { frames := 2, cells := 0, slots := 0, locals := 42 }
def F_stepHere (σ : MS) : Option Int32 :=
  bd (F_moveHere σ) fun r_2 =>
  if r_2 < 0 then
    bd (F_isWord σ (7102841 : Int64)) fun r_5 =>
    if r_5 = 0 then
      bd (F_isWord σ (7370100 : Int64)) fun r_8 =>
      if r_8 = 0 then
        bd (F_isWord σ (1869636974 : Int64)) fun r_11 =>
        if r_11 = 0 then
          bd (F_isWord σ (26982 : Int64)) fun r_14 =>
          if r_14 = 0 then
            bd (F_isWord σ (1835102827 : Int64)) fun r_17 =>
            if r_17 = 0 then
              bd (F_isWord σ (6647396 : Int64)) fun r_20 =>
              if r_20 = 0 then
                bd (F_isWord σ (1935767923 : Int64)) fun r_23 =>
                if r_23 = 0 then
                  some (-1 : Int32)
                else
                  some (12 : Int32)
              else
                some (11 : Int32)
            else
              some (10 : Int32)
          else
            some (9 : Int32)
        else
          some (8 : Int32)
      else
        some (1 : Int32)
    else
      some (0 : Int32)
  else
    bd (F_moveHere σ) fun r_26 =>
    some r_26
set_option maxHeartbeats 4000000 in
theorem w_stepHere {p : Program} {l : Launch} {e : Env} {s : State} {m : MethodId} {args : Array Value} {below : List Frame} {meth : Method} {c : Code} {G : MG} (hC : MCx G cX10_stepHere 1 p s m args meth c) (hr : meth.sig.returnType = some .int) {x : Int32} {σ : MS} :
    F_stepHere σ = some x → MJ p l e rmM_stepHere s m args below meth c G 1 (some (.int x)) σ 0 [(0, .ref (gM G))] [] σ := by
  have hx := hC.1
  have hb := hC.2.1
  intro hF H locs ls hP hS hl
  rw [F_stepHere] at hF
  refine lv_aload_n hx hb dX10_stepHere_0 rfl (lv_at hl 0 rfl) ?_
  obtain ⟨r_2, hc_1, hF⟩ := bd_ok hF
  refine iM_moveHere hC hP hS hc_1 hl.1 (Nat.le_of_ble_eq_true rfl) ⟨Nat.le_of_ble_eq_true rfl, Nat.le_of_ble_eq_true rfl⟩ ⟨Nat.zero_le _, Nat.zero_le _⟩ dX10_stepHere_1 (fun H locs hP hS => ?_)
  refine lv_if_lt (tgt := 12) hx hb dX10_stepHere_4 (by decide) (fun c_3 => ?_) (fun c_3 => ?_)
  · replace hF := it_t hF c_3
    refine lv_aload_n hx hb dX10_stepHere_12 rfl (lv_at hl 0 rfl) ?_
    refine lv_ldc2 (v := 7102841) hx hb hC.2.2.2.1 (hC.2.2.2.2.1 _ q2238) dX10_stepHere_13 ?_
    obtain ⟨r_5, hc_4, hF⟩ := bd_ok hF
    refine iM_isWord hC hP hS hc_4 hl.1 (Nat.le_of_ble_eq_true rfl) ⟨Nat.le_of_ble_eq_true rfl, Nat.le_of_ble_eq_true rfl⟩ ⟨Nat.zero_le _, Nat.zero_le _⟩ dX10_stepHere_16 (fun H locs hP hS => ?_)
    refine lv_if_eq (tgt := 24) hx hb dX10_stepHere_19 (by decide) (fun c_6 => ?_) (fun c_6 => ?_)
    · replace hF := it_t hF c_6
      refine lv_aload_n hx hb dX10_stepHere_24 rfl (lv_at hl 0 rfl) ?_
      refine lv_ldc2 (v := 7370100) hx hb hC.2.2.2.1 (hC.2.2.2.2.1 _ q2239) dX10_stepHere_25 ?_
      obtain ⟨r_8, hc_7, hF⟩ := bd_ok hF
      refine iM_isWord hC hP hS hc_7 hl.1 (Nat.le_of_ble_eq_true rfl) ⟨Nat.le_of_ble_eq_true rfl, Nat.le_of_ble_eq_true rfl⟩ ⟨Nat.zero_le _, Nat.zero_le _⟩ dX10_stepHere_28 (fun H locs hP hS => ?_)
      refine lv_if_eq (tgt := 36) hx hb dX10_stepHere_31 (by decide) (fun c_9 => ?_) (fun c_9 => ?_)
      · replace hF := it_t hF c_9
        refine lv_aload_n hx hb dX10_stepHere_36 rfl (lv_at hl 0 rfl) ?_
        refine lv_ldc2 (v := 1869636974) hx hb hC.2.2.2.1 (hC.2.2.2.2.1 _ q2240) dX10_stepHere_37 ?_
        obtain ⟨r_11, hc_10, hF⟩ := bd_ok hF
        refine iM_isWord hC hP hS hc_10 hl.1 (Nat.le_of_ble_eq_true rfl) ⟨Nat.le_of_ble_eq_true rfl, Nat.le_of_ble_eq_true rfl⟩ ⟨Nat.zero_le _, Nat.zero_le _⟩ dX10_stepHere_40 (fun H locs hP hS => ?_)
        refine lv_if_eq (tgt := 49) hx hb dX10_stepHere_43 (by decide) (fun c_12 => ?_) (fun c_12 => ?_)
        · replace hF := it_t hF c_12
          refine lv_aload_n hx hb dX10_stepHere_49 rfl (lv_at hl 0 rfl) ?_
          refine lv_ldc2 (v := 26982) hx hb hC.2.2.2.1 (hC.2.2.2.2.1 _ q2241) dX10_stepHere_50 ?_
          obtain ⟨r_14, hc_13, hF⟩ := bd_ok hF
          refine iM_isWord hC hP hS hc_13 hl.1 (Nat.le_of_ble_eq_true rfl) ⟨Nat.le_of_ble_eq_true rfl, Nat.le_of_ble_eq_true rfl⟩ ⟨Nat.zero_le _, Nat.zero_le _⟩ dX10_stepHere_53 (fun H locs hP hS => ?_)
          refine lv_if_eq (tgt := 62) hx hb dX10_stepHere_56 (by decide) (fun c_15 => ?_) (fun c_15 => ?_)
          · replace hF := it_t hF c_15
            refine lv_aload_n hx hb dX10_stepHere_62 rfl (lv_at hl 0 rfl) ?_
            refine lv_ldc2 (v := 1835102827) hx hb hC.2.2.2.1 (hC.2.2.2.2.1 _ q2243) dX10_stepHere_63 ?_
            obtain ⟨r_17, hc_16, hF⟩ := bd_ok hF
            refine iM_isWord hC hP hS hc_16 hl.1 (Nat.le_of_ble_eq_true rfl) ⟨Nat.le_of_ble_eq_true rfl, Nat.le_of_ble_eq_true rfl⟩ ⟨Nat.zero_le _, Nat.zero_le _⟩ dX10_stepHere_66 (fun H locs hP hS => ?_)
            refine lv_if_eq (tgt := 75) hx hb dX10_stepHere_69 (by decide) (fun c_18 => ?_) (fun c_18 => ?_)
            · replace hF := it_t hF c_18
              refine lv_aload_n hx hb dX10_stepHere_75 rfl (lv_at hl 0 rfl) ?_
              refine lv_ldc2 (v := 6647396) hx hb hC.2.2.2.1 (hC.2.2.2.2.1 _ q2244) dX10_stepHere_76 ?_
              obtain ⟨r_20, hc_19, hF⟩ := bd_ok hF
              refine iM_isWord hC hP hS hc_19 hl.1 (Nat.le_of_ble_eq_true rfl) ⟨Nat.le_of_ble_eq_true rfl, Nat.le_of_ble_eq_true rfl⟩ ⟨Nat.zero_le _, Nat.zero_le _⟩ dX10_stepHere_79 (fun H locs hP hS => ?_)
              refine lv_if_eq (tgt := 88) hx hb dX10_stepHere_82 (by decide) (fun c_21 => ?_) (fun c_21 => ?_)
              · replace hF := it_t hF c_21
                refine lv_aload_n hx hb dX10_stepHere_88 rfl (lv_at hl 0 rfl) ?_
                refine lv_ldc2 (v := 1935767923) hx hb hC.2.2.2.1 (hC.2.2.2.2.1 _ q2245) dX10_stepHere_89 ?_
                obtain ⟨r_23, hc_22, hF⟩ := bd_ok hF
                refine iM_isWord hC hP hS hc_22 hl.1 (Nat.le_of_ble_eq_true rfl) ⟨Nat.le_of_ble_eq_true rfl, Nat.le_of_ble_eq_true rfl⟩ ⟨Nat.zero_le _, Nat.zero_le _⟩ dX10_stepHere_92 (fun H locs hP hS => ?_)
                refine lv_if_eq (tgt := 103) hx hb dX10_stepHere_95 (by decide) (fun c_24 => ?_) (fun c_24 => ?_)
                · replace hF := it_t hF c_24
                  refine lv_iconst (v := -1) hx hb dX10_stepHere_103 (by decide) ?_
                  exact M_reti hC hP hS hr (Option.some.inj hF) rfl dX10_stepHere_104
                · replace hF := it_f hF c_24
                  refine lv_bipush (v := 12) hx hb dX10_stepHere_98 (by decide) ?_
                  refine lv_goto (tgt := 104) hx hb dX10_stepHere_100 (by decide) ?_
                  exact M_reti hC hP hS hr (Option.some.inj hF) rfl dX10_stepHere_104
              · replace hF := it_f hF c_21
                refine lv_bipush (v := 11) hx hb dX10_stepHere_85 (by decide) ?_
                exact M_reti hC hP hS hr (Option.some.inj hF) rfl dX10_stepHere_87
            · replace hF := it_f hF c_18
              refine lv_bipush (v := 10) hx hb dX10_stepHere_72 (by decide) ?_
              exact M_reti hC hP hS hr (Option.some.inj hF) rfl dX10_stepHere_74
          · replace hF := it_f hF c_15
            refine lv_bipush (v := 9) hx hb dX10_stepHere_59 (by decide) ?_
            exact M_reti hC hP hS hr (Option.some.inj hF) rfl dX10_stepHere_61
        · replace hF := it_f hF c_12
          refine lv_bipush (v := 8) hx hb dX10_stepHere_46 (by decide) ?_
          exact M_reti hC hP hS hr (Option.some.inj hF) rfl dX10_stepHere_48
      · replace hF := it_f hF c_9
        refine lv_iconst (v := 1) hx hb dX10_stepHere_34 (by decide) ?_
        exact M_reti hC hP hS hr (Option.some.inj hF) rfl dX10_stepHere_35
    · replace hF := it_f hF c_6
      refine lv_iconst (v := 0) hx hb dX10_stepHere_22 (by decide) ?_
      exact M_reti hC hP hS hr (Option.some.inj hF) rfl dX10_stepHere_23
  · replace hF := it_f hF c_3
    refine lv_aload_n hx hb dX10_stepHere_7 rfl (lv_at hl 0 rfl) ?_
    obtain ⟨r_26, hc_25, hF⟩ := bd_ok hF
    refine iM_moveHere hC hP hS hc_25 hl.1 (Nat.le_of_ble_eq_true rfl) ⟨Nat.le_of_ble_eq_true rfl, Nat.le_of_ble_eq_true rfl⟩ ⟨Nat.zero_le _, Nat.zero_le _⟩ dX10_stepHere_8 (fun H locs hP hS => ?_)
    exact M_reti hC hP hS hr (Option.some.inj hF) rfl dX10_stepHere_11
theorem m_stepHere (l : Launch) (G : MG) (σ : MS) (x : Int32) (hF : F_stepHere σ = some x) : Met l yX10_stepHere (ws_ yX10_stepHere cX10_stepHere 1 (some .int)) rmM_stepHere (mP G [.ref (gM G)] σ) (mQ G (some (.int x)) σ) 0 0 (MA G) := by
  refine M_met rfl plM (Nat.le_of_ble_eq_true rfl) ?_
  intro p e s m below meth c hC hr ls hl hP
  exact w_stepHere hC hr hF s.heap [] ls hP va_S.rf hl
theorem iM_stepHere {p : Program} {l : Launch} {e : Env} {R : Room} {s : State} {m : MethodId} {args : Array Value} {below : List Frame} {meth : Method} {c : Code} {H H0 : Heap} {locs : List Loc} {cells slots nL : Nat} {Q : State → Prop} {G : MG} {σ : MS} {cc : ByteArray} {pc : Nat} {ls : Array Slot} {rest : List Value} (hC : MCx G cc nL p s m args meth c) (hP : MRep G σ H) (hS : va_S (MA G) H0 H locs) {x : Int32} (hF : F_stepHere σ = some x) (hl : ls.size = nL) (hW : (rest.map fun v => v.category).sum ≤ 8) (hR : rmM_stepHere.frames + 1 ≤ R.frames ∧ 8 + (1 + 11) + rmM_stepHere.locals ≤ R.locals) (hf : cells ≤ R.cells ∧ slots ≤ R.slots) (hdg : decode cc pc = .ok (.invokevirtual 331, 3))
    (kk : ∀ (H1 : Heap) (locs1 : List Loc), MRep G σ H1 → va_S (MA G) H0 H1 locs1 → W p l e R s m args below meth c H1 locs1 cells slots Q (F0 m (pc + 3) ls (.int x :: rest))) : W p l e R s m args below meth c H locs cells slots Q (F0 m pc ls (.ref (gM G) :: rest)) :=
  M_inv hC hP hS [] (m_stepHere l G σ _ hF) (cwV 0 hC.2.2.2.2.1 (lw_V q2277 q2279 qs83 q145 q2280) rfl rfl rfl (by decide +kernel) hR) rfl rfl hl hW hf hdg kk
/-! readLine -/
abbrev rmM_readLine : Room := { frames := 6, cells := 0, slots := 0, locals := 140 }
def F_readLine_b72 (σ : MS) : Option MS :=
  bd (F_stands σ (59 : Int32)) fun r_2 =>
  bd (F_must r_2 σ) fun σ_4 =>
  some σ_4
set_option maxHeartbeats 4000000 in
theorem w_readLine_b72 {p : Program} {l : Launch} {e : Env} {s : State} {m : MethodId} {args : Array Value} {below : List Frame} {meth : Method} {c : Code} {G : MG} (hC : MCx G cX10_readLine 2 p s m args meth c) (hr : meth.sig.returnType = none) {x : MS} :
    ∀ (σ : MS), F_readLine_b72 σ = some x → MJ p l e rmM_readLine s m args below meth c G 2 none x 72 [(0, .ref (gM G))] [] σ := by
  have hx := hC.1
  have hb := hC.2.1
  intro σ hF H locs ls hP hS hl
  rw [F_readLine_b72] at hF
  refine lv_aload_n hx hb dX10_readLine_72 rfl (lv_at hl 0 rfl) ?_
  refine lv_aload_n hx hb dX10_readLine_73 rfl (lv_at hl 0 rfl) ?_
  refine lv_bipush (v := 59) hx hb dX10_readLine_74 (by decide) ?_
  obtain ⟨r_2, hc_1, hF⟩ := bd_ok hF
  refine iM_stands hC hP hS hc_1 hl.1 (Nat.le_of_ble_eq_true rfl) ⟨Nat.le_of_ble_eq_true rfl, Nat.le_of_ble_eq_true rfl⟩ ⟨Nat.zero_le _, Nat.zero_le _⟩ dX10_readLine_76 (fun H locs hP hS => ?_)
  obtain ⟨σ_4, hc_3, hF⟩ := bd_ok hF
  refine iM_must hC hP hS hc_3 hl.1 (Nat.le_of_ble_eq_true rfl) ⟨Nat.le_of_ble_eq_true rfl, Nat.le_of_ble_eq_true rfl⟩ ⟨Nat.zero_le _, Nat.zero_le _⟩ dX10_readLine_79 (fun H locs hP hS => ?_)
  exact M_retv hC hP hS hr (Option.some.inj hF) dX10_readLine_82
def F_readLine (σ : MS) : Option MS :=
  bd (F_stepHere σ) fun r_2 =>
  bd (F_isWord σ (123580963646565 : Int64)) fun r_4 =>
  if r_4 = 0 then
    bd (F_isWord σ (1634954099 : Int64)) fun r_7 =>
    if r_7 = 0 then
      bd (F_isWord σ (7168377 : Int64)) fun r_10 =>
      if r_10 = 0 then
        if r_2 < 0 then
          bd (F_misplaced σ) fun σ_14 =>
          F_readLine_b72 σ_14
        else
          bd (F_readStep r_2 σ) fun σ_16 =>
          F_readLine_b72 σ_16
      else
        bd (F_readMay σ) fun σ_18 =>
        F_readLine_b72 σ_18
    else
      bd (F_readAsks σ) fun σ_20 =>
      F_readLine_b72 σ_20
  else
    bd (F_readPeople σ) fun σ_22 =>
    F_readLine_b72 σ_22
set_option maxHeartbeats 4000000 in
theorem w_readLine {p : Program} {l : Launch} {e : Env} {s : State} {m : MethodId} {args : Array Value} {below : List Frame} {meth : Method} {c : Code} {G : MG} (hC : MCx G cX10_readLine 2 p s m args meth c) (hr : meth.sig.returnType = none) {x : MS} :
    ∀ (σ : MS), F_readLine σ = some x → MJ p l e rmM_readLine s m args below meth c G 2 none x 0 [(0, .ref (gM G))] [] σ := by
  have hx := hC.1
  have hb := hC.2.1
  intro σ hF H locs ls hP hS hl
  rw [F_readLine] at hF
  refine lv_aload_n hx hb dX10_readLine_0 rfl (lv_at hl 0 rfl) ?_
  obtain ⟨r_2, hc_1, hF⟩ := bd_ok hF
  refine iM_stepHere hC hP hS hc_1 hl.1 (Nat.le_of_ble_eq_true rfl) ⟨Nat.le_of_ble_eq_true rfl, Nat.le_of_ble_eq_true rfl⟩ ⟨Nat.zero_le _, Nat.zero_le _⟩ dX10_readLine_1 (fun H locs hP hS => ?_)
  refine lv_istore_n (lv' := [(1, .int r_2), (0, .ref (gM G))]) hx hb dX10_readLine_4 rfl hl (by decide) rfl (fun ls hl => ?_)
  refine lv_aload_n hx hb dX10_readLine_5 rfl (lv_at hl 1 rfl) ?_
  refine lv_ldc2 (v := 123580963646565) hx hb hC.2.2.2.1 (hC.2.2.2.2.1 _ q2235) dX10_readLine_6 ?_
  obtain ⟨r_4, hc_3, hF⟩ := bd_ok hF
  refine iM_isWord hC hP hS hc_3 hl.1 (Nat.le_of_ble_eq_true rfl) ⟨Nat.le_of_ble_eq_true rfl, Nat.le_of_ble_eq_true rfl⟩ ⟨Nat.zero_le _, Nat.zero_le _⟩ dX10_readLine_9 (fun H locs hP hS => ?_)
  refine lv_if_eq (tgt := 22) hx hb dX10_readLine_12 (by decide) (fun c_5 => ?_) (fun c_5 => ?_)
  · replace hF := it_t hF c_5
    refine lv_aload_n hx hb dX10_readLine_22 rfl (lv_at hl 1 rfl) ?_
    refine lv_ldc2 (v := 1634954099) hx hb hC.2.2.2.1 (hC.2.2.2.2.1 _ q2236) dX10_readLine_23 ?_
    obtain ⟨r_7, hc_6, hF⟩ := bd_ok hF
    refine iM_isWord hC hP hS hc_6 hl.1 (Nat.le_of_ble_eq_true rfl) ⟨Nat.le_of_ble_eq_true rfl, Nat.le_of_ble_eq_true rfl⟩ ⟨Nat.zero_le _, Nat.zero_le _⟩ dX10_readLine_26 (fun H locs hP hS => ?_)
    refine lv_if_eq (tgt := 39) hx hb dX10_readLine_29 (by decide) (fun c_8 => ?_) (fun c_8 => ?_)
    · replace hF := it_t hF c_8
      refine lv_aload_n hx hb dX10_readLine_39 rfl (lv_at hl 1 rfl) ?_
      refine lv_ldc2 (v := 7168377) hx hb hC.2.2.2.1 (hC.2.2.2.2.1 _ q2237) dX10_readLine_40 ?_
      obtain ⟨r_10, hc_9, hF⟩ := bd_ok hF
      refine iM_isWord hC hP hS hc_9 hl.1 (Nat.le_of_ble_eq_true rfl) ⟨Nat.le_of_ble_eq_true rfl, Nat.le_of_ble_eq_true rfl⟩ ⟨Nat.zero_le _, Nat.zero_le _⟩ dX10_readLine_43 (fun H locs hP hS => ?_)
      refine lv_if_eq (tgt := 56) hx hb dX10_readLine_46 (by decide) (fun c_11 => ?_) (fun c_11 => ?_)
      · replace hF := it_t hF c_11
        refine lv_iload_n hx hb dX10_readLine_56 rfl (lv_at hl 0 rfl) ?_
        refine lv_if_lt (tgt := 68) hx hb dX10_readLine_57 (by decide) (fun c_12 => ?_) (fun c_12 => ?_)
        · replace hF := it_t hF c_12
          refine lv_aload_n hx hb dX10_readLine_68 rfl (lv_at hl 1 rfl) ?_
          obtain ⟨σ_14, hc_13, hF⟩ := bd_ok hF
          refine iM_misplaced hC hP hS hc_13 hl.1 (Nat.le_of_ble_eq_true rfl) ⟨Nat.le_of_ble_eq_true rfl, Nat.le_of_ble_eq_true rfl⟩ ⟨Nat.zero_le _, Nat.zero_le _⟩ dX10_readLine_69 (fun H locs hP hS => ?_)
          exact w_readLine_b72 hC hr σ_14 hF H locs ls hP hS (lv_sub hl [1] rfl)
        · replace hF := it_f hF c_12
          refine lv_aload_n hx hb dX10_readLine_60 rfl (lv_at hl 1 rfl) ?_
          refine lv_iload_n hx hb dX10_readLine_61 rfl (lv_at hl 0 rfl) ?_
          obtain ⟨σ_16, hc_15, hF⟩ := bd_ok hF
          refine iM_readStep hC hP hS hc_15 hl.1 (Nat.le_of_ble_eq_true rfl) ⟨Nat.le_of_ble_eq_true rfl, Nat.le_of_ble_eq_true rfl⟩ ⟨Nat.zero_le _, Nat.zero_le _⟩ dX10_readLine_62 (fun H locs hP hS => ?_)
          refine lv_goto (tgt := 72) hx hb dX10_readLine_65 (by decide) ?_
          exact w_readLine_b72 hC hr σ_16 hF H locs ls hP hS (lv_sub hl [1] rfl)
      · replace hF := it_f hF c_11
        refine lv_aload_n hx hb dX10_readLine_49 rfl (lv_at hl 1 rfl) ?_
        obtain ⟨σ_18, hc_17, hF⟩ := bd_ok hF
        refine iM_readMay hC hP hS hc_17 hl.1 (Nat.le_of_ble_eq_true rfl) ⟨Nat.le_of_ble_eq_true rfl, Nat.le_of_ble_eq_true rfl⟩ ⟨Nat.zero_le _, Nat.zero_le _⟩ dX10_readLine_50 (fun H locs hP hS => ?_)
        refine lv_goto (tgt := 72) hx hb dX10_readLine_53 (by decide) ?_
        exact w_readLine_b72 hC hr σ_18 hF H locs ls hP hS (lv_sub hl [1] rfl)
    · replace hF := it_f hF c_8
      refine lv_aload_n hx hb dX10_readLine_32 rfl (lv_at hl 1 rfl) ?_
      obtain ⟨σ_20, hc_19, hF⟩ := bd_ok hF
      refine iM_readAsks hC hP hS hc_19 hl.1 (Nat.le_of_ble_eq_true rfl) ⟨Nat.le_of_ble_eq_true rfl, Nat.le_of_ble_eq_true rfl⟩ ⟨Nat.zero_le _, Nat.zero_le _⟩ dX10_readLine_33 (fun H locs hP hS => ?_)
      refine lv_goto (tgt := 72) hx hb dX10_readLine_36 (by decide) ?_
      exact w_readLine_b72 hC hr σ_20 hF H locs ls hP hS (lv_sub hl [1] rfl)
  · replace hF := it_f hF c_5
    refine lv_aload_n hx hb dX10_readLine_15 rfl (lv_at hl 1 rfl) ?_
    obtain ⟨σ_22, hc_21, hF⟩ := bd_ok hF
    refine iM_readPeople hC hP hS hc_21 hl.1 (Nat.le_of_ble_eq_true rfl) ⟨Nat.le_of_ble_eq_true rfl, Nat.le_of_ble_eq_true rfl⟩ ⟨Nat.zero_le _, Nat.zero_le _⟩ dX10_readLine_16 (fun H locs hP hS => ?_)
    refine lv_goto (tgt := 72) hx hb dX10_readLine_19 (by decide) ?_
    exact w_readLine_b72 hC hr σ_22 hF H locs ls hP hS (lv_sub hl [1] rfl)
theorem m_readLine (l : Launch) (G : MG) (σ : MS) (x : MS) (hF : F_readLine σ = some x) : Met l yX10_readLine (ws_ yX10_readLine cX10_readLine 2 none) rmM_readLine (mP G [.ref (gM G)] σ) (mQ G none x) 0 0 (MA G) := by
  refine M_met rfl plM (Nat.le_of_ble_eq_true rfl) ?_
  intro p e s m below meth c hC hr ls hl hP
  exact w_readLine hC hr σ hF s.heap [] ls hP va_S.rf hl
theorem iM_readLine {p : Program} {l : Launch} {e : Env} {R : Room} {s : State} {m : MethodId} {args : Array Value} {below : List Frame} {meth : Method} {c : Code} {H H0 : Heap} {locs : List Loc} {cells slots nL : Nat} {Q : State → Prop} {G : MG} {σ : MS} {cc : ByteArray} {pc : Nat} {ls : Array Slot} {rest : List Value} (hC : MCx G cc nL p s m args meth c) (hP : MRep G σ H) (hS : va_S (MA G) H0 H locs) {x : MS} (hF : F_readLine σ = some x) (hl : ls.size = nL) (hW : (rest.map fun v => v.category).sum ≤ 8) (hR : rmM_readLine.frames + 1 ≤ R.frames ∧ 8 + (2 + 11) + rmM_readLine.locals ≤ R.locals) (hf : cells ≤ R.cells ∧ slots ≤ R.slots) (hdg : decode cc pc = .ok (.invokevirtual 312, 3))
    (kk : ∀ (H1 : Heap) (locs1 : List Loc), MRep G x H1 → va_S (MA G) H0 H1 locs1 → W p l e R s m args below meth c H1 locs1 cells slots Q (F0 m (pc + 3) ls (rest))) : W p l e R s m args below meth c H locs cells slots Q (F0 m pc ls (.ref (gM G) :: rest)) :=
  M_inv hC hP hS [] (m_readLine l G σ _ hF) (cwV 0 hC.2.2.2.2.1 (lw_V q2273 q2275 qs82 q145 q2276) rfl rfl rfl (by decide +kernel) hR) rfl rfl hl hW hf hdg kk
end
