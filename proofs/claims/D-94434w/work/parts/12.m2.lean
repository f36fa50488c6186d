set_option maxRecDepth 100000
noncomputable section
/-! layPaths -/
abbrev rmM_layPaths : Room := { frames := 5, cells := 0, slots := 0, locals := 125 }
def F_layPaths_b37 (y0 : Int32) (σ : MS) : Option MS :=
  lt (wI σ 63 y0) fun σ_1 =>
  some σ_1
set_option maxHeartbeats 4000000 in
theorem w_layPaths_b37 {p : Program} {l : Launch} {e : Env} {s : State} {m : MethodId} {args : Array Value} {below : List Frame} {meth : Method} {c : Code} {G : MG} (hC : MCx G cX10_layPaths 1 p s m args meth c) (hr : meth.sig.returnType = none) {x : MS} :
    ∀ (y0 : Int32) (σ : MS), F_layPaths_b37 y0 σ = some x → MJ p l e rmM_layPaths s m args below meth c G 1 none x 37 [] [.int y0, .ref (gM G)] σ := by
  have hx := hC.1
  have hb := hC.2.1
  intro y0 σ hF H locs ls hP hS hl
  rw [F_layPaths_b37] at hF
  refine pM63 hC hP hS dX10_layPaths_37 (fun H locs hP hS => ?_)
  obtain ⟨σ_1, eσ_1, hF⟩ := lt_ok hF
  rw [← eσ_1] at hP
  exact M_retv hC hP hS hr (Option.some.inj hF) dX10_layPaths_40
def F_layPaths_b18 (y0 : Int32) (σ : MS) : Option MS :=
  gd (y0 = 0 ∨ y0 = 1) <|
  lt (wI σ 65 y0) fun σ_2 =>
  if (mI σ_2 65) = 0 then
    F_layPaths_b37 (mI σ_2 55) σ_2
  else
    F_layPaths_b37 (0 : Int32) σ_2
set_option maxHeartbeats 4000000 in
theorem w_layPaths_b18 {p : Program} {l : Launch} {e : Env} {s : State} {m : MethodId} {args : Array Value} {below : List Frame} {meth : Method} {c : Code} {G : MG} (hC : MCx G cX10_layPaths 1 p s m args meth c) (hr : meth.sig.returnType = none) {x : MS} :
    ∀ (y0 : Int32) (σ : MS), F_layPaths_b18 y0 σ = some x → MJ p l e rmM_layPaths s m args below meth c G 1 none x 18 [(0, .ref (gM G))] [.int y0, .ref (gM G)] σ := by
  have hx := hC.1
  have hb := hC.2.1
  intro y0 σ hF H locs ls hP hS hl
  rw [F_layPaths_b18] at hF
  obtain ⟨h_1, hF⟩ := gd_ok hF
  refine pM65 hC hP hS h_1 dX10_layPaths_18 (fun H locs hP hS => ?_)
  obtain ⟨σ_2, eσ_2, hF⟩ := lt_ok hF
  rw [← eσ_2] at hP
  refine lv_aload_n hx hb dX10_layPaths_21 rfl (lv_at hl 0 rfl) ?_
  refine lv_aload_n hx hb dX10_layPaths_22 rfl (lv_at hl 0 rfl) ?_
  refine gM65 hC hP dX10_layPaths_23 ?_
  refine lv_if_eq (tgt := 33) hx hb dX10_layPaths_26 (by decide) (fun c_3 => ?_) (fun c_3 => ?_)
  · replace hF := it_t hF c_3
    refine lv_aload_n hx hb dX10_layPaths_33 rfl (lv_at hl 0 rfl) ?_
    refine gM55 hC hP dX10_layPaths_34 ?_
    exact w_layPaths_b37 hC hr (mI σ_2 55) σ_2 hF H locs ls hP hS (lv_sub hl [] rfl)
  · replace hF := it_f hF c_3
    refine lv_iconst (v := 0) hx hb dX10_layPaths_29 (by decide) ?_
    refine lv_goto (tgt := 37) hx hb dX10_layPaths_30 (by decide) ?_
    exact w_layPaths_b37 hC hr (0 : Int32) σ_2 hF H locs ls hP hS (lv_sub hl [] rfl)
def F_layPaths (σ : MS) : Option MS :=
  bd2 (F_explore (0 : Int32) (0 : Int32) (200 : Int32) σ) fun r_3 σ_2 =>
  if r_3 = 0 then
    F_layPaths_b18 (1 : Int32) σ_2
  else
    F_layPaths_b18 (0 : Int32) σ_2
set_option maxHeartbeats 4000000 in
theorem w_layPaths {p : Program} {l : Launch} {e : Env} {s : State} {m : MethodId} {args : Array Value} {below : List Frame} {meth : Method} {c : Code} {G : MG} (hC : MCx G cX10_layPaths 1 p s m args meth c) (hr : meth.sig.returnType = none) {x : MS} :
    ∀ (σ : MS), F_layPaths σ = some x → MJ p l e rmM_layPaths s m args below meth c G 1 none x 0 [(0, .ref (gM G))] [] σ := by
  have hx := hC.1
  have hb := hC.2.1
  intro σ hF H locs ls hP hS hl
  rw [F_layPaths] at hF
  refine lv_aload_n hx hb dX10_layPaths_0 rfl (lv_at hl 0 rfl) ?_
  refine lv_aload_n hx hb dX10_layPaths_1 rfl (lv_at hl 0 rfl) ?_
  refine lv_iconst (v := 0) hx hb dX10_layPaths_2 (by decide) ?_
  refine lv_iconst (v := 0) hx hb dX10_layPaths_3 (by decide) ?_
  refine lv_sipush (v := 200) hx hb dX10_layPaths_4 (by decide) ?_
  obtain ⟨r_3, σ_2, hc_1, hF⟩ := bd2_ok hF
  refine iM_explore hC hP hS hc_1 hl.1 (Nat.le_of_ble_eq_true rfl) ⟨Nat.le_of_ble_eq_true rfl, Nat.le_of_ble_eq_true rfl⟩ ⟨Nat.zero_le _, Nat.zero_le _⟩ dX10_layPaths_7 (fun H locs hP hS => ?_)
  refine lv_if_ne (tgt := 17) hx hb dX10_layPaths_10 (by decide) (fun c_4 => ?_) (fun c_4 => ?_)
  · replace hF := it_f hF c_4
    refine lv_iconst (v := 0) hx hb dX10_layPaths_17 (by decide) ?_
    exact w_layPaths_b18 hC hr (0 : Int32) σ_2 hF H locs ls hP hS (lv_sub hl [0] rfl)
  · replace hF := it_t hF c_4
    refine lv_iconst (v := 1) hx hb dX10_layPaths_13 (by decide) ?_
    refine lv_goto (tgt := 18) hx hb dX10_layPaths_14 (by decide) ?_
    exact w_layPaths_b18 hC hr (1 : Int32) σ_2 hF H locs ls hP hS (lv_sub hl [0] rfl)
theorem m_layPaths (l : Launch) (G : MG) (σ : MS) (x : MS) (hF : F_layPaths σ = some x) : Met l yX10_layPaths (ws_ yX10_layPaths cX10_layPaths 1 none) rmM_layPaths (mP G [.ref (gM G)] σ) (mQ G none x) 0 0 (MA G) := by
  refine M_met rfl plM (Nat.le_of_ble_eq_true rfl) ?_
  intro p e s m below meth c hC hr ls hl hP
  exact w_layPaths hC hr σ hF s.heap [] ls hP va_S.rf hl
theorem iM_layPaths {p : Program} {l : Launch} {e : Env} {R : Room} {s : State} {m : MethodId} {args : Array Value} {below : List Frame} {meth : Method} {c : Code} {H H0 : Heap} {locs : List Loc} {cells slots nL : Nat} {Q : State → Prop} {G : MG} {σ : MS} {cc : ByteArray} {pc : Nat} {ls : Array Slot} {rest : List Value} (hC : MCx G cc nL p s m args meth c) (hP : MRep G σ H) (hS : va_S (MA G) H0 H locs) {x : MS} (hF : F_layPaths σ = some x) (hl : ls.size = nL) (hW : (rest.map fun v => v.category).sum ≤ 8) (hR : rmM_layPaths.frames + 1 ≤ R.frames ∧ 8 + (1 + 11) + rmM_layPaths.locals ≤ R.locals) (hf : cells ≤ R.cells ∧ slots ≤ R.slots) (hdg : decode cc pc = .ok (.invokevirtual 180, 3))
    (kk : ∀ (H1 : Heap) (locs1 : List Loc), MRep G x H1 → va_S (MA G) H0 H1 locs1 → W p l e R s m args below meth c H1 locs1 cells slots Q (F0 m (pc + 3) ls (rest))) : W p l e R s m args below meth c H locs cells slots Q (F0 m pc ls (.ref (gM G) :: rest)) :=
  M_inv hC hP hS [] (m_layPaths l G σ _ hF) (cwV 0 hC.2.2.2.2.1 (lw_V q1822 q1824 qs49 q145 q1825) rfl rfl rfl (by decide +kernel) hR) rfl rfl hl hW hf hdg kk
/-! sign -/
abbrev rmM_sign : Room := { frames := 0, cells := 0, slots := 0, locals := 0 }
def F_sign (σ : MS) (a0 : Int32) : Option Int32 :=
  if (mI σ 3) ≤ a0 then
    some (0 : Int32)
  else
    gd (inb a0 1600) <|
    some ((mA σ 1 (Int32.toNatClampNeg a0)) &&& (255 : Int32))
set_option maxHeartbeats 4000000 in
theorem w_sign {p : Program} {l : Launch} {e : Env} {s : State} {m : MethodId} {args : Array Value} {below : List Frame} {meth : Method} {c : Code} {G : MG} (hC : MCx G cX10_sign 2 p s m args meth c) (hr : meth.sig.returnType = some .int) {x : Int32} {σ : MS} :
    ∀ (a0 : Int32), F_sign σ a0 = some x → MJ p l e rmM_sign s m args below meth c G 2 (some (.int x)) σ 0 [(0, .ref (gM G)), (1, .int a0)] [] σ := by
  have hx := hC.1
  have hb := hC.2.1
  intro a0 hF H locs ls hP hS hl
  rw [F_sign] at hF
  refine lv_iload_n hx hb dX10_sign_0 rfl (lv_at hl 1 rfl) ?_
  refine lv_aload_n hx hb dX10_sign_1 rfl (lv_at hl 0 rfl) ?_
  refine gM3 hC hP dX10_sign_2 ?_
  refine lv_icmp_ge (tgt := 21) hx hb dX10_sign_5 (by decide) (fun c_1 => ?_) (fun c_1 => ?_)
  · replace hF := it_t hF c_1
    refine lv_iconst (v := 0) hx hb dX10_sign_21 (by decide) ?_
    exact M_reti hC hP hS hr (Option.some.inj hF) rfl dX10_sign_22
  · replace hF := it_f hF c_1
    refine lv_aload_n hx hb dX10_sign_8 rfl (lv_at hl 0 rfl) ?_
    refine gM1 hC hP dX10_sign_9 ?_
    refine lv_iload_n hx hb dX10_sign_12 rfl (lv_at hl 1 rfl) ?_
    obtain ⟨h_2, hF⟩ := gd_ok hF
    refine M_bald hC hP 1 (by decide) rfl rfl rfl h_2 dX10_sign_13 ?_
    refine lv_sipush (v := 255) hx hb dX10_sign_14 (by decide) ?_
    refine lv_iand hx hb dX10_sign_17 ?_
    refine lv_goto (tgt := 22) hx hb dX10_sign_18 (by decide) ?_
    exact M_reti hC hP hS hr (Option.some.inj hF) rfl dX10_sign_22
theorem m_sign (l : Launch) (G : MG) (a0 : Int32) (σ : MS) (x : Int32) (hF : F_sign σ a0 = some x) : Met l yX10_sign (ws_ yX10_sign cX10_sign 2 (some .int)) rmM_sign (mP G [.ref (gM G), .int a0] σ) (mQ G (some (.int x)) σ) 0 0 (MA G) := by
  refine M_met rfl plM (Nat.le_of_ble_eq_true rfl) ?_
  intro p e s m below meth c hC hr ls hl hP
  exact w_sign hC hr a0 hF s.heap [] ls hP va_S.rf hl
theorem iM_sign {p : Program} {l : Launch} {e : Env} {R : Room} {s : State} {m : MethodId} {args : Array Value} {below : List Frame} {meth : Method} {c : Code} {H H0 : Heap} {locs : List Loc} {cells slots nL : Nat} {Q : State → Prop} {G : MG} {σ : MS} {cc : ByteArray} {pc : Nat} {ls : Array Slot} {rest : List Value} (hC : MCx G cc nL p s m args meth c) (hP : MRep G σ H) (hS : va_S (MA G) H0 H locs) {a0 : Int32} {x : Int32} (hF : F_sign σ a0 = some x) (hl : ls.size = nL) (hW : (rest.map fun v => v.category).sum ≤ 8) (hR : rmM_sign.frames + 1 ≤ R.frames ∧ 8 + (2 + 11) + rmM_sign.locals ≤ R.locals) (hf : cells ≤ R.cells ∧ slots ≤ R.slots) (hdg : decode cc pc = .ok (.invokevirtual 251, 3))
    (kk : ∀ (H1 : Heap) (locs1 : List Loc), MRep G σ H1 → va_S (MA G) H0 H1 locs1 → W p l e R s m args below meth c H1 locs1 cells slots Q (F0 m (pc + 3) ls (.int x :: rest))) : W p l e R s m args below meth c H locs cells slots Q (F0 m pc ls (.int a0 :: .ref (gM G) :: rest)) :=
  M_inv hC hP hS [.int a0] (m_sign l G a0 σ _ hF) (cwV 1 hC.2.2.2.2.1 (lw_V q2228 q2230 qs80 q145 q2231) rfl rfl rfl (by decide +kernel) hR) rfl rfl hl hW hf hdg kk
/-! isDigit -/
abbrev rmM_isDigit : Room := { frames := 0, cells := 0, slots := 0, locals := 0 }
def F_isDigit (a0 : Int32) : Option Int32 :=
  if a0 < (48 : Int32) then
    some (0 : Int32)
  else
    if (57 : Int32) < a0 then
      some (0 : Int32)
    else
      some (1 : Int32)
set_option maxHeartbeats 4000000 in
theorem w_isDigit {p : Program} {l : Launch} {e : Env} {s : State} {m : MethodId} {args : Array Value} {below : List Frame} {meth : Method} {c : Code} {G : MG} (hC : MCx G cX10_isDigit 1 p s m args meth c) (hr : meth.sig.returnType = some .boolean) {x : Int32} {σ : MS} :
    ∀ (a0 : Int32), F_isDigit a0 = some x → MJ p l e rmM_isDigit s m args below meth c G 1 (some (.int x)) σ 0 [(0, .int a0)] [] σ := by
  have hx := hC.1
  have hb := hC.2.1
  intro a0 hF H locs ls hP hS hl
  rw [F_isDigit] at hF
  refine lv_iload_n hx hb dX10_isDigit_0 rfl (lv_at hl 0 rfl) ?_
  refine lv_bipush (v := 48) hx hb dX10_isDigit_1 (by decide) ?_
  refine lv_icmp_lt (tgt := 16) hx hb dX10_isDigit_3 (by decide) (fun c_1 => ?_) (fun c_1 => ?_)
  · replace hF := it_t hF c_1
    refine lv_iconst (v := 0) hx hb dX10_isDigit_16 (by decide) ?_
    exact M_retz hC hP hS hr (Or.inl rfl) (Option.some.inj hF) rfl dX10_isDigit_17
  · replace hF := it_f hF c_1
    refine lv_iload_n hx hb dX10_isDigit_6 rfl (lv_at hl 0 rfl) ?_
    refine lv_bipush (v := 57) hx hb dX10_isDigit_7 (by decide) ?_
    refine lv_icmp_gt (tgt := 16) hx hb dX10_isDigit_9 (by decide) (fun c_2 => ?_) (fun c_2 => ?_)
    · replace hF := it_t hF c_2
      refine lv_iconst (v := 0) hx hb dX10_isDigit_16 (by decide) ?_
      exact M_retz hC hP hS hr (Or.inl rfl) (Option.some.inj hF) rfl dX10_isDigit_17
    · replace hF := it_f hF c_2
      refine lv_iconst (v := 1) hx hb dX10_isDigit_12 (by decide) ?_
      refine lv_goto (tgt := 17) hx hb dX10_isDigit_13 (by decide) ?_
      exact M_retz hC hP hS hr (Or.inr rfl) (Option.some.inj hF) rfl dX10_isDigit_17
theorem m_isDigit (l : Launch) (G : MG) (a0 : Int32) (σ : MS) (x : Int32) (hF : F_isDigit a0 = some x) : Met l yX10_isDigit (ws_ yX10_isDigit cX10_isDigit 1 (some .boolean)) rmM_isDigit (mP G [.int a0] σ) (mQ G (some (.int x)) σ) 0 0 (MA G) := by
  refine M_met rfl plM (Nat.le_of_ble_eq_true rfl) ?_
  intro p e s m below meth c hC hr ls hl hP
  exact w_isDigit hC hr a0 hF s.heap [] ls hP va_S.rf hl
theorem iM_isDigit {p : Program} {l : Launch} {e : Env} {R : Room} {s : State} {m : MethodId} {args : Array Value} {below : List Frame} {meth : Method} {c : Code} {H H0 : Heap} {locs : List Loc} {cells slots nL : Nat} {Q : State → Prop} {G : MG} {σ : MS} {cc : ByteArray} {pc : Nat} {ls : Array Slot} {rest : List Value} (hC : MCx G cc nL p s m args meth c) (hP : MRep G σ H) (hS : va_S (MA G) H0 H locs) {a0 : Int32} {x : Int32} (hF : F_isDigit a0 = some x) (hl : ls.size = nL) (hW : (rest.map fun v => v.category).sum ≤ 8) (hR : rmM_isDigit.frames + 1 ≤ R.frames ∧ 8 + (1 + 11) + rmM_isDigit.locals ≤ R.locals) (hf : cells ≤ R.cells ∧ slots ≤ R.slots) (hdg : decode cc pc = .ok (.invokestatic 270, 3))
    (kk : ∀ (H1 : Heap) (locs1 : List Loc), MRep G σ H1 → va_S (MA G) H0 H1 locs1 → W p l e R s m args below meth c H1 locs1 cells slots Q (F0 m (pc + 3) ls (.int x :: rest))) : W p l e R s m args below meth c H locs cells slots Q (F0 m pc ls (.int a0 :: rest)) :=
  M_invS hC hP hS [.int a0] (m_isDigit l G a0 σ _ hF) (va_cwS 1 hC.2.2.2.2.1 (lw_S q2263 q2264 q145 q2265) rfl rfl rfl (by decide +kernel) hR) rfl rfl hl hW hf hdg kk
/-! fails -/
abbrev rmM_fails : Room := { frames := 0, cells := 0, slots := 0, locals := 0 }
def F_fails (a0 : Int32) (a1 : Int32) (σ : MS) : Option MS :=
  if (mI σ 4) ≤ 0 then
    lt (wI σ 4 a0) fun σ_2 =>
    lt (wI σ_2 5 a1) fun σ_3 =>
    some σ_3
  else
    some σ
set_option maxHeartbeats 4000000 in
theorem w_fails {p : Program} {l : Launch} {e : Env} {s : State} {m : MethodId} {args : Array Value} {below : List Frame} {meth : Method} {c : Code} {G : MG} (hC : MCx G cX10_fails 3 p s m args meth c) (hr : meth.sig.returnType = none) {x : MS} :
    ∀ (a0 : Int32) (a1 : Int32) (σ : MS), F_fails a0 a1 σ = some x → MJ p l e rmM_fails s m args below meth c G 3 none x 0 [(0, .ref (gM G)), (1, .int a0), (2, .int a1)] [] σ := by
  have hx := hC.1
  have hb := hC.2.1
  intro a0 a1 σ hF H locs ls hP hS hl
  rw [F_fails] at hF
  refine lv_aload_n hx hb dX10_fails_0 rfl (lv_at hl 0 rfl) ?_
  refine gM4 hC hP dX10_fails_1 ?_
  refine lv_if_le (tgt := 8) hx hb dX10_fails_4 (by decide) (fun c_1 => ?_) (fun c_1 => ?_)
  · replace hF := it_t hF c_1
    refine lv_aload_n hx hb dX10_fails_8 rfl (lv_at hl 0 rfl) ?_
    refine lv_iload_n hx hb dX10_fails_9 rfl (lv_at hl 1 rfl) ?_
    refine pM4 hC hP hS dX10_fails_10 (fun H locs hP hS => ?_)
    obtain ⟨σ_2, eσ_2, hF⟩ := lt_ok hF
    rw [← eσ_2] at hP
    refine lv_aload_n hx hb dX10_fails_13 rfl (lv_at hl 0 rfl) ?_
    refine lv_iload_n hx hb dX10_fails_14 rfl (lv_at hl 2 rfl) ?_
    refine pM5 hC hP hS dX10_fails_15 (fun H locs hP hS => ?_)
    obtain ⟨σ_3, eσ_3, hF⟩ := lt_ok hF
    rw [← eσ_3] at hP
    exact M_retv hC hP hS hr (Option.some.inj hF) dX10_fails_18
  · replace hF := it_f hF c_1
    exact M_retv hC hP hS hr (Option.some.inj hF) dX10_fails_7
theorem m_fails (l : Launch) (G : MG) (a0 : Int32) (a1 : Int32) (σ : MS) (x : MS) (hF : F_fails a0 a1 σ = some x) : Met l yX10_fails (ws_ yX10_fails cX10_fails 3 none) rmM_fails (mP G [.ref (gM G), .int a0, .int a1] σ) (mQ G none x) 0 0 (MA G) := by
  refine M_met rfl plM (Nat.le_of_ble_eq_true rfl) ?_
  intro p e s m below meth c hC hr ls hl hP
  exact w_fails hC hr a0 a1 σ hF s.heap [] ls hP va_S.rf hl
theorem iM_fails {p : Program} {l : Launch} {e : Env} {R : Room} {s : State} {m : MethodId} {args : Array Value} {below : List Frame} {meth : Method} {c : Code} {H H0 : Heap} {locs : List Loc} {cells slots nL : Nat} {Q : State → Prop} {G : MG} {σ : MS} {cc : ByteArray} {pc : Nat} {ls : Array Slot} {rest : List Value} (hC : MCx G cc nL p s m args meth c) (hP : MRep G σ H) (hS : va_S (MA G) H0 H locs) {a0 : Int32} {a1 : Int32} {x : MS} (hF : F_fails a0 a1 σ = some x) (hl : ls.size = nL) (hW : (rest.map fun v => v.category).sum ≤ 8) (hR : rmM_fails.frames + 1 ≤ R.frames ∧ 8 + (3 + 11) + rmM_fails.locals ≤ R.locals) (hf : cells ≤ R.cells ∧ slots ≤ R.slots) (hdg : decode cc pc = .ok (.invokevirtual 279, 3))
    (kk : ∀ (H1 : Heap) (locs1 : List Loc), MRep G x H1 → va_S (MA G) H0 H1 locs1 → W p l e R s m args below meth c H1 locs1 cells slots Q (F0 m (pc + 3) ls (rest))) : W p l e R s m args below meth c H locs cells slots Q (F0 m pc ls (.int a1 :: .int a0 :: .ref (gM G) :: rest)) :=
  M_inv hC hP hS [.int a0, .int a1] (m_fails l G a0 a1 σ _ hF) (cwV 2 hC.2.2.2.2.1 (lw_V q2297 q2299 qs88 q145 q2300) rfl rfl rfl (by decide +kernel) hR) rfl rfl hl hW hf hdg kk
/-! isGood -/
abbrev rmM_isGood : Room := { frames := 0, cells := 0, slots := 0, locals := 0 }
def F_isGood (σ : MS) : Option Int32 :=
  if (mI σ 4) = 0 then
    some (1 : Int32)
  else
    some (0 : Int32)
set_option maxHeartbeats 4000000 in
theorem w_isGood {p : Program} {l : Launch} {e : Env} {s : State} {m : MethodId} {args : Array Value} {below : List Frame} {meth : Method} {c : Code} {G : MG} (hC : MCx G cX10_isGood 1 p s m args meth c) (hr : meth.sig.returnType = some .boolean) {x : Int32} {σ : MS} :
    F_isGood σ = some x → MJ p l e rmM_isGood s m args below meth c G 1 (some (.int x)) σ 0 [(0, .ref (gM G))] [] σ := by
  have hx := hC.1
  have hb := hC.2.1
  intro hF H locs ls hP hS hl
  rw [F_isGood] at hF
  refine lv_aload_n hx hb dX10_isGood_0 rfl (lv_at hl 0 rfl) ?_
  refine gM4 hC hP dX10_isGood_1 ?_
  refine lv_if_ne (tgt := 11) hx hb dX10_isGood_4 (by decide) (fun c_1 => ?_) (fun c_1 => ?_)
  · replace hF := it_f hF c_1
    refine lv_iconst (v := 0) hx hb dX10_isGood_11 (by decide) ?_
    exact M_retz hC hP hS hr (Or.inl rfl) (Option.some.inj hF) rfl dX10_isGood_12
  · replace hF := it_t hF c_1
    refine lv_iconst (v := 1) hx hb dX10_isGood_7 (by decide) ?_
    refine lv_goto (tgt := 12) hx hb dX10_isGood_8 (by decide) ?_
    exact M_retz hC hP hS hr (Or.inr rfl) (Option.some.inj hF) rfl dX10_isGood_12
theorem m_isGood (l : Launch) (G : MG) (σ : MS) (x : Int32) (hF : F_isGood σ = some x) : Met l yX10_isGood (ws_ yX10_isGood cX10_isGood 1 (some .boolean)) rmM_isGood (mP G [.ref (gM G)] σ) (mQ G (some (.int x)) σ) 0 0 (MA G) := by
  refine M_met rfl plM (Nat.le_of_ble_eq_true rfl) ?_
  intro p e s m below meth c hC hr ls hl hP
  exact w_isGood hC hr hF s.heap [] ls hP va_S.rf hl
theorem iM_isGood {p : Program} {l : Launch} {e : Env} {R : Room} {s : State} {m : MethodId} {args : Array Value} {below : List Frame} {meth : Method} {c : Code} {H H0 : Heap} {locs : List Loc} {cells slots nL : Nat} {Q : State → Prop} {G : MG} {σ : MS} {cc : ByteArray} {pc : Nat} {ls : Array Slot} {rest : List Value} (hC : MCx G cc nL p s m args meth c) (hP : MRep G σ H) (hS : va_S (MA G) H0 H locs) {x : Int32} (hF : F_isGood σ = some x) (hl : ls.size = nL) (hW : (rest.map fun v => v.category).sum ≤ 8) (hR : rmM_isGood.frames + 1 ≤ R.frames ∧ 8 + (1 + 11) + rmM_isGood.locals ≤ R.locals) (hf : cells ≤ R.cells ∧ slots ≤ R.slots) (hdg : decode cc pc = .ok (.invokevirtual 283, 3))
    (kk : ∀ (H1 : Heap) (locs1 : List Loc), MRep G σ H1 → va_S (MA G) H0 H1 locs1 → W p l e R s m args below meth c H1 locs1 cells slots Q (F0 m (pc + 3) ls (.int x :: rest))) : W p l e R s m args below meth c H locs cells slots Q (F0 m pc ls (.ref (gM G) :: rest)) :=
  M_inv hC hP hS [] (m_isGood l G σ _ hF) (cwV 0 hC.2.2.2.2.1 (lw_V q2269 q2271 qs81 q145 q2272) rfl rfl rfl (by decide +kernel) hR) rfl rfl hl hW hf hdg kk
/-! isKept -/
abbrev rmM_isKept : Room := { frames := 0, cells := 0, slots := 0, locals := 0 }
def F_isKept_b117 (x0 : Int64) (y0 : Int32) : Option Int32 :=
  if y0 = 0 then
    if (lg_cmp x0 (7497060 : Int64)) = 0 then
      some (1 : Int32)
    else
      if (lg_cmp x0 (422725116779 : Int64)) = 0 then
        some (1 : Int32)
      else
        if (lg_cmp x0 (1937203568 : Int64)) = 0 then
          some (1 : Int32)
        else
          if (lg_cmp x0 (7499639 : Int64)) = 0 then
            some (1 : Int32)
          else
            if (lg_cmp x0 (6518132 : Int64)) = 0 then
              some (1 : Int32)
            else
              if (lg_cmp x0 (29807 : Int64)) = 0 then
                some (1 : Int32)
              else
                if (lg_cmp x0 (114767640814963 : Int64)) = 0 then
                  some (1 : Int32)
                else
                  if (lg_cmp x0 (482805048691 : Int64)) = 0 then
                    some (1 : Int32)
                  else
                    if (lg_cmp x0 (28518 : Int64)) = 0 then
                      some (1 : Int32)
                    else
                      if (lg_cmp x0 (7170424 : Int64)) = 0 then
                        some (1 : Int32)
                      else
                        if (lg_cmp x0 (6384748 : Int64)) = 0 then
                          some (1 : Int32)
                        else
                          if (lg_cmp x0 (6385252 : Int64)) = 0 then
                            some (1 : Int32)
                          else
                            if (lg_cmp x0 (28530 : Int64)) = 0 then
                              some (1 : Int32)
                            else
                              if (lg_cmp x0 (7237492 : Int64)) = 0 then
                                some (1 : Int32)
                              else
                                some (0 : Int32)
  else
    some (1 : Int32)
set_option maxHeartbeats 4000000 in
theorem w_isKept_b117 {p : Program} {l : Launch} {e : Env} {s : State} {m : MethodId} {args : Array Value} {below : List Frame} {meth : Method} {c : Code} {G : MG} (hC : MCx G cX10_isKept 3 p s m args meth c) (hr : meth.sig.returnType = some .boolean) {x : Int32} {σ : MS} :
    ∀ (x0 : Int64) (y0 : Int32), F_isKept_b117 x0 y0 = some x → MJ p l e rmM_isKept s m args below meth c G 3 (some (.int x)) σ 117 [(0, .long x0)] [.int y0] σ := by
  have hx := hC.1
  have hb := hC.2.1
  intro x0 y0 hF H locs ls hP hS hl
  rw [F_isKept_b117] at hF
  refine lv_istore_n (lv' := [(2, .int y0), (0, .long x0)]) hx hb dX10_isKept_117 rfl hl (by decide) rfl (fun ls hl => ?_)
  refine lv_iload_n hx hb dX10_isKept_118 rfl (lv_at hl 0 rfl) ?_
  refine lv_if_ne (tgt := 234) hx hb dX10_isKept_119 (by decide) (fun c_1 => ?_) (fun c_1 => ?_)
  · replace hF := it_f hF c_1
    refine lv_iconst (v := 1) hx hb dX10_isKept_234 (by decide) ?_
    refine lv_goto (tgt := 239) hx hb dX10_isKept_235 (by decide) ?_
    exact M_retz hC hP hS hr (Or.inr rfl) (Option.some.inj hF) rfl dX10_isKept_239
  · replace hF := it_t hF c_1
    refine lv_lload_n hx hb dX10_isKept_122 rfl (lv_at hl 1 rfl) ?_
    refine lv_ldc2 (v := 7497060) hx hb hC.2.2.2.1 (hC.2.2.2.2.1 _ q2249) dX10_isKept_123 ?_
    refine W.lcmp hx hb dX10_isKept_126 ?_
    refine lv_if_eq (tgt := 234) hx hb dX10_isKept_127 (by decide) (fun c_2 => ?_) (fun c_2 => ?_)
    · replace hF := it_t hF c_2
      refine lv_iconst (v := 1) hx hb dX10_isKept_234 (by decide) ?_
      refine lv_goto (tgt := 239) hx hb dX10_isKept_235 (by decide) ?_
      exact M_retz hC hP hS hr (Or.inr rfl) (Option.some.inj hF) rfl dX10_isKept_239
    · replace hF := it_f hF c_2
      refine lv_lload_n hx hb dX10_isKept_130 rfl (lv_at hl 1 rfl) ?_
      refine lv_ldc2 (v := 422725116779) hx hb hC.2.2.2.1 (hC.2.2.2.2.1 _ q2250) dX10_isKept_131 ?_
      refine W.lcmp hx hb dX10_isKept_134 ?_
      refine lv_if_eq (tgt := 234) hx hb dX10_isKept_135 (by decide) (fun c_3 => ?_) (fun c_3 => ?_)
      · replace hF := it_t hF c_3
        refine lv_iconst (v := 1) hx hb dX10_isKept_234 (by decide) ?_
        refine lv_goto (tgt := 239) hx hb dX10_isKept_235 (by decide) ?_
        exact M_retz hC hP hS hr (Or.inr rfl) (Option.some.inj hF) rfl dX10_isKept_239
      · replace hF := it_f hF c_3
        refine lv_lload_n hx hb dX10_isKept_138 rfl (lv_at hl 1 rfl) ?_
        refine lv_ldc2 (v := 1937203568) hx hb hC.2.2.2.1 (hC.2.2.2.2.1 _ q2251) dX10_isKept_139 ?_
        refine W.lcmp hx hb dX10_isKept_142 ?_
        refine lv_if_eq (tgt := 234) hx hb dX10_isKept_143 (by decide) (fun c_4 => ?_) (fun c_4 => ?_)
        · replace hF := it_t hF c_4
          refine lv_iconst (v := 1) hx hb dX10_isKept_234 (by decide) ?_
          refine lv_goto (tgt := 239) hx hb dX10_isKept_235 (by decide) ?_
          exact M_retz hC hP hS hr (Or.inr rfl) (Option.some.inj hF) rfl dX10_isKept_239
        · replace hF := it_f hF c_4
          refine lv_lload_n hx hb dX10_isKept_146 rfl (lv_at hl 1 rfl) ?_
          refine lv_ldc2 (v := 7499639) hx hb hC.2.2.2.1 (hC.2.2.2.2.1 _ q2252) dX10_isKept_147 ?_
          refine W.lcmp hx hb dX10_isKept_150 ?_
          refine lv_if_eq (tgt := 234) hx hb dX10_isKept_151 (by decide) (fun c_5 => ?_) (fun c_5 => ?_)
          · replace hF := it_t hF c_5
            refine lv_iconst (v := 1) hx hb dX10_isKept_234 (by decide) ?_
            refine lv_goto (tgt := 239) hx hb dX10_isKept_235 (by decide) ?_
            exact M_retz hC hP hS hr (Or.inr rfl) (Option.some.inj hF) rfl dX10_isKept_239
          · replace hF := it_f hF c_5
            refine lv_lload_n hx hb dX10_isKept_154 rfl (lv_at hl 1 rfl) ?_
            refine lv_ldc2 (v := 6518132) hx hb hC.2.2.2.1 (hC.2.2.2.2.1 _ q2253) dX10_isKept_155 ?_
            refine W.lcmp hx hb dX10_isKept_158 ?_
            refine lv_if_eq (tgt := 234) hx hb dX10_isKept_159 (by decide) (fun c_6 => ?_) (fun c_6 => ?_)
            · replace hF := it_t hF c_6
              refine lv_iconst (v := 1) hx hb dX10_isKept_234 (by decide) ?_
              refine lv_goto (tgt := 239) hx hb dX10_isKept_235 (by decide) ?_
              exact M_retz hC hP hS hr (Or.inr rfl) (Option.some.inj hF) rfl dX10_isKept_239
            · replace hF := it_f hF c_6
              refine lv_lload_n hx hb dX10_isKept_162 rfl (lv_at hl 1 rfl) ?_
              refine lv_ldc2 (v := 29807) hx hb hC.2.2.2.1 (hC.2.2.2.2.1 _ q2254) dX10_isKept_163 ?_
              refine W.lcmp hx hb dX10_isKept_166 ?_
              refine lv_if_eq (tgt := 234) hx hb dX10_isKept_167 (by decide) (fun c_7 => ?_) (fun c_7 => ?_)
              · replace hF := it_t hF c_7
                refine lv_iconst (v := 1) hx hb dX10_isKept_234 (by decide) ?_
                refine lv_goto (tgt := 239) hx hb dX10_isKept_235 (by decide) ?_
                exact M_retz hC hP hS hr (Or.inr rfl) (Option.some.inj hF) rfl dX10_isKept_239
              · replace hF := it_f hF c_7
                refine lv_lload_n hx hb dX10_isKept_170 rfl (lv_at hl 1 rfl) ?_
                refine lv_ldc2 (v := 114767640814963) hx hb hC.2.2.2.1 (hC.2.2.2.2.1 _ q2255) dX10_isKept_171 ?_
                refine W.lcmp hx hb dX10_isKept_174 ?_
                refine lv_if_eq (tgt := 234) hx hb dX10_isKept_175 (by decide) (fun c_8 => ?_) (fun c_8 => ?_)
                · replace hF := it_t hF c_8
                  refine lv_iconst (v := 1) hx hb dX10_isKept_234 (by decide) ?_
                  refine lv_goto (tgt := 239) hx hb dX10_isKept_235 (by decide) ?_
                  exact M_retz hC hP hS hr (Or.inr rfl) (Option.some.inj hF) rfl dX10_isKept_239
                · replace hF := it_f hF c_8
                  refine lv_lload_n hx hb dX10_isKept_178 rfl (lv_at hl 1 rfl) ?_
                  refine lv_ldc2 (v := 482805048691) hx hb hC.2.2.2.1 (hC.2.2.2.2.1 _ q2256) dX10_isKept_179 ?_
                  refine W.lcmp hx hb dX10_isKept_182 ?_
                  refine lv_if_eq (tgt := 234) hx hb dX10_isKept_183 (by decide) (fun c_9 => ?_) (fun c_9 => ?_)
                  · replace hF := it_t hF c_9
                    refine lv_iconst (v := 1) hx hb dX10_isKept_234 (by decide) ?_
                    refine lv_goto (tgt := 239) hx hb dX10_isKept_235 (by decide) ?_
                    exact M_retz hC hP hS hr (Or.inr rfl) (Option.some.inj hF) rfl dX10_isKept_239
                  · replace hF := it_f hF c_9
                    refine lv_lload_n hx hb dX10_isKept_186 rfl (lv_at hl 1 rfl) ?_
                    refine lv_ldc2 (v := 28518) hx hb hC.2.2.2.1 (hC.2.2.2.2.1 _ q2257) dX10_isKept_187 ?_
                    refine W.lcmp hx hb dX10_isKept_190 ?_
                    refine lv_if_eq (tgt := 234) hx hb dX10_isKept_191 (by decide) (fun c_10 => ?_) (fun c_10 => ?_)
                    · replace hF := it_t hF c_10
                      refine lv_iconst (v := 1) hx hb dX10_isKept_234 (by decide) ?_
                      refine lv_goto (tgt := 239) hx hb dX10_isKept_235 (by decide) ?_
                      exact M_retz hC hP hS hr (Or.inr rfl) (Option.some.inj hF) rfl dX10_isKept_239
                    · replace hF := it_f hF c_10
                      refine lv_lload_n hx hb dX10_isKept_194 rfl (lv_at hl 1 rfl) ?_
                      refine lv_ldc2 (v := 7170424) hx hb hC.2.2.2.1 (hC.2.2.2.2.1 _ q2258) dX10_isKept_195 ?_
                      refine W.lcmp hx hb dX10_isKept_198 ?_
                      refine lv_if_eq (tgt := 234) hx hb dX10_isKept_199 (by decide) (fun c_11 => ?_) (fun c_11 => ?_)
                      · replace hF := it_t hF c_11
                        refine lv_iconst (v := 1) hx hb dX10_isKept_234 (by decide) ?_
                        refine lv_goto (tgt := 239) hx hb dX10_isKept_235 (by decide) ?_
                        exact M_retz hC hP hS hr (Or.inr rfl) (Option.some.inj hF) rfl dX10_isKept_239
                      · replace hF := it_f hF c_11
                        refine lv_lload_n hx hb dX10_isKept_202 rfl (lv_at hl 1 rfl) ?_
                        refine lv_ldc2 (v := 6384748) hx hb hC.2.2.2.1 (hC.2.2.2.2.1 _ q2259) dX10_isKept_203 ?_
                        refine W.lcmp hx hb dX10_isKept_206 ?_
                        refine lv_if_eq (tgt := 234) hx hb dX10_isKept_207 (by decide) (fun c_12 => ?_) (fun c_12 => ?_)
                        · replace hF := it_t hF c_12
                          refine lv_iconst (v := 1) hx hb dX10_isKept_234 (by decide) ?_
                          refine lv_goto (tgt := 239) hx hb dX10_isKept_235 (by decide) ?_
                          exact M_retz hC hP hS hr (Or.inr rfl) (Option.some.inj hF) rfl dX10_isKept_239
                        · replace hF := it_f hF c_12
                          refine lv_lload_n hx hb dX10_isKept_210 rfl (lv_at hl 1 rfl) ?_
                          refine lv_ldc2 (v := 6385252) hx hb hC.2.2.2.1 (hC.2.2.2.2.1 _ q2260) dX10_isKept_211 ?_
                          refine W.lcmp hx hb dX10_isKept_214 ?_
                          refine lv_if_eq (tgt := 234) hx hb dX10_isKept_215 (by decide) (fun c_13 => ?_) (fun c_13 => ?_)
                          · replace hF := it_t hF c_13
                            refine lv_iconst (v := 1) hx hb dX10_isKept_234 (by decide) ?_
                            refine lv_goto (tgt := 239) hx hb dX10_isKept_235 (by decide) ?_
                            exact M_retz hC hP hS hr (Or.inr rfl) (Option.some.inj hF) rfl dX10_isKept_239
                          · replace hF := it_f hF c_13
                            refine lv_lload_n hx hb dX10_isKept_218 rfl (lv_at hl 1 rfl) ?_
                            refine lv_ldc2 (v := 28530) hx hb hC.2.2.2.1 (hC.2.2.2.2.1 _ q2261) dX10_isKept_219 ?_
                            refine W.lcmp hx hb dX10_isKept_222 ?_
                            refine lv_if_eq (tgt := 234) hx hb dX10_isKept_223 (by decide) (fun c_14 => ?_) (fun c_14 => ?_)
                            · replace hF := it_t hF c_14
                              refine lv_iconst (v := 1) hx hb dX10_isKept_234 (by decide) ?_
                              refine lv_goto (tgt := 239) hx hb dX10_isKept_235 (by decide) ?_
                              exact M_retz hC hP hS hr (Or.inr rfl) (Option.some.inj hF) rfl dX10_isKept_239
                            · replace hF := it_f hF c_14
                              refine lv_lload_n hx hb dX10_isKept_226 rfl (lv_at hl 1 rfl) ?_
                              refine lv_ldc2 (v := 7237492) hx hb hC.2.2.2.1 (hC.2.2.2.2.1 _ q2262) dX10_isKept_227 ?_
                              refine W.lcmp hx hb dX10_isKept_230 ?_
                              refine lv_if_ne (tgt := 238) hx hb dX10_isKept_231 (by decide) (fun c_15 => ?_) (fun c_15 => ?_)
                              · replace hF := it_f hF c_15
                                refine lv_iconst (v := 0) hx hb dX10_isKept_238 (by decide) ?_
                                exact M_retz hC hP hS hr (Or.inl rfl) (Option.some.inj hF) rfl dX10_isKept_239
                              · replace hF := it_t hF c_15
                                refine lv_iconst (v := 1) hx hb dX10_isKept_234 (by decide) ?_
                                refine lv_goto (tgt := 239) hx hb dX10_isKept_235 (by decide) ?_
                                exact M_retz hC hP hS hr (Or.inr rfl) (Option.some.inj hF) rfl dX10_isKept_239
def F_isKept_b112 (k117 : Int64 → Int32 → Option Int32) (x0 : Int64) : Option Int32 :=
  k117 x0 (1 : Int32)
set_option maxHeartbeats 4000000 in
theorem w_isKept_b112 {p : Program} {l : Launch} {e : Env} {s : State} {m : MethodId} {args : Array Value} {below : List Frame} {meth : Method} {c : Code} {G : MG} (hC : MCx G cX10_isKept 3 p s m args meth c) (hr : meth.sig.returnType = some .boolean) {x : Int32} {σ : MS} (k117 : Int64 → Int32 → Option Int32) (hk117 : ∀ (x0 : Int64) (y0 : Int32), k117 x0 y0 = some x → MJ p l e rmM_isKept s m args below meth c G 3 (some (.int x)) σ 117 [(0, .long x0)] [.int y0] σ) :
    ∀ (x0 : Int64), F_isKept_b112 k117 x0 = some x → MJ p l e rmM_isKept s m args below meth c G 3 (some (.int x)) σ 112 [(0, .long x0)] [] σ := by
  have hx := hC.1
  have hb := hC.2.1
  intro x0 hF H locs ls hP hS hl
  rw [F_isKept_b112] at hF
  refine lv_iconst (v := 1) hx hb dX10_isKept_112 (by decide) ?_
  refine lv_goto (tgt := 117) hx hb dX10_isKept_113 (by decide) ?_
  exact hk117 x0 (1 : Int32) hF H locs ls hP hS (lv_sub hl [0] rfl)
def F_isKept (a0 : Int64) : Option Int32 :=
  if (lg_cmp a0 (123580963646565 : Int64)) = 0 then
    F_isKept_b112 (F_isKept_b117) a0
  else
    if (lg_cmp a0 (1634954099 : Int64)) = 0 then
      F_isKept_b112 (F_isKept_b117) a0
    else
      if (lg_cmp a0 (7168377 : Int64)) = 0 then
        F_isKept_b112 (F_isKept_b117) a0
      else
        if (lg_cmp a0 (7102841 : Int64)) = 0 then
          F_isKept_b112 (F_isKept_b117) a0
        else
          if (lg_cmp a0 (7370100 : Int64)) = 0 then
            F_isKept_b112 (F_isKept_b117) a0
          else
            if (lg_cmp a0 (1869636974 : Int64)) = 0 then
              F_isKept_b112 (F_isKept_b117) a0
            else
              if (lg_cmp a0 (26982 : Int64)) = 0 then
                F_isKept_b112 (F_isKept_b117) a0
              else
                if (lg_cmp a0 (26479 : Int64)) = 0 then
                  F_isKept_b112 (F_isKept_b117) a0
                else
                  if (lg_cmp a0 (1835102827 : Int64)) = 0 then
                    F_isKept_b112 (F_isKept_b117) a0
                  else
                    if (lg_cmp a0 (6647396 : Int64)) = 0 then
                      F_isKept_b112 (F_isKept_b117) a0
                    else
                      if (lg_cmp a0 (1935767923 : Int64)) = 0 then
                        F_isKept_b112 (F_isKept_b117) a0
                      else
                        if (lg_cmp a0 (6385262 : Int64)) = 0 then
                          F_isKept_b112 (F_isKept_b117) a0
                        else
                          if (lg_cmp a0 (6451042 : Int64)) = 0 then
                            F_isKept_b112 (F_isKept_b117) a0
                          else
                            if (lg_cmp a0 (6519140 : Int64)) = 0 then
                              F_isKept_b112 (F_isKept_b117) a0
                            else
                              F_isKept_b117 a0 (0 : Int32)
set_option maxHeartbeats 4000000 in
theorem w_isKept {p : Program} {l : Launch} {e : Env} {s : State} {m : MethodId} {args : Array Value} {below : List Frame} {meth : Method} {c : Code} {G : MG} (hC : MCx G cX10_isKept 3 p s m args meth c) (hr : meth.sig.returnType = some .boolean) {x : Int32} {σ : MS} :
    ∀ (a0 : Int64), F_isKept a0 = some x → MJ p l e rmM_isKept s m args below meth c G 3 (some (.int x)) σ 0 [(0, .long a0)] [] σ := by
  have hx := hC.1
  have hb := hC.2.1
  intro a0 hF H locs ls hP hS hl
  rw [F_isKept] at hF
  refine lv_lload_n hx hb dX10_isKept_0 rfl (lv_at hl 0 rfl) ?_
  refine lv_ldc2 (v := 123580963646565) hx hb hC.2.2.2.1 (hC.2.2.2.2.1 _ q2235) dX10_isKept_1 ?_
  refine W.lcmp hx hb dX10_isKept_4 ?_
  refine lv_if_eq (tgt := 112) hx hb dX10_isKept_5 (by decide) (fun c_1 => ?_) (fun c_1 => ?_)
  · replace hF := it_t hF c_1
    exact w_isKept_b112 hC hr (F_isKept_b117) (w_isKept_b117 hC hr) a0 hF H locs ls hP hS (lv_sub hl [0] rfl)
  · replace hF := it_f hF c_1
    refine lv_lload_n hx hb dX10_isKept_8 rfl (lv_at hl 0 rfl) ?_
    refine lv_ldc2 (v := 1634954099) hx hb hC.2.2.2.1 (hC.2.2.2.2.1 _ q2236) dX10_isKept_9 ?_
    refine W.lcmp hx hb dX10_isKept_12 ?_
    refine lv_if_eq (tgt := 112) hx hb dX10_isKept_13 (by decide) (fun c_2 => ?_) (fun c_2 => ?_)
    · replace hF := it_t hF c_2
      exact w_isKept_b112 hC hr (F_isKept_b117) (w_isKept_b117 hC hr) a0 hF H locs ls hP hS (lv_sub hl [0] rfl)
    · replace hF := it_f hF c_2
      refine lv_lload_n hx hb dX10_isKept_16 rfl (lv_at hl 0 rfl) ?_
      refine lv_ldc2 (v := 7168377) hx hb hC.2.2.2.1 (hC.2.2.2.2.1 _ q2237) dX10_isKept_17 ?_
      refine W.lcmp hx hb dX10_isKept_20 ?_
      refine lv_if_eq (tgt := 112) hx hb dX10_isKept_21 (by decide) (fun c_3 => ?_) (fun c_3 => ?_)
      · replace hF := it_t hF c_3
        exact w_isKept_b112 hC hr (F_isKept_b117) (w_isKept_b117 hC hr) a0 hF H locs ls hP hS (lv_sub hl [0] rfl)
      · replace hF := it_f hF c_3
        refine lv_lload_n hx hb dX10_isKept_24 rfl (lv_at hl 0 rfl) ?_
        refine lv_ldc2 (v := 7102841) hx hb hC.2.2.2.1 (hC.2.2.2.2.1 _ q2238) dX10_isKept_25 ?_
        refine W.lcmp hx hb dX10_isKept_28 ?_
        refine lv_if_eq (tgt := 112) hx hb dX10_isKept_29 (by decide) (fun c_4 => ?_) (fun c_4 => ?_)
        · replace hF := it_t hF c_4
          exact w_isKept_b112 hC hr (F_isKept_b117) (w_isKept_b117 hC hr) a0 hF H locs ls hP hS (lv_sub hl [0] rfl)
        · replace hF := it_f hF c_4
          refine lv_lload_n hx hb dX10_isKept_32 rfl (lv_at hl 0 rfl) ?_
          refine lv_ldc2 (v := 7370100) hx hb hC.2.2.2.1 (hC.2.2.2.2.1 _ q2239) dX10_isKept_33 ?_
          refine W.lcmp hx hb dX10_isKept_36 ?_
          refine lv_if_eq (tgt := 112) hx hb dX10_isKept_37 (by decide) (fun c_5 => ?_) (fun c_5 => ?_)
          · replace hF := it_t hF c_5
            exact w_isKept_b112 hC hr (F_isKept_b117) (w_isKept_b117 hC hr) a0 hF H locs ls hP hS (lv_sub hl [0] rfl)
          · replace hF := it_f hF c_5
            refine lv_lload_n hx hb dX10_isKept_40 rfl (lv_at hl 0 rfl) ?_
            refine lv_ldc2 (v := 1869636974) hx hb hC.2.2.2.1 (hC.2.2.2.2.1 _ q2240) dX10_isKept_41 ?_
            refine W.lcmp hx hb dX10_isKept_44 ?_
            refine lv_if_eq (tgt := 112) hx hb dX10_isKept_45 (by decide) (fun c_6 => ?_) (fun c_6 => ?_)
            · replace hF := it_t hF c_6
              exact w_isKept_b112 hC hr (F_isKept_b117) (w_isKept_b117 hC hr) a0 hF H locs ls hP hS (lv_sub hl [0] rfl)
            · replace hF := it_f hF c_6
              refine lv_lload_n hx hb dX10_isKept_48 rfl (lv_at hl 0 rfl) ?_
              refine lv_ldc2 (v := 26982) hx hb hC.2.2.2.1 (hC.2.2.2.2.1 _ q2241) dX10_isKept_49 ?_
              refine W.lcmp hx hb dX10_isKept_52 ?_
              refine lv_if_eq (tgt := 112) hx hb dX10_isKept_53 (by decide) (fun c_7 => ?_) (fun c_7 => ?_)
              · replace hF := it_t hF c_7
                exact w_isKept_b112 hC hr (F_isKept_b117) (w_isKept_b117 hC hr) a0 hF H locs ls hP hS (lv_sub hl [0] rfl)
              · replace hF := it_f hF c_7
                refine lv_lload_n hx hb dX10_isKept_56 rfl (lv_at hl 0 rfl) ?_
                refine lv_ldc2 (v := 26479) hx hb hC.2.2.2.1 (hC.2.2.2.2.1 _ q2242) dX10_isKept_57 ?_
                refine W.lcmp hx hb dX10_isKept_60 ?_
                refine lv_if_eq (tgt := 112) hx hb dX10_isKept_61 (by decide) (fun c_8 => ?_) (fun c_8 => ?_)
                · replace hF := it_t hF c_8
                  exact w_isKept_b112 hC hr (F_isKept_b117) (w_isKept_b117 hC hr) a0 hF H locs ls hP hS (lv_sub hl [0] rfl)
                · replace hF := it_f hF c_8
                  refine lv_lload_n hx hb dX10_isKept_64 rfl (lv_at hl 0 rfl) ?_
                  refine lv_ldc2 (v := 1835102827) hx hb hC.2.2.2.1 (hC.2.2.2.2.1 _ q2243) dX10_isKept_65 ?_
                  refine W.lcmp hx hb dX10_isKept_68 ?_
                  refine lv_if_eq (tgt := 112) hx hb dX10_isKept_69 (by decide) (fun c_9 => ?_) (fun c_9 => ?_)
                  · replace hF := it_t hF c_9
                    exact w_isKept_b112 hC hr (F_isKept_b117) (w_isKept_b117 hC hr) a0 hF H locs ls hP hS (lv_sub hl [0] rfl)
                  · replace hF := it_f hF c_9
                    refine lv_lload_n hx hb dX10_isKept_72 rfl (lv_at hl 0 rfl) ?_
                    refine lv_ldc2 (v := 6647396) hx hb hC.2.2.2.1 (hC.2.2.2.2.1 _ q2244) dX10_isKept_73 ?_
                    refine W.lcmp hx hb dX10_isKept_76 ?_
                    refine lv_if_eq (tgt := 112) hx hb dX10_isKept_77 (by decide) (fun c_10 => ?_) (fun c_10 => ?_)
                    · replace hF := it_t hF c_10
                      exact w_isKept_b112 hC hr (F_isKept_b117) (w_isKept_b117 hC hr) a0 hF H locs ls hP hS (lv_sub hl [0] rfl)
                    · replace hF := it_f hF c_10
                      refine lv_lload_n hx hb dX10_isKept_80 rfl (lv_at hl 0 rfl) ?_
                      refine lv_ldc2 (v := 1935767923) hx hb hC.2.2.2.1 (hC.2.2.2.2.1 _ q2245) dX10_isKept_81 ?_
                      refine W.lcmp hx hb dX10_isKept_84 ?_
                      refine lv_if_eq (tgt := 112) hx hb dX10_isKept_85 (by decide) (fun c_11 => ?_) (fun c_11 => ?_)
                      · replace hF := it_t hF c_11
                        exact w_isKept_b112 hC hr (F_isKept_b117) (w_isKept_b117 hC hr) a0 hF H locs ls hP hS (lv_sub hl [0] rfl)
                      · replace hF := it_f hF c_11
                        refine lv_lload_n hx hb dX10_isKept_88 rfl (lv_at hl 0 rfl) ?_
                        refine lv_ldc2 (v := 6385262) hx hb hC.2.2.2.1 (hC.2.2.2.2.1 _ q2246) dX10_isKept_89 ?_
                        refine W.lcmp hx hb dX10_isKept_92 ?_
                        refine lv_if_eq (tgt := 112) hx hb dX10_isKept_93 (by decide) (fun c_12 => ?_) (fun c_12 => ?_)
                        · replace hF := it_t hF c_12
                          exact w_isKept_b112 hC hr (F_isKept_b117) (w_isKept_b117 hC hr) a0 hF H locs ls hP hS (lv_sub hl [0] rfl)
                        · replace hF := it_f hF c_12
                          refine lv_lload_n hx hb dX10_isKept_96 rfl (lv_at hl 0 rfl) ?_
                          refine lv_ldc2 (v := 6451042) hx hb hC.2.2.2.1 (hC.2.2.2.2.1 _ q2247) dX10_isKept_97 ?_
                          refine W.lcmp hx hb dX10_isKept_100 ?_
                          refine lv_if_eq (tgt := 112) hx hb dX10_isKept_101 (by decide) (fun c_13 => ?_) (fun c_13 => ?_)
                          · replace hF := it_t hF c_13
                            exact w_isKept_b112 hC hr (F_isKept_b117) (w_isKept_b117 hC hr) a0 hF H locs ls hP hS (lv_sub hl [0] rfl)
                          · replace hF := it_f hF c_13
                            refine lv_lload_n hx hb dX10_isKept_104 rfl (lv_at hl 0 rfl) ?_
                            refine lv_ldc2 (v := 6519140) hx hb hC.2.2.2.1 (hC.2.2.2.2.1 _ q2248) dX10_isKept_105 ?_
                            refine W.lcmp hx hb dX10_isKept_108 ?_
                            refine lv_if_ne (tgt := 116) hx hb dX10_isKept_109 (by decide) (fun c_14 => ?_) (fun c_14 => ?_)
                            · replace hF := it_f hF c_14
                              refine lv_iconst (v := 0) hx hb dX10_isKept_116 (by decide) ?_
                              exact w_isKept_b117 hC hr a0 (0 : Int32) hF H locs ls hP hS (lv_sub hl [0] rfl)
                            · replace hF := it_t hF c_14
                              exact w_isKept_b112 hC hr (F_isKept_b117) (w_isKept_b117 hC hr) a0 hF H locs ls hP hS (lv_sub hl [0] rfl)
theorem m_isKept (l : Launch) (G : MG) (a0 : Int64) (σ : MS) (x : Int32) (hF : F_isKept a0 = some x) : Met l yX10_isKept (ws_ yX10_isKept cX10_isKept 3 (some .boolean)) rmM_isKept (mP G [.long a0] σ) (mQ G (some (.int x)) σ) 0 0 (MA G) := by
  refine M_met rfl plM (Nat.le_of_ble_eq_true rfl) ?_
  intro p e s m below meth c hC hr ls hl hP
  exact w_isKept hC hr a0 hF s.heap [] ls hP va_S.rf hl
theorem iM_isKept {p : Program} {l : Launch} {e : Env} {R : Room} {s : State} {m : MethodId} {args : Array Value} {below : List Frame} {meth : Method} {c : Code} {H H0 : Heap} {locs : List Loc} {cells slots nL : Nat} {Q : State → Prop} {G : MG} {σ : MS} {cc : ByteArray} {pc : Nat} {ls : Array Slot} {rest : List Value} (hC : MCx G cc nL p s m args meth c) (hP : MRep G σ H) (hS : va_S (MA G) H0 H locs) {a0 : Int64} {x : Int32} (hF : F_isKept a0 = some x) (hl : ls.size = nL) (hW : (rest.map fun v => v.category).sum ≤ 8) (hR : rmM_isKept.frames + 1 ≤ R.frames ∧ 8 + (3 + 11) + rmM_isKept.locals ≤ R.locals) (hf : cells ≤ R.cells ∧ slots ≤ R.slots) (hdg : decode cc pc = .ok (.invokestatic 266, 3))
    (kk : ∀ (H1 : Heap) (locs1 : List Loc), MRep G σ H1 → va_S (MA G) H0 H1 locs1 → W p l e R s m args below meth c H1 locs1 cells slots Q (F0 m (pc + 3) ls (.int x :: rest))) : W p l e R s m args below meth c H locs cells slots Q (F0 m pc ls (.long a0 :: rest)) :=
  M_invS hC hP hS [.long a0] (m_isKept l G a0 σ _ hF) (va_cwS 1 hC.2.2.2.2.1 (lw_S q2232 q2233 q145 q2234) rfl rfl rfl (by decide +kernel) hR) rfl rfl hl hW hf hdg kk
/-! isSign -/
abbrev rmM_isSign : Room := { frames := 0, cells := 0, slots := 0, locals := 0 }
def F_isSign (a0 : Int32) : Option Int32 :=
  if a0 = (59 : Int32) then
    some (1 : Int32)
  else
    if a0 = (40 : Int32) then
      some (1 : Int32)
    else
      if a0 = (41 : Int32) then
        some (1 : Int32)
      else
        if a0 = (60 : Int32) then
          some (1 : Int32)
        else
          if a0 = (62 : Int32) then
            some (1 : Int32)
          else
            if a0 = (61 : Int32) then
              some (1 : Int32)
            else
              if a0 = (43 : Int32) then
                some (1 : Int32)
              else
                if a0 = (45 : Int32) then
                  some (1 : Int32)
                else
                  if a0 = (42 : Int32) then
                    some (1 : Int32)
                  else
                    some (0 : Int32)
set_option maxHeartbeats 4000000 in
theorem w_isSign {p : Program} {l : Launch} {e : Env} {s : State} {m : MethodId} {args : Array Value} {below : List Frame} {meth : Method} {c : Code} {G : MG} (hC : MCx G cX10_isSign 1 p s m args meth c) (hr : meth.sig.returnType = some .boolean) {x : Int32} {σ : MS} :
    ∀ (a0 : Int32), F_isSign a0 = some x → MJ p l e rmM_isSign s m args below meth c G 1 (some (.int x)) σ 0 [(0, .int a0)] [] σ := by
  have hx := hC.1
  have hb := hC.2.1
  intro a0 hF H locs ls hP hS hl
  rw [F_isSign] at hF
  refine lv_iload_n hx hb dX10_isSign_0 rfl (lv_at hl 0 rfl) ?_
  refine lv_bipush (v := 59) hx hb dX10_isSign_1 (by decide) ?_
  refine lv_icmp_eq (tgt := 54) hx hb dX10_isSign_3 (by decide) (fun c_1 => ?_) (fun c_1 => ?_)
  · replace hF := it_t hF c_1
    refine lv_iconst (v := 1) hx hb dX10_isSign_54 (by decide) ?_
    refine lv_goto (tgt := 59) hx hb dX10_isSign_55 (by decide) ?_
    exact M_retz hC hP hS hr (Or.inr rfl) (Option.some.inj hF) rfl dX10_isSign_59
  · replace hF := it_f hF c_1
    refine lv_iload_n hx hb dX10_isSign_6 rfl (lv_at hl 0 rfl) ?_
    refine lv_bipush (v := 40) hx hb dX10_isSign_7 (by decide) ?_
    refine lv_icmp_eq (tgt := 54) hx hb dX10_isSign_9 (by decide) (fun c_2 => ?_) (fun c_2 => ?_)
    · replace hF := it_t hF c_2
      refine lv_iconst (v := 1) hx hb dX10_isSign_54 (by decide) ?_
      refine lv_goto (tgt := 59) hx hb dX10_isSign_55 (by decide) ?_
      exact M_retz hC hP hS hr (Or.inr rfl) (Option.some.inj hF) rfl dX10_isSign_59
    · replace hF := it_f hF c_2
      refine lv_iload_n hx hb dX10_isSign_12 rfl (lv_at hl 0 rfl) ?_
      refine lv_bipush (v := 41) hx hb dX10_isSign_13 (by decide) ?_
      refine lv_icmp_eq (tgt := 54) hx hb dX10_isSign_15 (by decide) (fun c_3 => ?_) (fun c_3 => ?_)
      · replace hF := it_t hF c_3
        refine lv_iconst (v := 1) hx hb dX10_isSign_54 (by decide) ?_
        refine lv_goto (tgt := 59) hx hb dX10_isSign_55 (by decide) ?_
        exact M_retz hC hP hS hr (Or.inr rfl) (Option.some.inj hF) rfl dX10_isSign_59
      · replace hF := it_f hF c_3
        refine lv_iload_n hx hb dX10_isSign_18 rfl (lv_at hl 0 rfl) ?_
        refine lv_bipush (v := 60) hx hb dX10_isSign_19 (by decide) ?_
        refine lv_icmp_eq (tgt := 54) hx hb dX10_isSign_21 (by decide) (fun c_4 => ?_) (fun c_4 => ?_)
        · replace hF := it_t hF c_4
          refine lv_iconst (v := 1) hx hb dX10_isSign_54 (by decide) ?_
          refine lv_goto (tgt := 59) hx hb dX10_isSign_55 (by decide) ?_
          exact M_retz hC hP hS hr (Or.inr rfl) (Option.some.inj hF) rfl dX10_isSign_59
        · replace hF := it_f hF c_4
          refine lv_iload_n hx hb dX10_isSign_24 rfl (lv_at hl 0 rfl) ?_
          refine lv_bipush (v := 62) hx hb dX10_isSign_25 (by decide) ?_
          refine lv_icmp_eq (tgt := 54) hx hb dX10_isSign_27 (by decide) (fun c_5 => ?_) (fun c_5 => ?_)
          · replace hF := it_t hF c_5
            refine lv_iconst (v := 1) hx hb dX10_isSign_54 (by decide) ?_
            refine lv_goto (tgt := 59) hx hb dX10_isSign_55 (by decide) ?_
            exact M_retz hC hP hS hr (Or.inr rfl) (Option.some.inj hF) rfl dX10_isSign_59
          · replace hF := it_f hF c_5
            refine lv_iload_n hx hb dX10_isSign_30 rfl (lv_at hl 0 rfl) ?_
            refine lv_bipush (v := 61) hx hb dX10_isSign_31 (by decide) ?_
            refine lv_icmp_eq (tgt := 54) hx hb dX10_isSign_33 (by decide) (fun c_6 => ?_) (fun c_6 => ?_)
            · replace hF := it_t hF c_6
              refine lv_iconst (v := 1) hx hb dX10_isSign_54 (by decide) ?_
              refine lv_goto (tgt := 59) hx hb dX10_isSign_55 (by decide) ?_
              exact M_retz hC hP hS hr (Or.inr rfl) (Option.some.inj hF) rfl dX10_isSign_59
            · replace hF := it_f hF c_6
              refine lv_iload_n hx hb dX10_isSign_36 rfl (lv_at hl 0 rfl) ?_
              refine lv_bipush (v := 43) hx hb dX10_isSign_37 (by decide) ?_
              refine lv_icmp_eq (tgt := 54) hx hb dX10_isSign_39 (by decide) (fun c_7 => ?_) (fun c_7 => ?_)
              · replace hF := it_t hF c_7
                refine lv_iconst (v := 1) hx hb dX10_isSign_54 (by decide) ?_
                refine lv_goto (tgt := 59) hx hb dX10_isSign_55 (by decide) ?_
                exact M_retz hC hP hS hr (Or.inr rfl) (Option.some.inj hF) rfl dX10_isSign_59
              · replace hF := it_f hF c_7
                refine lv_iload_n hx hb dX10_isSign_42 rfl (lv_at hl 0 rfl) ?_
                refine lv_bipush (v := 45) hx hb dX10_isSign_43 (by decide) ?_
                refine lv_icmp_eq (tgt := 54) hx hb dX10_isSign_45 (by decide) (fun c_8 => ?_) (fun c_8 => ?_)
                · replace hF := it_t hF c_8
                  refine lv_iconst (v := 1) hx hb dX10_isSign_54 (by decide) ?_
                  refine lv_goto (tgt := 59) hx hb dX10_isSign_55 (by decide) ?_
                  exact M_retz hC hP hS hr (Or.inr rfl) (Option.some.inj hF) rfl dX10_isSign_59
                · replace hF := it_f hF c_8
                  refine lv_iload_n hx hb dX10_isSign_48 rfl (lv_at hl 0 rfl) ?_
                  refine lv_bipush (v := 42) hx hb dX10_isSign_49 (by decide) ?_
                  refine lv_icmp_ne (tgt := 58) hx hb dX10_isSign_51 (by decide) (fun c_9 => ?_) (fun c_9 => ?_)
                  · replace hF := it_f hF c_9
                    refine lv_iconst (v := 0) hx hb dX10_isSign_58 (by decide) ?_
                    exact M_retz hC hP hS hr (Or.inl rfl) (Option.some.inj hF) rfl dX10_isSign_59
                  · replace hF := it_t hF c_9
                    refine lv_iconst (v := 1) hx hb dX10_isSign_54 (by decide) ?_
                    refine lv_goto (tgt := 59) hx hb dX10_isSign_55 (by decide) ?_
                    exact M_retz hC hP hS hr (Or.inr rfl) (Option.some.inj hF) rfl dX10_isSign_59
theorem m_isSign (l : Launch) (G : MG) (a0 : Int32) (σ : MS) (x : Int32) (hF : F_isSign a0 = some x) : Met l yX10_isSign (ws_ yX10_isSign cX10_isSign 1 (some .boolean)) rmM_isSign (mP G [.int a0] σ) (mQ G (some (.int x)) σ) 0 0 (MA G) := by
  refine M_met rfl plM (Nat.le_of_ble_eq_true rfl) ?_
  intro p e s m below meth c hC hr ls hl hP
  exact w_isSign hC hr a0 hF s.heap [] ls hP va_S.rf hl
theorem iM_isSign {p : Program} {l : Launch} {e : Env} {R : Room} {s : State} {m : MethodId} {args : Array Value} {below : List Frame} {meth : Method} {c : Code} {H H0 : Heap} {locs : List Loc} {cells slots nL : Nat} {Q : State → Prop} {G : MG} {σ : MS} {cc : ByteArray} {pc : Nat} {ls : Array Slot} {rest : List Value} (hC : MCx G cc nL p s m args meth c) (hP : MRep G σ H) (hS : va_S (MA G) H0 H locs) {a0 : Int32} {x : Int32} (hF : F_isSign a0 = some x) (hl : ls.size = nL) (hW : (rest.map fun v => v.category).sum ≤ 8) (hR : rmM_isSign.frames + 1 ≤ R.frames ∧ 8 + (1 + 11) + rmM_isSign.locals ≤ R.locals) (hf : cells ≤ R.cells ∧ slots ≤ R.slots) (hdg : decode cc pc = .ok (.invokestatic 276, 3))
    (kk : ∀ (H1 : Heap) (locs1 : List Loc), MRep G σ H1 → va_S (MA G) H0 H1 locs1 → W p l e R s m args below meth c H1 locs1 cells slots Q (F0 m (pc + 3) ls (.int x :: rest))) : W p l e R s m args below meth c H locs cells slots Q (F0 m pc ls (.int a0 :: rest)) :=
  M_invS hC hP hS [.int a0] (m_isSign l G a0 σ _ hF) (va_cwS 1 hC.2.2.2.2.1 (lw_S q2266 q2267 q145 q2268) rfl rfl rfl (by decide +kernel) hR) rfl rfl hl hW hf hdg kk
/-! goOn -/
abbrev rmM_goOn : Room := { frames := 1, cells := 0, slots := 0, locals := 22 }
def F_goOn_b374 (y0 : Int32) (σ : MS) : Option MS :=
  lt (wI σ 8 y0) fun σ_1 =>
  some σ_1
set_option maxHeartbeats 4000000 in
theorem w_goOn_b374 {p : Program} {l : Launch} {e : Env} {s : State} {m : MethodId} {args : Array Value} {below : List Frame} {meth : Method} {c : Code} {G : MG} (hC : MCx G cX10_goOn 3 p s m args meth c) (hr : meth.sig.returnType = none) {x : MS} :
    ∀ (y0 : Int32) (σ : MS), F_goOn_b374 y0 σ = some x → MJ p l e rmM_goOn s m args below meth c G 3 none x 374 [] [.int y0, .ref (gM G)] σ := by
  have hx := hC.1
  have hb := hC.2.1
  intro y0 σ hF H locs ls hP hS hl
  rw [F_goOn_b374] at hF
  refine pM8 hC hP hS dX10_goOn_374 (fun H locs hP hS => ?_)
  obtain ⟨σ_1, eσ_1, hF⟩ := lt_ok hF
  rw [← eσ_1] at hP
  exact M_retv hC hP hS hr (Option.some.inj hF) dX10_goOn_377
def F_goOn_b355 (y0 : Int32) (σ : MS) : Option MS :=
  lt (wI σ 8 y0) fun σ_1 =>
  some σ_1
set_option maxHeartbeats 4000000 in
theorem w_goOn_b355 {p : Program} {l : Launch} {e : Env} {s : State} {m : MethodId} {args : Array Value} {below : List Frame} {meth : Method} {c : Code} {G : MG} (hC : MCx G cX10_goOn 3 p s m args meth c) (hr : meth.sig.returnType = none) {x : MS} :
    ∀ (y0 : Int32) (σ : MS), F_goOn_b355 y0 σ = some x → MJ p l e rmM_goOn s m args below meth c G 3 none x 355 [] [.int y0, .ref (gM G)] σ := by
  have hx := hC.1
  have hb := hC.2.1
  intro y0 σ hF H locs ls hP hS hl
  rw [F_goOn_b355] at hF
  refine pM8 hC hP hS dX10_goOn_355 (fun H locs hP hS => ?_)
  obtain ⟨σ_1, eσ_1, hF⟩ := lt_ok hF
  rw [← eσ_1] at hP
  refine lv_goto (tgt := 377) hx hb dX10_goOn_358 (by decide) ?_
  exact M_retv hC hP hS hr (Option.some.inj hF) dX10_goOn_377
def F_goOn_b350 (k355 : Int32 → MS → Option MS) (σ : MS) : Option MS :=
  k355 (1 : Int32) σ
set_option maxHeartbeats 4000000 in
theorem w_goOn_b350 {p : Program} {l : Launch} {e : Env} {s : State} {m : MethodId} {args : Array Value} {below : List Frame} {meth : Method} {c : Code} {G : MG} (hC : MCx G cX10_goOn 3 p s m args meth c) (hr : meth.sig.returnType = none) {x : MS} (k355 : Int32 → MS → Option MS) (hk355 : ∀ (y0 : Int32) (σ : MS), k355 y0 σ = some x → MJ p l e rmM_goOn s m args below meth c G 3 none x 355 [] [.int y0, .ref (gM G)] σ) :
    ∀ (σ : MS), F_goOn_b350 k355 σ = some x → MJ p l e rmM_goOn s m args below meth c G 3 none x 350 [] [.ref (gM G)] σ := by
  have hx := hC.1
  have hb := hC.2.1
  intro σ hF H locs ls hP hS hl
  rw [F_goOn_b350] at hF
  refine lv_iconst (v := 1) hx hb dX10_goOn_350 (by decide) ?_
  refine lv_goto (tgt := 355) hx hb dX10_goOn_351 (by decide) ?_
  exact hk355 (1 : Int32) σ hF H locs ls hP hS (lv_sub hl [] rfl)
def F_goOn_b322 (σ : MS) : Option MS :=
  if (4 : Int32) < ((mI σ 7) - (mI σ 6)) then
    F_goOn_b350 (F_goOn_b355) σ
  else
    bd (F_sign σ (mI σ 7)) fun r_3 =>
    bd (F_isLetter r_3) fun r_5 =>
    if r_5 = 0 then
      F_goOn_b355 (4 : Int32) σ
    else
      F_goOn_b350 (F_goOn_b355) σ
set_option maxHeartbeats 4000000 in
theorem w_goOn_b322 {p : Program} {l : Launch} {e : Env} {s : State} {m : MethodId} {args : Array Value} {below : List Frame} {meth : Method} {c : Code} {G : MG} (hC : MCx G cX10_goOn 3 p s m args meth c) (hr : meth.sig.returnType = none) {x : MS} :
    ∀ (σ : MS), F_goOn_b322 σ = some x → MJ p l e rmM_goOn s m args below meth c G 3 none x 322 [(0, .ref (gM G))] [] σ := by
  have hx := hC.1
  have hb := hC.2.1
  intro σ hF H locs ls hP hS hl
  rw [F_goOn_b322] at hF
  refine lv_aload_n hx hb dX10_goOn_322 rfl (lv_at hl 0 rfl) ?_
  refine lv_aload_n hx hb dX10_goOn_323 rfl (lv_at hl 0 rfl) ?_
  refine gM7 hC hP dX10_goOn_324 ?_
  refine lv_aload_n hx hb dX10_goOn_327 rfl (lv_at hl 0 rfl) ?_
  refine gM6 hC hP dX10_goOn_328 ?_
  refine lv_isub hx hb dX10_goOn_331 ?_
  refine lv_iconst (v := 4) hx hb dX10_goOn_332 (by decide) ?_
  refine lv_icmp_gt (tgt := 350) hx hb dX10_goOn_333 (by decide) (fun c_1 => ?_) (fun c_1 => ?_)
  · replace hF := it_t hF c_1
    exact w_goOn_b350 hC hr (F_goOn_b355) (w_goOn_b355 hC hr) σ hF H locs ls hP hS (lv_sub hl [] rfl)
  · replace hF := it_f hF c_1
    refine lv_aload_n hx hb dX10_goOn_336 rfl (lv_at hl 0 rfl) ?_
    refine lv_aload_n hx hb dX10_goOn_337 rfl (lv_at hl 0 rfl) ?_
    refine gM7 hC hP dX10_goOn_338 ?_
    obtain ⟨r_3, hc_2, hF⟩ := bd_ok hF
    refine iM_sign hC hP hS hc_2 hl.1 (Nat.le_of_ble_eq_true rfl) ⟨Nat.le_of_ble_eq_true rfl, Nat.le_of_ble_eq_true rfl⟩ ⟨Nat.zero_le _, Nat.zero_le _⟩ dX10_goOn_341 (fun H locs hP hS => ?_)
    obtain ⟨r_5, hc_4, hF⟩ := bd_ok hF
    refine iM_isLetter hC hP hS hc_4 hl.1 (Nat.le_of_ble_eq_true rfl) ⟨Nat.le_of_ble_eq_true rfl, Nat.le_of_ble_eq_true rfl⟩ ⟨Nat.zero_le _, Nat.zero_le _⟩ dX10_goOn_344 (fun H locs hP hS => ?_)
    refine lv_if_eq (tgt := 354) hx hb dX10_goOn_347 (by decide) (fun c_6 => ?_) (fun c_6 => ?_)
    · replace hF := it_t hF c_6
      refine lv_iconst (v := 4) hx hb dX10_goOn_354 (by decide) ?_
      exact w_goOn_b355 hC hr (4 : Int32) σ hF H locs ls hP hS (lv_sub hl [] rfl)
    · replace hF := it_f hF c_6
      exact w_goOn_b350 hC hr (F_goOn_b355) (w_goOn_b355 hC hr) σ hF H locs ls hP hS (lv_sub hl [] rfl)
def F_goOn_b309 (k259 : MS → Option MS) (σ : MS) : Option MS :=
  lt (wI σ 7 ((mI σ 7) + (1 : Int32))) fun σ_1 =>
  k259 σ_1
set_option maxHeartbeats 4000000 in
theorem w_goOn_b309 {p : Program} {l : Launch} {e : Env} {s : State} {m : MethodId} {args : Array Value} {below : List Frame} {meth : Method} {c : Code} {G : MG} (hC : MCx G cX10_goOn 3 p s m args meth c) (hr : meth.sig.returnType = none) {x : MS} (k259 : MS → Option MS) (hk259 : ∀ (σ : MS), k259 σ = some x → MJ p l e rmM_goOn s m args below meth c G 3 none x 259 [(0, .ref (gM G))] [] σ) :
    ∀ (σ : MS), F_goOn_b309 k259 σ = some x → MJ p l e rmM_goOn s m args below meth c G 3 none x 309 [(0, .ref (gM G))] [] σ := by
  have hx := hC.1
  have hb := hC.2.1
  intro σ hF H locs ls hP hS hl
  rw [F_goOn_b309] at hF
  refine lv_aload_n hx hb dX10_goOn_309 rfl (lv_at hl 0 rfl) ?_
  refine lv_dup hx hb dX10_goOn_310 rfl ?_
  refine gM7 hC hP dX10_goOn_311 ?_
  refine lv_iconst (v := 1) hx hb dX10_goOn_314 (by decide) ?_
  refine lv_iadd hx hb dX10_goOn_315 ?_
  refine pM7 hC hP hS dX10_goOn_316 (fun H locs hP hS => ?_)
  obtain ⟨σ_1, eσ_1, hF⟩ := lt_ok hF
  rw [← eσ_1] at hP
  refine lv_goto (tgt := 259) hx hb dX10_goOn_319 (by decide) ?_
  exact hk259 σ_1 hF H locs ls hP hS (lv_sub hl [0] rfl)
def F_goOn_L259 : Nat → MS → Option MS
  | 0, _ => none
  | fu + 1, σ =>
    bd (F_sign σ (mI σ 7)) fun r_2 =>
    bd (F_isDigit r_2) fun r_4 =>
    if r_4 = 0 then
      F_goOn_b322 σ
    else
      if (4 : Int32) ≤ ((mI σ 7) - (mI σ 6)) then
        F_goOn_b309 (F_goOn_L259 fu) σ
      else
        bd (F_sign σ (mI σ 7)) fun r_8 =>
        lt (wI σ 9 ((((10 : Int32) * (mI σ 9)) + r_8) - (48 : Int32))) fun σ_9 =>
        F_goOn_b309 (F_goOn_L259 fu) σ_9
set_option maxHeartbeats 4000000 in
theorem w_goOn_L259 {p : Program} {l : Launch} {e : Env} {s : State} {m : MethodId} {args : Array Value} {below : List Frame} {meth : Method} {c : Code} {G : MG} (hC : MCx G cX10_goOn 3 p s m args meth c) (hr : meth.sig.returnType = none) {x : MS} :
    ∀ (fu : Nat) (σ : MS), F_goOn_L259 fu σ = some x → MJ p l e rmM_goOn s m args below meth c G 3 none x 259 [(0, .ref (gM G))] [] σ := by
  have hx := hC.1
  have hb := hC.2.1
  intro fu
  induction fu with
  | zero => intro σ hF; exact nm_none hF
  | succ fu ih =>
    intro σ hF H locs ls hP hS hl
    rw [F_goOn_L259] at hF
    refine lv_aload_n hx hb dX10_goOn_259 rfl (lv_at hl 0 rfl) ?_
    refine lv_aload_n hx hb dX10_goOn_260 rfl (lv_at hl 0 rfl) ?_
    refine gM7 hC hP dX10_goOn_261 ?_
    obtain ⟨r_2, hc_1, hF⟩ := bd_ok hF
    refine iM_sign hC hP hS hc_1 hl.1 (Nat.le_of_ble_eq_true rfl) ⟨Nat.le_of_ble_eq_true rfl, Nat.le_of_ble_eq_true rfl⟩ ⟨Nat.zero_le _, Nat.zero_le _⟩ dX10_goOn_264 (fun H locs hP hS => ?_)
    obtain ⟨r_4, hc_3, hF⟩ := bd_ok hF
    refine iM_isDigit hC hP hS hc_3 hl.1 (Nat.le_of_ble_eq_true rfl) ⟨Nat.le_of_ble_eq_true rfl, Nat.le_of_ble_eq_true rfl⟩ ⟨Nat.zero_le _, Nat.zero_le _⟩ dX10_goOn_267 (fun H locs hP hS => ?_)
    refine lv_if_eq (tgt := 322) hx hb dX10_goOn_270 (by decide) (fun c_5 => ?_) (fun c_5 => ?_)
    · replace hF := it_t hF c_5
      exact w_goOn_b322 hC hr σ hF H locs ls hP hS (lv_sub hl [0] rfl)
    · replace hF := it_f hF c_5
      refine lv_aload_n hx hb dX10_goOn_273 rfl (lv_at hl 0 rfl) ?_
      refine gM7 hC hP dX10_goOn_274 ?_
      refine lv_aload_n hx hb dX10_goOn_277 rfl (lv_at hl 0 rfl) ?_
      refine gM6 hC hP dX10_goOn_278 ?_
      refine lv_isub hx hb dX10_goOn_281 ?_
      refine lv_iconst (v := 4) hx hb dX10_goOn_282 (by decide) ?_
      refine lv_icmp_ge (tgt := 309) hx hb dX10_goOn_283 (by decide) (fun c_6 => ?_) (fun c_6 => ?_)
      · replace hF := it_t hF c_6
        exact w_goOn_b309 hC hr (F_goOn_L259 fu) ih σ hF H locs ls hP hS (lv_sub hl [0] rfl)
      · replace hF := it_f hF c_6
        refine lv_aload_n hx hb dX10_goOn_286 rfl (lv_at hl 0 rfl) ?_
        refine lv_bipush (v := 10) hx hb dX10_goOn_287 (by decide) ?_
        refine lv_aload_n hx hb dX10_goOn_289 rfl (lv_at hl 0 rfl) ?_
        refine gM9 hC hP dX10_goOn_290 ?_
        refine lv_imul hx hb dX10_goOn_293 ?_
        refine lv_aload_n hx hb dX10_goOn_294 rfl (lv_at hl 0 rfl) ?_
        refine lv_aload_n hx hb dX10_goOn_295 rfl (lv_at hl 0 rfl) ?_
        refine gM7 hC hP dX10_goOn_296 ?_
        obtain ⟨r_8, hc_7, hF⟩ := bd_ok hF
        refine iM_sign hC hP hS hc_7 hl.1 (Nat.le_of_ble_eq_true rfl) ⟨Nat.le_of_ble_eq_true rfl, Nat.le_of_ble_eq_true rfl⟩ ⟨Nat.zero_le _, Nat.zero_le _⟩ dX10_goOn_299 (fun H locs hP hS => ?_)
        refine lv_iadd hx hb dX10_goOn_302 ?_
        refine lv_bipush (v := 48) hx hb dX10_goOn_303 (by decide) ?_
        refine lv_isub hx hb dX10_goOn_305 ?_
        refine pM9 hC hP hS dX10_goOn_306 (fun H locs hP hS => ?_)
        obtain ⟨σ_9, eσ_9, hF⟩ := lt_ok hF
        rw [← eσ_9] at hP
        exact w_goOn_b309 hC hr (F_goOn_L259 fu) ih σ_9 hF H locs ls hP hS (lv_sub hl [0] rfl)
def F_goOn_b233 (y0 : Int32) (σ : MS) : Option MS :=
  lt (wI σ 8 y0) fun σ_1 =>
  some σ_1
set_option maxHeartbeats 4000000 in
theorem w_goOn_b233 {p : Program} {l : Launch} {e : Env} {s : State} {m : MethodId} {args : Array Value} {below : List Frame} {meth : Method} {c : Code} {G : MG} (hC : MCx G cX10_goOn 3 p s m args meth c) (hr : meth.sig.returnType = none) {x : MS} :
    ∀ (y0 : Int32) (σ : MS), F_goOn_b233 y0 σ = some x → MJ p l e rmM_goOn s m args below meth c G 3 none x 233 [] [.int y0, .ref (gM G)] σ := by
  have hx := hC.1
  have hb := hC.2.1
  intro y0 σ hF H locs ls hP hS hl
  rw [F_goOn_b233] at hF
  refine pM8 hC hP hS dX10_goOn_233 (fun H locs hP hS => ?_)
  obtain ⟨σ_1, eσ_1, hF⟩ := lt_ok hF
  rw [← eσ_1] at hP
  refine lv_goto (tgt := 377) hx hb dX10_goOn_236 (by decide) ?_
  exact M_retv hC hP hS hr (Option.some.inj hF) dX10_goOn_377
def F_goOn_b199 (σ : MS) : Option MS :=
  if ((mI σ 7) - (mI σ 6)) ≤ (8 : Int32) then
    bd (F_isKept (mL σ 10 0)) fun r_3 =>
    if r_3 = 0 then
      F_goOn_b233 (2 : Int32) σ
    else
      F_goOn_b233 (3 : Int32) σ
  else
    F_goOn_b233 (1 : Int32) σ
set_option maxHeartbeats 4000000 in
theorem w_goOn_b199 {p : Program} {l : Launch} {e : Env} {s : State} {m : MethodId} {args : Array Value} {below : List Frame} {meth : Method} {c : Code} {G : MG} (hC : MCx G cX10_goOn 3 p s m args meth c) (hr : meth.sig.returnType = none) {x : MS} :
    ∀ (σ : MS), F_goOn_b199 σ = some x → MJ p l e rmM_goOn s m args below meth c G 3 none x 199 [(0, .ref (gM G))] [] σ := by
  have hx := hC.1
  have hb := hC.2.1
  intro σ hF H locs ls hP hS hl
  rw [F_goOn_b199] at hF
  refine lv_aload_n hx hb dX10_goOn_199 rfl (lv_at hl 0 rfl) ?_
  refine lv_aload_n hx hb dX10_goOn_200 rfl (lv_at hl 0 rfl) ?_
  refine gM7 hC hP dX10_goOn_201 ?_
  refine lv_aload_n hx hb dX10_goOn_204 rfl (lv_at hl 0 rfl) ?_
  refine gM6 hC hP dX10_goOn_205 ?_
  refine lv_isub hx hb dX10_goOn_208 ?_
  refine lv_bipush (v := 8) hx hb dX10_goOn_209 (by decide) ?_
  refine lv_icmp_le (tgt := 218) hx hb dX10_goOn_211 (by decide) (fun c_1 => ?_) (fun c_1 => ?_)
  · replace hF := it_t hF c_1
    refine lv_aload_n hx hb dX10_goOn_218 rfl (lv_at hl 0 rfl) ?_
    refine gM10 hC hP dX10_goOn_219 ?_
    obtain ⟨r_3, hc_2, hF⟩ := bd_ok hF
    refine iM_isKept hC hP hS hc_2 hl.1 (Nat.le_of_ble_eq_true rfl) ⟨Nat.le_of_ble_eq_true rfl, Nat.le_of_ble_eq_true rfl⟩ ⟨Nat.zero_le _, Nat.zero_le _⟩ dX10_goOn_222 (fun H locs hP hS => ?_)
    refine lv_if_eq (tgt := 232) hx hb dX10_goOn_225 (by decide) (fun c_4 => ?_) (fun c_4 => ?_)
    · replace hF := it_t hF c_4
      refine lv_iconst (v := 2) hx hb dX10_goOn_232 (by decide) ?_
      exact w_goOn_b233 hC hr (2 : Int32) σ hF H locs ls hP hS (lv_sub hl [] rfl)
    · replace hF := it_f hF c_4
      refine lv_iconst (v := 3) hx hb dX10_goOn_228 (by decide) ?_
      refine lv_goto (tgt := 233) hx hb dX10_goOn_229 (by decide) ?_
      exact w_goOn_b233 hC hr (3 : Int32) σ hF H locs ls hP hS (lv_sub hl [] rfl)
  · replace hF := it_f hF c_1
    refine lv_iconst (v := 1) hx hb dX10_goOn_214 (by decide) ?_
    refine lv_goto (tgt := 233) hx hb dX10_goOn_215 (by decide) ?_
    exact w_goOn_b233 hC hr (1 : Int32) σ hF H locs ls hP hS (lv_sub hl [] rfl)
def F_goOn_L156 : Nat → Int32 → MS → Option MS
  | 0, _, _ => none
  | fu + 1, x2, σ =>
    if (mI σ 7) ≤ x2 then
      F_goOn_b199 σ
    else
      if ((mI σ 6) + (8 : Int32)) ≤ x2 then
        F_goOn_b199 σ
      else
        bd (F_sign σ x2) fun r_4 =>
        lt (wL σ 10 0 (((mL σ 10 0) <<< (Int32.toInt64 (8 : Int32) &&& 63)) ||| (Int32.toInt64 r_4))) fun σ_5 =>
        lt (x2 + (1 : Int32)) fun x2_6 =>
        F_goOn_L156 fu x2_6 σ_5
set_option maxHeartbeats 4000000 in
theorem w_goOn_L156 {p : Program} {l : Launch} {e : Env} {s : State} {m : MethodId} {args : Array Value} {below : List Frame} {meth : Method} {c : Code} {G : MG} (hC : MCx G cX10_goOn 3 p s m args meth c) (hr : meth.sig.returnType = none) {x : MS} :
    ∀ (fu : Nat) (x2 : Int32) (σ : MS), F_goOn_L156 fu x2 σ = some x → MJ p l e rmM_goOn s m args below meth c G 3 none x 156 [(0, .ref (gM G)), (2, .int x2)] [] σ := by
  have hx := hC.1
  have hb := hC.2.1
  intro fu
  induction fu with
  | zero => intro x2 σ hF; exact nm_none hF
  | succ fu ih =>
    intro x2 σ hF H locs ls hP hS hl
    rw [F_goOn_L156] at hF
    refine lv_iload_n hx hb dX10_goOn_156 rfl (lv_at hl 1 rfl) ?_
    refine lv_aload_n hx hb dX10_goOn_157 rfl (lv_at hl 0 rfl) ?_
    refine gM7 hC hP dX10_goOn_158 ?_
    refine lv_icmp_ge (tgt := 199) hx hb dX10_goOn_161 (by decide) (fun c_1 => ?_) (fun c_1 => ?_)
    · replace hF := it_t hF c_1
      exact w_goOn_b199 hC hr σ hF H locs ls hP hS (lv_sub hl [0] rfl)
    · replace hF := it_f hF c_1
      refine lv_iload_n hx hb dX10_goOn_164 rfl (lv_at hl 1 rfl) ?_
      refine lv_aload_n hx hb dX10_goOn_165 rfl (lv_at hl 0 rfl) ?_
      refine gM6 hC hP dX10_goOn_166 ?_
      refine lv_bipush (v := 8) hx hb dX10_goOn_169 (by decide) ?_
      refine lv_iadd hx hb dX10_goOn_171 ?_
      refine lv_icmp_ge (tgt := 199) hx hb dX10_goOn_172 (by decide) (fun c_2 => ?_) (fun c_2 => ?_)
      · replace hF := it_t hF c_2
        exact w_goOn_b199 hC hr σ hF H locs ls hP hS (lv_sub hl [0] rfl)
      · replace hF := it_f hF c_2
        refine lv_aload_n hx hb dX10_goOn_175 rfl (lv_at hl 0 rfl) ?_
        refine lv_aload_n hx hb dX10_goOn_176 rfl (lv_at hl 0 rfl) ?_
        refine gM10 hC hP dX10_goOn_177 ?_
        refine lv_bipush (v := 8) hx hb dX10_goOn_180 (by decide) ?_
        refine lv_lshl hx hb dX10_goOn_182 rfl ?_
        refine lv_aload_n hx hb dX10_goOn_183 rfl (lv_at hl 0 rfl) ?_
        refine lv_iload_n hx hb dX10_goOn_184 rfl (lv_at hl 1 rfl) ?_
        obtain ⟨r_4, hc_3, hF⟩ := bd_ok hF
        refine iM_sign hC hP hS hc_3 hl.1 (Nat.le_of_ble_eq_true rfl) ⟨Nat.le_of_ble_eq_true rfl, Nat.le_of_ble_eq_true rfl⟩ ⟨Nat.zero_le _, Nat.zero_le _⟩ dX10_goOn_185 (fun H locs hP hS => ?_)
        refine lv_i2l hx hb dX10_goOn_188 rfl ?_
        refine lv_lor hx hb dX10_goOn_189 ?_
        refine pM10 hC hP hS dX10_goOn_190 (fun H locs hP hS => ?_)
        obtain ⟨σ_5, eσ_5, hF⟩ := lt_ok hF
        rw [← eσ_5] at hP
        obtain ⟨x2_6, ex2_6, hF⟩ := lt_ok hF
        refine lv_iinc (v := x2_6) (lv' := [(2, .int x2_6), (0, .ref (gM G))]) hx hb dX10_goOn_193 hl (k := 1) rfl (by rw [ex2_6]; rfl) (by decide) rfl (fun ls hl => ?_)
        refine lv_goto (tgt := 156) hx hb dX10_goOn_196 (by decide) ?_
        exact ih x2_6 σ_5 hF H locs ls hP hS (lv_sub hl [1, 0] rfl)
def F_goOn_b146 (σ : MS) : Option MS :=
  lt (wL σ 10 0 (0 : Int64)) fun σ_1 =>
  lt ((mI σ_1 6)) fun x2_2 =>
  F_goOn_L156 MN x2_2 σ_1
set_option maxHeartbeats 4000000 in
theorem w_goOn_b146 {p : Program} {l : Launch} {e : Env} {s : State} {m : MethodId} {args : Array Value} {below : List Frame} {meth : Method} {c : Code} {G : MG} (hC : MCx G cX10_goOn 3 p s m args meth c) (hr : meth.sig.returnType = none) {x : MS} :
    ∀ (σ : MS), F_goOn_b146 σ = some x → MJ p l e rmM_goOn s m args below meth c G 3 none x 146 [(0, .ref (gM G))] [] σ := by
  have hx := hC.1
  have hb := hC.2.1
  intro σ hF H locs ls hP hS hl
  rw [F_goOn_b146] at hF
  refine lv_aload_n hx hb dX10_goOn_146 rfl (lv_at hl 0 rfl) ?_
  refine lv_lconst (v := 0) hx hb dX10_goOn_147 (by decide) ?_
  refine pM10 hC hP hS dX10_goOn_148 (fun H locs hP hS => ?_)
  obtain ⟨σ_1, eσ_1, hF⟩ := lt_ok hF
  rw [← eσ_1] at hP
  refine lv_aload_n hx hb dX10_goOn_151 rfl (lv_at hl 0 rfl) ?_
  refine gM6 hC hP dX10_goOn_152 ?_
  refine lv_topi (fun x2_2 ex2_2 => ?_)
  replace hF := lt_at hF ex2_2
  refine lv_istore_n (lv' := [(2, .int x2_2), (0, .ref (gM G))]) hx hb dX10_goOn_155 rfl hl (by decide) rfl (fun ls hl => ?_)
  exact w_goOn_L156 hC hr MN x2_2 σ_1 hF H locs ls hP hS (lv_sub hl [1, 0] rfl)
def F_goOn_L119 : Nat → MS → Option MS
  | 0, _ => none
  | fu + 1, σ =>
    bd (F_sign σ (mI σ 7)) fun r_2 =>
    bd (F_isLetter r_2) fun r_4 =>
    if r_4 = 0 then
      F_goOn_b146 σ
    else
      lt (wI σ 7 ((mI σ 7) + (1 : Int32))) fun σ_6 =>
      F_goOn_L119 fu σ_6
set_option maxHeartbeats 4000000 in
theorem w_goOn_L119 {p : Program} {l : Launch} {e : Env} {s : State} {m : MethodId} {args : Array Value} {below : List Frame} {meth : Method} {c : Code} {G : MG} (hC : MCx G cX10_goOn 3 p s m args meth c) (hr : meth.sig.returnType = none) {x : MS} :
    ∀ (fu : Nat) (σ : MS), F_goOn_L119 fu σ = some x → MJ p l e rmM_goOn s m args below meth c G 3 none x 119 [(0, .ref (gM G))] [] σ := by
  have hx := hC.1
  have hb := hC.2.1
  intro fu
  induction fu with
  | zero => intro σ hF; exact nm_none hF
  | succ fu ih =>
    intro σ hF H locs ls hP hS hl
    rw [F_goOn_L119] at hF
    refine lv_aload_n hx hb dX10_goOn_119 rfl (lv_at hl 0 rfl) ?_
    refine lv_aload_n hx hb dX10_goOn_120 rfl (lv_at hl 0 rfl) ?_
    refine gM7 hC hP dX10_goOn_121 ?_
    obtain ⟨r_2, hc_1, hF⟩ := bd_ok hF
    refine iM_sign hC hP hS hc_1 hl.1 (Nat.le_of_ble_eq_true rfl) ⟨Nat.le_of_ble_eq_true rfl, Nat.le_of_ble_eq_true rfl⟩ ⟨Nat.zero_le _, Nat.zero_le _⟩ dX10_goOn_124 (fun H locs hP hS => ?_)
    obtain ⟨r_4, hc_3, hF⟩ := bd_ok hF
    refine iM_isLetter hC hP hS hc_3 hl.1 (Nat.le_of_ble_eq_true rfl) ⟨Nat.le_of_ble_eq_true rfl, Nat.le_of_ble_eq_true rfl⟩ ⟨Nat.zero_le _, Nat.zero_le _⟩ dX10_goOn_127 (fun H locs hP hS => ?_)
    refine lv_if_eq (tgt := 146) hx hb dX10_goOn_130 (by decide) (fun c_5 => ?_) (fun c_5 => ?_)
    · replace hF := it_t hF c_5
      exact w_goOn_b146 hC hr σ hF H locs ls hP hS (lv_sub hl [0] rfl)
    · replace hF := it_f hF c_5
      refine lv_aload_n hx hb dX10_goOn_133 rfl (lv_at hl 0 rfl) ?_
      refine lv_dup hx hb dX10_goOn_134 rfl ?_
      refine gM7 hC hP dX10_goOn_135 ?_
      refine lv_iconst (v := 1) hx hb dX10_goOn_138 (by decide) ?_
      refine lv_iadd hx hb dX10_goOn_139 ?_
      refine pM7 hC hP hS dX10_goOn_140 (fun H locs hP hS => ?_)
      obtain ⟨σ_6, eσ_6, hF⟩ := lt_ok hF
      rw [← eσ_6] at hP
      refine lv_goto (tgt := 119) hx hb dX10_goOn_143 (by decide) ?_
      exact ih σ_6 hF H locs ls hP hS (lv_sub hl [0] rfl)
def F_goOn_b58 (σ : MS) : Option MS :=
  bd (F_sign σ (mI σ 6)) fun r_2 =>
  lt (wI σ 7 ((mI σ 6) + (1 : Int32))) fun σ_3 =>
  if (mI σ_3 6) < (mI σ_3 3) then
    bd (F_isLetter r_2) fun r_6 =>
    if r_6 = 0 then
      bd (F_isDigit r_2) fun r_9 =>
      if r_9 = 0 then
        bd (F_isSign r_2) fun r_12 =>
        if r_12 = 0 then
          F_goOn_b374 (1 : Int32) σ_3
        else
          F_goOn_b374 (5 : Int32) σ_3
      else
        lt (wI σ_3 9 (0 : Int32)) fun σ_14 =>
        lt (wI σ_14 7 (mI σ_14 6)) fun σ_15 =>
        F_goOn_L259 MN σ_15
    else
      F_goOn_L119 MN σ_3
  else
    lt (wI σ_3 8 (0 : Int32)) fun σ_16 =>
    lt (wI σ_16 6 (mI σ_16 3)) fun σ_17 =>
    lt (wI σ_17 7 (mI σ_17 3)) fun σ_18 =>
    some σ_18
set_option maxHeartbeats 4000000 in
theorem w_goOn_b58 {p : Program} {l : Launch} {e : Env} {s : State} {m : MethodId} {args : Array Value} {below : List Frame} {meth : Method} {c : Code} {G : MG} (hC : MCx G cX10_goOn 3 p s m args meth c) (hr : meth.sig.returnType = none) {x : MS} :
    ∀ (σ : MS), F_goOn_b58 σ = some x → MJ p l e rmM_goOn s m args below meth c G 3 none x 58 [(0, .ref (gM G))] [] σ := by
  have hx := hC.1
  have hb := hC.2.1
  intro σ hF H locs ls hP hS hl
  rw [F_goOn_b58] at hF
  refine lv_aload_n hx hb dX10_goOn_58 rfl (lv_at hl 0 rfl) ?_
  refine lv_aload_n hx hb dX10_goOn_59 rfl (lv_at hl 0 rfl) ?_
  refine gM6 hC hP dX10_goOn_60 ?_
  obtain ⟨r_2, hc_1, hF⟩ := bd_ok hF
  refine iM_sign hC hP hS hc_1 hl.1 (Nat.le_of_ble_eq_true rfl) ⟨Nat.le_of_ble_eq_true rfl, Nat.le_of_ble_eq_true rfl⟩ ⟨Nat.zero_le _, Nat.zero_le _⟩ dX10_goOn_63 (fun H locs hP hS => ?_)
  refine lv_istore_n (lv' := [(1, .int r_2), (0, .ref (gM G))]) hx hb dX10_goOn_66 rfl hl (by decide) rfl (fun ls hl => ?_)
  refine lv_aload_n hx hb dX10_goOn_67 rfl (lv_at hl 1 rfl) ?_
  refine lv_aload_n hx hb dX10_goOn_68 rfl (lv_at hl 1 rfl) ?_
  refine gM6 hC hP dX10_goOn_69 ?_
  refine lv_iconst (v := 1) hx hb dX10_goOn_72 (by decide) ?_
  refine lv_iadd hx hb dX10_goOn_73 ?_
  refine pM7 hC hP hS dX10_goOn_74 (fun H locs hP hS => ?_)
  obtain ⟨σ_3, eσ_3, hF⟩ := lt_ok hF
  rw [← eσ_3] at hP
  refine lv_aload_n hx hb dX10_goOn_77 rfl (lv_at hl 1 rfl) ?_
  refine gM6 hC hP dX10_goOn_78 ?_
  refine lv_aload_n hx hb dX10_goOn_81 rfl (lv_at hl 1 rfl) ?_
  refine gM3 hC hP dX10_goOn_82 ?_
  refine lv_icmp_lt (tgt := 112) hx hb dX10_goOn_85 (by decide) (fun c_4 => ?_) (fun c_4 => ?_)
  · replace hF := it_t hF c_4
    refine lv_iload_n hx hb dX10_goOn_112 rfl (lv_at hl 0 rfl) ?_
    obtain ⟨r_6, hc_5, hF⟩ := bd_ok hF
    refine iM_isLetter hC hP hS hc_5 hl.1 (Nat.le_of_ble_eq_true rfl) ⟨Nat.le_of_ble_eq_true rfl, Nat.le_of_ble_eq_true rfl⟩ ⟨Nat.zero_le _, Nat.zero_le _⟩ dX10_goOn_113 (fun H locs hP hS => ?_)
    refine lv_if_eq (tgt := 239) hx hb dX10_goOn_116 (by decide) (fun c_7 => ?_) (fun c_7 => ?_)
    · replace hF := it_t hF c_7
      refine lv_iload_n hx hb dX10_goOn_239 rfl (lv_at hl 0 rfl) ?_
      obtain ⟨r_9, hc_8, hF⟩ := bd_ok hF
      refine iM_isDigit hC hP hS hc_8 hl.1 (Nat.le_of_ble_eq_true rfl) ⟨Nat.le_of_ble_eq_true rfl, Nat.le_of_ble_eq_true rfl⟩ ⟨Nat.zero_le _, Nat.zero_le _⟩ dX10_goOn_240 (fun H locs hP hS => ?_)
      refine lv_if_eq (tgt := 361) hx hb dX10_goOn_243 (by decide) (fun c_10 => ?_) (fun c_10 => ?_)
      · replace hF := it_t hF c_10
        refine lv_aload_n hx hb dX10_goOn_361 rfl (lv_at hl 1 rfl) ?_
        refine lv_iload_n hx hb dX10_goOn_362 rfl (lv_at hl 0 rfl) ?_
        obtain ⟨r_12, hc_11, hF⟩ := bd_ok hF
        refine iM_isSign hC hP hS hc_11 hl.1 (Nat.le_of_ble_eq_true rfl) ⟨Nat.le_of_ble_eq_true rfl, Nat.le_of_ble_eq_true rfl⟩ ⟨Nat.zero_le _, Nat.zero_le _⟩ dX10_goOn_363 (fun H locs hP hS => ?_)
        refine lv_if_eq (tgt := 373) hx hb dX10_goOn_366 (by decide) (fun c_13 => ?_) (fun c_13 => ?_)
        · replace hF := it_t hF c_13
          refine lv_iconst (v := 1) hx hb dX10_goOn_373 (by decide) ?_
          exact w_goOn_b374 hC hr (1 : Int32) σ_3 hF H locs ls hP hS (lv_sub hl [] rfl)
        · replace hF := it_f hF c_13
          refine lv_iconst (v := 5) hx hb dX10_goOn_369 (by decide) ?_
          refine lv_goto (tgt := 374) hx hb dX10_goOn_370 (by decide) ?_
          exact w_goOn_b374 hC hr (5 : Int32) σ_3 hF H locs ls hP hS (lv_sub hl [] rfl)
      · replace hF := it_f hF c_10
        refine lv_aload_n hx hb dX10_goOn_246 rfl (lv_at hl 1 rfl) ?_
        refine lv_iconst (v := 0) hx hb dX10_goOn_247 (by decide) ?_
        refine pM9 hC hP hS dX10_goOn_248 (fun H locs hP hS => ?_)
        obtain ⟨σ_14, eσ_14, hF⟩ := lt_ok hF
        rw [← eσ_14] at hP
        refine lv_aload_n hx hb dX10_goOn_251 rfl (lv_at hl 1 rfl) ?_
        refine lv_aload_n hx hb dX10_goOn_252 rfl (lv_at hl 1 rfl) ?_
        refine gM6 hC hP dX10_goOn_253 ?_
        refine pM7 hC hP hS dX10_goOn_256 (fun H locs hP hS => ?_)
        obtain ⟨σ_15, eσ_15, hF⟩ := lt_ok hF
        rw [← eσ_15] at hP
        exact w_goOn_L259 hC hr MN σ_15 hF H locs ls hP hS (lv_sub hl [1] rfl)
    · replace hF := it_f hF c_7
      exact w_goOn_L119 hC hr MN σ_3 hF H locs ls hP hS (lv_sub hl [1] rfl)
  · replace hF := it_f hF c_4
    refine lv_aload_n hx hb dX10_goOn_88 rfl (lv_at hl 1 rfl) ?_
    refine lv_iconst (v := 0) hx hb dX10_goOn_89 (by decide) ?_
    refine pM8 hC hP hS dX10_goOn_90 (fun H locs hP hS => ?_)
    obtain ⟨σ_16, eσ_16, hF⟩ := lt_ok hF
    rw [← eσ_16] at hP
    refine lv_aload_n hx hb dX10_goOn_93 rfl (lv_at hl 1 rfl) ?_
    refine lv_aload_n hx hb dX10_goOn_94 rfl (lv_at hl 1 rfl) ?_
    refine gM3 hC hP dX10_goOn_95 ?_
    refine pM6 hC hP hS dX10_goOn_98 (fun H locs hP hS => ?_)
    obtain ⟨σ_17, eσ_17, hF⟩ := lt_ok hF
    rw [← eσ_17] at hP
    refine lv_aload_n hx hb dX10_goOn_101 rfl (lv_at hl 1 rfl) ?_
    refine lv_aload_n hx hb dX10_goOn_102 rfl (lv_at hl 1 rfl) ?_
    refine gM3 hC hP dX10_goOn_103 ?_
    refine pM7 hC hP hS dX10_goOn_106 (fun H locs hP hS => ?_)
    obtain ⟨σ_18, eσ_18, hF⟩ := lt_ok hF
    rw [← eσ_18] at hP
    refine lv_goto (tgt := 377) hx hb dX10_goOn_109 (by decide) ?_
    exact M_retv hC hP hS hr (Option.some.inj hF) dX10_goOn_377
def F_goOn_b45 (k8 : MS → Option MS) (σ : MS) : Option MS :=
  lt (wI σ 6 ((mI σ 6) + (1 : Int32))) fun σ_1 =>
  k8 σ_1
set_option maxHeartbeats 4000000 in
theorem w_goOn_b45 {p : Program} {l : Launch} {e : Env} {s : State} {m : MethodId} {args : Array Value} {below : List Frame} {meth : Method} {c : Code} {G : MG} (hC : MCx G cX10_goOn 3 p s m args meth c) (hr : meth.sig.returnType = none) {x : MS} (k8 : MS → Option MS) (hk8 : ∀ (σ : MS), k8 σ = some x → MJ p l e rmM_goOn s m args below meth c G 3 none x 8 [(0, .ref (gM G))] [] σ) :
    ∀ (σ : MS), F_goOn_b45 k8 σ = some x → MJ p l e rmM_goOn s m args below meth c G 3 none x 45 [(0, .ref (gM G))] [] σ := by
  have hx := hC.1
  have hb := hC.2.1
  intro σ hF H locs ls hP hS hl
  rw [F_goOn_b45] at hF
  refine lv_aload_n hx hb dX10_goOn_45 rfl (lv_at hl 0 rfl) ?_
  refine lv_dup hx hb dX10_goOn_46 rfl ?_
  refine gM6 hC hP dX10_goOn_47 ?_
  refine lv_iconst (v := 1) hx hb dX10_goOn_50 (by decide) ?_
  refine lv_iadd hx hb dX10_goOn_51 ?_
  refine pM6 hC hP hS dX10_goOn_52 (fun H locs hP hS => ?_)
  obtain ⟨σ_1, eσ_1, hF⟩ := lt_ok hF
  rw [← eσ_1] at hP
  refine lv_goto (tgt := 8) hx hb dX10_goOn_55 (by decide) ?_
  exact hk8 σ_1 hF H locs ls hP hS (lv_sub hl [0] rfl)
def F_goOn_L8 : Nat → MS → Option MS
  | 0, _ => none
  | fu + 1, σ =>
    if (mI σ 3) ≤ (mI σ 6) then
      F_goOn_b58 σ
    else
      bd (F_sign σ (mI σ 6)) fun r_3 =>
      if r_3 = (32 : Int32) then
        F_goOn_b45 (F_goOn_L8 fu) σ
      else
        bd (F_sign σ (mI σ 6)) fun r_6 =>
        if r_6 = (10 : Int32) then
          F_goOn_b45 (F_goOn_L8 fu) σ
        else
          F_goOn_b58 σ
set_option maxHeartbeats 4000000 in
theorem w_goOn_L8 {p : Program} {l : Launch} {e : Env} {s : State} {m : MethodId} {args : Array Value} {below : List Frame} {meth : Method} {c : Code} {G : MG} (hC : MCx G cX10_goOn 3 p s m args meth c) (hr : meth.sig.returnType = none) {x : MS} :
    ∀ (fu : Nat) (σ : MS), F_goOn_L8 fu σ = some x → MJ p l e rmM_goOn s m args below meth c G 3 none x 8 [(0, .ref (gM G))] [] σ := by
  have hx := hC.1
  have hb := hC.2.1
  intro fu
  induction fu with
  | zero => intro σ hF; exact nm_none hF
  | succ fu ih =>
    intro σ hF H locs ls hP hS hl
    rw [F_goOn_L8] at hF
    refine lv_aload_n hx hb dX10_goOn_8 rfl (lv_at hl 0 rfl) ?_
    refine gM6 hC hP dX10_goOn_9 ?_
    refine lv_aload_n hx hb dX10_goOn_12 rfl (lv_at hl 0 rfl) ?_
    refine gM3 hC hP dX10_goOn_13 ?_
    refine lv_icmp_ge (tgt := 58) hx hb dX10_goOn_16 (by decide) (fun c_1 => ?_) (fun c_1 => ?_)
    · replace hF := it_t hF c_1
      exact w_goOn_b58 hC hr σ hF H locs ls hP hS (lv_sub hl [0] rfl)
    · replace hF := it_f hF c_1
      refine lv_aload_n hx hb dX10_goOn_19 rfl (lv_at hl 0 rfl) ?_
      refine lv_aload_n hx hb dX10_goOn_20 rfl (lv_at hl 0 rfl) ?_
      refine gM6 hC hP dX10_goOn_21 ?_
      obtain ⟨r_3, hc_2, hF⟩ := bd_ok hF
      refine iM_sign hC hP hS hc_2 hl.1 (Nat.le_of_ble_eq_true rfl) ⟨Nat.le_of_ble_eq_true rfl, Nat.le_of_ble_eq_true rfl⟩ ⟨Nat.zero_le _, Nat.zero_le _⟩ dX10_goOn_24 (fun H locs hP hS => ?_)
      refine lv_bipush (v := 32) hx hb dX10_goOn_27 (by decide) ?_
      refine lv_icmp_eq (tgt := 45) hx hb dX10_goOn_29 (by decide) (fun c_4 => ?_) (fun c_4 => ?_)
      · replace hF := it_t hF c_4
        exact w_goOn_b45 hC hr (F_goOn_L8 fu) ih σ hF H locs ls hP hS (lv_sub hl [0] rfl)
      · replace hF := it_f hF c_4
        refine lv_aload_n hx hb dX10_goOn_32 rfl (lv_at hl 0 rfl) ?_
        refine lv_aload_n hx hb dX10_goOn_33 rfl (lv_at hl 0 rfl) ?_
        refine gM6 hC hP dX10_goOn_34 ?_
        obtain ⟨r_6, hc_5, hF⟩ := bd_ok hF
        refine iM_sign hC hP hS hc_5 hl.1 (Nat.le_of_ble_eq_true rfl) ⟨Nat.le_of_ble_eq_true rfl, Nat.le_of_ble_eq_true rfl⟩ ⟨Nat.zero_le _, Nat.zero_le _⟩ dX10_goOn_37 (fun H locs hP hS => ?_)
        refine lv_bipush (v := 10) hx hb dX10_goOn_40 (by decide) ?_
        refine lv_icmp_ne (tgt := 58) hx hb dX10_goOn_42 (by decide) (fun c_7 => ?_) (fun c_7 => ?_)
        · replace hF := it_f hF c_7
          exact w_goOn_b58 hC hr σ hF H locs ls hP hS (lv_sub hl [0] rfl)
        · replace hF := it_t hF c_7
          exact w_goOn_b45 hC hr (F_goOn_L8 fu) ih σ hF H locs ls hP hS (lv_sub hl [0] rfl)
def F_goOn (σ : MS) : Option MS :=
  lt (wI σ 6 (mI σ 7)) fun σ_1 =>
  F_goOn_L8 MN σ_1
set_option maxHeartbeats 4000000 in
theorem w_goOn {p : Program} {l : Launch} {e : Env} {s : State} {m : MethodId} {args : Array Value} {below : List Frame} {meth : Method} {c : Code} {G : MG} (hC : MCx G cX10_goOn 3 p s m args meth c) (hr : meth.sig.returnType = none) {x : MS} :
    ∀ (σ : MS), F_goOn σ = some x → MJ p l e rmM_goOn s m args below meth c G 3 none x 0 [(0, .ref (gM G))] [] σ := by
  have hx := hC.1
  have hb := hC.2.1
  intro σ hF H locs ls hP hS hl
  rw [F_goOn] at hF
  refine lv_aload_n hx hb dX10_goOn_0 rfl (lv_at hl 0 rfl) ?_
  refine lv_aload_n hx hb dX10_goOn_1 rfl (lv_at hl 0 rfl) ?_
  refine gM7 hC hP dX10_goOn_2 ?_
  refine pM6 hC hP hS dX10_goOn_5 (fun H locs hP hS => ?_)
  obtain ⟨σ_1, eσ_1, hF⟩ := lt_ok hF
  rw [← eσ_1] at hP
  exact w_goOn_L8 hC hr MN σ_1 hF H locs ls hP hS (lv_sub hl [0] rfl)
theorem m_goOn (l : Launch) (G : MG) (σ : MS) (x : MS) (hF : F_goOn σ = some x) : Met l yX10_goOn (ws_ yX10_goOn cX10_goOn 3 none) rmM_goOn (mP G [.ref (gM G)] σ) (mQ G none x) 0 0 (MA G) := by
  refine M_met rfl plM (Nat.le_of_ble_eq_true rfl) ?_
  intro p e s m below meth c hC hr ls hl hP
  exact w_goOn hC hr σ hF s.heap [] ls hP va_S.rf hl
theorem iM_goOn {p : Program} {l : Launch} {e : Env} {R : Room} {s : State} {m : MethodId} {args : Array Value} {below : List Frame} {meth : Method} {c : Code} {H H0 : Heap} {locs : List Loc} {cells slots nL : Nat} {Q : State → Prop} {G : MG} {σ : MS} {cc : ByteArray} {pc : Nat} {ls : Array Slot} {rest : List Value} (hC : MCx G cc nL p s m args meth c) (hP : MRep G σ H) (hS : va_S (MA G) H0 H locs) {x : MS} (hF : F_goOn σ = some x) (hl : ls.size = nL) (hW : (rest.map fun v => v.category).sum ≤ 8) (hR : rmM_goOn.frames + 1 ≤ R.frames ∧ 8 + (3 + 11) + rmM_goOn.locals ≤ R.locals) (hf : cells ≤ R.cells ∧ slots ≤ R.slots) (hdg : decode cc pc = .ok (.invokevirtual 287, 3))
    (kk : ∀ (H1 : Heap) (locs1 : List Loc), MRep G x H1 → va_S (MA G) H0 H1 locs1 → W p l e R s m args below meth c H1 locs1 cells slots Q (F0 m (pc + 3) ls (rest))) : W p l e R s m args below meth c H locs cells slots Q (F0 m pc ls (.ref (gM G) :: rest)) :=
  M_inv hC hP hS [] (m_goOn l G σ _ hF) (cwV 0 hC.2.2.2.2.1 (lw_V q2224 q2226 qs79 q145 q2227) rfl rfl rfl (by decide +kernel) hR) rfl rfl hl hW hf hdg kk
/-! stands -/
abbrev rmM_stands : Room := { frames := 1, cells := 0, slots := 0, locals := 21 }
def F_stands (σ : MS) (a0 : Int32) : Option Int32 :=
  if (mI σ 8) = (5 : Int32) then
    bd (F_sign σ (mI σ 6)) fun r_3 =>
    if r_3 = a0 then
      some (1 : Int32)
    else
      some (0 : Int32)
  else
    some (0 : Int32)
set_option maxHeartbeats 4000000 in
theorem w_stands {p : Program} {l : Launch} {e : Env} {s : State} {m : MethodId} {args : Array Value} {below : List Frame} {meth : Method} {c : Code} {G : MG} (hC : MCx G cX10_stands 2 p s m args meth c) (hr : meth.sig.returnType = some .boolean) {x : Int32} {σ : MS} :
    ∀ (a0 : Int32), F_stands σ a0 = some x → MJ p l e rmM_stands s m args below meth c G 2 (some (.int x)) σ 0 [(0, .ref (gM G)), (1, .int a0)] [] σ := by
  have hx := hC.1
  have hb := hC.2.1
  intro a0 hF H locs ls hP hS hl
  rw [F_stands] at hF
  refine lv_aload_n hx hb dX10_stands_0 rfl (lv_at hl 0 rfl) ?_
  refine gM8 hC hP dX10_stands_1 ?_
  refine lv_iconst (v := 5) hx hb dX10_stands_4 (by decide) ?_
  refine lv_icmp_ne (tgt := 24) hx hb dX10_stands_5 (by decide) (fun c_1 => ?_) (fun c_1 => ?_)
  · replace hF := it_f hF c_1
    refine lv_iconst (v := 0) hx hb dX10_stands_24 (by decide) ?_
    exact M_retz hC hP hS hr (Or.inl rfl) (Option.some.inj hF) rfl dX10_stands_25
  · replace hF := it_t hF c_1
    refine lv_aload_n hx hb dX10_stands_8 rfl (lv_at hl 0 rfl) ?_
    refine lv_aload_n hx hb dX10_stands_9 rfl (lv_at hl 0 rfl) ?_
    refine gM6 hC hP dX10_stands_10 ?_
    obtain ⟨r_3, hc_2, hF⟩ := bd_ok hF
    refine iM_sign hC hP hS hc_2 hl.1 (Nat.le_of_ble_eq_true rfl) ⟨Nat.le_of_ble_eq_true rfl, Nat.le_of_ble_eq_true rfl⟩ ⟨Nat.zero_le _, Nat.zero_le _⟩ dX10_stands_13 (fun H locs hP hS => ?_)
    refine lv_iload_n hx hb dX10_stands_16 rfl (lv_at hl 1 rfl) ?_
    refine lv_icmp_ne (tgt := 24) hx hb dX10_stands_17 (by decide) (fun c_4 => ?_) (fun c_4 => ?_)
    · replace hF := it_f hF c_4
      refine lv_iconst (v := 0) hx hb dX10_stands_24 (by decide) ?_
      exact M_retz hC hP hS hr (Or.inl rfl) (Option.some.inj hF) rfl dX10_stands_25
    · replace hF := it_t hF c_4
      refine lv_iconst (v := 1) hx hb dX10_stands_20 (by decide) ?_
      refine lv_goto (tgt := 25) hx hb dX10_stands_21 (by decide) ?_
      exact M_retz hC hP hS hr (Or.inr rfl) (Option.some.inj hF) rfl dX10_stands_25
theorem m_stands (l : Launch) (G : MG) (a0 : Int32) (σ : MS) (x : Int32) (hF : F_stands σ a0 = some x) : Met l yX10_stands (ws_ yX10_stands cX10_stands 2 (some .boolean)) rmM_stands (mP G [.ref (gM G), .int a0] σ) (mQ G (some (.int x)) σ) 0 0 (MA G) := by
  refine M_met rfl plM (Nat.le_of_ble_eq_true rfl) ?_
  intro p e s m below meth c hC hr ls hl hP
  exact w_stands hC hr a0 hF s.heap [] ls hP va_S.rf hl
theorem iM_stands {p : Program} {l : Launch} {e : Env} {R : Room} {s : State} {m : MethodId} {args : Array Value} {below : List Frame} {meth : Method} {c : Code} {H H0 : Heap} {locs : List Loc} {cells slots nL : Nat} {Q : State → Prop} {G : MG} {σ : MS} {cc : ByteArray} {pc : Nat} {ls : Array Slot} {rest : List Value} (hC : MCx G cc nL p s m args meth c) (hP : MRep G σ H) (hS : va_S (MA G) H0 H locs) {a0 : Int32} {x : Int32} (hF : F_stands σ a0 = some x) (hl : ls.size = nL) (hW : (rest.map fun v => v.category).sum ≤ 8) (hR : rmM_stands.frames + 1 ≤ R.frames ∧ 8 + (2 + 11) + rmM_stands.locals ≤ R.locals) (hf : cells ≤ R.cells ∧ slots ≤ R.slots) (hdg : decode cc pc = .ok (.invokevirtual 347, 3))
    (kk : ∀ (H1 : Heap) (locs1 : List Loc), MRep G σ H1 → va_S (MA G) H0 H1 locs1 → W p l e R s m args below meth c H1 locs1 cells slots Q (F0 m (pc + 3) ls (.int x :: rest))) : W p l e R s m args below meth c H locs cells slots Q (F0 m pc ls (.int a0 :: .ref (gM G) :: rest)) :=
  M_inv hC hP hS [.int a0] (m_stands l G a0 σ _ hF) (cwV 1 hC.2.2.2.2.1 (lw_V q2321 q2323 qs94 q145 q2324) rfl rfl rfl (by decide +kernel) hR) rfl rfl hl hW hf hdg kk
/-! isWord -/
abbrev rmM_isWord : Room := { frames := 0, cells := 0, slots := 0, locals := 0 }
def F_isWord (σ : MS) (a0 : Int64) : Option Int32 :=
  if (mI σ 8) = (3 : Int32) then
    if (lg_cmp (mL σ 10 0) a0) = 0 then
      some (1 : Int32)
    else
      some (0 : Int32)
  else
    some (0 : Int32)
set_option maxHeartbeats 4000000 in
theorem w_isWord {p : Program} {l : Launch} {e : Env} {s : State} {m : MethodId} {args : Array Value} {below : List Frame} {meth : Method} {c : Code} {G : MG} (hC : MCx G cX10_isWord 3 p s m args meth c) (hr : meth.sig.returnType = some .boolean) {x : Int32} {σ : MS} :
    ∀ (a0 : Int64), F_isWord σ a0 = some x → MJ p l e rmM_isWord s m args below meth c G 3 (some (.int x)) σ 0 [(0, .ref (gM G)), (1, .long a0)] [] σ := by
  have hx := hC.1
  have hb := hC.2.1
  intro a0 hF H locs ls hP hS hl
  rw [F_isWord] at hF
  refine lv_aload_n hx hb dX10_isWord_0 rfl (lv_at hl 0 rfl) ?_
  refine gM8 hC hP dX10_isWord_1 ?_
  refine lv_iconst (v := 3) hx hb dX10_isWord_4 (by decide) ?_
  refine lv_icmp_ne (tgt := 21) hx hb dX10_isWord_5 (by decide) (fun c_1 => ?_) (fun c_1 => ?_)
  · replace hF := it_f hF c_1
    refine lv_iconst (v := 0) hx hb dX10_isWord_21 (by decide) ?_
    exact M_retz hC hP hS hr (Or.inl rfl) (Option.some.inj hF) rfl dX10_isWord_22
  · replace hF := it_t hF c_1
    refine lv_aload_n hx hb dX10_isWord_8 rfl (lv_at hl 0 rfl) ?_
    refine gM10 hC hP dX10_isWord_9 ?_
    refine lv_lload_n hx hb dX10_isWord_12 rfl (lv_at hl 1 rfl) ?_
    refine W.lcmp hx hb dX10_isWord_13 ?_
    refine lv_if_ne (tgt := 21) hx hb dX10_isWord_14 (by decide) (fun c_2 => ?_) (fun c_2 => ?_)
    · replace hF := it_f hF c_2
      refine lv_iconst (v := 0) hx hb dX10_isWord_21 (by decide) ?_
      exact M_retz hC hP hS hr (Or.inl rfl) (Option.some.inj hF) rfl dX10_isWord_22
    · replace hF := it_t hF c_2
      refine lv_iconst (v := 1) hx hb dX10_isWord_17 (by decide) ?_
      refine lv_goto (tgt := 22) hx hb dX10_isWord_18 (by decide) ?_
      exact M_retz hC hP hS hr (Or.inr rfl) (Option.some.inj hF) rfl dX10_isWord_22
theorem m_isWord (l : Launch) (G : MG) (a0 : Int64) (σ : MS) (x : Int32) (hF : F_isWord σ a0 = some x) : Met l yX10_isWord (ws_ yX10_isWord cX10_isWord 3 (some .boolean)) rmM_isWord (mP G [.ref (gM G), .long a0] σ) (mQ G (some (.int x)) σ) 0 0 (MA G) := by
  refine M_met rfl plM (Nat.le_of_ble_eq_true rfl) ?_
  intro p e s m below meth c hC hr ls hl hP
  exact w_isWord hC hr a0 hF s.heap [] ls hP va_S.rf hl
theorem iM_isWord {p : Program} {l : Launch} {e : Env} {R : Room} {s : State} {m : MethodId} {args : Array Value} {below : List Frame} {meth : Method} {c : Code} {H H0 : Heap} {locs : List Loc} {cells slots nL : Nat} {Q : State → Prop} {G : MG} {σ : MS} {cc : ByteArray} {pc : Nat} {ls : Array Slot} {rest : List Value} (hC : MCx G cc nL p s m args meth c) (hP : MRep G σ H) (hS : va_S (MA G) H0 H locs) {a0 : Int64} {x : Int32} (hF : F_isWord σ a0 = some x) (hl : ls.size = nL) (hW : (rest.map fun v => v.category).sum ≤ 8) (hR : rmM_isWord.frames + 1 ≤ R.frames ∧ 8 + (3 + 11) + rmM_isWord.locals ≤ R.locals) (hf : cells ≤ R.cells ∧ slots ≤ R.slots) (hdg : decode cc pc = .ok (.invokevirtual 324, 3))
    (kk : ∀ (H1 : Heap) (locs1 : List Loc), MRep G σ H1 → va_S (MA G) H0 H1 locs1 → W p l e R s m args below meth c H1 locs1 cells slots Q (F0 m (pc + 3) ls (.int x :: rest))) : W p l e R s m args below meth c H locs cells slots Q (F0 m pc ls (.long a0 :: .ref (gM G) :: rest)) :=
  M_inv hC hP hS [.long a0] (m_isWord l G a0 σ _ hF) (cwV 1 hC.2.2.2.2.1 (lw_V q2285 q2287 qs85 q145 q2288) rfl rfl rfl (by decide +kernel) hR) rfl rfl hl hW hf hdg kk
/-! misplaced -/
abbrev rmM_misplaced : Room := { frames := 1, cells := 0, slots := 0, locals := 22 }
def F_misplaced_b14 (y0 : Int32) (σ : MS) : Option MS :=
  bd (F_fails y0 (mI σ 6) σ) fun σ_2 =>
  some σ_2
set_option maxHeartbeats 4000000 in
theorem w_misplaced_b14 {p : Program} {l : Launch} {e : Env} {s : State} {m : MethodId} {args : Array Value} {below : List Frame} {meth : Method} {c : Code} {G : MG} (hC : MCx G cX10_misplaced 1 p s m args meth c) (hr : meth.sig.returnType = none) {x : MS} :
    ∀ (y0 : Int32) (σ : MS), F_misplaced_b14 y0 σ = some x → MJ p l e rmM_misplaced s m args below meth c G 1 none x 14 [(0, .ref (gM G))] [.int y0, .ref (gM G)] σ := by
  have hx := hC.1
  have hb := hC.2.1
  intro y0 σ hF H locs ls hP hS hl
  rw [F_misplaced_b14] at hF
  refine lv_aload_n hx hb dX10_misplaced_14 rfl (lv_at hl 0 rfl) ?_
  refine gM6 hC hP dX10_misplaced_15 ?_
  obtain ⟨σ_2, hc_1, hF⟩ := bd_ok hF
  refine iM_fails hC hP hS hc_1 hl.1 (Nat.le_of_ble_eq_true rfl) ⟨Nat.le_of_ble_eq_true rfl, Nat.le_of_ble_eq_true rfl⟩ ⟨Nat.zero_le _, Nat.zero_le _⟩ dX10_misplaced_18 (fun H locs hP hS => ?_)
  exact M_retv hC hP hS hr (Option.some.inj hF) dX10_misplaced_21
def F_misplaced (σ : MS) : Option MS :=
  if (mI σ 8) = (1 : Int32) then
    F_misplaced_b14 (1 : Int32) σ
  else
    F_misplaced_b14 (2 : Int32) σ
set_option maxHeartbeats 4000000 in
theorem w_misplaced {p : Program} {l : Launch} {e : Env} {s : State} {m : MethodId} {args : Array Value} {below : List Frame} {meth : Method} {c : Code} {G : MG} (hC : MCx G cX10_misplaced 1 p s m args meth c) (hr : meth.sig.returnType = none) {x : MS} :
    ∀ (σ : MS), F_misplaced σ = some x → MJ p l e rmM_misplaced s m args below meth c G 1 none x 0 [(0, .ref (gM G))] [] σ := by
  have hx := hC.1
  have hb := hC.2.1
  intro σ hF H locs ls hP hS hl
  rw [F_misplaced] at hF
  refine lv_aload_n hx hb dX10_misplaced_0 rfl (lv_at hl 0 rfl) ?_
  refine lv_aload_n hx hb dX10_misplaced_1 rfl (lv_at hl 0 rfl) ?_
  refine gM8 hC hP dX10_misplaced_2 ?_
  refine lv_iconst (v := 1) hx hb dX10_misplaced_5 (by decide) ?_
  refine lv_icmp_ne (tgt := 13) hx hb dX10_misplaced_6 (by decide) (fun c_1 => ?_) (fun c_1 => ?_)
  · replace hF := it_f hF c_1
    refine lv_iconst (v := 2) hx hb dX10_misplaced_13 (by decide) ?_
    exact w_misplaced_b14 hC hr (2 : Int32) σ hF H locs ls hP hS (lv_sub hl [0] rfl)
  · replace hF := it_t hF c_1
    refine lv_iconst (v := 1) hx hb dX10_misplaced_9 (by decide) ?_
    refine lv_goto (tgt := 14) hx hb dX10_misplaced_10 (by decide) ?_
    exact w_misplaced_b14 hC hr (1 : Int32) σ hF H locs ls hP hS (lv_sub hl [0] rfl)
theorem m_misplaced (l : Launch) (G : MG) (σ : MS) (x : MS) (hF : F_misplaced σ = some x) : Met l yX10_misplaced (ws_ yX10_misplaced cX10_misplaced 1 none) rmM_misplaced (mP G [.ref (gM G)] σ) (mQ G none x) 0 0 (MA G) := by
  refine M_met rfl plM (Nat.le_of_ble_eq_true rfl) ?_
  intro p e s m below meth c hC hr ls hl hP
  exact w_misplaced hC hr σ hF s.heap [] ls hP va_S.rf hl
theorem iM_misplaced {p : Program} {l : Launch} {e : Env} {R : Room} {s : State} {m : MethodId} {args : Array Value} {below : List Frame} {meth : Method} {c : Code} {H H0 : Heap} {locs : List Loc} {cells slots nL : Nat} {Q : State → Prop} {G : MG} {σ : MS} {cc : ByteArray} {pc : Nat} {ls : Array Slot} {rest : List Value} (hC : MCx G cc nL p s m args meth c) (hP : MRep G σ H) (hS : va_S (MA G) H0 H locs) {x : MS} (hF : F_misplaced σ = some x) (hl : ls.size = nL) (hW : (rest.map fun v => v.category).sum ≤ 8) (hR : rmM_misplaced.frames + 1 ≤ R.frames ∧ 8 + (1 + 11) + rmM_misplaced.locals ≤ R.locals) (hf : cells ≤ R.cells ∧ slots ≤ R.slots) (hdg : decode cc pc = .ok (.invokevirtual 290, 3))
    (kk : ∀ (H1 : Heap) (locs1 : List Loc), MRep G x H1 → va_S (MA G) H0 H1 locs1 → W p l e R s m args below meth c H1 locs1 cells slots Q (F0 m (pc + 3) ls (rest))) : W p l e R s m args below meth c H locs cells slots Q (F0 m pc ls (.ref (gM G) :: rest)) :=
  M_inv hC hP hS [] (m_misplaced l G σ _ hF) (cwV 0 hC.2.2.2.2.1 (lw_V q2293 q2295 qs87 q145 q2296) rfl rfl rfl (by decide +kernel) hR) rfl rfl hl hW hf hdg kk
/-! must -/
abbrev rmM_must : Room := { frames := 2, cells := 0, slots := 0, locals := 44 }
def F_must (a0 : Int32) (σ : MS) : Option MS :=
  bd (F_isGood σ) fun r_2 =>
  if r_2 = 0 then
    some σ
  else
    if a0 = 0 then
      bd (F_misplaced σ) fun σ_6 =>
      some σ_6
    else
      bd (F_goOn σ) fun σ_8 =>
      some σ_8
set_option maxHeartbeats 4000000 in
theorem w_must {p : Program} {l : Launch} {e : Env} {s : State} {m : MethodId} {args : Array Value} {below : List Frame} {meth : Method} {c : Code} {G : MG} (hC : MCx G cX10_must 2 p s m args meth c) (hr : meth.sig.returnType = none) {x : MS} :
    ∀ (a0 : Int32) (σ : MS), F_must a0 σ = some x → MJ p l e rmM_must s m args below meth c G 2 none x 0 [(0, .ref (gM G)), (1, .int a0)] [] σ := by
  have hx := hC.1
  have hb := hC.2.1
  intro a0 σ hF H locs ls hP hS hl
  rw [F_must] at hF
  refine lv_aload_n hx hb dX10_must_0 rfl (lv_at hl 0 rfl) ?_
  obtain ⟨r_2, hc_1, hF⟩ := bd_ok hF
  refine iM_isGood hC hP hS hc_1 hl.1 (Nat.le_of_ble_eq_true rfl) ⟨Nat.le_of_ble_eq_true rfl, Nat.le_of_ble_eq_true rfl⟩ ⟨Nat.zero_le _, Nat.zero_le _⟩ dX10_must_1 (fun H locs hP hS => ?_)
  refine lv_if_ne (tgt := 8) hx hb dX10_must_4 (by decide) (fun c_3 => ?_) (fun c_3 => ?_)
  · replace hF := it_f hF c_3
    refine lv_iload_n hx hb dX10_must_8 rfl (lv_at hl 1 rfl) ?_
    refine lv_if_eq (tgt := 19) hx hb dX10_must_9 (by decide) (fun c_4 => ?_) (fun c_4 => ?_)
    · replace hF := it_t hF c_4
      refine lv_aload_n hx hb dX10_must_19 rfl (lv_at hl 0 rfl) ?_
      obtain ⟨σ_6, hc_5, hF⟩ := bd_ok hF
      refine iM_misplaced hC hP hS hc_5 hl.1 (Nat.le_of_ble_eq_true rfl) ⟨Nat.le_of_ble_eq_true rfl, Nat.le_of_ble_eq_true rfl⟩ ⟨Nat.zero_le _, Nat.zero_le _⟩ dX10_must_20 (fun H locs hP hS => ?_)
      exact M_retv hC hP hS hr (Option.some.inj hF) dX10_must_23
    · replace hF := it_f hF c_4
      refine lv_aload_n hx hb dX10_must_12 rfl (lv_at hl 0 rfl) ?_
      obtain ⟨σ_8, hc_7, hF⟩ := bd_ok hF
      refine iM_goOn hC hP hS hc_7 hl.1 (Nat.le_of_ble_eq_true rfl) ⟨Nat.le_of_ble_eq_true rfl, Nat.le_of_ble_eq_true rfl⟩ ⟨Nat.zero_le _, Nat.zero_le _⟩ dX10_must_13 (fun H locs hP hS => ?_)
      refine lv_goto (tgt := 23) hx hb dX10_must_16 (by decide) ?_
      exact M_retv hC hP hS hr (Option.some.inj hF) dX10_must_23
  · replace hF := it_t hF c_3
    exact M_retv hC hP hS hr (Option.some.inj hF) dX10_must_7
theorem m_must (l : Launch) (G : MG) (a0 : Int32) (σ : MS) (x : MS) (hF : F_must a0 σ = some x) : Met l yX10_must (ws_ yX10_must cX10_must 2 none) rmM_must (mP G [.ref (gM G), .int a0] σ) (mQ G none x) 0 0 (MA G) := by
  refine M_met rfl plM (Nat.le_of_ble_eq_true rfl) ?_
  intro p e s m below meth c hC hr ls hl hP
  exact w_must hC hr a0 σ hF s.heap [] ls hP va_S.rf hl
theorem iM_must {p : Program} {l : Launch} {e : Env} {R : Room} {s : State} {m : MethodId} {args : Array Value} {below : List Frame} {meth : Method} {c : Code} {H H0 : Heap} {locs : List Loc} {cells slots nL : Nat} {Q : State → Prop} {G : MG} {σ : MS} {cc : ByteArray} {pc : Nat} {ls : Array Slot} {rest : List Value} (hC : MCx G cc nL p s m args meth c) (hP : MRep G σ H) (hS : va_S (MA G) H0 H locs) {a0 : Int32} {x : MS} (hF : F_must a0 σ = some x) (hl : ls.size = nL) (hW : (rest.map fun v => v.category).sum ≤ 8) (hR : rmM_must.frames + 1 ≤ R.frames ∧ 8 + (2 + 11) + rmM_must.locals ≤ R.locals) (hf : cells ≤ R.cells ∧ slots ≤ R.slots) (hdg : decode cc pc = .ok (.invokevirtual 350, 3))
    (kk : ∀ (H1 : Heap) (locs1 : List Loc), MRep G x H1 → va_S (MA G) H0 H1 locs1 → W p l e R s m args below meth c H1 locs1 cells slots Q (F0 m (pc + 3) ls (rest))) : W p l e R s m args below meth c H locs cells slots Q (F0 m pc ls (.int a0 :: .ref (gM G) :: rest)) :=
  M_inv hC hP hS [.int a0] (m_must l G a0 σ _ hF) (cwV 1 hC.2.2.2.2.1 (lw_V q2345 q2347 qs100 q145 q2348) rfl rfl rfl (by decide +kernel) hR) rfl rfl hl hW hf hdg kk
/-! numeral -/
abbrev rmM_numeral : Room := { frames := 2, cells := 0, slots := 0, locals := 44 }
def F_numeral_b77 (x1 : Int32) (x3 : Int32) (σ : MS) : Option (Int32 × MS) :=
  bd (F_isGood σ) fun r_2 =>
  if r_2 = 0 then
    some (x1, σ)
  else
    some (x3, σ)
set_option maxHeartbeats 4000000 in
theorem w_numeral_b77 {p : Program} {l : Launch} {e : Env} {s : State} {m : MethodId} {args : Array Value} {below : List Frame} {meth : Method} {c : Code} {G : MG} (hC : MCx G cX10_numeral 4 p s m args meth c) (hr : meth.sig.returnType = some .int) {x : (Int32 × MS)} :
    ∀ (x1 : Int32) (x3 : Int32) (σ : MS), F_numeral_b77 x1 x3 σ = some x → MJ p l e rmM_numeral s m args below meth c G 4 (some (.int x.1)) x.2 77 [(0, .ref (gM G)), (1, .int x1), (3, .int x3)] [] σ := by
  have hx := hC.1
  have hb := hC.2.1
  intro x1 x3 σ hF H locs ls hP hS hl
  rw [F_numeral_b77] at hF
  refine lv_aload_n hx hb dX10_numeral_77 rfl (lv_at hl 0 rfl) ?_
  obtain ⟨r_2, hc_1, hF⟩ := bd_ok hF
  refine iM_isGood hC hP hS hc_1 hl.1 (Nat.le_of_ble_eq_true rfl) ⟨Nat.le_of_ble_eq_true rfl, Nat.le_of_ble_eq_true rfl⟩ ⟨Nat.zero_le _, Nat.zero_le _⟩ dX10_numeral_78 (fun H locs hP hS => ?_)
  refine lv_if_eq (tgt := 88) hx hb dX10_numeral_81 (by decide) (fun c_3 => ?_) (fun c_3 => ?_)
  · replace hF := it_t hF c_3
    refine lv_iload_n hx hb dX10_numeral_88 rfl (lv_at hl 1 rfl) ?_
    exact M_reti hC hP hS hr (rt1 hF) (rt2 hF) dX10_numeral_89
  · replace hF := it_f hF c_3
    refine lv_iload_n hx hb dX10_numeral_84 rfl (lv_at hl 2 rfl) ?_
    refine lv_goto (tgt := 89) hx hb dX10_numeral_85 (by decide) ?_
    exact M_reti hC hP hS hr (rt1 hF) (rt2 hF) dX10_numeral_89
def F_numeral_b61 (x1 : Int32) (σ : MS) : Option (Int32 × MS) :=
  lt ((mI σ 9)) fun x3_1 =>
  bd (F_isGood σ) fun r_3 =>
  if r_3 = 0 then
    F_numeral_b77 x1 x3_1 σ
  else
    bd (F_goOn σ) fun σ_6 =>
    F_numeral_b77 x1 x3_1 σ_6
set_option maxHeartbeats 4000000 in
theorem w_numeral_b61 {p : Program} {l : Launch} {e : Env} {s : State} {m : MethodId} {args : Array Value} {below : List Frame} {meth : Method} {c : Code} {G : MG} (hC : MCx G cX10_numeral 4 p s m args meth c) (hr : meth.sig.returnType = some .int) {x : (Int32 × MS)} :
    ∀ (x1 : Int32) (σ : MS), F_numeral_b61 x1 σ = some x → MJ p l e rmM_numeral s m args below meth c G 4 (some (.int x.1)) x.2 61 [(0, .ref (gM G)), (1, .int x1)] [] σ := by
  have hx := hC.1
  have hb := hC.2.1
  intro x1 σ hF H locs ls hP hS hl
  rw [F_numeral_b61] at hF
  refine lv_aload_n hx hb dX10_numeral_61 rfl (lv_at hl 0 rfl) ?_
  refine gM9 hC hP dX10_numeral_62 ?_
  refine lv_topi (fun x3_1 ex3_1 => ?_)
  replace hF := lt_at hF ex3_1
  refine lv_istore_n (lv' := [(3, .int x3_1), (0, .ref (gM G)), (1, .int x1)]) hx hb dX10_numeral_65 rfl hl (by decide) rfl (fun ls hl => ?_)
  refine lv_aload_n hx hb dX10_numeral_66 rfl (lv_at hl 1 rfl) ?_
  obtain ⟨r_3, hc_2, hF⟩ := bd_ok hF
  refine iM_isGood hC hP hS hc_2 hl.1 (Nat.le_of_ble_eq_true rfl) ⟨Nat.le_of_ble_eq_true rfl, Nat.le_of_ble_eq_true rfl⟩ ⟨Nat.zero_le _, Nat.zero_le _⟩ dX10_numeral_67 (fun H locs hP hS => ?_)
  refine lv_if_eq (tgt := 77) hx hb dX10_numeral_70 (by decide) (fun c_4 => ?_) (fun c_4 => ?_)
  · replace hF := it_t hF c_4
    exact w_numeral_b77 hC hr x1 x3_1 σ hF H locs ls hP hS (lv_sub hl [1, 2, 0] rfl)
  · replace hF := it_f hF c_4
    refine lv_aload_n hx hb dX10_numeral_73 rfl (lv_at hl 1 rfl) ?_
    obtain ⟨σ_6, hc_5, hF⟩ := bd_ok hF
    refine iM_goOn hC hP hS hc_5 hl.1 (Nat.le_of_ble_eq_true rfl) ⟨Nat.le_of_ble_eq_true rfl, Nat.le_of_ble_eq_true rfl⟩ ⟨Nat.zero_le _, Nat.zero_le _⟩ dX10_numeral_74 (fun H locs hP hS => ?_)
    exact w_numeral_b77 hC hr x1 x3_1 σ_6 hF H locs ls hP hS (lv_sub hl [1, 2, 0] rfl)
def F_numeral_b52 (k61 : Int32 → MS → Option (Int32 × MS)) (x1 : Int32) (σ : MS) : Option (Int32 × MS) :=
  bd (F_fails (4 : Int32) (mI σ 6) σ) fun σ_2 =>
  k61 x1 σ_2
set_option maxHeartbeats 4000000 in
theorem w_numeral_b52 {p : Program} {l : Launch} {e : Env} {s : State} {m : MethodId} {args : Array Value} {below : List Frame} {meth : Method} {c : Code} {G : MG} (hC : MCx G cX10_numeral 4 p s m args meth c) (hr : meth.sig.returnType = some .int) {x : (Int32 × MS)} (k61 : Int32 → MS → Option (Int32 × MS)) (hk61 : ∀ (x1 : Int32) (σ : MS), k61 x1 σ = some x → MJ p l e rmM_numeral s m args below meth c G 4 (some (.int x.1)) x.2 61 [(0, .ref (gM G)), (1, .int x1)] [] σ) :
    ∀ (x1 : Int32) (σ : MS), F_numeral_b52 k61 x1 σ = some x → MJ p l e rmM_numeral s m args below meth c G 4 (some (.int x.1)) x.2 52 [(0, .ref (gM G)), (1, .int x1)] [] σ := by
  have hx := hC.1
  have hb := hC.2.1
  intro x1 σ hF H locs ls hP hS hl
  rw [F_numeral_b52] at hF
  refine lv_aload_n hx hb dX10_numeral_52 rfl (lv_at hl 0 rfl) ?_
  refine lv_iconst (v := 4) hx hb dX10_numeral_53 (by decide) ?_
  refine lv_aload_n hx hb dX10_numeral_54 rfl (lv_at hl 0 rfl) ?_
  refine gM6 hC hP dX10_numeral_55 ?_
  obtain ⟨σ_2, hc_1, hF⟩ := bd_ok hF
  refine iM_fails hC hP hS hc_1 hl.1 (Nat.le_of_ble_eq_true rfl) ⟨Nat.le_of_ble_eq_true rfl, Nat.le_of_ble_eq_true rfl⟩ ⟨Nat.zero_le _, Nat.zero_le _⟩ dX10_numeral_58 (fun H locs hP hS => ?_)
  exact hk61 x1 σ_2 hF H locs ls hP hS (lv_sub hl [0, 1] rfl)
def F_numeral_b29 (x1 : Int32) (x2 : Int32) (σ : MS) : Option (Int32 × MS) :=
  bd (F_isGood σ) fun r_2 =>
  if r_2 = 0 then
    F_numeral_b61 x1 σ
  else
    if (mI σ 9) < x1 then
      F_numeral_b52 (F_numeral_b61) x1 σ
    else
      if (mI σ 9) ≤ x2 then
        F_numeral_b61 x1 σ
      else
        F_numeral_b52 (F_numeral_b61) x1 σ
set_option maxHeartbeats 4000000 in
theorem w_numeral_b29 {p : Program} {l : Launch} {e : Env} {s : State} {m : MethodId} {args : Array Value} {below : List Frame} {meth : Method} {c : Code} {G : MG} (hC : MCx G cX10_numeral 4 p s m args meth c) (hr : meth.sig.returnType = some .int) {x : (Int32 × MS)} :
    ∀ (x1 : Int32) (x2 : Int32) (σ : MS), F_numeral_b29 x1 x2 σ = some x → MJ p l e rmM_numeral s m args below meth c G 4 (some (.int x.1)) x.2 29 [(0, .ref (gM G)), (1, .int x1), (2, .int x2)] [] σ := by
  have hx := hC.1
  have hb := hC.2.1
  intro x1 x2 σ hF H locs ls hP hS hl
  rw [F_numeral_b29] at hF
  refine lv_aload_n hx hb dX10_numeral_29 rfl (lv_at hl 0 rfl) ?_
  obtain ⟨r_2, hc_1, hF⟩ := bd_ok hF
  refine iM_isGood hC hP hS hc_1 hl.1 (Nat.le_of_ble_eq_true rfl) ⟨Nat.le_of_ble_eq_true rfl, Nat.le_of_ble_eq_true rfl⟩ ⟨Nat.zero_le _, Nat.zero_le _⟩ dX10_numeral_30 (fun H locs hP hS => ?_)
  refine lv_if_eq (tgt := 61) hx hb dX10_numeral_33 (by decide) (fun c_3 => ?_) (fun c_3 => ?_)
  · replace hF := it_t hF c_3
    exact w_numeral_b61 hC hr x1 σ hF H locs ls hP hS (lv_sub hl [0, 1] rfl)
  · replace hF := it_f hF c_3
    refine lv_aload_n hx hb dX10_numeral_36 rfl (lv_at hl 0 rfl) ?_
    refine gM9 hC hP dX10_numeral_37 ?_
    refine lv_iload_n hx hb dX10_numeral_40 rfl (lv_at hl 1 rfl) ?_
    refine lv_icmp_lt (tgt := 52) hx hb dX10_numeral_41 (by decide) (fun c_4 => ?_) (fun c_4 => ?_)
    · replace hF := it_t hF c_4
      exact w_numeral_b52 hC hr (F_numeral_b61) (w_numeral_b61 hC hr) x1 σ hF H locs ls hP hS (lv_sub hl [0, 1] rfl)
    · replace hF := it_f hF c_4
      refine lv_aload_n hx hb dX10_numeral_44 rfl (lv_at hl 0 rfl) ?_
      refine gM9 hC hP dX10_numeral_45 ?_
      refine lv_iload_n hx hb dX10_numeral_48 rfl (lv_at hl 2 rfl) ?_
      refine lv_icmp_le (tgt := 61) hx hb dX10_numeral_49 (by decide) (fun c_5 => ?_) (fun c_5 => ?_)
      · replace hF := it_t hF c_5
        exact w_numeral_b61 hC hr x1 σ hF H locs ls hP hS (lv_sub hl [0, 1] rfl)
      · replace hF := it_f hF c_5
        exact w_numeral_b52 hC hr (F_numeral_b61) (w_numeral_b61 hC hr) x1 σ hF H locs ls hP hS (lv_sub hl [0, 1] rfl)
def F_numeral (a0 : Int32) (a1 : Int32) (σ : MS) : Option (Int32 × MS) :=
  bd (F_isGood σ) fun r_2 =>
  if r_2 = 0 then
    some (a0, σ)
  else
    lt (wI σ 11 (mI σ 6)) fun σ_4 =>
    if (mI σ_4 8) = (4 : Int32) then
      F_numeral_b29 a0 a1 σ_4
    else
      bd (F_misplaced σ_4) fun σ_7 =>
      F_numeral_b29 a0 a1 σ_7
set_option maxHeartbeats 4000000 in
theorem w_numeral {p : Program} {l : Launch} {e : Env} {s : State} {m : MethodId} {args : Array Value} {below : List Frame} {meth : Method} {c : Code} {G : MG} (hC : MCx G cX10_numeral 4 p s m args meth c) (hr : meth.sig.returnType = some .int) {x : (Int32 × MS)} :
    ∀ (a0 : Int32) (a1 : Int32) (σ : MS), F_numeral a0 a1 σ = some x → MJ p l e rmM_numeral s m args below meth c G 4 (some (.int x.1)) x.2 0 [(0, .ref (gM G)), (1, .int a0), (2, .int a1)] [] σ := by
  have hx := hC.1
  have hb := hC.2.1
  intro a0 a1 σ hF H locs ls hP hS hl
  rw [F_numeral] at hF
  refine lv_aload_n hx hb dX10_numeral_0 rfl (lv_at hl 0 rfl) ?_
  obtain ⟨r_2, hc_1, hF⟩ := bd_ok hF
  refine iM_isGood hC hP hS hc_1 hl.1 (Nat.le_of_ble_eq_true rfl) ⟨Nat.le_of_ble_eq_true rfl, Nat.le_of_ble_eq_true rfl⟩ ⟨Nat.zero_le _, Nat.zero_le _⟩ dX10_numeral_1 (fun H locs hP hS => ?_)
  refine lv_if_ne (tgt := 9) hx hb dX10_numeral_4 (by decide) (fun c_3 => ?_) (fun c_3 => ?_)
  · replace hF := it_f hF c_3
    refine lv_aload_n hx hb dX10_numeral_9 rfl (lv_at hl 0 rfl) ?_
    refine lv_aload_n hx hb dX10_numeral_10 rfl (lv_at hl 0 rfl) ?_
    refine gM6 hC hP dX10_numeral_11 ?_
    refine pM11 hC hP hS dX10_numeral_14 (fun H locs hP hS => ?_)
    obtain ⟨σ_4, eσ_4, hF⟩ := lt_ok hF
    rw [← eσ_4] at hP
    refine lv_aload_n hx hb dX10_numeral_17 rfl (lv_at hl 0 rfl) ?_
    refine gM8 hC hP dX10_numeral_18 ?_
    refine lv_iconst (v := 4) hx hb dX10_numeral_21 (by decide) ?_
    refine lv_icmp_eq (tgt := 29) hx hb dX10_numeral_22 (by decide) (fun c_5 => ?_) (fun c_5 => ?_)
    · replace hF := it_t hF c_5
      exact w_numeral_b29 hC hr a0 a1 σ_4 hF H locs ls hP hS (lv_sub hl [0, 1, 2] rfl)
    · replace hF := it_f hF c_5
      refine lv_aload_n hx hb dX10_numeral_25 rfl (lv_at hl 0 rfl) ?_
      obtain ⟨σ_7, hc_6, hF⟩ := bd_ok hF
      refine iM_misplaced hC hP hS hc_6 hl.1 (Nat.le_of_ble_eq_true rfl) ⟨Nat.le_of_ble_eq_true rfl, Nat.le_of_ble_eq_true rfl⟩ ⟨Nat.zero_le _, Nat.zero_le _⟩ dX10_numeral_26 (fun H locs hP hS => ?_)
      exact w_numeral_b29 hC hr a0 a1 σ_7 hF H locs ls hP hS (lv_sub hl [0, 1, 2] rfl)
  · replace hF := it_t hF c_3
    refine lv_iload_n hx hb dX10_numeral_7 rfl (lv_at hl 1 rfl) ?_
    exact M_reti hC hP hS hr (rt1 hF) (rt2 hF) dX10_numeral_8
theorem m_numeral (l : Launch) (G : MG) (a0 : Int32) (a1 : Int32) (σ : MS) (x : (Int32 × MS)) (hF : F_numeral a0 a1 σ = some x) : Met l yX10_numeral (ws_ yX10_numeral cX10_numeral 4 (some .int)) rmM_numeral (mP G [.ref (gM G), .int a0, .int a1] σ) (mQ G (some (.int x.1)) x.2) 0 0 (MA G) := by
  refine M_met rfl plM (Nat.le_of_ble_eq_true rfl) ?_
  intro p e s m below meth c hC hr ls hl hP
  exact w_numeral hC hr a0 a1 σ hF s.heap [] ls hP va_S.rf hl
theorem iM_numeral {p : Program} {l : Launch} {e : Env} {R : Room} {s : State} {m : MethodId} {args : Array Value} {below : List Frame} {meth : Method} {c : Code} {H H0 : Heap} {locs : List Loc} {cells slots nL : Nat} {Q : State → Prop} {G : MG} {σ : MS} {cc : ByteArray} {pc : Nat} {ls : Array Slot} {rest : List Value} (hC : MCx G cc nL p s m args meth c) (hP : MRep G σ H) (hS : va_S (MA G) H0 H locs) {a0 : Int32} {a1 : Int32} {x : Int32} {σ1 : MS} (hF : F_numeral a0 a1 σ = some (x, σ1)) (hl : ls.size = nL) (hW : (rest.map fun v => v.category).sum ≤ 8) (hR : rmM_numeral.frames + 1 ≤ R.frames ∧ 8 + (4 + 11) + rmM_numeral.locals ≤ R.locals) (hf : cells ≤ R.cells ∧ slots ≤ R.slots) (hdg : decode cc pc = .ok (.invokevirtual 354, 3))
    (kk : ∀ (H1 : Heap) (locs1 : List Loc), MRep G σ1 H1 → va_S (MA G) H0 H1 locs1 → W p l e R s m args below meth c H1 locs1 cells slots Q (F0 m (pc + 3) ls (.int x :: rest))) : W p l e R s m args below meth c H locs cells slots Q (F0 m pc ls (.int a1 :: .int a0 :: .ref (gM G) :: rest)) :=
  M_inv hC hP hS [.int a0, .int a1] (m_numeral l G a0 a1 σ _ hF) (cwV 2 hC.2.2.2.2.1 (lw_V q2301 q2303 qs89 q145 q2304) rfl rfl rfl (by decide +kernel) hR) rfl rfl hl hW hf hdg kk
/-! emit -/
abbrev rmM_emit : Room := { frames := 0, cells := 0, slots := 0, locals := 0 }
def F_emit (a0 : Int32) (a1 : Int32) (σ : MS) : Option MS :=
  gd (inb (mI σ 37) 800) <|
  lt (wA σ 30 (Int32.toNatClampNeg (mI σ 37)) a0) fun σ_2 =>
  gd (inb (mI σ_2 37) 800) <|
  lt (wA σ_2 31 (Int32.toNatClampNeg (mI σ_2 37)) a1) fun σ_4 =>
  lt (wI σ_4 37 ((mI σ_4 37) + (1 : Int32))) fun σ_5 =>
  some σ_5
set_option maxHeartbeats 4000000 in
theorem w_emit {p : Program} {l : Launch} {e : Env} {s : State} {m : MethodId} {args : Array Value} {below : List Frame} {meth : Method} {c : Code} {G : MG} (hC : MCx G cX10_emit 3 p s m args meth c) (hr : meth.sig.returnType = none) {x : MS} :
    ∀ (a0 : Int32) (a1 : Int32) (σ : MS), F_emit a0 a1 σ = some x → MJ p l e rmM_emit s m args below meth c G 3 none x 0 [(0, .ref (gM G)), (1, .int a0), (2, .int a1)] [] σ := by
  have hx := hC.1
  have hb := hC.2.1
  intro a0 a1 σ hF H locs ls hP hS hl
  rw [F_emit] at hF
  refine lv_aload_n hx hb dX10_emit_0 rfl (lv_at hl 0 rfl) ?_
  refine gM30 hC hP dX10_emit_1 ?_
  refine lv_aload_n hx hb dX10_emit_4 rfl (lv_at hl 0 rfl) ?_
  refine gM37 hC hP dX10_emit_5 ?_
  refine lv_iload_n hx hb dX10_emit_8 rfl (lv_at hl 1 rfl) ?_
  obtain ⟨h_1, hF⟩ := gd_ok hF
  refine M_iast hC hP hS 30 (by decide) rfl rfl rfl h_1 dX10_emit_9 (fun H locs hP hS => ?_)
  obtain ⟨σ_2, eσ_2, hF⟩ := lt_ok hF
  rw [← eσ_2] at hP
  refine lv_aload_n hx hb dX10_emit_10 rfl (lv_at hl 0 rfl) ?_
  refine gM31 hC hP dX10_emit_11 ?_
  refine lv_aload_n hx hb dX10_emit_14 rfl (lv_at hl 0 rfl) ?_
  refine gM37 hC hP dX10_emit_15 ?_
  refine lv_iload_n hx hb dX10_emit_18 rfl (lv_at hl 2 rfl) ?_
  obtain ⟨h_3, hF⟩ := gd_ok hF
  refine M_iast hC hP hS 31 (by decide) rfl rfl rfl h_3 dX10_emit_19 (fun H locs hP hS => ?_)
  obtain ⟨σ_4, eσ_4, hF⟩ := lt_ok hF
  rw [← eσ_4] at hP
  refine lv_aload_n hx hb dX10_emit_20 rfl (lv_at hl 0 rfl) ?_
  refine lv_dup hx hb dX10_emit_21 rfl ?_
  refine gM37 hC hP dX10_emit_22 ?_
  refine lv_iconst (v := 1) hx hb dX10_emit_25 (by decide) ?_
  refine lv_iadd hx hb dX10_emit_26 ?_
  refine pM37 hC hP hS dX10_emit_27 (fun H locs hP hS => ?_)
  obtain ⟨σ_5, eσ_5, hF⟩ := lt_ok hF
  rw [← eσ_5] at hP
  exact M_retv hC hP hS hr (Option.some.inj hF) dX10_emit_30
theorem m_emit (l : Launch) (G : MG) (a0 : Int32) (a1 : Int32) (σ : MS) (x : MS) (hF : F_emit a0 a1 σ = some x) : Met l yX10_emit (ws_ yX10_emit cX10_emit 3 none) rmM_emit (mP G [.ref (gM G), .int a0, .int a1] σ) (mQ G none x) 0 0 (MA G) := by
  refine M_met rfl plM (Nat.le_of_ble_eq_true rfl) ?_
  intro p e s m below meth c hC hr ls hl hP
  exact w_emit hC hr a0 a1 σ hF s.heap [] ls hP va_S.rf hl
theorem iM_emit {p : Program} {l : Launch} {e : Env} {R : Room} {s : State} {m : MethodId} {args : Array Value} {below : List Frame} {meth : Method} {c : Code} {H H0 : Heap} {locs : List Loc} {cells slots nL : Nat} {Q : State → Prop} {G : MG} {σ : MS} {cc : ByteArray} {pc : Nat} {ls : Array Slot} {rest : List Value} (hC : MCx G cc nL p s m args meth c) (hP : MRep G σ H) (hS : va_S (MA G) H0 H locs) {a0 : Int32} {a1 : Int32} {x : MS} (hF : F_emit a0 a1 σ = some x) (hl : ls.size = nL) (hW : (rest.map fun v => v.category).sum ≤ 8) (hR : rmM_emit.frames + 1 ≤ R.frames ∧ 8 + (3 + 11) + rmM_emit.locals ≤ R.locals) (hf : cells ≤ R.cells ∧ slots ≤ R.slots) (hdg : decode cc pc = .ok (.invokevirtual 401, 3))
    (kk : ∀ (H1 : Heap) (locs1 : List Loc), MRep G x H1 → va_S (MA G) H0 H1 locs1 → W p l e R s m args below meth c H1 locs1 cells slots Q (F0 m (pc + 3) ls (rest))) : W p l e R s m args below meth c H locs cells slots Q (F0 m pc ls (.int a1 :: .int a0 :: .ref (gM G) :: rest)) :=
  M_inv hC hP hS [.int a0, .int a1] (m_emit l G a0 a1 σ _ hF) (cwV 2 hC.2.2.2.2.1 (lw_V q2329 q2331 qs96 q145 q2332) rfl rfl rfl (by decide +kernel) hR) rfl rfl hl hW hf hdg kk
/-! isCompared -/
abbrev rmM_isCompared : Room := { frames := 0, cells := 0, slots := 0, locals := 0 }
def F_isCompared_b34 (σ : MS) (x1 : Int32) : Option Int32 :=
  gd (inb x1 90) <|
  if (mA σ 32 (Int32.toNatClampNeg x1)) = (4 : Int32) then
    some (1 : Int32)
  else
    some (0 : Int32)
set_option maxHeartbeats 4000000 in
theorem w_isCompared_b34 {p : Program} {l : Launch} {e : Env} {s : State} {m : MethodId} {args : Array Value} {below : List Frame} {meth : Method} {c : Code} {G : MG} (hC : MCx G cX10_isCompared 2 p s m args meth c) (hr : meth.sig.returnType = some .boolean) {x : Int32} {σ : MS} :
    ∀ (x1 : Int32), F_isCompared_b34 σ x1 = some x → MJ p l e rmM_isCompared s m args below meth c G 2 (some (.int x)) σ 34 [(0, .ref (gM G)), (1, .int x1)] [] σ := by
  have hx := hC.1
  have hb := hC.2.1
  intro x1 hF H locs ls hP hS hl
  rw [F_isCompared_b34] at hF
  refine lv_aload_n hx hb dX10_isCompared_34 rfl (lv_at hl 0 rfl) ?_
  refine gM32 hC hP dX10_isCompared_35 ?_
  refine lv_iload_n hx hb dX10_isCompared_38 rfl (lv_at hl 1 rfl) ?_
  obtain ⟨h_1, hF⟩ := gd_ok hF
  refine M_iald hC hP 32 (by decide) rfl rfl rfl h_1 dX10_isCompared_39 ?_
  refine lv_iconst (v := 4) hx hb dX10_isCompared_40 (by decide) ?_
  refine lv_icmp_ne (tgt := 48) hx hb dX10_isCompared_41 (by decide) (fun c_2 => ?_) (fun c_2 => ?_)
  · replace hF := it_f hF c_2
    refine lv_iconst (v := 0) hx hb dX10_isCompared_48 (by decide) ?_
    exact M_retz hC hP hS hr (Or.inl rfl) (Option.some.inj hF) rfl dX10_isCompared_49
  · replace hF := it_t hF c_2
    refine lv_iconst (v := 1) hx hb dX10_isCompared_44 (by decide) ?_
    refine lv_goto (tgt := 49) hx hb dX10_isCompared_45 (by decide) ?_
    exact M_retz hC hP hS hr (Or.inr rfl) (Option.some.inj hF) rfl dX10_isCompared_49
def F_isCompared_b28 (σ : MS) (k7 : Int32 → Option Int32) (x1 : Int32) : Option Int32 :=
  lt (x1 + (-1 : Int32)) fun x1_1 =>
  k7 x1_1
set_option maxHeartbeats 4000000 in
theorem w_isCompared_b28 {p : Program} {l : Launch} {e : Env} {s : State} {m : MethodId} {args : Array Value} {below : List Frame} {meth : Method} {c : Code} {G : MG} (hC : MCx G cX10_isCompared 2 p s m args meth c) (hr : meth.sig.returnType = some .boolean) {x : Int32} {σ : MS} (k7 : Int32 → Option Int32) (hk7 : ∀ (x1 : Int32), k7 x1 = some x → MJ p l e rmM_isCompared s m args below meth c G 2 (some (.int x)) σ 7 [(0, .ref (gM G)), (1, .int x1)] [] σ) :
    ∀ (x1 : Int32), F_isCompared_b28 σ k7 x1 = some x → MJ p l e rmM_isCompared s m args below meth c G 2 (some (.int x)) σ 28 [(0, .ref (gM G)), (1, .int x1)] [] σ := by
  have hx := hC.1
  have hb := hC.2.1
  intro x1 hF H locs ls hP hS hl
  rw [F_isCompared_b28] at hF
  obtain ⟨x1_1, ex1_1, hF⟩ := lt_ok hF
  refine lv_iinc (v := x1_1) (lv' := [(1, .int x1_1), (0, .ref (gM G))]) hx hb dX10_isCompared_28 hl (k := 1) rfl (by rw [ex1_1]; rfl) (by decide) rfl (fun ls hl => ?_)
  refine lv_goto (tgt := 7) hx hb dX10_isCompared_31 (by decide) ?_
  exact hk7 x1_1 hF H locs ls hP hS (lv_sub hl [1, 0] rfl)
def F_isCompared_L7 (σ : MS) : Nat → Int32 → Option Int32
  | 0, _ => none
  | fu + 1, x1 =>
    gd (inb x1 90) <|
    if (mA σ 32 (Int32.toNatClampNeg x1)) = (5 : Int32) then
      F_isCompared_b28 σ (F_isCompared_L7 σ fu) x1
    else
      gd (inb x1 90) <|
      if (mA σ 32 (Int32.toNatClampNeg x1)) = (6 : Int32) then
        F_isCompared_b28 σ (F_isCompared_L7 σ fu) x1
      else
        F_isCompared_b34 σ x1
set_option maxHeartbeats 4000000 in
theorem w_isCompared_L7 {p : Program} {l : Launch} {e : Env} {s : State} {m : MethodId} {args : Array Value} {below : List Frame} {meth : Method} {c : Code} {G : MG} (hC : MCx G cX10_isCompared 2 p s m args meth c) (hr : meth.sig.returnType = some .boolean) {x : Int32} {σ : MS} :
    ∀ (fu : Nat) (x1 : Int32), F_isCompared_L7 σ fu x1 = some x → MJ p l e rmM_isCompared s m args below meth c G 2 (some (.int x)) σ 7 [(0, .ref (gM G)), (1, .int x1)] [] σ := by
  have hx := hC.1
  have hb := hC.2.1
  intro fu
  induction fu with
  | zero => intro x1 hF; exact nm_none hF
  | succ fu ih =>
    intro x1 hF H locs ls hP hS hl
    rw [F_isCompared_L7] at hF
    refine lv_aload_n hx hb dX10_isCompared_7 rfl (lv_at hl 0 rfl) ?_
    refine gM32 hC hP dX10_isCompared_8 ?_
    refine lv_iload_n hx hb dX10_isCompared_11 rfl (lv_at hl 1 rfl) ?_
    obtain ⟨h_1, hF⟩ := gd_ok hF
    refine M_iald hC hP 32 (by decide) rfl rfl rfl h_1 dX10_isCompared_12 ?_
    refine lv_iconst (v := 5) hx hb dX10_isCompared_13 (by decide) ?_
    refine lv_icmp_eq (tgt := 28) hx hb dX10_isCompared_14 (by decide) (fun c_2 => ?_) (fun c_2 => ?_)
    · replace hF := it_t hF c_2
      exact w_isCompared_b28 hC hr (F_isCompared_L7 σ fu) ih x1 hF H locs ls hP hS (lv_sub hl [0, 1] rfl)
    · replace hF := it_f hF c_2
      refine lv_aload_n hx hb dX10_isCompared_17 rfl (lv_at hl 0 rfl) ?_
      refine gM32 hC hP dX10_isCompared_18 ?_
      refine lv_iload_n hx hb dX10_isCompared_21 rfl (lv_at hl 1 rfl) ?_
      obtain ⟨h_3, hF⟩ := gd_ok hF
      refine M_iald hC hP 32 (by decide) rfl rfl rfl h_3 dX10_isCompared_22 ?_
      refine lv_bipush (v := 6) hx hb dX10_isCompared_23 (by decide) ?_
      refine lv_icmp_ne (tgt := 34) hx hb dX10_isCompared_25 (by decide) (fun c_4 => ?_) (fun c_4 => ?_)
      · replace hF := it_f hF c_4
        exact w_isCompared_b34 hC hr x1 hF H locs ls hP hS (lv_sub hl [0, 1] rfl)
      · replace hF := it_t hF c_4
        exact w_isCompared_b28 hC hr (F_isCompared_L7 σ fu) ih x1 hF H locs ls hP hS (lv_sub hl [0, 1] rfl)
def F_isCompared (σ : MS) : Option Int32 :=
  lt (((mI σ 39) - (1 : Int32))) fun x1_1 =>
  F_isCompared_L7 σ MN x1_1
set_option maxHeartbeats 4000000 in
theorem w_isCompared {p : Program} {l : Launch} {e : Env} {s : State} {m : MethodId} {args : Array Value} {below : List Frame} {meth : Method} {c : Code} {G : MG} (hC : MCx G cX10_isCompared 2 p s m args meth c) (hr : meth.sig.returnType = some .boolean) {x : Int32} {σ : MS} :
    F_isCompared σ = some x → MJ p l e rmM_isCompared s m args below meth c G 2 (some (.int x)) σ 0 [(0, .ref (gM G))] [] σ := by
  have hx := hC.1
  have hb := hC.2.1
  intro hF H locs ls hP hS hl
  rw [F_isCompared] at hF
  refine lv_aload_n hx hb dX10_isCompared_0 rfl (lv_at hl 0 rfl) ?_
  refine gM39 hC hP dX10_isCompared_1 ?_
  refine lv_iconst (v := 1) hx hb dX10_isCompared_4 (by decide) ?_
  refine lv_isub hx hb dX10_isCompared_5 ?_
  refine lv_topi (fun x1_1 ex1_1 => ?_)
  replace hF := lt_at hF ex1_1
  refine lv_istore_n (lv' := [(1, .int x1_1), (0, .ref (gM G))]) hx hb dX10_isCompared_6 rfl hl (by decide) rfl (fun ls hl => ?_)
  exact w_isCompared_L7 hC hr MN x1_1 hF H locs ls hP hS (lv_sub hl [1, 0] rfl)
theorem m_isCompared (l : Launch) (G : MG) (σ : MS) (x : Int32) (hF : F_isCompared σ = some x) : Met l yX10_isCompared (ws_ yX10_isCompared cX10_isCompared 2 (some .boolean)) rmM_isCompared (mP G [.ref (gM G)] σ) (mQ G (some (.int x)) σ) 0 0 (MA G) := by
  refine M_met rfl plM (Nat.le_of_ble_eq_true rfl) ?_
  intro p e s m below meth c hC hr ls hl hP
  exact w_isCompared hC hr hF s.heap [] ls hP va_S.rf hl
theorem iM_isCompared {p : Program} {l : Launch} {e : Env} {R : Room} {s : State} {m : MethodId} {args : Array Value} {below : List Frame} {meth : Method} {c : Code} {H H0 : Heap} {locs : List Loc} {cells slots nL : Nat} {Q : State → Prop} {G : MG} {σ : MS} {cc : ByteArray} {pc : Nat} {ls : Array Slot} {rest : List Value} (hC : MCx G cc nL p s m args meth c) (hP : MRep G σ H) (hS : va_S (MA G) H0 H locs) {x : Int32} (hF : F_isCompared σ = some x) (hl : ls.size = nL) (hW : (rest.map fun v => v.category).sum ≤ 8) (hR : rmM_isCompared.frames + 1 ≤ R.frames ∧ 8 + (2 + 11) + rmM_isCompared.locals ≤ R.locals) (hf : cells ≤ R.cells ∧ slots ≤ R.slots) (hdg : decode cc pc = .ok (.invokevirtual 407, 3))
    (kk : ∀ (H1 : Heap) (locs1 : List Loc), MRep G σ H1 → va_S (MA G) H0 H1 locs1 → W p l e R s m args below meth c H1 locs1 cells slots Q (F0 m (pc + 3) ls (.int x :: rest))) : W p l e R s m args below meth c H locs cells slots Q (F0 m pc ls (.ref (gM G) :: rest)) :=
  M_inv hC hP hS [] (m_isCompared l G σ _ hF) (cwV 0 hC.2.2.2.2.1 (lw_V q2341 q2343 qs99 q145 q2344) rfl rfl rfl (by decide +kernel) hR) rfl rfl hl hW hf hdg kk
/-! pushE -/
abbrev rmM_pushE : Room := { frames := 0, cells := 0, slots := 0, locals := 0 }
def F_pushE (a0 : Int32) (a1 : Int32) (σ : MS) : Option MS :=
  gd (inb (mI σ 39) 90) <|
  lt (wA σ 32 (Int32.toNatClampNeg (mI σ 39)) a0) fun σ_2 =>
  gd (inb (mI σ_2 39) 90) <|
  lt (wA σ_2 33 (Int32.toNatClampNeg (mI σ_2 39)) a1) fun σ_4 =>
  lt (wI σ_4 39 ((mI σ_4 39) + (1 : Int32))) fun σ_5 =>
  some σ_5
set_option maxHeartbeats 4000000 in
theorem w_pushE {p : Program} {l : Launch} {e : Env} {s : State} {m : MethodId} {args : Array Value} {below : List Frame} {meth : Method} {c : Code} {G : MG} (hC : MCx G cX10_pushE 3 p s m args meth c) (hr : meth.sig.returnType = none) {x : MS} :
    ∀ (a0 : Int32) (a1 : Int32) (σ : MS), F_pushE a0 a1 σ = some x → MJ p l e rmM_pushE s m args below meth c G 3 none x 0 [(0, .ref (gM G)), (1, .int a0), (2, .int a1)] [] σ := by
  have hx := hC.1
  have hb := hC.2.1
  intro a0 a1 σ hF H locs ls hP hS hl
  rw [F_pushE] at hF
  refine lv_aload_n hx hb dX10_pushE_0 rfl (lv_at hl 0 rfl) ?_
  refine gM32 hC hP dX10_pushE_1 ?_
  refine lv_aload_n hx hb dX10_pushE_4 rfl (lv_at hl 0 rfl) ?_
  refine gM39 hC hP dX10_pushE_5 ?_
  refine lv_iload_n hx hb dX10_pushE_8 rfl (lv_at hl 1 rfl) ?_
  obtain ⟨h_1, hF⟩ := gd_ok hF
  refine M_iast hC hP hS 32 (by decide) rfl rfl rfl h_1 dX10_pushE_9 (fun H locs hP hS => ?_)
  obtain ⟨σ_2, eσ_2, hF⟩ := lt_ok hF
  rw [← eσ_2] at hP
  refine lv_aload_n hx hb dX10_pushE_10 rfl (lv_at hl 0 rfl) ?_
  refine gM33 hC hP dX10_pushE_11 ?_
  refine lv_aload_n hx hb dX10_pushE_14 rfl (lv_at hl 0 rfl) ?_
  refine gM39 hC hP dX10_pushE_15 ?_
  refine lv_iload_n hx hb dX10_pushE_18 rfl (lv_at hl 2 rfl) ?_
  obtain ⟨h_3, hF⟩ := gd_ok hF
  refine M_iast hC hP hS 33 (by decide) rfl rfl rfl h_3 dX10_pushE_19 (fun H locs hP hS => ?_)
  obtain ⟨σ_4, eσ_4, hF⟩ := lt_ok hF
  rw [← eσ_4] at hP
  refine lv_aload_n hx hb dX10_pushE_20 rfl (lv_at hl 0 rfl) ?_
  refine lv_dup hx hb dX10_pushE_21 rfl ?_
  refine gM39 hC hP dX10_pushE_22 ?_
  refine lv_iconst (v := 1) hx hb dX10_pushE_25 (by decide) ?_
  refine lv_iadd hx hb dX10_pushE_26 ?_
  refine pM39 hC hP hS dX10_pushE_27 (fun H locs hP hS => ?_)
  obtain ⟨σ_5, eσ_5, hF⟩ := lt_ok hF
  rw [← eσ_5] at hP
  exact M_retv hC hP hS hr (Option.some.inj hF) dX10_pushE_30
theorem m_pushE (l : Launch) (G : MG) (a0 : Int32) (a1 : Int32) (σ : MS) (x : MS) (hF : F_pushE a0 a1 σ = some x) : Met l yX10_pushE (ws_ yX10_pushE cX10_pushE 3 none) rmM_pushE (mP G [.ref (gM G), .int a0, .int a1] σ) (mQ G none x) 0 0 (MA G) := by
  refine M_met rfl plM (Nat.le_of_ble_eq_true rfl) ?_
  intro p e s m below meth c hC hr ls hl hP
  exact w_pushE hC hr a0 a1 σ hF s.heap [] ls hP va_S.rf hl
theorem iM_pushE {p : Program} {l : Launch} {e : Env} {R : Room} {s : State} {m : MethodId} {args : Array Value} {below : List Frame} {meth : Method} {c : Code} {H H0 : Heap} {locs : List Loc} {cells slots nL : Nat} {Q : State → Prop} {G : MG} {σ : MS} {cc : ByteArray} {pc : Nat} {ls : Array Slot} {rest : List Value} (hC : MCx G cc nL p s m args meth c) (hP : MRep G σ H) (hS : va_S (MA G) H0 H locs) {a0 : Int32} {a1 : Int32} {x : MS} (hF : F_pushE a0 a1 σ = some x) (hl : ls.size = nL) (hW : (rest.map fun v => v.category).sum ≤ 8) (hR : rmM_pushE.frames + 1 ≤ R.frames ∧ 8 + (3 + 11) + rmM_pushE.locals ≤ R.locals) (hf : cells ≤ R.cells ∧ slots ≤ R.slots) (hdg : decode cc pc = .ok (.invokevirtual 392, 3))
    (kk : ∀ (H1 : Heap) (locs1 : List Loc), MRep G x H1 → va_S (MA G) H0 H1 locs1 → W p l e R s m args below meth c H1 locs1 cells slots Q (F0 m (pc + 3) ls (rest))) : W p l e R s m args below meth c H locs cells slots Q (F0 m pc ls (.int a1 :: .int a0 :: .ref (gM G) :: rest)) :=
  M_inv hC hP hS [.int a0, .int a1] (m_pushE l G a0 a1 σ _ hF) (cwV 2 hC.2.2.2.2.1 (lw_V q2313 q2315 qs92 q145 q2316) rfl rfl rfl (by decide +kernel) hR) rfl rfl hl hW hf hdg kk
/-! rankHere -/
abbrev rmM_rankHere : Room := { frames := 2, cells := 0, slots := 0, locals := 42 }
def F_rankHere (σ : MS) : Option Int32 :=
  bd (F_isWord σ (6385252 : Int64)) fun r_2 =>
  if r_2 = 0 then
    bd (F_isWord σ (28530 : Int64)) fun r_5 =>
    if r_5 = 0 then
      bd (F_stands σ (60 : Int32)) fun r_8 =>
      if r_8 = 0 then
        bd (F_stands σ (62 : Int32)) fun r_11 =>
        if r_11 = 0 then
          bd (F_stands σ (61 : Int32)) fun r_14 =>
          if r_14 = 0 then
            bd (F_stands σ (43 : Int32)) fun r_17 =>
            if r_17 = 0 then
              bd (F_stands σ (45 : Int32)) fun r_20 =>
              if r_20 = 0 then
                bd (F_stands σ (42 : Int32)) fun r_23 =>
                if r_23 = 0 then
                  some (0 : Int32)
                else
                  some (6 : Int32)
              else
                some (5 : Int32)
            else
              some (5 : Int32)
          else
            some (4 : Int32)
        else
          some (4 : Int32)
      else
        some (4 : Int32)
    else
      some (1 : Int32)
  else
    some (2 : Int32)
set_option maxHeartbeats 4000000 in
theorem w_rankHere {p : Program} {l : Launch} {e : Env} {s : State} {m : MethodId} {args : Array Value} {below : List Frame} {meth : Method} {c : Code} {G : MG} (hC : MCx G cX10_rankHere 1 p s m args meth c) (hr : meth.sig.returnType = some .int) {x : Int32} {σ : MS} :
    F_rankHere σ = some x → MJ p l e rmM_rankHere s m args below meth c G 1 (some (.int x)) σ 0 [(0, .ref (gM G))] [] σ := by
  have hx := hC.1
  have hb := hC.2.1
  intro hF H locs ls hP hS hl
  rw [F_rankHere] at hF
  refine lv_aload_n hx hb dX10_rankHere_0 rfl (lv_at hl 0 rfl) ?_
  refine lv_ldc2 (v := 6385252) hx hb hC.2.2.2.1 (hC.2.2.2.2.1 _ q2260) dX10_rankHere_1 ?_
  obtain ⟨r_2, hc_1, hF⟩ := bd_ok hF
  refine iM_isWord hC hP hS hc_1 hl.1 (Nat.le_of_ble_eq_true rfl) ⟨Nat.le_of_ble_eq_true rfl, Nat.le_of_ble_eq_true rfl⟩ ⟨Nat.zero_le _, Nat.zero_le _⟩ dX10_rankHere_4 (fun H locs hP hS => ?_)
  refine lv_if_eq (tgt := 12) hx hb dX10_rankHere_7 (by decide) (fun c_3 => ?_) (fun c_3 => ?_)
  · replace hF := it_t hF c_3
    refine lv_aload_n hx hb dX10_rankHere_12 rfl (lv_at hl 0 rfl) ?_
    refine lv_ldc2 (v := 28530) hx hb hC.2.2.2.1 (hC.2.2.2.2.1 _ q2261) dX10_rankHere_13 ?_
    obtain ⟨r_5, hc_4, hF⟩ := bd_ok hF
    refine iM_isWord hC hP hS hc_4 hl.1 (Nat.le_of_ble_eq_true rfl) ⟨Nat.le_of_ble_eq_true rfl, Nat.le_of_ble_eq_true rfl⟩ ⟨Nat.zero_le _, Nat.zero_le _⟩ dX10_rankHere_16 (fun H locs hP hS => ?_)
    refine lv_if_eq (tgt := 24) hx hb dX10_rankHere_19 (by decide) (fun c_6 => ?_) (fun c_6 => ?_)
    · replace hF := it_t hF c_6
      refine lv_aload_n hx hb dX10_rankHere_24 rfl (lv_at hl 0 rfl) ?_
      refine lv_bipush (v := 60) hx hb dX10_rankHere_25 (by decide) ?_
      obtain ⟨r_8, hc_7, hF⟩ := bd_ok hF
      refine iM_stands hC hP hS hc_7 hl.1 (Nat.le_of_ble_eq_true rfl) ⟨Nat.le_of_ble_eq_true rfl, Nat.le_of_ble_eq_true rfl⟩ ⟨Nat.zero_le _, Nat.zero_le _⟩ dX10_rankHere_27 (fun H locs hP hS => ?_)
      refine lv_if_ne (tgt := 51) hx hb dX10_rankHere_30 (by decide) (fun c_9 => ?_) (fun c_9 => ?_)
      · replace hF := it_f hF c_9
        refine lv_iconst (v := 4) hx hb dX10_rankHere_51 (by decide) ?_
        exact M_reti hC hP hS hr (Option.some.inj hF) rfl dX10_rankHere_52
      · replace hF := it_t hF c_9
        refine lv_aload_n hx hb dX10_rankHere_33 rfl (lv_at hl 0 rfl) ?_
        refine lv_bipush (v := 62) hx hb dX10_rankHere_34 (by decide) ?_
        obtain ⟨r_11, hc_10, hF⟩ := bd_ok hF
        refine iM_stands hC hP hS hc_10 hl.1 (Nat.le_of_ble_eq_true rfl) ⟨Nat.le_of_ble_eq_true rfl, Nat.le_of_ble_eq_true rfl⟩ ⟨Nat.zero_le _, Nat.zero_le _⟩ dX10_rankHere_36 (fun H locs hP hS => ?_)
        refine lv_if_ne (tgt := 51) hx hb dX10_rankHere_39 (by decide) (fun c_12 => ?_) (fun c_12 => ?_)
        · replace hF := it_f hF c_12
          refine lv_iconst (v := 4) hx hb dX10_rankHere_51 (by decide) ?_
          exact M_reti hC hP hS hr (Option.some.inj hF) rfl dX10_rankHere_52
        · replace hF := it_t hF c_12
          refine lv_aload_n hx hb dX10_rankHere_42 rfl (lv_at hl 0 rfl) ?_
          refine lv_bipush (v := 61) hx hb dX10_rankHere_43 (by decide) ?_
          obtain ⟨r_14, hc_13, hF⟩ := bd_ok hF
          refine iM_stands hC hP hS hc_13 hl.1 (Nat.le_of_ble_eq_true rfl) ⟨Nat.le_of_ble_eq_true rfl, Nat.le_of_ble_eq_true rfl⟩ ⟨Nat.zero_le _, Nat.zero_le _⟩ dX10_rankHere_45 (fun H locs hP hS => ?_)
          refine lv_if_eq (tgt := 53) hx hb dX10_rankHere_48 (by decide) (fun c_15 => ?_) (fun c_15 => ?_)
          · replace hF := it_t hF c_15
            refine lv_aload_n hx hb dX10_rankHere_53 rfl (lv_at hl 0 rfl) ?_
            refine lv_bipush (v := 43) hx hb dX10_rankHere_54 (by decide) ?_
            obtain ⟨r_17, hc_16, hF⟩ := bd_ok hF
            refine iM_stands hC hP hS hc_16 hl.1 (Nat.le_of_ble_eq_true rfl) ⟨Nat.le_of_ble_eq_true rfl, Nat.le_of_ble_eq_true rfl⟩ ⟨Nat.zero_le _, Nat.zero_le _⟩ dX10_rankHere_56 (fun H locs hP hS => ?_)
            refine lv_if_ne (tgt := 71) hx hb dX10_rankHere_59 (by decide) (fun c_18 => ?_) (fun c_18 => ?_)
            · replace hF := it_f hF c_18
              refine lv_iconst (v := 5) hx hb dX10_rankHere_71 (by decide) ?_
              exact M_reti hC hP hS hr (Option.some.inj hF) rfl dX10_rankHere_72
            · replace hF := it_t hF c_18
              refine lv_aload_n hx hb dX10_rankHere_62 rfl (lv_at hl 0 rfl) ?_
              refine lv_bipush (v := 45) hx hb dX10_rankHere_63 (by decide) ?_
              obtain ⟨r_20, hc_19, hF⟩ := bd_ok hF
              refine iM_stands hC hP hS hc_19 hl.1 (Nat.le_of_ble_eq_true rfl) ⟨Nat.le_of_ble_eq_true rfl, Nat.le_of_ble_eq_true rfl⟩ ⟨Nat.zero_le _, Nat.zero_le _⟩ dX10_rankHere_65 (fun H locs hP hS => ?_)
              refine lv_if_eq (tgt := 73) hx hb dX10_rankHere_68 (by decide) (fun c_21 => ?_) (fun c_21 => ?_)
              · replace hF := it_t hF c_21
                refine lv_aload_n hx hb dX10_rankHere_73 rfl (lv_at hl 0 rfl) ?_
                refine lv_bipush (v := 42) hx hb dX10_rankHere_74 (by decide) ?_
                obtain ⟨r_23, hc_22, hF⟩ := bd_ok hF
                refine iM_stands hC hP hS hc_22 hl.1 (Nat.le_of_ble_eq_true rfl) ⟨Nat.le_of_ble_eq_true rfl, Nat.le_of_ble_eq_true rfl⟩ ⟨Nat.zero_le _, Nat.zero_le _⟩ dX10_rankHere_76 (fun H locs hP hS => ?_)
                refine lv_if_eq (tgt := 87) hx hb dX10_rankHere_79 (by decide) (fun c_24 => ?_) (fun c_24 => ?_)
                · replace hF := it_t hF c_24
                  refine lv_iconst (v := 0) hx hb dX10_rankHere_87 (by decide) ?_
                  exact M_reti hC hP hS hr (Option.some.inj hF) rfl dX10_rankHere_88
                · replace hF := it_f hF c_24
                  refine lv_bipush (v := 6) hx hb dX10_rankHere_82 (by decide) ?_
                  refine lv_goto (tgt := 88) hx hb dX10_rankHere_84 (by decide) ?_
                  exact M_reti hC hP hS hr (Option.some.inj hF) rfl dX10_rankHere_88
              · replace hF := it_f hF c_21
                refine lv_iconst (v := 5) hx hb dX10_rankHere_71 (by decide) ?_
                exact M_reti hC hP hS hr (Option.some.inj hF) rfl dX10_rankHere_72
          · replace hF := it_f hF c_15
            refine lv_iconst (v := 4) hx hb dX10_rankHere_51 (by decide) ?_
            exact M_reti hC hP hS hr (Option.some.inj hF) rfl dX10_rankHere_52
    · replace hF := it_f hF c_6
      refine lv_iconst (v := 1) hx hb dX10_rankHere_22 (by decide) ?_
      exact M_reti hC hP hS hr (Option.some.inj hF) rfl dX10_rankHere_23
  · replace hF := it_f hF c_3
    refine lv_iconst (v := 2) hx hb dX10_rankHere_10 (by decide) ?_
    exact M_reti hC hP hS hr (Option.some.inj hF) rfl dX10_rankHere_11
theorem m_rankHere (l : Launch) (G : MG) (σ : MS) (x : Int32) (hF : F_rankHere σ = some x) : Met l yX10_rankHere (ws_ yX10_rankHere cX10_rankHere 1 (some .int)) rmM_rankHere (mP G [.ref (gM G)] σ) (mQ G (some (.int x)) σ) 0 0 (MA G) := by
  refine M_met rfl plM (Nat.le_of_ble_eq_true rfl) ?_
  intro p e s m below meth c hC hr ls hl hP
  exact w_rankHere hC hr hF s.heap [] ls hP va_S.rf hl
theorem iM_rankHere {p : Program} {l : Launch} {e : Env} {R : Room} {s : State} {m : MethodId} {args : Array Value} {below : List Frame} {meth : Method} {c : Code} {H H0 : Heap} {locs : List Loc} {cells slots nL : Nat} {Q : State → Prop} {G : MG} {σ : MS} {cc : ByteArray} {pc : Nat} {ls : Array Slot} {rest : List Value} (hC : MCx G cc nL p s m args meth c) (hP : MRep G σ H) (hS : va_S (MA G) H0 H locs) {x : Int32} (hF : F_rankHere σ = some x) (hl : ls.size = nL) (hW : (rest.map fun v => v.category).sum ≤ 8) (hR : rmM_rankHere.frames + 1 ≤ R.frames ∧ 8 + (1 + 11) + rmM_rankHere.locals ≤ R.locals) (hf : cells ≤ R.cells ∧ slots ≤ R.slots) (hdg : decode cc pc = .ok (.invokevirtual 404, 3))
    (kk : ∀ (H1 : Heap) (locs1 : List Loc), MRep G σ H1 → va_S (MA G) H0 H1 locs1 → W p l e R s m args below meth c H1 locs1 cells slots Q (F0 m (pc + 3) ls (.int x :: rest))) : W p l e R s m args below meth c H locs cells slots Q (F0 m pc ls (.ref (gM G) :: rest)) :=
  M_inv hC hP hS [] (m_rankHere l G σ _ hF) (cwV 0 hC.2.2.2.2.1 (lw_V q2337 q2339 qs98 q145 q2340) rfl rfl rfl (by decide +kernel) hR) rfl rfl hl hW hf hdg kk
/-! behindUnit -/
abbrev rmM_behindUnit : Room := { frames := 3, cells := 0, slots := 0, locals := 65 }
def F_behindUnit_b138 (y0 : Int32) (y1 : Int32) (σ : MS) : Option (Int32 × MS) :=
  bd (F_pushE y1 y0 σ) fun σ_2 =>
  bd (F_goOn σ_2) fun σ_4 =>
  some ((1 : Int32), σ_4)
set_option maxHeartbeats 4000000 in
theorem w_behindUnit_b138 {p : Program} {l : Launch} {e : Env} {s : State} {m : MethodId} {args : Array Value} {below : List Frame} {meth : Method} {c : Code} {G : MG} (hC : MCx G cX10_behindUnit 2 p s m args meth c) (hr : meth.sig.returnType = some .boolean) {x : (Int32 × MS)} :
    ∀ (y0 : Int32) (y1 : Int32) (σ : MS), F_behindUnit_b138 y0 y1 σ = some x → MJ p l e rmM_behindUnit s m args below meth c G 2 (some (.int x.1)) x.2 138 [(0, .ref (gM G))] [.int y0, .int y1, .ref (gM G)] σ := by
  have hx := hC.1
  have hb := hC.2.1
  intro y0 y1 σ hF H locs ls hP hS hl
  rw [F_behindUnit_b138] at hF
  obtain ⟨σ_2, hc_1, hF⟩ := bd_ok hF
  refine iM_pushE hC hP hS hc_1 hl.1 (Nat.le_of_ble_eq_true rfl) ⟨Nat.le_of_ble_eq_true rfl, Nat.le_of_ble_eq_true rfl⟩ ⟨Nat.zero_le _, Nat.zero_le _⟩ dX10_behindUnit_138 (fun H locs hP hS => ?_)
  refine lv_aload_n hx hb dX10_behindUnit_141 rfl (lv_at hl 0 rfl) ?_
  obtain ⟨σ_4, hc_3, hF⟩ := bd_ok hF
  refine iM_goOn hC hP hS hc_3 hl.1 (Nat.le_of_ble_eq_true rfl) ⟨Nat.le_of_ble_eq_true rfl, Nat.le_of_ble_eq_true rfl⟩ ⟨Nat.zero_le _, Nat.zero_le _⟩ dX10_behindUnit_142 (fun H locs hP hS => ?_)
  refine lv_iconst (v := 1) hx hb dX10_behindUnit_145 (by decide) ?_
  exact M_retz hC hP hS hr (Or.inr rfl) (rt1 hF) (rt2 hF) dX10_behindUnit_146
def F_behindUnit_b104 (x1 : Int32) (σ : MS) : Option (Int32 × MS) :=
  if x1 ≤ 0 then
    lt (wI σ 39 ((mI σ 39) - (1 : Int32))) fun σ_2 =>
    gd (inb (mI σ_2 39) 90) <|
    if (mA σ_2 32 (Int32.toNatClampNeg (mI σ_2 39))) = (7 : Int32) then
      lt (wI σ_2 38 ((mI σ_2 38) - (1 : Int32))) fun σ_5 =>
      bd (F_stands σ_5 (41 : Int32)) fun r_7 =>
      bd (F_must r_7 σ_5) fun σ_9 =>
      some ((0 : Int32), σ_9)
    else
      some ((0 : Int32), σ_2)
  else
    if x1 = (2 : Int32) then
      F_behindUnit_b138 (38 : Int32) x1 σ
    else
      if x1 = (1 : Int32) then
        F_behindUnit_b138 (124 : Int32) x1 σ
      else
        bd (F_sign σ (mI σ 6)) fun r_13 =>
        F_behindUnit_b138 r_13 x1 σ
set_option maxHeartbeats 4000000 in
theorem w_behindUnit_b104 {p : Program} {l : Launch} {e : Env} {s : State} {m : MethodId} {args : Array Value} {below : List Frame} {meth : Method} {c : Code} {G : MG} (hC : MCx G cX10_behindUnit 2 p s m args meth c) (hr : meth.sig.returnType = some .boolean) {x : (Int32 × MS)} :
    ∀ (x1 : Int32) (σ : MS), F_behindUnit_b104 x1 σ = some x → MJ p l e rmM_behindUnit s m args below meth c G 2 (some (.int x.1)) x.2 104 [(0, .ref (gM G)), (1, .int x1)] [] σ := by
  have hx := hC.1
  have hb := hC.2.1
  intro x1 σ hF H locs ls hP hS hl
  rw [F_behindUnit_b104] at hF
  refine lv_iload_n hx hb dX10_behindUnit_104 rfl (lv_at hl 1 rfl) ?_
  refine lv_if_le (tgt := 147) hx hb dX10_behindUnit_105 (by decide) (fun c_1 => ?_) (fun c_1 => ?_)
  · replace hF := it_t hF c_1
    refine lv_aload_n hx hb dX10_behindUnit_147 rfl (lv_at hl 0 rfl) ?_
    refine lv_dup hx hb dX10_behindUnit_148 rfl ?_
    refine gM39 hC hP dX10_behindUnit_149 ?_
    refine lv_iconst (v := 1) hx hb dX10_behindUnit_152 (by decide) ?_
    refine lv_isub hx hb dX10_behindUnit_153 ?_
    refine pM39 hC hP hS dX10_behindUnit_154 (fun H locs hP hS => ?_)
    obtain ⟨σ_2, eσ_2, hF⟩ := lt_ok hF
    rw [← eσ_2] at hP
    refine lv_aload_n hx hb dX10_behindUnit_157 rfl (lv_at hl 0 rfl) ?_
    refine gM32 hC hP dX10_behindUnit_158 ?_
    refine lv_aload_n hx hb dX10_behindUnit_161 rfl (lv_at hl 0 rfl) ?_
    refine gM39 hC hP dX10_behindUnit_162 ?_
    obtain ⟨h_3, hF⟩ := gd_ok hF
    refine M_iald hC hP 32 (by decide) rfl rfl rfl h_3 dX10_behindUnit_165 ?_
    refine lv_bipush (v := 7) hx hb dX10_behindUnit_166 (by decide) ?_
    refine lv_icmp_ne (tgt := 191) hx hb dX10_behindUnit_168 (by decide) (fun c_4 => ?_) (fun c_4 => ?_)
    · replace hF := it_f hF c_4
      refine lv_iconst (v := 0) hx hb dX10_behindUnit_191 (by decide) ?_
      exact M_retz hC hP hS hr (Or.inl rfl) (rt1 hF) (rt2 hF) dX10_behindUnit_192
    · replace hF := it_t hF c_4
      refine lv_aload_n hx hb dX10_behindUnit_171 rfl (lv_at hl 0 rfl) ?_
      refine lv_dup hx hb dX10_behindUnit_172 rfl ?_
      refine gM38 hC hP dX10_behindUnit_173 ?_
      refine lv_iconst (v := 1) hx hb dX10_behindUnit_176 (by decide) ?_
      refine lv_isub hx hb dX10_behindUnit_177 ?_
      refine pM38 hC hP hS dX10_behindUnit_178 (fun H locs hP hS => ?_)
      obtain ⟨σ_5, eσ_5, hF⟩ := lt_ok hF
      rw [← eσ_5] at hP
      refine lv_aload_n hx hb dX10_behindUnit_181 rfl (lv_at hl 0 rfl) ?_
      refine lv_aload_n hx hb dX10_behindUnit_182 rfl (lv_at hl 0 rfl) ?_
      refine lv_bipush (v := 41) hx hb dX10_behindUnit_183 (by decide) ?_
      obtain ⟨r_7, hc_6, hF⟩ := bd_ok hF
      refine iM_stands hC hP hS hc_6 hl.1 (Nat.le_of_ble_eq_true rfl) ⟨Nat.le_of_ble_eq_true rfl, Nat.le_of_ble_eq_true rfl⟩ ⟨Nat.zero_le _, Nat.zero_le _⟩ dX10_behindUnit_185 (fun H locs hP hS => ?_)
      obtain ⟨σ_9, hc_8, hF⟩ := bd_ok hF
      refine iM_must hC hP hS hc_8 hl.1 (Nat.le_of_ble_eq_true rfl) ⟨Nat.le_of_ble_eq_true rfl, Nat.le_of_ble_eq_true rfl⟩ ⟨Nat.zero_le _, Nat.zero_le _⟩ dX10_behindUnit_188 (fun H locs hP hS => ?_)
      refine lv_iconst (v := 0) hx hb dX10_behindUnit_191 (by decide) ?_
      exact M_retz hC hP hS hr (Or.inl rfl) (rt1 hF) (rt2 hF) dX10_behindUnit_192
  · replace hF := it_f hF c_1
    refine lv_aload_n hx hb dX10_behindUnit_108 rfl (lv_at hl 0 rfl) ?_
    refine lv_iload_n hx hb dX10_behindUnit_109 rfl (lv_at hl 1 rfl) ?_
    refine lv_iload_n hx hb dX10_behindUnit_110 rfl (lv_at hl 1 rfl) ?_
    refine lv_iconst (v := 2) hx hb dX10_behindUnit_111 (by decide) ?_
    refine lv_icmp_ne (tgt := 120) hx hb dX10_behindUnit_112 (by decide) (fun c_10 => ?_) (fun c_10 => ?_)
    · replace hF := it_f hF c_10
      refine lv_iload_n hx hb dX10_behindUnit_120 rfl (lv_at hl 1 rfl) ?_
      refine lv_iconst (v := 1) hx hb dX10_behindUnit_121 (by decide) ?_
      refine lv_icmp_ne (tgt := 130) hx hb dX10_behindUnit_122 (by decide) (fun c_11 => ?_) (fun c_11 => ?_)
      · replace hF := it_f hF c_11
        refine lv_aload_n hx hb dX10_behindUnit_130 rfl (lv_at hl 0 rfl) ?_
        refine lv_aload_n hx hb dX10_behindUnit_131 rfl (lv_at hl 0 rfl) ?_
        refine gM6 hC hP dX10_behindUnit_132 ?_
        obtain ⟨r_13, hc_12, hF⟩ := bd_ok hF
        refine iM_sign hC hP hS hc_12 hl.1 (Nat.le_of_ble_eq_true rfl) ⟨Nat.le_of_ble_eq_true rfl, Nat.le_of_ble_eq_true rfl⟩ ⟨Nat.zero_le _, Nat.zero_le _⟩ dX10_behindUnit_135 (fun H locs hP hS => ?_)
        exact w_behindUnit_b138 hC hr r_13 x1 σ hF H locs ls hP hS (lv_sub hl [0] rfl)
      · replace hF := it_t hF c_11
        refine lv_bipush (v := 124) hx hb dX10_behindUnit_125 (by decide) ?_
        refine lv_goto (tgt := 138) hx hb dX10_behindUnit_127 (by decide) ?_
        exact w_behindUnit_b138 hC hr (124 : Int32) x1 σ hF H locs ls hP hS (lv_sub hl [0] rfl)
    · replace hF := it_t hF c_10
      refine lv_bipush (v := 38) hx hb dX10_behindUnit_115 (by decide) ?_
      refine lv_goto (tgt := 138) hx hb dX10_behindUnit_117 (by decide) ?_
      exact w_behindUnit_b138 hC hr (38 : Int32) x1 σ hF H locs ls hP hS (lv_sub hl [0] rfl)
def F_behindUnit_b87 (k23 : Int32 → MS → Option (Int32 × MS)) (x1 : Int32) (σ : MS) : Option (Int32 × MS) :=
  gd (inb (mI σ 39) 90) <|
  bd (F_emit (mA σ 33 (Int32.toNatClampNeg (mI σ 39))) (0 : Int32) σ) fun σ_3 =>
  k23 x1 σ_3
set_option maxHeartbeats 4000000 in
theorem w_behindUnit_b87 {p : Program} {l : Launch} {e : Env} {s : State} {m : MethodId} {args : Array Value} {below : List Frame} {meth : Method} {c : Code} {G : MG} (hC : MCx G cX10_behindUnit 2 p s m args meth c) (hr : meth.sig.returnType = some .boolean) {x : (Int32 × MS)} (k23 : Int32 → MS → Option (Int32 × MS)) (hk23 : ∀ (x1 : Int32) (σ : MS), k23 x1 σ = some x → MJ p l e rmM_behindUnit s m args below meth c G 2 (some (.int x.1)) x.2 23 [(0, .ref (gM G)), (1, .int x1)] [] σ) :
    ∀ (x1 : Int32) (σ : MS), F_behindUnit_b87 k23 x1 σ = some x → MJ p l e rmM_behindUnit s m args below meth c G 2 (some (.int x.1)) x.2 87 [(0, .ref (gM G)), (1, .int x1)] [] σ := by
  have hx := hC.1
  have hb := hC.2.1
  intro x1 σ hF H locs ls hP hS hl
  rw [F_behindUnit_b87] at hF
  refine lv_aload_n hx hb dX10_behindUnit_87 rfl (lv_at hl 0 rfl) ?_
  refine lv_aload_n hx hb dX10_behindUnit_88 rfl (lv_at hl 0 rfl) ?_
  refine gM33 hC hP dX10_behindUnit_89 ?_
  refine lv_aload_n hx hb dX10_behindUnit_92 rfl (lv_at hl 0 rfl) ?_
  refine gM39 hC hP dX10_behindUnit_93 ?_
  obtain ⟨h_1, hF⟩ := gd_ok hF
  refine M_iald hC hP 33 (by decide) rfl rfl rfl h_1 dX10_behindUnit_96 ?_
  refine lv_iconst (v := 0) hx hb dX10_behindUnit_97 (by decide) ?_
  obtain ⟨σ_3, hc_2, hF⟩ := bd_ok hF
  refine iM_emit hC hP hS hc_2 hl.1 (Nat.le_of_ble_eq_true rfl) ⟨Nat.le_of_ble_eq_true rfl, Nat.le_of_ble_eq_true rfl⟩ ⟨Nat.zero_le _, Nat.zero_le _⟩ dX10_behindUnit_98 (fun H locs hP hS => ?_)
  refine lv_goto (tgt := 23) hx hb dX10_behindUnit_101 (by decide) ?_
  exact hk23 x1 σ_3 hF H locs ls hP hS (lv_sub hl [0, 1] rfl)
def F_behindUnit_L23 : Nat → Int32 → MS → Option (Int32 × MS)
  | 0, _, _ => none
  | fu + 1, x1, σ =>
    gd (inb ((mI σ 39) - (1 : Int32)) 90) <|
    if (6 : Int32) < (mA σ 32 (Int32.toNatClampNeg ((mI σ 39) - (1 : Int32)))) then
      F_behindUnit_b104 x1 σ
    else
      gd (inb ((mI σ 39) - (1 : Int32)) 90) <|
      if (mA σ 32 (Int32.toNatClampNeg ((mI σ 39) - (1 : Int32)))) < x1 then
        F_behindUnit_b104 x1 σ
      else
        lt (wI σ 39 ((mI σ 39) - (1 : Int32))) fun σ_5 =>
        gd (inb (mI σ_5 39) 90) <|
        if (mA σ_5 32 (Int32.toNatClampNeg (mI σ_5 39))) = (3 : Int32) then
          lt (wI σ_5 38 ((mI σ_5 38) - (1 : Int32))) fun σ_8 =>
          F_behindUnit_b87 (F_behindUnit_L23 fu) x1 σ_8
        else
          F_behindUnit_b87 (F_behindUnit_L23 fu) x1 σ_5
set_option maxHeartbeats 4000000 in
theorem w_behindUnit_L23 {p : Program} {l : Launch} {e : Env} {s : State} {m : MethodId} {args : Array Value} {below : List Frame} {meth : Method} {c : Code} {G : MG} (hC : MCx G cX10_behindUnit 2 p s m args meth c) (hr : meth.sig.returnType = some .boolean) {x : (Int32 × MS)} :
    ∀ (fu : Nat) (x1 : Int32) (σ : MS), F_behindUnit_L23 fu x1 σ = some x → MJ p l e rmM_behindUnit s m args below meth c G 2 (some (.int x.1)) x.2 23 [(0, .ref (gM G)), (1, .int x1)] [] σ := by
  have hx := hC.1
  have hb := hC.2.1
  intro fu
  induction fu with
  | zero => intro x1 σ hF; exact nm_none hF
  | succ fu ih =>
    intro x1 σ hF H locs ls hP hS hl
    rw [F_behindUnit_L23] at hF
    refine lv_aload_n hx hb dX10_behindUnit_23 rfl (lv_at hl 0 rfl) ?_
    refine gM32 hC hP dX10_behindUnit_24 ?_
    refine lv_aload_n hx hb dX10_behindUnit_27 rfl (lv_at hl 0 rfl) ?_
    refine gM39 hC hP dX10_behindUnit_28 ?_
    refine lv_iconst (v := 1) hx hb dX10_behindUnit_31 (by decide) ?_
    refine lv_isub hx hb dX10_behindUnit_32 ?_
    obtain ⟨h_1, hF⟩ := gd_ok hF
    refine M_iald hC hP 32 (by decide) rfl rfl rfl h_1 dX10_behindUnit_33 ?_
    refine lv_bipush (v := 6) hx hb dX10_behindUnit_34 (by decide) ?_
    refine lv_icmp_gt (tgt := 104) hx hb dX10_behindUnit_36 (by decide) (fun c_2 => ?_) (fun c_2 => ?_)
    · replace hF := it_t hF c_2
      exact w_behindUnit_b104 hC hr x1 σ hF H locs ls hP hS (lv_sub hl [0, 1] rfl)
    · replace hF := it_f hF c_2
      refine lv_aload_n hx hb dX10_behindUnit_39 rfl (lv_at hl 0 rfl) ?_
      refine gM32 hC hP dX10_behindUnit_40 ?_
      refine lv_aload_n hx hb dX10_behindUnit_43 rfl (lv_at hl 0 rfl) ?_
      refine gM39 hC hP dX10_behindUnit_44 ?_
      refine lv_iconst (v := 1) hx hb dX10_behindUnit_47 (by decide) ?_
      refine lv_isub hx hb dX10_behindUnit_48 ?_
      obtain ⟨h_3, hF⟩ := gd_ok hF
      refine M_iald hC hP 32 (by decide) rfl rfl rfl h_3 dX10_behindUnit_49 ?_
      refine lv_iload_n hx hb dX10_behindUnit_50 rfl (lv_at hl 1 rfl) ?_
      refine lv_icmp_lt (tgt := 104) hx hb dX10_behindUnit_51 (by decide) (fun c_4 => ?_) (fun c_4 => ?_)
      · replace hF := it_t hF c_4
        exact w_behindUnit_b104 hC hr x1 σ hF H locs ls hP hS (lv_sub hl [0, 1] rfl)
      · replace hF := it_f hF c_4
        refine lv_aload_n hx hb dX10_behindUnit_54 rfl (lv_at hl 0 rfl) ?_
        refine lv_dup hx hb dX10_behindUnit_55 rfl ?_
        refine gM39 hC hP dX10_behindUnit_56 ?_
        refine lv_iconst (v := 1) hx hb dX10_behindUnit_59 (by decide) ?_
        refine lv_isub hx hb dX10_behindUnit_60 ?_
        refine pM39 hC hP hS dX10_behindUnit_61 (fun H locs hP hS => ?_)
        obtain ⟨σ_5, eσ_5, hF⟩ := lt_ok hF
        rw [← eσ_5] at hP
        refine lv_aload_n hx hb dX10_behindUnit_64 rfl (lv_at hl 0 rfl) ?_
        refine gM32 hC hP dX10_behindUnit_65 ?_
        refine lv_aload_n hx hb dX10_behindUnit_68 rfl (lv_at hl 0 rfl) ?_
        refine gM39 hC hP dX10_behindUnit_69 ?_
        obtain ⟨h_6, hF⟩ := gd_ok hF
        refine M_iald hC hP 32 (by decide) rfl rfl rfl h_6 dX10_behindUnit_72 ?_
        refine lv_iconst (v := 3) hx hb dX10_behindUnit_73 (by decide) ?_
        refine lv_icmp_ne (tgt := 87) hx hb dX10_behindUnit_74 (by decide) (fun c_7 => ?_) (fun c_7 => ?_)
        · replace hF := it_f hF c_7
          exact w_behindUnit_b87 hC hr (F_behindUnit_L23 fu) ih x1 σ_5 hF H locs ls hP hS (lv_sub hl [0, 1] rfl)
        · replace hF := it_t hF c_7
          refine lv_aload_n hx hb dX10_behindUnit_77 rfl (lv_at hl 0 rfl) ?_
          refine lv_dup hx hb dX10_behindUnit_78 rfl ?_
          refine gM38 hC hP dX10_behindUnit_79 ?_
          refine lv_iconst (v := 1) hx hb dX10_behindUnit_82 (by decide) ?_
          refine lv_isub hx hb dX10_behindUnit_83 ?_
          refine pM38 hC hP hS dX10_behindUnit_84 (fun H locs hP hS => ?_)
          obtain ⟨σ_8, eσ_8, hF⟩ := lt_ok hF
          rw [← eσ_8] at hP
          exact w_behindUnit_b87 hC hr (F_behindUnit_L23 fu) ih x1 σ_8 hF H locs ls hP hS (lv_sub hl [0, 1] rfl)
def F_behindUnit (σ : MS) : Option (Int32 × MS) :=
  bd (F_rankHere σ) fun r_2 =>
  if r_2 = (4 : Int32) then
    bd (F_isCompared σ) fun r_5 =>
    if r_5 = 0 then
      F_behindUnit_L23 MN r_2 σ
    else
      bd (F_misplaced σ) fun σ_8 =>
      some ((1 : Int32), σ_8)
  else
    F_behindUnit_L23 MN r_2 σ
set_option maxHeartbeats 4000000 in
theorem w_behindUnit {p : Program} {l : Launch} {e : Env} {s : State} {m : MethodId} {args : Array Value} {below : List Frame} {meth : Method} {c : Code} {G : MG} (hC : MCx G cX10_behindUnit 2 p s m args meth c) (hr : meth.sig.returnType = some .boolean) {x : (Int32 × MS)} :
    ∀ (σ : MS), F_behindUnit σ = some x → MJ p l e rmM_behindUnit s m args below meth c G 2 (some (.int x.1)) x.2 0 [(0, .ref (gM G))] [] σ := by
  have hx := hC.1
  have hb := hC.2.1
  intro σ hF H locs ls hP hS hl
  rw [F_behindUnit] at hF
  refine lv_aload_n hx hb dX10_behindUnit_0 rfl (lv_at hl 0 rfl) ?_
  obtain ⟨r_2, hc_1, hF⟩ := bd_ok hF
  refine iM_rankHere hC hP hS hc_1 hl.1 (Nat.le_of_ble_eq_true rfl) ⟨Nat.le_of_ble_eq_true rfl, Nat.le_of_ble_eq_true rfl⟩ ⟨Nat.zero_le _, Nat.zero_le _⟩ dX10_behindUnit_1 (fun H locs hP hS => ?_)
  refine lv_istore_n (lv' := [(1, .int r_2), (0, .ref (gM G))]) hx hb dX10_behindUnit_4 rfl hl (by decide) rfl (fun ls hl => ?_)
  refine lv_iload_n hx hb dX10_behindUnit_5 rfl (lv_at hl 0 rfl) ?_
  refine lv_iconst (v := 4) hx hb dX10_behindUnit_6 (by decide) ?_
  refine lv_icmp_ne (tgt := 23) hx hb dX10_behindUnit_7 (by decide) (fun c_3 => ?_) (fun c_3 => ?_)
  · replace hF := it_f hF c_3
    exact w_behindUnit_L23 hC hr MN r_2 σ hF H locs ls hP hS (lv_sub hl [1, 0] rfl)
  · replace hF := it_t hF c_3
    refine lv_aload_n hx hb dX10_behindUnit_10 rfl (lv_at hl 1 rfl) ?_
    obtain ⟨r_5, hc_4, hF⟩ := bd_ok hF
    refine iM_isCompared hC hP hS hc_4 hl.1 (Nat.le_of_ble_eq_true rfl) ⟨Nat.le_of_ble_eq_true rfl, Nat.le_of_ble_eq_true rfl⟩ ⟨Nat.zero_le _, Nat.zero_le _⟩ dX10_behindUnit_11 (fun H locs hP hS => ?_)
    refine lv_if_eq (tgt := 23) hx hb dX10_behindUnit_14 (by decide) (fun c_6 => ?_) (fun c_6 => ?_)
    · replace hF := it_t hF c_6
      exact w_behindUnit_L23 hC hr MN r_2 σ hF H locs ls hP hS (lv_sub hl [1, 0] rfl)
    · replace hF := it_f hF c_6
      refine lv_aload_n hx hb dX10_behindUnit_17 rfl (lv_at hl 1 rfl) ?_
      obtain ⟨σ_8, hc_7, hF⟩ := bd_ok hF
      refine iM_misplaced hC hP hS hc_7 hl.1 (Nat.le_of_ble_eq_true rfl) ⟨Nat.le_of_ble_eq_true rfl, Nat.le_of_ble_eq_true rfl⟩ ⟨Nat.zero_le _, Nat.zero_le _⟩ dX10_behindUnit_18 (fun H locs hP hS => ?_)
      refine lv_iconst (v := 1) hx hb dX10_behindUnit_21 (by decide) ?_
      exact M_retz hC hP hS hr (Or.inr rfl) (rt1 hF) (rt2 hF) dX10_behindUnit_22
theorem m_behindUnit (l : Launch) (G : MG) (σ : MS) (x : (Int32 × MS)) (hF : F_behindUnit σ = some x) : Met l yX10_behindUnit (ws_ yX10_behindUnit cX10_behindUnit 2 (some .boolean)) rmM_behindUnit (mP G [.ref (gM G)] σ) (mQ G (some (.int x.1)) x.2) 0 0 (MA G) := by
  refine M_met rfl plM (Nat.le_of_ble_eq_true rfl) ?_
  intro p e s m below meth c hC hr ls hl hP
  exact w_behindUnit hC hr σ hF s.heap [] ls hP va_S.rf hl
theorem iM_behindUnit {p : Program} {l : Launch} {e : Env} {R : Room} {s : State} {m : MethodId} {args : Array Value} {below : List Frame} {meth : Method} {c : Code} {H H0 : Heap} {locs : List Loc} {cells slots nL : Nat} {Q : State → Prop} {G : MG} {σ : MS} {cc : ByteArray} {pc : Nat} {ls : Array Slot} {rest : List Value} (hC : MCx G cc nL p s m args meth c) (hP : MRep G σ H) (hS : va_S (MA G) H0 H locs) {x : Int32} {σ1 : MS} (hF : F_behindUnit σ = some (x, σ1)) (hl : ls.size = nL) (hW : (rest.map fun v => v.category).sum ≤ 8) (hR : rmM_behindUnit.frames + 1 ≤ R.frames ∧ 8 + (2 + 11) + rmM_behindUnit.locals ≤ R.locals) (hf : cells ≤ R.cells ∧ slots ≤ R.slots) (hdg : decode cc pc = .ok (.invokevirtual 398, 3))
    (kk : ∀ (H1 : Heap) (locs1 : List Loc), MRep G σ1 H1 → va_S (MA G) H0 H1 locs1 → W p l e R s m args below meth c H1 locs1 cells slots Q (F0 m (pc + 3) ls (.int x :: rest))) : W p l e R s m args below meth c H locs cells slots Q (F0 m pc ls (.ref (gM G) :: rest)) :=
  M_inv hC hP hS [] (m_behindUnit l G σ _ hF) (cwV 0 hC.2.2.2.2.1 (lw_V q2333 q2335 qs97 q145 q2336) rfl rfl rfl (by decide +kernel) hR) rfl rfl hl hW hf hdg kk
/-! whoHere -/
abbrev rmM_whoHere : Room := { frames := 1, cells := 0, slots := 0, locals := 22 }
def F_whoHere (σ : MS) : Option Int32 :=
  bd (F_isWord σ (6385262 : Int64)) fun r_2 =>
  if r_2 = 0 then
    bd (F_isWord σ (6451042 : Int64)) fun r_5 =>
    if r_5 = 0 then
      bd (F_isWord σ (6519140 : Int64)) fun r_8 =>
      if r_8 = 0 then
        some (-1 : Int32)
      else
        some (2 : Int32)
    else
      some (1 : Int32)
  else
    some (0 : Int32)
set_option maxHeartbeats 4000000 in
theorem w_whoHere {p : Program} {l : Launch} {e : Env} {s : State} {m : MethodId} {args : Array Value} {below : List Frame} {meth : Method} {c : Code} {G : MG} (hC : MCx G cX10_whoHere 1 p s m args meth c) (hr : meth.sig.returnType = some .int) {x : Int32} {σ : MS} :
    F_whoHere σ = some x → MJ p l e rmM_whoHere s m args below meth c G 1 (some (.int x)) σ 0 [(0, .ref (gM G))] [] σ := by
  have hx := hC.1
  have hb := hC.2.1
  intro hF H locs ls hP hS hl
  rw [F_whoHere] at hF
  refine lv_aload_n hx hb dX10_whoHere_0 rfl (lv_at hl 0 rfl) ?_
  refine lv_ldc2 (v := 6385262) hx hb hC.2.2.2.1 (hC.2.2.2.2.1 _ q2246) dX10_whoHere_1 ?_
  obtain ⟨r_2, hc_1, hF⟩ := bd_ok hF
  refine iM_isWord hC hP hS hc_1 hl.1 (Nat.le_of_ble_eq_true rfl) ⟨Nat.le_of_ble_eq_true rfl, Nat.le_of_ble_eq_true rfl⟩ ⟨Nat.zero_le _, Nat.zero_le _⟩ dX10_whoHere_4 (fun H locs hP hS => ?_)
  refine lv_if_eq (tgt := 14) hx hb dX10_whoHere_7 (by decide) (fun c_3 => ?_) (fun c_3 => ?_)
  · replace hF := it_t hF c_3
    refine lv_aload_n hx hb dX10_whoHere_14 rfl (lv_at hl 0 rfl) ?_
    refine lv_ldc2 (v := 6451042) hx hb hC.2.2.2.1 (hC.2.2.2.2.1 _ q2247) dX10_whoHere_15 ?_
    obtain ⟨r_5, hc_4, hF⟩ := bd_ok hF
    refine iM_isWord hC hP hS hc_4 hl.1 (Nat.le_of_ble_eq_true rfl) ⟨Nat.le_of_ble_eq_true rfl, Nat.le_of_ble_eq_true rfl⟩ ⟨Nat.zero_le _, Nat.zero_le _⟩ dX10_whoHere_18 (fun H locs hP hS => ?_)
    refine lv_if_eq (tgt := 28) hx hb dX10_whoHere_21 (by decide) (fun c_6 => ?_) (fun c_6 => ?_)
    · replace hF := it_t hF c_6
      refine lv_aload_n hx hb dX10_whoHere_28 rfl (lv_at hl 0 rfl) ?_
      refine lv_ldc2 (v := 6519140) hx hb hC.2.2.2.1 (hC.2.2.2.2.1 _ q2248) dX10_whoHere_29 ?_
      obtain ⟨r_8, hc_7, hF⟩ := bd_ok hF
      refine iM_isWord hC hP hS hc_7 hl.1 (Nat.le_of_ble_eq_true rfl) ⟨Nat.le_of_ble_eq_true rfl, Nat.le_of_ble_eq_true rfl⟩ ⟨Nat.zero_le _, Nat.zero_le _⟩ dX10_whoHere_32 (fun H locs hP hS => ?_)
      refine lv_if_eq (tgt := 42) hx hb dX10_whoHere_35 (by decide) (fun c_9 => ?_) (fun c_9 => ?_)
      · replace hF := it_t hF c_9
        refine lv_iconst (v := -1) hx hb dX10_whoHere_42 (by decide) ?_
        exact M_reti hC hP hS hr (Option.some.inj hF) rfl dX10_whoHere_43
      · replace hF := it_f hF c_9
        refine lv_iconst (v := 2) hx hb dX10_whoHere_38 (by decide) ?_
        refine lv_goto (tgt := 43) hx hb dX10_whoHere_39 (by decide) ?_
        exact M_reti hC hP hS hr (Option.some.inj hF) rfl dX10_whoHere_43
    · replace hF := it_f hF c_6
      refine lv_iconst (v := 1) hx hb dX10_whoHere_24 (by decide) ?_
      refine lv_goto (tgt := 43) hx hb dX10_whoHere_25 (by decide) ?_
      exact M_reti hC hP hS hr (Option.some.inj hF) rfl dX10_whoHere_43
  · replace hF := it_f hF c_3
    refine lv_iconst (v := 0) hx hb dX10_whoHere_10 (by decide) ?_
    refine lv_goto (tgt := 43) hx hb dX10_whoHere_11 (by decide) ?_
    exact M_reti hC hP hS hr (Option.some.inj hF) rfl dX10_whoHere_43
theorem m_whoHere (l : Launch) (G : MG) (σ : MS) (x : Int32) (hF : F_whoHere σ = some x) : Met l yX10_whoHere (ws_ yX10_whoHere cX10_whoHere 1 (some .int)) rmM_whoHere (mP G [.ref (gM G)] σ) (mQ G (some (.int x)) σ) 0 0 (MA G) := by
  refine M_met rfl plM (Nat.le_of_ble_eq_true rfl) ?_
  intro p e s m below meth c hC hr ls hl hP
  exact w_whoHere hC hr hF s.heap [] ls hP va_S.rf hl
theorem iM_whoHere {p : Program} {l : Launch} {e : Env} {R : Room} {s : State} {m : MethodId} {args : Array Value} {below : List Frame} {meth : Method} {c : Code} {H H0 : Heap} {locs : List Loc} {cells slots nL : Nat} {Q : State → Prop} {G : MG} {σ : MS} {cc : ByteArray} {pc : Nat} {ls : Array Slot} {rest : List Value} (hC : MCx G cc nL p s m args meth c) (hP : MRep G σ H) (hS : va_S (MA G) H0 H locs) {x : Int32} (hF : F_whoHere σ = some x) (hl : ls.size = nL) (hW : (rest.map fun v => v.category).sum ≤ 8) (hR : rmM_whoHere.frames + 1 ≤ R.frames ∧ 8 + (1 + 11) + rmM_whoHere.locals ≤ R.locals) (hf : cells ≤ R.cells ∧ slots ≤ R.slots) (hdg : decode cc pc = .ok (.invokevirtual 367, 3))
    (kk : ∀ (H1 : Heap) (locs1 : List Loc), MRep G σ H1 → va_S (MA G) H0 H1 locs1 → W p l e R s m args below meth c H1 locs1 cells slots Q (F0 m (pc + 3) ls (.int x :: rest))) : W p l e R s m args below meth c H locs cells slots Q (F0 m pc ls (.ref (gM G) :: rest)) :=
  M_inv hC hP hS [] (m_whoHere l G σ _ hF) (cwV 0 hC.2.2.2.2.1 (lw_V q2325 q2327 qs95 q145 q2328) rfl rfl rfl (by decide +kernel) hR) rfl rfl hl hW hf hdg kk
/-! unit -/
abbrev rmM_unit : Room := { frames := 2, cells := 0, slots := 0, locals := 44 }
def F_unit_b279 (x6 : Int32) (y0 : Int32) (σ : MS) : Option (Int32 × MS) :=
  bd (F_emit y0 x6 σ) fun σ_2 =>
  some ((0 : Int32), σ_2)
set_option maxHeartbeats 4000000 in
theorem w_unit_b279 {p : Program} {l : Launch} {e : Env} {s : State} {m : MethodId} {args : Array Value} {below : List Frame} {meth : Method} {c : Code} {G : MG} (hC : MCx G cX10_unit 7 p s m args meth c) (hr : meth.sig.returnType = some .boolean) {x : (Int32 × MS)} :
    ∀ (x6 : Int32) (y0 : Int32) (σ : MS), F_unit_b279 x6 y0 σ = some x → MJ p l e rmM_unit s m args below meth c G 7 (some (.int x.1)) x.2 279 [(6, .int x6)] [.int y0, .ref (gM G)] σ := by
  have hx := hC.1
  have hb := hC.2.1
  intro x6 y0 σ hF H locs ls hP hS hl
  rw [F_unit_b279] at hF
  refine lv_iload hx hb dX10_unit_279 (lv_at hl 0 rfl) ?_
  obtain ⟨σ_2, hc_1, hF⟩ := bd_ok hF
  refine iM_emit hC hP hS hc_1 hl.1 (Nat.le_of_ble_eq_true rfl) ⟨Nat.le_of_ble_eq_true rfl, Nat.le_of_ble_eq_true rfl⟩ ⟨Nat.zero_le _, Nat.zero_le _⟩ dX10_unit_281 (fun H locs hP hS => ?_)
  refine lv_iconst (v := 0) hx hb dX10_unit_284 (by decide) ?_
  exact M_retz hC hP hS hr (Or.inl rfl) (rt1 hF) (rt2 hF) dX10_unit_285
def F_unit_b249 (y0 : Int32) (σ : MS) : Option (Int32 × MS) :=
  bd (F_pushE y0 (126 : Int32) σ) fun σ_2 =>
  lt (wI σ_2 38 ((mI σ_2 38) + (1 : Int32))) fun σ_3 =>
  some ((1 : Int32), σ_3)
set_option maxHeartbeats 4000000 in
theorem w_unit_b249 {p : Program} {l : Launch} {e : Env} {s : State} {m : MethodId} {args : Array Value} {below : List Frame} {meth : Method} {c : Code} {G : MG} (hC : MCx G cX10_unit 7 p s m args meth c) (hr : meth.sig.returnType = some .boolean) {x : (Int32 × MS)} :
    ∀ (y0 : Int32) (σ : MS), F_unit_b249 y0 σ = some x → MJ p l e rmM_unit s m args below meth c G 7 (some (.int x.1)) x.2 249 [(0, .ref (gM G))] [.int y0, .ref (gM G)] σ := by
  have hx := hC.1
  have hb := hC.2.1
  intro y0 σ hF H locs ls hP hS hl
  rw [F_unit_b249] at hF
  refine lv_bipush (v := 126) hx hb dX10_unit_249 (by decide) ?_
  obtain ⟨σ_2, hc_1, hF⟩ := bd_ok hF
  refine iM_pushE hC hP hS hc_1 hl.1 (Nat.le_of_ble_eq_true rfl) ⟨Nat.le_of_ble_eq_true rfl, Nat.le_of_ble_eq_true rfl⟩ ⟨Nat.zero_le _, Nat.zero_le _⟩ dX10_unit_251 (fun H locs hP hS => ?_)
  refine lv_aload_n hx hb dX10_unit_254 rfl (lv_at hl 0 rfl) ?_
  refine lv_dup hx hb dX10_unit_255 rfl ?_
  refine gM38 hC hP dX10_unit_256 ?_
  refine lv_iconst (v := 1) hx hb dX10_unit_259 (by decide) ?_
  refine lv_iadd hx hb dX10_unit_260 ?_
  refine pM38 hC hP hS dX10_unit_261 (fun H locs hP hS => ?_)
  obtain ⟨σ_3, eσ_3, hF⟩ := lt_ok hF
  rw [← eσ_3] at hP
  refine lv_iconst (v := 1) hx hb dX10_unit_264 (by decide) ?_
  exact M_retz hC hP hS hr (Or.inr rfl) (rt1 hF) (rt2 hF) dX10_unit_265
def F_unit_b238 (x2 : Int32) (σ : MS) : Option (Int32 × MS) :=
  if x2 = 0 then
    F_unit_b249 (7 : Int32) σ
  else
    F_unit_b249 (3 : Int32) σ
set_option maxHeartbeats 4000000 in
theorem w_unit_b238 {p : Program} {l : Launch} {e : Env} {s : State} {m : MethodId} {args : Array Value} {below : List Frame} {meth : Method} {c : Code} {G : MG} (hC : MCx G cX10_unit 7 p s m args meth c) (hr : meth.sig.returnType = some .boolean) {x : (Int32 × MS)} :
    ∀ (x2 : Int32) (σ : MS), F_unit_b238 x2 σ = some x → MJ p l e rmM_unit s m args below meth c G 7 (some (.int x.1)) x.2 238 [(0, .ref (gM G)), (2, .int x2)] [] σ := by
  have hx := hC.1
  have hb := hC.2.1
  intro x2 σ hF H locs ls hP hS hl
  rw [F_unit_b238] at hF
  refine lv_aload_n hx hb dX10_unit_238 rfl (lv_at hl 0 rfl) ?_
  refine lv_iload_n hx hb dX10_unit_239 rfl (lv_at hl 1 rfl) ?_
  refine lv_if_eq (tgt := 247) hx hb dX10_unit_240 (by decide) (fun c_1 => ?_) (fun c_1 => ?_)
  · replace hF := it_t hF c_1
    refine lv_bipush (v := 7) hx hb dX10_unit_247 (by decide) ?_
    exact w_unit_b249 hC hr (7 : Int32) σ hF H locs ls hP hS (lv_sub hl [0] rfl)
  · replace hF := it_f hF c_1
    refine lv_iconst (v := 3) hx hb dX10_unit_243 (by decide) ?_
    refine lv_goto (tgt := 249) hx hb dX10_unit_244 (by decide) ?_
    exact w_unit_b249 hC hr (3 : Int32) σ hF H locs ls hP hS (lv_sub hl [0] rfl)
def F_unit_b224 (x2 : Int32) (x3 : Int32) (x5 : Int32) (y0 : Int32) (σ : MS) : Option (Int32 × MS) :=
  bd (F_goOn σ) fun σ_2 =>
  if x2 = 0 then
    if x3 = 0 then
      if x5 = 0 then
        F_unit_b279 y0 (110 : Int32) σ_2
      else
        F_unit_b279 y0 x5 σ_2
    else
      F_unit_b238 x2 σ_2
  else
    F_unit_b238 x2 σ_2
set_option maxHeartbeats 4000000 in
theorem w_unit_b224 {p : Program} {l : Launch} {e : Env} {s : State} {m : MethodId} {args : Array Value} {below : List Frame} {meth : Method} {c : Code} {G : MG} (hC : MCx G cX10_unit 7 p s m args meth c) (hr : meth.sig.returnType = some .boolean) {x : (Int32 × MS)} :
    ∀ (x2 : Int32) (x3 : Int32) (x5 : Int32) (y0 : Int32) (σ : MS), F_unit_b224 x2 x3 x5 y0 σ = some x → MJ p l e rmM_unit s m args below meth c G 7 (some (.int x.1)) x.2 224 [(0, .ref (gM G)), (2, .int x2), (3, .int x3), (5, .int x5)] [.int y0] σ := by
  have hx := hC.1
  have hb := hC.2.1
  intro x2 x3 x5 y0 σ hF H locs ls hP hS hl
  rw [F_unit_b224] at hF
  refine lv_istore (lv' := [(6, .int y0), (0, .ref (gM G)), (2, .int x2), (3, .int x3), (5, .int x5)]) hx hb dX10_unit_224 hl (by decide) rfl (fun ls hl => ?_)
  refine lv_aload_n hx hb dX10_unit_226 rfl (lv_at hl 1 rfl) ?_
  obtain ⟨σ_2, hc_1, hF⟩ := bd_ok hF
  refine iM_goOn hC hP hS hc_1 hl.1 (Nat.le_of_ble_eq_true rfl) ⟨Nat.le_of_ble_eq_true rfl, Nat.le_of_ble_eq_true rfl⟩ ⟨Nat.zero_le _, Nat.zero_le _⟩ dX10_unit_227 (fun H locs hP hS => ?_)
  refine lv_iload_n hx hb dX10_unit_230 rfl (lv_at hl 2 rfl) ?_
  refine lv_if_ne (tgt := 238) hx hb dX10_unit_231 (by decide) (fun c_3 => ?_) (fun c_3 => ?_)
  · replace hF := it_f hF c_3
    exact w_unit_b238 hC hr x2 σ_2 hF H locs ls hP hS (lv_sub hl [1, 2] rfl)
  · replace hF := it_t hF c_3
    refine lv_iload_n hx hb dX10_unit_234 rfl (lv_at hl 3 rfl) ?_
    refine lv_if_eq (tgt := 266) hx hb dX10_unit_235 (by decide) (fun c_4 => ?_) (fun c_4 => ?_)
    · replace hF := it_t hF c_4
      refine lv_aload_n hx hb dX10_unit_266 rfl (lv_at hl 1 rfl) ?_
      refine lv_iload hx hb dX10_unit_267 (lv_at hl 4 rfl) ?_
      refine lv_if_ne (tgt := 277) hx hb dX10_unit_269 (by decide) (fun c_5 => ?_) (fun c_5 => ?_)
      · replace hF := it_f hF c_5
        refine lv_iload hx hb dX10_unit_277 (lv_at hl 4 rfl) ?_
        exact w_unit_b279 hC hr y0 x5 σ_2 hF H locs ls hP hS (lv_sub hl [0] rfl)
      · replace hF := it_t hF c_5
        refine lv_bipush (v := 110) hx hb dX10_unit_272 (by decide) ?_
        refine lv_goto (tgt := 279) hx hb dX10_unit_274 (by decide) ?_
        exact w_unit_b279 hC hr y0 (110 : Int32) σ_2 hF H locs ls hP hS (lv_sub hl [0] rfl)
    · replace hF := it_f hF c_4
      exact w_unit_b238 hC hr x2 σ_2 hF H locs ls hP hS (lv_sub hl [1, 2] rfl)
def F_unit_b208 (x2 : Int32) (x3 : Int32) (x4 : Int32) (x5 : Int32) (y0 : Int32) (y1 : Int32) (y2 : Int32) (σ : MS) : Option (Int32 × MS) :=
  gd (inb y2 2) <|
  lt (wA σ 18 (Int32.toNatClampNeg y2) (y1 + y0)) fun σ_2 =>
  if x5 = 0 then
    F_unit_b224 x2 x3 x5 (mI σ_2 9) σ_2
  else
    F_unit_b224 x2 x3 x5 x4 σ_2
set_option maxHeartbeats 4000000 in
theorem w_unit_b208 {p : Program} {l : Launch} {e : Env} {s : State} {m : MethodId} {args : Array Value} {below : List Frame} {meth : Method} {c : Code} {G : MG} (hC : MCx G cX10_unit 7 p s m args meth c) (hr : meth.sig.returnType = some .boolean) {x : (Int32 × MS)} :
    ∀ (x2 : Int32) (x3 : Int32) (x4 : Int32) (x5 : Int32) (y0 : Int32) (y1 : Int32) (y2 : Int32) (σ : MS), F_unit_b208 x2 x3 x4 x5 y0 y1 y2 σ = some x → MJ p l e rmM_unit s m args below meth c G 7 (some (.int x.1)) x.2 208 [(0, .ref (gM G)), (2, .int x2), (3, .int x3), (4, .int x4), (5, .int x5)] [.int y0, .int y1, .int y2, .ref (gA G 18)] σ := by
  have hx := hC.1
  have hb := hC.2.1
  intro x2 x3 x4 x5 y0 y1 y2 σ hF H locs ls hP hS hl
  rw [F_unit_b208] at hF
  refine lv_iadd hx hb dX10_unit_208 ?_
  obtain ⟨h_1, hF⟩ := gd_ok hF
  refine M_iast hC hP hS 18 (by decide) rfl rfl rfl h_1 dX10_unit_209 (fun H locs hP hS => ?_)
  obtain ⟨σ_2, eσ_2, hF⟩ := lt_ok hF
  rw [← eσ_2] at hP
  refine lv_iload hx hb dX10_unit_210 (lv_at hl 4 rfl) ?_
  refine lv_if_ne (tgt := 222) hx hb dX10_unit_212 (by decide) (fun c_3 => ?_) (fun c_3 => ?_)
  · replace hF := it_f hF c_3
    refine lv_iload hx hb dX10_unit_222 (lv_at hl 3 rfl) ?_
    exact w_unit_b224 hC hr x2 x3 x5 x4 σ_2 hF H locs ls hP hS (lv_sub hl [0, 1, 2, 4] rfl)
  · replace hF := it_t hF c_3
    refine lv_aload_n hx hb dX10_unit_215 rfl (lv_at hl 0 rfl) ?_
    refine gM9 hC hP dX10_unit_216 ?_
    refine lv_goto (tgt := 224) hx hb dX10_unit_219 (by decide) ?_
    exact w_unit_b224 hC hr x2 x3 x5 (mI σ_2 9) σ_2 hF H locs ls hP hS (lv_sub hl [0, 1, 2, 4] rfl)
def F_unit_b180 (x2 : Int32) (x3 : Int32) (x4 : Int32) (x5 : Int32) (σ : MS) : Option (Int32 × MS) :=
  bd (F_isGood σ) fun r_2 =>
  if r_2 = 0 then
    some ((1 : Int32), σ)
  else
    gd (inb (mI σ 36) 2) <|
    if x2 = 0 then
      F_unit_b208 x2 x3 x4 x5 (1 : Int32) (mA σ 18 (Int32.toNatClampNeg (mI σ 36))) (mI σ 36) σ
    else
      F_unit_b208 x2 x3 x4 x5 (0 : Int32) (mA σ 18 (Int32.toNatClampNeg (mI σ 36))) (mI σ 36) σ
set_option maxHeartbeats 4000000 in
theorem w_unit_b180 {p : Program} {l : Launch} {e : Env} {s : State} {m : MethodId} {args : Array Value} {below : List Frame} {meth : Method} {c : Code} {G : MG} (hC : MCx G cX10_unit 7 p s m args meth c) (hr : meth.sig.returnType = some .boolean) {x : (Int32 × MS)} :
    ∀ (x2 : Int32) (x3 : Int32) (x4 : Int32) (x5 : Int32) (σ : MS), F_unit_b180 x2 x3 x4 x5 σ = some x → MJ p l e rmM_unit s m args below meth c G 7 (some (.int x.1)) x.2 180 [(0, .ref (gM G)), (2, .int x2), (3, .int x3), (4, .int x4), (5, .int x5)] [] σ := by
  have hx := hC.1
  have hb := hC.2.1
  intro x2 x3 x4 x5 σ hF H locs ls hP hS hl
  rw [F_unit_b180] at hF
  refine lv_aload_n hx hb dX10_unit_180 rfl (lv_at hl 0 rfl) ?_
  obtain ⟨r_2, hc_1, hF⟩ := bd_ok hF
  refine iM_isGood hC hP hS hc_1 hl.1 (Nat.le_of_ble_eq_true rfl) ⟨Nat.le_of_ble_eq_true rfl, Nat.le_of_ble_eq_true rfl⟩ ⟨Nat.zero_le _, Nat.zero_le _⟩ dX10_unit_181 (fun H locs hP hS => ?_)
  refine lv_if_ne (tgt := 189) hx hb dX10_unit_184 (by decide) (fun c_3 => ?_) (fun c_3 => ?_)
  · replace hF := it_f hF c_3
    refine lv_aload_n hx hb dX10_unit_189 rfl (lv_at hl 0 rfl) ?_
    refine gM18 hC hP dX10_unit_190 ?_
    refine lv_aload_n hx hb dX10_unit_193 rfl (lv_at hl 0 rfl) ?_
    refine gM36 hC hP dX10_unit_194 ?_
    refine lv_dup2_11 hx hb dX10_unit_197 rfl rfl ?_
    obtain ⟨h_4, hF⟩ := gd_ok hF
    refine M_iald hC hP 18 (by decide) rfl rfl rfl h_4 dX10_unit_198 ?_
    refine lv_iload_n hx hb dX10_unit_199 rfl (lv_at hl 1 rfl) ?_
    refine lv_if_eq (tgt := 207) hx hb dX10_unit_200 (by decide) (fun c_5 => ?_) (fun c_5 => ?_)
    · replace hF := it_t hF c_5
      refine lv_iconst (v := 1) hx hb dX10_unit_207 (by decide) ?_
      exact w_unit_b208 hC hr x2 x3 x4 x5 (1 : Int32) (mA σ 18 (Int32.toNatClampNeg (mI σ 36))) (mI σ 36) σ hF H locs ls hP hS (lv_sub hl [0, 1, 2, 3, 4] rfl)
    · replace hF := it_f hF c_5
      refine lv_iconst (v := 0) hx hb dX10_unit_203 (by decide) ?_
      refine lv_goto (tgt := 208) hx hb dX10_unit_204 (by decide) ?_
      exact w_unit_b208 hC hr x2 x3 x4 x5 (0 : Int32) (mA σ 18 (Int32.toNatClampNeg (mI σ 36))) (mI σ 36) σ hF H locs ls hP hS (lv_sub hl [0, 1, 2, 3, 4] rfl)
  · replace hF := it_t hF c_3
    refine lv_iconst (v := 1) hx hb dX10_unit_187 (by decide) ?_
    exact M_retz hC hP hS hr (Or.inr rfl) (rt1 hF) (rt2 hF) dX10_unit_188
def F_unit_b150 (k180 : Int32 → Int32 → Int32 → Int32 → MS → Option (Int32 × MS)) (x2 : Int32) (x3 : Int32) (x4 : Int32) (x5 : Int32) (σ : MS) : Option (Int32 × MS) :=
  bd (F_misplaced σ) fun σ_2 =>
  k180 x2 x3 x4 x5 σ_2
set_option maxHeartbeats 4000000 in
theorem w_unit_b150 {p : Program} {l : Launch} {e : Env} {s : State} {m : MethodId} {args : Array Value} {below : List Frame} {meth : Method} {c : Code} {G : MG} (hC : MCx G cX10_unit 7 p s m args meth c) (hr : meth.sig.returnType = some .boolean) {x : (Int32 × MS)} (k180 : Int32 → Int32 → Int32 → Int32 → MS → Option (Int32 × MS)) (hk180 : ∀ (x2 : Int32) (x3 : Int32) (x4 : Int32) (x5 : Int32) (σ : MS), k180 x2 x3 x4 x5 σ = some x → MJ p l e rmM_unit s m args below meth c G 7 (some (.int x.1)) x.2 180 [(0, .ref (gM G)), (2, .int x2), (3, .int x3), (4, .int x4), (5, .int x5)] [] σ) :
    ∀ (x2 : Int32) (x3 : Int32) (x4 : Int32) (x5 : Int32) (σ : MS), F_unit_b150 k180 x2 x3 x4 x5 σ = some x → MJ p l e rmM_unit s m args below meth c G 7 (some (.int x.1)) x.2 150 [(0, .ref (gM G)), (2, .int x2), (3, .int x3), (4, .int x4), (5, .int x5)] [] σ := by
  have hx := hC.1
  have hb := hC.2.1
  intro x2 x3 x4 x5 σ hF H locs ls hP hS hl
  rw [F_unit_b150] at hF
  refine lv_aload_n hx hb dX10_unit_150 rfl (lv_at hl 0 rfl) ?_
  obtain ⟨σ_2, hc_1, hF⟩ := bd_ok hF
  refine iM_misplaced hC hP hS hc_1 hl.1 (Nat.le_of_ble_eq_true rfl) ⟨Nat.le_of_ble_eq_true rfl, Nat.le_of_ble_eq_true rfl⟩ ⟨Nat.zero_le _, Nat.zero_le _⟩ dX10_unit_151 (fun H locs hP hS => ?_)
  refine lv_goto (tgt := 180) hx hb dX10_unit_154 (by decide) ?_
  exact hk180 x2 x3 x4 x5 σ_2 hF H locs ls hP hS (lv_sub hl [0, 1, 2, 3, 4] rfl)
def F_unit_b157 (k180 : Int32 → Int32 → Int32 → Int32 → MS → Option (Int32 × MS)) (x2 : Int32) (x3 : Int32) (x4 : Int32) (x5 : Int32) (σ : MS) : Option (Int32 × MS) :=
  gd (inb (mI σ 36) 2) <|
  if x4 < (mA σ 12 (Int32.toNatClampNeg (mI σ 36))) then
    k180 x2 x3 x4 x5 σ
  else
    bd (F_fails (4 : Int32) (mI σ 6) σ) fun σ_4 =>
    k180 x2 x3 x4 x5 σ_4
set_option maxHeartbeats 4000000 in
theorem w_unit_b157 {p : Program} {l : Launch} {e : Env} {s : State} {m : MethodId} {args : Array Value} {below : List Frame} {meth : Method} {c : Code} {G : MG} (hC : MCx G cX10_unit 7 p s m args meth c) (hr : meth.sig.returnType = some .boolean) {x : (Int32 × MS)} (k180 : Int32 → Int32 → Int32 → Int32 → MS → Option (Int32 × MS)) (hk180 : ∀ (x2 : Int32) (x3 : Int32) (x4 : Int32) (x5 : Int32) (σ : MS), k180 x2 x3 x4 x5 σ = some x → MJ p l e rmM_unit s m args below meth c G 7 (some (.int x.1)) x.2 180 [(0, .ref (gM G)), (2, .int x2), (3, .int x3), (4, .int x4), (5, .int x5)] [] σ) :
    ∀ (x2 : Int32) (x3 : Int32) (x4 : Int32) (x5 : Int32) (σ : MS), F_unit_b157 k180 x2 x3 x4 x5 σ = some x → MJ p l e rmM_unit s m args below meth c G 7 (some (.int x.1)) x.2 157 [(0, .ref (gM G)), (2, .int x2), (3, .int x3), (4, .int x4), (5, .int x5)] [] σ := by
  have hx := hC.1
  have hb := hC.2.1
  intro x2 x3 x4 x5 σ hF H locs ls hP hS hl
  rw [F_unit_b157] at hF
  refine lv_iload hx hb dX10_unit_157 (lv_at hl 3 rfl) ?_
  refine lv_aload_n hx hb dX10_unit_159 rfl (lv_at hl 0 rfl) ?_
  refine gM12 hC hP dX10_unit_160 ?_
  refine lv_aload_n hx hb dX10_unit_163 rfl (lv_at hl 0 rfl) ?_
  refine gM36 hC hP dX10_unit_164 ?_
  obtain ⟨h_1, hF⟩ := gd_ok hF
  refine M_iald hC hP 12 (by decide) rfl rfl rfl h_1 dX10_unit_167 ?_
  refine lv_icmp_lt (tgt := 180) hx hb dX10_unit_168 (by decide) (fun c_2 => ?_) (fun c_2 => ?_)
  · replace hF := it_t hF c_2
    exact hk180 x2 x3 x4 x5 σ hF H locs ls hP hS (lv_sub hl [0, 1, 2, 3, 4] rfl)
  · replace hF := it_f hF c_2
    refine lv_aload_n hx hb dX10_unit_171 rfl (lv_at hl 0 rfl) ?_
    refine lv_iconst (v := 4) hx hb dX10_unit_172 (by decide) ?_
    refine lv_aload_n hx hb dX10_unit_173 rfl (lv_at hl 0 rfl) ?_
    refine gM6 hC hP dX10_unit_174 ?_
    obtain ⟨σ_4, hc_3, hF⟩ := bd_ok hF
    refine iM_fails hC hP hS hc_3 hl.1 (Nat.le_of_ble_eq_true rfl) ⟨Nat.le_of_ble_eq_true rfl, Nat.le_of_ble_eq_true rfl⟩ ⟨Nat.zero_le _, Nat.zero_le _⟩ dX10_unit_177 (fun H locs hP hS => ?_)
    exact hk180 x2 x3 x4 x5 σ_4 hF H locs ls hP hS (lv_sub hl [0, 1, 2, 3, 4] rfl)
def F_unit_b141 (k150 : Int32 → Int32 → Int32 → Int32 → MS → Option (Int32 × MS)) (k157 : Int32 → Int32 → Int32 → Int32 → MS → Option (Int32 × MS)) (x2 : Int32) (x3 : Int32) (x4 : Int32) (x5 : Int32) (σ : MS) : Option (Int32 × MS) :=
  if (mI σ 38) = (7 : Int32) then
    k150 x2 x3 x4 x5 σ
  else
    k157 x2 x3 x4 x5 σ
set_option maxHeartbeats 4000000 in
theorem w_unit_b141 {p : Program} {l : Launch} {e : Env} {s : State} {m : MethodId} {args : Array Value} {below : List Frame} {meth : Method} {c : Code} {G : MG} (hC : MCx G cX10_unit 7 p s m args meth c) (hr : meth.sig.returnType = some .boolean) {x : (Int32 × MS)} (k150 : Int32 → Int32 → Int32 → Int32 → MS → Option (Int32 × MS)) (hk150 : ∀ (x2 : Int32) (x3 : Int32) (x4 : Int32) (x5 : Int32) (σ : MS), k150 x2 x3 x4 x5 σ = some x → MJ p l e rmM_unit s m args below meth c G 7 (some (.int x.1)) x.2 150 [(0, .ref (gM G)), (2, .int x2), (3, .int x3), (4, .int x4), (5, .int x5)] [] σ) (k157 : Int32 → Int32 → Int32 → Int32 → MS → Option (Int32 × MS)) (hk157 : ∀ (x2 : Int32) (x3 : Int32) (x4 : Int32) (x5 : Int32) (σ : MS), k157 x2 x3 x4 x5 σ = some x → MJ p l e rmM_unit s m args below meth c G 7 (some (.int x.1)) x.2 157 [(0, .ref (gM G)), (2, .int x2), (3, .int x3), (4, .int x4), (5, .int x5)] [] σ) :
    ∀ (x2 : Int32) (x3 : Int32) (x4 : Int32) (x5 : Int32) (σ : MS), F_unit_b141 k150 k157 x2 x3 x4 x5 σ = some x → MJ p l e rmM_unit s m args below meth c G 7 (some (.int x.1)) x.2 141 [(0, .ref (gM G)), (2, .int x2), (3, .int x3), (4, .int x4), (5, .int x5)] [] σ := by
  have hx := hC.1
  have hb := hC.2.1
  intro x2 x3 x4 x5 σ hF H locs ls hP hS hl
  rw [F_unit_b141] at hF
  refine lv_aload_n hx hb dX10_unit_141 rfl (lv_at hl 0 rfl) ?_
  refine gM38 hC hP dX10_unit_142 ?_
  refine lv_bipush (v := 7) hx hb dX10_unit_145 (by decide) ?_
  refine lv_icmp_ne (tgt := 157) hx hb dX10_unit_147 (by decide) (fun c_1 => ?_) (fun c_1 => ?_)
  · replace hF := it_f hF c_1
    exact hk157 x2 x3 x4 x5 σ hF H locs ls hP hS (lv_sub hl [0, 1, 2, 3, 4] rfl)
  · replace hF := it_t hF c_1
    exact hk150 x2 x3 x4 x5 σ hF H locs ls hP hS (lv_sub hl [0, 1, 2, 3, 4] rfl)
def F_unit_b133 (k150 : Int32 → Int32 → Int32 → Int32 → MS → Option (Int32 × MS)) (k180 : Int32 → Int32 → Int32 → Int32 → MS → Option (Int32 × MS)) (x2 : Int32) (x3 : Int32) (x4 : Int32) (x5 : Int32) (σ : MS) : Option (Int32 × MS) :=
  if x2 = 0 then
    if x3 = 0 then
      F_unit_b157 k180 x2 x3 x4 x5 σ
    else
      F_unit_b141 k150 (F_unit_b157 k180) x2 x3 x4 x5 σ
  else
    F_unit_b141 k150 (F_unit_b157 k180) x2 x3 x4 x5 σ
set_option maxHeartbeats 4000000 in
theorem w_unit_b133 {p : Program} {l : Launch} {e : Env} {s : State} {m : MethodId} {args : Array Value} {below : List Frame} {meth : Method} {c : Code} {G : MG} (hC : MCx G cX10_unit 7 p s m args meth c) (hr : meth.sig.returnType = some .boolean) {x : (Int32 × MS)} (k150 : Int32 → Int32 → Int32 → Int32 → MS → Option (Int32 × MS)) (hk150 : ∀ (x2 : Int32) (x3 : Int32) (x4 : Int32) (x5 : Int32) (σ : MS), k150 x2 x3 x4 x5 σ = some x → MJ p l e rmM_unit s m args below meth c G 7 (some (.int x.1)) x.2 150 [(0, .ref (gM G)), (2, .int x2), (3, .int x3), (4, .int x4), (5, .int x5)] [] σ) (k180 : Int32 → Int32 → Int32 → Int32 → MS → Option (Int32 × MS)) (hk180 : ∀ (x2 : Int32) (x3 : Int32) (x4 : Int32) (x5 : Int32) (σ : MS), k180 x2 x3 x4 x5 σ = some x → MJ p l e rmM_unit s m args below meth c G 7 (some (.int x.1)) x.2 180 [(0, .ref (gM G)), (2, .int x2), (3, .int x3), (4, .int x4), (5, .int x5)] [] σ) :
    ∀ (x2 : Int32) (x3 : Int32) (x4 : Int32) (x5 : Int32) (σ : MS), F_unit_b133 k150 k180 x2 x3 x4 x5 σ = some x → MJ p l e rmM_unit s m args below meth c G 7 (some (.int x.1)) x.2 133 [(0, .ref (gM G)), (2, .int x2), (3, .int x3), (4, .int x4), (5, .int x5)] [] σ := by
  have hx := hC.1
  have hb := hC.2.1
  intro x2 x3 x4 x5 σ hF H locs ls hP hS hl
  rw [F_unit_b133] at hF
  refine lv_iload_n hx hb dX10_unit_133 rfl (lv_at hl 1 rfl) ?_
  refine lv_if_ne (tgt := 141) hx hb dX10_unit_134 (by decide) (fun c_1 => ?_) (fun c_1 => ?_)
  · replace hF := it_f hF c_1
    exact w_unit_b141 hC hr k150 hk150 (F_unit_b157 k180) (w_unit_b157 hC hr k180 hk180) x2 x3 x4 x5 σ hF H locs ls hP hS (lv_sub hl [0, 1, 2, 3, 4] rfl)
  · replace hF := it_t hF c_1
    refine lv_iload_n hx hb dX10_unit_137 rfl (lv_at hl 2 rfl) ?_
    refine lv_if_eq (tgt := 157) hx hb dX10_unit_138 (by decide) (fun c_2 => ?_) (fun c_2 => ?_)
    · replace hF := it_t hF c_2
      exact w_unit_b157 hC hr k180 hk180 x2 x3 x4 x5 σ hF H locs ls hP hS (lv_sub hl [0, 1, 2, 3, 4] rfl)
    · replace hF := it_f hF c_2
      exact w_unit_b141 hC hr k150 hk150 (F_unit_b157 k180) (w_unit_b157 hC hr k180 hk180) x2 x3 x4 x5 σ hF H locs ls hP hS (lv_sub hl [0, 1, 2, 3, 4] rfl)
def F_unit_b119 (k133 : Int32 → Int32 → Int32 → Int32 → MS → Option (Int32 × MS)) (k150 : Int32 → Int32 → Int32 → Int32 → MS → Option (Int32 × MS)) (x2 : Int32) (x3 : Int32) (x4 : Int32) (x5 : Int32) (σ : MS) : Option (Int32 × MS) :=
  gd (inb (mI σ 36) 2) <|
  if (mA σ 18 (Int32.toNatClampNeg (mI σ 36))) = (40 : Int32) then
    k150 x2 x3 x4 x5 σ
  else
    k133 x2 x3 x4 x5 σ
set_option maxHeartbeats 4000000 in
theorem w_unit_b119 {p : Program} {l : Launch} {e : Env} {s : State} {m : MethodId} {args : Array Value} {below : List Frame} {meth : Method} {c : Code} {G : MG} (hC : MCx G cX10_unit 7 p s m args meth c) (hr : meth.sig.returnType = some .boolean) {x : (Int32 × MS)} (k133 : Int32 → Int32 → Int32 → Int32 → MS → Option (Int32 × MS)) (hk133 : ∀ (x2 : Int32) (x3 : Int32) (x4 : Int32) (x5 : Int32) (σ : MS), k133 x2 x3 x4 x5 σ = some x → MJ p l e rmM_unit s m args below meth c G 7 (some (.int x.1)) x.2 133 [(0, .ref (gM G)), (2, .int x2), (3, .int x3), (4, .int x4), (5, .int x5)] [] σ) (k150 : Int32 → Int32 → Int32 → Int32 → MS → Option (Int32 × MS)) (hk150 : ∀ (x2 : Int32) (x3 : Int32) (x4 : Int32) (x5 : Int32) (σ : MS), k150 x2 x3 x4 x5 σ = some x → MJ p l e rmM_unit s m args below meth c G 7 (some (.int x.1)) x.2 150 [(0, .ref (gM G)), (2, .int x2), (3, .int x3), (4, .int x4), (5, .int x5)] [] σ) :
    ∀ (x2 : Int32) (x3 : Int32) (x4 : Int32) (x5 : Int32) (σ : MS), F_unit_b119 k133 k150 x2 x3 x4 x5 σ = some x → MJ p l e rmM_unit s m args below meth c G 7 (some (.int x.1)) x.2 119 [(0, .ref (gM G)), (2, .int x2), (3, .int x3), (4, .int x4), (5, .int x5)] [] σ := by
  have hx := hC.1
  have hb := hC.2.1
  intro x2 x3 x4 x5 σ hF H locs ls hP hS hl
  rw [F_unit_b119] at hF
  refine lv_aload_n hx hb dX10_unit_119 rfl (lv_at hl 0 rfl) ?_
  refine gM18 hC hP dX10_unit_120 ?_
  refine lv_aload_n hx hb dX10_unit_123 rfl (lv_at hl 0 rfl) ?_
  refine gM36 hC hP dX10_unit_124 ?_
  obtain ⟨h_1, hF⟩ := gd_ok hF
  refine M_iald hC hP 18 (by decide) rfl rfl rfl h_1 dX10_unit_127 ?_
  refine lv_bipush (v := 40) hx hb dX10_unit_128 (by decide) ?_
  refine lv_icmp_eq (tgt := 150) hx hb dX10_unit_130 (by decide) (fun c_2 => ?_) (fun c_2 => ?_)
  · replace hF := it_t hF c_2
    exact hk150 x2 x3 x4 x5 σ hF H locs ls hP hS (lv_sub hl [0, 1, 2, 3, 4] rfl)
  · replace hF := it_f hF c_2
    exact hk133 x2 x3 x4 x5 σ hF H locs ls hP hS (lv_sub hl [0, 1, 2, 3, 4] rfl)
def F_unit_b96 (x2 : Int32) (x3 : Int32) (x4 : Int32) (y0 : Int32) (σ : MS) : Option (Int32 × MS) :=
  if x2 = 0 then
    if y0 = 0 then
      if (mI σ 8) = (4 : Int32) then
        F_unit_b119 (F_unit_b133 (F_unit_b150 (F_unit_b180)) (F_unit_b180)) (F_unit_b150 (F_unit_b180)) x2 x3 x4 y0 σ
      else
        if x3 = 0 then
          F_unit_b150 (F_unit_b180) x2 x3 x4 y0 σ
        else
          F_unit_b119 (F_unit_b133 (F_unit_b150 (F_unit_b180)) (F_unit_b180)) (F_unit_b150 (F_unit_b180)) x2 x3 x4 y0 σ
    else
      F_unit_b119 (F_unit_b133 (F_unit_b150 (F_unit_b180)) (F_unit_b180)) (F_unit_b150 (F_unit_b180)) x2 x3 x4 y0 σ
  else
    F_unit_b133 (F_unit_b150 (F_unit_b180)) (F_unit_b180) x2 x3 x4 y0 σ
set_option maxHeartbeats 4000000 in
theorem w_unit_b96 {p : Program} {l : Launch} {e : Env} {s : State} {m : MethodId} {args : Array Value} {below : List Frame} {meth : Method} {c : Code} {G : MG} (hC : MCx G cX10_unit 7 p s m args meth c) (hr : meth.sig.returnType = some .boolean) {x : (Int32 × MS)} :
    ∀ (x2 : Int32) (x3 : Int32) (x4 : Int32) (y0 : Int32) (σ : MS), F_unit_b96 x2 x3 x4 y0 σ = some x → MJ p l e rmM_unit s m args below meth c G 7 (some (.int x.1)) x.2 96 [(0, .ref (gM G)), (2, .int x2), (3, .int x3), (4, .int x4)] [.int y0] σ := by
  have hx := hC.1
  have hb := hC.2.1
  intro x2 x3 x4 y0 σ hF H locs ls hP hS hl
  rw [F_unit_b96] at hF
  refine lv_istore (lv' := [(5, .int y0), (0, .ref (gM G)), (2, .int x2), (3, .int x3), (4, .int x4)]) hx hb dX10_unit_96 hl (by decide) rfl (fun ls hl => ?_)
  refine lv_iload_n hx hb dX10_unit_98 rfl (lv_at hl 2 rfl) ?_
  refine lv_if_ne (tgt := 133) hx hb dX10_unit_99 (by decide) (fun c_1 => ?_) (fun c_1 => ?_)
  · replace hF := it_f hF c_1
    exact w_unit_b133 hC hr (F_unit_b150 (F_unit_b180)) (w_unit_b150 hC hr (F_unit_b180) (w_unit_b180 hC hr)) (F_unit_b180) (w_unit_b180 hC hr) x2 x3 x4 y0 σ hF H locs ls hP hS (lv_sub hl [1, 2, 3, 4, 0] rfl)
  · replace hF := it_t hF c_1
    refine lv_iload hx hb dX10_unit_102 (lv_at hl 0 rfl) ?_
    refine lv_if_ne (tgt := 119) hx hb dX10_unit_104 (by decide) (fun c_2 => ?_) (fun c_2 => ?_)
    · replace hF := it_f hF c_2
      exact w_unit_b119 hC hr (F_unit_b133 (F_unit_b150 (F_unit_b180)) (F_unit_b180)) (w_unit_b133 hC hr (F_unit_b150 (F_unit_b180)) (w_unit_b150 hC hr (F_unit_b180) (w_unit_b180 hC hr)) (F_unit_b180) (w_unit_b180 hC hr)) (F_unit_b150 (F_unit_b180)) (w_unit_b150 hC hr (F_unit_b180) (w_unit_b180 hC hr)) x2 x3 x4 y0 σ hF H locs ls hP hS (lv_sub hl [1, 2, 3, 4, 0] rfl)
    · replace hF := it_t hF c_2
      refine lv_aload_n hx hb dX10_unit_107 rfl (lv_at hl 1 rfl) ?_
      refine gM8 hC hP dX10_unit_108 ?_
      refine lv_iconst (v := 4) hx hb dX10_unit_111 (by decide) ?_
      refine lv_icmp_eq (tgt := 119) hx hb dX10_unit_112 (by decide) (fun c_3 => ?_) (fun c_3 => ?_)
      · replace hF := it_t hF c_3
        exact w_unit_b119 hC hr (F_unit_b133 (F_unit_b150 (F_unit_b180)) (F_unit_b180)) (w_unit_b133 hC hr (F_unit_b150 (F_unit_b180)) (w_unit_b150 hC hr (F_unit_b180) (w_unit_b180 hC hr)) (F_unit_b180) (w_unit_b180 hC hr)) (F_unit_b150 (F_unit_b180)) (w_unit_b150 hC hr (F_unit_b180) (w_unit_b180 hC hr)) x2 x3 x4 y0 σ hF H locs ls hP hS (lv_sub hl [1, 2, 3, 4, 0] rfl)
      · replace hF := it_f hF c_3
        refine lv_iload_n hx hb dX10_unit_115 rfl (lv_at hl 3 rfl) ?_
        refine lv_if_eq (tgt := 150) hx hb dX10_unit_116 (by decide) (fun c_4 => ?_) (fun c_4 => ?_)
        · replace hF := it_t hF c_4
          exact w_unit_b150 hC hr (F_unit_b180) (w_unit_b180 hC hr) x2 x3 x4 y0 σ hF H locs ls hP hS (lv_sub hl [1, 2, 3, 4, 0] rfl)
        · replace hF := it_f hF c_4
          exact w_unit_b119 hC hr (F_unit_b133 (F_unit_b150 (F_unit_b180)) (F_unit_b180)) (w_unit_b133 hC hr (F_unit_b150 (F_unit_b180)) (w_unit_b150 hC hr (F_unit_b180) (w_unit_b180 hC hr)) (F_unit_b180) (w_unit_b180 hC hr)) (F_unit_b150 (F_unit_b180)) (w_unit_b150 hC hr (F_unit_b180) (w_unit_b180 hC hr)) x2 x3 x4 y0 σ hF H locs ls hP hS (lv_sub hl [1, 2, 3, 4, 0] rfl)
def F_unit_b56 (y0 : Int32) (σ : MS) : Option (Int32 × MS) :=
  bd (F_stands σ (40 : Int32)) fun r_2 =>
  bd (F_whoHere σ) fun r_4 =>
  bd (F_isWord σ (6384748 : Int64)) fun r_6 =>
  if r_6 = 0 then
    if r_4 < 0 then
      F_unit_b96 y0 r_2 r_4 (0 : Int32) σ
    else
      F_unit_b96 y0 r_2 r_4 (112 : Int32) σ
  else
    F_unit_b96 y0 r_2 r_4 (97 : Int32) σ
set_option maxHeartbeats 4000000 in
theorem w_unit_b56 {p : Program} {l : Launch} {e : Env} {s : State} {m : MethodId} {args : Array Value} {below : List Frame} {meth : Method} {c : Code} {G : MG} (hC : MCx G cX10_unit 7 p s m args meth c) (hr : meth.sig.returnType = some .boolean) {x : (Int32 × MS)} :
    ∀ (y0 : Int32) (σ : MS), F_unit_b56 y0 σ = some x → MJ p l e rmM_unit s m args below meth c G 7 (some (.int x.1)) x.2 56 [(0, .ref (gM G))] [.int y0] σ := by
  have hx := hC.1
  have hb := hC.2.1
  intro y0 σ hF H locs ls hP hS hl
  rw [F_unit_b56] at hF
  refine lv_istore_n (lv' := [(2, .int y0), (0, .ref (gM G))]) hx hb dX10_unit_56 rfl hl (by decide) rfl (fun ls hl => ?_)
  refine lv_aload_n hx hb dX10_unit_57 rfl (lv_at hl 1 rfl) ?_
  refine lv_bipush (v := 40) hx hb dX10_unit_58 (by decide) ?_
  obtain ⟨r_2, hc_1, hF⟩ := bd_ok hF
  refine iM_stands hC hP hS hc_1 hl.1 (Nat.le_of_ble_eq_true rfl) ⟨Nat.le_of_ble_eq_true rfl, Nat.le_of_ble_eq_true rfl⟩ ⟨Nat.zero_le _, Nat.zero_le _⟩ dX10_unit_60 (fun H locs hP hS => ?_)
  refine lv_istore_n (lv' := [(3, .int r_2), (2, .int y0), (0, .ref (gM G))]) hx hb dX10_unit_63 rfl hl (by decide) rfl (fun ls hl => ?_)
  refine lv_aload_n hx hb dX10_unit_64 rfl (lv_at hl 2 rfl) ?_
  obtain ⟨r_4, hc_3, hF⟩ := bd_ok hF
  refine iM_whoHere hC hP hS hc_3 hl.1 (Nat.le_of_ble_eq_true rfl) ⟨Nat.le_of_ble_eq_true rfl, Nat.le_of_ble_eq_true rfl⟩ ⟨Nat.zero_le _, Nat.zero_le _⟩ dX10_unit_65 (fun H locs hP hS => ?_)
  refine lv_istore (lv' := [(4, .int r_4), (3, .int r_2), (2, .int y0), (0, .ref (gM G))]) hx hb dX10_unit_68 hl (by decide) rfl (fun ls hl => ?_)
  refine lv_aload_n hx hb dX10_unit_70 rfl (lv_at hl 3 rfl) ?_
  refine lv_ldc2 (v := 6384748) hx hb hC.2.2.2.1 (hC.2.2.2.2.1 _ q2259) dX10_unit_71 ?_
  obtain ⟨r_6, hc_5, hF⟩ := bd_ok hF
  refine iM_isWord hC hP hS hc_5 hl.1 (Nat.le_of_ble_eq_true rfl) ⟨Nat.le_of_ble_eq_true rfl, Nat.le_of_ble_eq_true rfl⟩ ⟨Nat.zero_le _, Nat.zero_le _⟩ dX10_unit_74 (fun H locs hP hS => ?_)
  refine lv_if_eq (tgt := 85) hx hb dX10_unit_77 (by decide) (fun c_7 => ?_) (fun c_7 => ?_)
  · replace hF := it_t hF c_7
    refine lv_iload hx hb dX10_unit_85 (lv_at hl 0 rfl) ?_
    refine lv_if_lt (tgt := 95) hx hb dX10_unit_87 (by decide) (fun c_8 => ?_) (fun c_8 => ?_)
    · replace hF := it_t hF c_8
      refine lv_iconst (v := 0) hx hb dX10_unit_95 (by decide) ?_
      exact w_unit_b96 hC hr y0 r_2 r_4 (0 : Int32) σ hF H locs ls hP hS (lv_sub hl [3, 2, 1, 0] rfl)
    · replace hF := it_f hF c_8
      refine lv_bipush (v := 112) hx hb dX10_unit_90 (by decide) ?_
      refine lv_goto (tgt := 96) hx hb dX10_unit_92 (by decide) ?_
      exact w_unit_b96 hC hr y0 r_2 r_4 (112 : Int32) σ hF H locs ls hP hS (lv_sub hl [3, 2, 1, 0] rfl)
  · replace hF := it_f hF c_7
    refine lv_bipush (v := 97) hx hb dX10_unit_80 (by decide) ?_
    refine lv_goto (tgt := 96) hx hb dX10_unit_82 (by decide) ?_
    exact w_unit_b96 hC hr y0 r_2 r_4 (97 : Int32) σ hF H locs ls hP hS (lv_sub hl [3, 2, 1, 0] rfl)
def F_unit_b55 (k56 : Int32 → MS → Option (Int32 × MS)) (σ : MS) : Option (Int32 × MS) :=
  k56 (0 : Int32) σ
set_option maxHeartbeats 4000000 in
theorem w_unit_b55 {p : Program} {l : Launch} {e : Env} {s : State} {m : MethodId} {args : Array Value} {below : List Frame} {meth : Method} {c : Code} {G : MG} (hC : MCx G cX10_unit 7 p s m args meth c) (hr : meth.sig.returnType = some .boolean) {x : (Int32 × MS)} (k56 : Int32 → MS → Option (Int32 × MS)) (hk56 : ∀ (y0 : Int32) (σ : MS), k56 y0 σ = some x → MJ p l e rmM_unit s m args below meth c G 7 (some (.int x.1)) x.2 56 [(0, .ref (gM G))] [.int y0] σ) :
    ∀ (σ : MS), F_unit_b55 k56 σ = some x → MJ p l e rmM_unit s m args below meth c G 7 (some (.int x.1)) x.2 55 [(0, .ref (gM G))] [] σ := by
  have hx := hC.1
  have hb := hC.2.1
  intro σ hF H locs ls hP hS hl
  rw [F_unit_b55] at hF
  refine lv_iconst (v := 0) hx hb dX10_unit_55 (by decide) ?_
  exact hk56 (0 : Int32) σ hF H locs ls hP hS (lv_sub hl [0] rfl)
def F_unit_b36 (y0 : Int32) (σ : MS) : Option (Int32 × MS) :=
  if y0 = 0 then
    F_unit_b55 (F_unit_b56) σ
  else
    bd (F_isWord σ (7237492 : Int64)) fun r_3 =>
    if r_3 = 0 then
      F_unit_b55 (F_unit_b56) σ
    else
      F_unit_b56 (1 : Int32) σ
set_option maxHeartbeats 4000000 in
theorem w_unit_b36 {p : Program} {l : Launch} {e : Env} {s : State} {m : MethodId} {args : Array Value} {below : List Frame} {meth : Method} {c : Code} {G : MG} (hC : MCx G cX10_unit 7 p s m args meth c) (hr : meth.sig.returnType = some .boolean) {x : (Int32 × MS)} :
    ∀ (y0 : Int32) (σ : MS), F_unit_b36 y0 σ = some x → MJ p l e rmM_unit s m args below meth c G 7 (some (.int x.1)) x.2 36 [(0, .ref (gM G))] [.int y0] σ := by
  have hx := hC.1
  have hb := hC.2.1
  intro y0 σ hF H locs ls hP hS hl
  rw [F_unit_b36] at hF
  refine lv_istore_n (lv' := [(1, .int y0), (0, .ref (gM G))]) hx hb dX10_unit_36 rfl hl (by decide) rfl (fun ls hl => ?_)
  refine lv_iload_n hx hb dX10_unit_37 rfl (lv_at hl 0 rfl) ?_
  refine lv_if_eq (tgt := 55) hx hb dX10_unit_38 (by decide) (fun c_1 => ?_) (fun c_1 => ?_)
  · replace hF := it_t hF c_1
    exact w_unit_b55 hC hr (F_unit_b56) (w_unit_b56 hC hr) σ hF H locs ls hP hS (lv_sub hl [1] rfl)
  · replace hF := it_f hF c_1
    refine lv_aload_n hx hb dX10_unit_41 rfl (lv_at hl 1 rfl) ?_
    refine lv_ldc2 (v := 7237492) hx hb hC.2.2.2.1 (hC.2.2.2.2.1 _ q2262) dX10_unit_42 ?_
    obtain ⟨r_3, hc_2, hF⟩ := bd_ok hF
    refine iM_isWord hC hP hS hc_2 hl.1 (Nat.le_of_ble_eq_true rfl) ⟨Nat.le_of_ble_eq_true rfl, Nat.le_of_ble_eq_true rfl⟩ ⟨Nat.zero_le _, Nat.zero_le _⟩ dX10_unit_45 (fun H locs hP hS => ?_)
    refine lv_if_eq (tgt := 55) hx hb dX10_unit_48 (by decide) (fun c_4 => ?_) (fun c_4 => ?_)
    · replace hF := it_t hF c_4
      exact w_unit_b55 hC hr (F_unit_b56) (w_unit_b56 hC hr) σ hF H locs ls hP hS (lv_sub hl [1] rfl)
    · replace hF := it_f hF c_4
      refine lv_iconst (v := 1) hx hb dX10_unit_51 (by decide) ?_
      refine lv_goto (tgt := 56) hx hb dX10_unit_52 (by decide) ?_
      exact w_unit_b56 hC hr (1 : Int32) σ hF H locs ls hP hS (lv_sub hl [1] rfl)
def F_unit_b31 (k36 : Int32 → MS → Option (Int32 × MS)) (σ : MS) : Option (Int32 × MS) :=
  k36 (1 : Int32) σ
set_option maxHeartbeats 4000000 in
theorem w_unit_b31 {p : Program} {l : Launch} {e : Env} {s : State} {m : MethodId} {args : Array Value} {below : List Frame} {meth : Method} {c : Code} {G : MG} (hC : MCx G cX10_unit 7 p s m args meth c) (hr : meth.sig.returnType = some .boolean) {x : (Int32 × MS)} (k36 : Int32 → MS → Option (Int32 × MS)) (hk36 : ∀ (y0 : Int32) (σ : MS), k36 y0 σ = some x → MJ p l e rmM_unit s m args below meth c G 7 (some (.int x.1)) x.2 36 [(0, .ref (gM G))] [.int y0] σ) :
    ∀ (σ : MS), F_unit_b31 k36 σ = some x → MJ p l e rmM_unit s m args below meth c G 7 (some (.int x.1)) x.2 31 [(0, .ref (gM G))] [] σ := by
  have hx := hC.1
  have hb := hC.2.1
  intro σ hF H locs ls hP hS hl
  rw [F_unit_b31] at hF
  refine lv_iconst (v := 1) hx hb dX10_unit_31 (by decide) ?_
  refine lv_goto (tgt := 36) hx hb dX10_unit_32 (by decide) ?_
  exact hk36 (1 : Int32) σ hF H locs ls hP hS (lv_sub hl [0] rfl)
def F_unit (σ : MS) : Option (Int32 × MS) :=
  gd (inb ((mI σ 39) - (1 : Int32)) 90) <|
  if (mA σ 32 (Int32.toNatClampNeg ((mI σ 39) - (1 : Int32)))) ≤ (3 : Int32) then
    F_unit_b31 (F_unit_b36) σ
  else
    gd (inb ((mI σ 39) - (1 : Int32)) 90) <|
    if (mA σ 32 (Int32.toNatClampNeg ((mI σ 39) - (1 : Int32)))) < (7 : Int32) then
      F_unit_b36 (0 : Int32) σ
    else
      F_unit_b31 (F_unit_b36) σ
set_option maxHeartbeats 4000000 in
theorem w_unit {p : Program} {l : Launch} {e : Env} {s : State} {m : MethodId} {args : Array Value} {below : List Frame} {meth : Method} {c : Code} {G : MG} (hC : MCx G cX10_unit 7 p s m args meth c) (hr : meth.sig.returnType = some .boolean) {x : (Int32 × MS)} :
    ∀ (σ : MS), F_unit σ = some x → MJ p l e rmM_unit s m args below meth c G 7 (some (.int x.1)) x.2 0 [(0, .ref (gM G))] [] σ := by
  have hx := hC.1
  have hb := hC.2.1
  intro σ hF H locs ls hP hS hl
  rw [F_unit] at hF
  refine lv_aload_n hx hb dX10_unit_0 rfl (lv_at hl 0 rfl) ?_
  refine gM32 hC hP dX10_unit_1 ?_
  refine lv_aload_n hx hb dX10_unit_4 rfl (lv_at hl 0 rfl) ?_
  refine gM39 hC hP dX10_unit_5 ?_
  refine lv_iconst (v := 1) hx hb dX10_unit_8 (by decide) ?_
  refine lv_isub hx hb dX10_unit_9 ?_
  obtain ⟨h_1, hF⟩ := gd_ok hF
  refine M_iald hC hP 32 (by decide) rfl rfl rfl h_1 dX10_unit_10 ?_
  refine lv_iconst (v := 3) hx hb dX10_unit_11 (by decide) ?_
  refine lv_icmp_le (tgt := 31) hx hb dX10_unit_12 (by decide) (fun c_2 => ?_) (fun c_2 => ?_)
  · replace hF := it_t hF c_2
    exact w_unit_b31 hC hr (F_unit_b36) (w_unit_b36 hC hr) σ hF H locs ls hP hS (lv_sub hl [0] rfl)
  · replace hF := it_f hF c_2
    refine lv_aload_n hx hb dX10_unit_15 rfl (lv_at hl 0 rfl) ?_
    refine gM32 hC hP dX10_unit_16 ?_
    refine lv_aload_n hx hb dX10_unit_19 rfl (lv_at hl 0 rfl) ?_
    refine gM39 hC hP dX10_unit_20 ?_
    refine lv_iconst (v := 1) hx hb dX10_unit_23 (by decide) ?_
    refine lv_isub hx hb dX10_unit_24 ?_
    obtain ⟨h_3, hF⟩ := gd_ok hF
    refine M_iald hC hP 32 (by decide) rfl rfl rfl h_3 dX10_unit_25 ?_
    refine lv_bipush (v := 7) hx hb dX10_unit_26 (by decide) ?_
    refine lv_icmp_lt (tgt := 35) hx hb dX10_unit_28 (by decide) (fun c_4 => ?_) (fun c_4 => ?_)
    · replace hF := it_t hF c_4
      refine lv_iconst (v := 0) hx hb dX10_unit_35 (by decide) ?_
      exact w_unit_b36 hC hr (0 : Int32) σ hF H locs ls hP hS (lv_sub hl [0] rfl)
    · replace hF := it_f hF c_4
      exact w_unit_b31 hC hr (F_unit_b36) (w_unit_b36 hC hr) σ hF H locs ls hP hS (lv_sub hl [0] rfl)
theorem m_unit (l : Launch) (G : MG) (σ : MS) (x : (Int32 × MS)) (hF : F_unit σ = some x) : Met l yX10_unit (ws_ yX10_unit cX10_unit 7 (some .boolean)) rmM_unit (mP G [.ref (gM G)] σ) (mQ G (some (.int x.1)) x.2) 0 0 (MA G) := by
  refine M_met rfl plM (Nat.le_of_ble_eq_true rfl) ?_
  intro p e s m below meth c hC hr ls hl hP
  exact w_unit hC hr σ hF s.heap [] ls hP va_S.rf hl
theorem iM_unit {p : Program} {l : Launch} {e : Env} {R : Room} {s : State} {m : MethodId} {args : Array Value} {below : List Frame} {meth : Method} {c : Code} {H H0 : Heap} {locs : List Loc} {cells slots nL : Nat} {Q : State → Prop} {G : MG} {σ : MS} {cc : ByteArray} {pc : Nat} {ls : Array Slot} {rest : List Value} (hC : MCx G cc nL p s m args meth c) (hP : MRep G σ H) (hS : va_S (MA G) H0 H locs) {x : Int32} {σ1 : MS} (hF : F_unit σ = some (x, σ1)) (hl : ls.size = nL) (hW : (rest.map fun v => v.category).sum ≤ 8) (hR : rmM_unit.frames + 1 ≤ R.frames ∧ 8 + (7 + 11) + rmM_unit.locals ≤ R.locals) (hf : cells ≤ R.cells ∧ slots ≤ R.slots) (hdg : decode cc pc = .ok (.invokevirtual 395, 3))
    (kk : ∀ (H1 : Heap) (locs1 : List Loc), MRep G σ1 H1 → va_S (MA G) H0 H1 locs1 → W p l e R s m args below meth c H1 locs1 cells slots Q (F0 m (pc + 3) ls (.int x :: rest))) : W p l e R s m args below meth c H locs cells slots Q (F0 m pc ls (.ref (gM G) :: rest)) :=
  M_inv hC hP hS [] (m_unit l G σ _ hF) (cwV 0 hC.2.2.2.2.1 (lw_V q2317 q2319 qs93 q145 q2320) rfl rfl rfl (by decide +kernel) hR) rfl rfl hl hW hf hdg kk
/-! e -/
abbrev rmM_e : Room := { frames := 4, cells := 0, slots := 0, locals := 86 }
def F_e_b48 (k19 : Int32 → MS → Option MS) (y0 : Int32) (σ : MS) : Option MS :=
  k19 y0 σ
set_option maxHeartbeats 4000000 in
theorem w_e_b48 {p : Program} {l : Launch} {e : Env} {s : State} {m : MethodId} {args : Array Value} {below : List Frame} {meth : Method} {c : Code} {G : MG} (hC : MCx G cX10_e 2 p s m args meth c) (hr : meth.sig.returnType = none) {x : MS} (k19 : Int32 → MS → Option MS) (hk19 : ∀ (x1 : Int32) (σ : MS), k19 x1 σ = some x → MJ p l e rmM_e s m args below meth c G 2 none x 19 [(0, .ref (gM G)), (1, .int x1)] [] σ) :
    ∀ (y0 : Int32) (σ : MS), F_e_b48 k19 y0 σ = some x → MJ p l e rmM_e s m args below meth c G 2 none x 48 [(0, .ref (gM G))] [.int y0] σ := by
  have hx := hC.1
  have hb := hC.2.1
  intro y0 σ hF H locs ls hP hS hl
  rw [F_e_b48] at hF
  refine lv_istore_n (lv' := [(1, .int y0), (0, .ref (gM G))]) hx hb dX10_e_48 rfl hl (by decide) rfl (fun ls hl => ?_)
  refine lv_goto (tgt := 19) hx hb dX10_e_49 (by decide) ?_
  exact hk19 y0 σ hF H locs ls hP hS (lv_sub hl [1, 0] rfl)
def F_e_L19 : Nat → Int32 → MS → Option MS
  | 0, _, _ => none
  | fu + 1, x1, σ =>
    bd (F_isGood σ) fun r_2 =>
    if r_2 = 0 then
      some σ
    else
      if (mI σ 39) ≤ 0 then
        some σ
      else
        if x1 = 0 then
          bd2 (F_behindUnit σ) fun r_8 σ_7 =>
          F_e_b48 (F_e_L19 fu) r_8 σ_7
        else
          bd2 (F_unit σ) fun r_11 σ_10 =>
          F_e_b48 (F_e_L19 fu) r_11 σ_10
set_option maxHeartbeats 4000000 in
theorem w_e_L19 {p : Program} {l : Launch} {e : Env} {s : State} {m : MethodId} {args : Array Value} {below : List Frame} {meth : Method} {c : Code} {G : MG} (hC : MCx G cX10_e 2 p s m args meth c) (hr : meth.sig.returnType = none) {x : MS} :
    ∀ (fu : Nat) (x1 : Int32) (σ : MS), F_e_L19 fu x1 σ = some x → MJ p l e rmM_e s m args below meth c G 2 none x 19 [(0, .ref (gM G)), (1, .int x1)] [] σ := by
  have hx := hC.1
  have hb := hC.2.1
  intro fu
  induction fu with
  | zero => intro x1 σ hF; exact nm_none hF
  | succ fu ih =>
    intro x1 σ hF H locs ls hP hS hl
    rw [F_e_L19] at hF
    refine lv_aload_n hx hb dX10_e_19 rfl (lv_at hl 0 rfl) ?_
    obtain ⟨r_2, hc_1, hF⟩ := bd_ok hF
    refine iM_isGood hC hP hS hc_1 hl.1 (Nat.le_of_ble_eq_true rfl) ⟨Nat.le_of_ble_eq_true rfl, Nat.le_of_ble_eq_true rfl⟩ ⟨Nat.zero_le _, Nat.zero_le _⟩ dX10_e_20 (fun H locs hP hS => ?_)
    refine lv_if_eq (tgt := 52) hx hb dX10_e_23 (by decide) (fun c_3 => ?_) (fun c_3 => ?_)
    · replace hF := it_t hF c_3
      exact M_retv hC hP hS hr (Option.some.inj hF) dX10_e_52
    · replace hF := it_f hF c_3
      refine lv_aload_n hx hb dX10_e_26 rfl (lv_at hl 0 rfl) ?_
      refine gM39 hC hP dX10_e_27 ?_
      refine lv_if_le (tgt := 52) hx hb dX10_e_30 (by decide) (fun c_4 => ?_) (fun c_4 => ?_)
      · replace hF := it_t hF c_4
        exact M_retv hC hP hS hr (Option.some.inj hF) dX10_e_52
      · replace hF := it_f hF c_4
        refine lv_iload_n hx hb dX10_e_33 rfl (lv_at hl 1 rfl) ?_
        refine lv_if_eq (tgt := 44) hx hb dX10_e_34 (by decide) (fun c_5 => ?_) (fun c_5 => ?_)
        · replace hF := it_t hF c_5
          refine lv_aload_n hx hb dX10_e_44 rfl (lv_at hl 0 rfl) ?_
          obtain ⟨r_8, σ_7, hc_6, hF⟩ := bd2_ok hF
          refine iM_behindUnit hC hP hS hc_6 hl.1 (Nat.le_of_ble_eq_true rfl) ⟨Nat.le_of_ble_eq_true rfl, Nat.le_of_ble_eq_true rfl⟩ ⟨Nat.zero_le _, Nat.zero_le _⟩ dX10_e_45 (fun H locs hP hS => ?_)
          exact w_e_b48 hC hr (F_e_L19 fu) ih r_8 σ_7 hF H locs ls hP hS (lv_sub hl [0] rfl)
        · replace hF := it_f hF c_5
          refine lv_aload_n hx hb dX10_e_37 rfl (lv_at hl 0 rfl) ?_
          obtain ⟨r_11, σ_10, hc_9, hF⟩ := bd2_ok hF
          refine iM_unit hC hP hS hc_9 hl.1 (Nat.le_of_ble_eq_true rfl) ⟨Nat.le_of_ble_eq_true rfl, Nat.le_of_ble_eq_true rfl⟩ ⟨Nat.zero_le _, Nat.zero_le _⟩ dX10_e_38 (fun H locs hP hS => ?_)
          refine lv_goto (tgt := 48) hx hb dX10_e_41 (by decide) ?_
          exact w_e_b48 hC hr (F_e_L19 fu) ih r_11 σ_10 hF H locs ls hP hS (lv_sub hl [0] rfl)
def F_e (σ : MS) : Option MS :=
  lt (wI σ 39 (0 : Int32)) fun σ_1 =>
  lt (wI σ_1 38 (0 : Int32)) fun σ_2 =>
  bd (F_pushE (8 : Int32) (0 : Int32) σ_2) fun σ_4 =>
  F_e_L19 MN (1 : Int32) σ_4
set_option maxHeartbeats 4000000 in
theorem w_e {p : Program} {l : Launch} {e : Env} {s : State} {m : MethodId} {args : Array Value} {below : List Frame} {meth : Method} {c : Code} {G : MG} (hC : MCx G cX10_e 2 p s m args meth c) (hr : meth.sig.returnType = none) {x : MS} :
    ∀ (σ : MS), F_e σ = some x → MJ p l e rmM_e s m args below meth c G 2 none x 0 [(0, .ref (gM G))] [] σ := by
  have hx := hC.1
  have hb := hC.2.1
  intro σ hF H locs ls hP hS hl
  rw [F_e] at hF
  refine lv_aload_n hx hb dX10_e_0 rfl (lv_at hl 0 rfl) ?_
  refine lv_iconst (v := 0) hx hb dX10_e_1 (by decide) ?_
  refine pM39 hC hP hS dX10_e_2 (fun H locs hP hS => ?_)
  obtain ⟨σ_1, eσ_1, hF⟩ := lt_ok hF
  rw [← eσ_1] at hP
  refine lv_aload_n hx hb dX10_e_5 rfl (lv_at hl 0 rfl) ?_
  refine lv_iconst (v := 0) hx hb dX10_e_6 (by decide) ?_
  refine pM38 hC hP hS dX10_e_7 (fun H locs hP hS => ?_)
  obtain ⟨σ_2, eσ_2, hF⟩ := lt_ok hF
  rw [← eσ_2] at hP
  refine lv_aload_n hx hb dX10_e_10 rfl (lv_at hl 0 rfl) ?_
  refine lv_bipush (v := 8) hx hb dX10_e_11 (by decide) ?_
  refine lv_iconst (v := 0) hx hb dX10_e_13 (by decide) ?_
  obtain ⟨σ_4, hc_3, hF⟩ := bd_ok hF
  refine iM_pushE hC hP hS hc_3 hl.1 (Nat.le_of_ble_eq_true rfl) ⟨Nat.le_of_ble_eq_true rfl, Nat.le_of_ble_eq_true rfl⟩ ⟨Nat.zero_le _, Nat.zero_le _⟩ dX10_e_14 (fun H locs hP hS => ?_)
  refine lv_iconst (v := 1) hx hb dX10_e_17 (by decide) ?_
  refine lv_istore_n (lv' := [(1, .int (1 : Int32)), (0, .ref (gM G))]) hx hb dX10_e_18 rfl hl (by decide) rfl (fun ls hl => ?_)
  exact w_e_L19 hC hr MN (1 : Int32) σ_4 hF H locs ls hP hS (lv_sub hl [1, 0] rfl)
theorem m_e (l : Launch) (G : MG) (σ : MS) (x : MS) (hF : F_e σ = some x) : Met l yX10_e (ws_ yX10_e cX10_e 2 none) rmM_e (mP G [.ref (gM G)] σ) (mQ G none x) 0 0 (MA G) := by
  refine M_met rfl plM (Nat.le_of_ble_eq_true rfl) ?_
  intro p e s m below meth c hC hr ls hl hP
  exact w_e hC hr σ hF s.heap [] ls hP va_S.rf hl
theorem iM_e {p : Program} {l : Launch} {e : Env} {R : Room} {s : State} {m : MethodId} {args : Array Value} {below : List Frame} {meth : Method} {c : Code} {H H0 : Heap} {locs : List Loc} {cells slots nL : Nat} {Q : State → Prop} {G : MG} {σ : MS} {cc : ByteArray} {pc : Nat} {ls : Array Slot} {rest : List Value} (hC : MCx G cc nL p s m args meth c) (hP : MRep G σ H) (hS : va_S (MA G) H0 H locs) {x : MS} (hF : F_e σ = some x) (hl : ls.size = nL) (hW : (rest.map fun v => v.category).sum ≤ 8) (hR : rmM_e.frames + 1 ≤ R.frames ∧ 8 + (2 + 11) + rmM_e.locals ≤ R.locals) (hf : cells ≤ R.cells ∧ slots ≤ R.slots) (hdg : decode cc pc = .ok (.invokevirtual 358, 3))
    (kk : ∀ (H1 : Heap) (locs1 : List Loc), MRep G x H1 → va_S (MA G) H0 H1 locs1 → W p l e R s m args below meth c H1 locs1 cells slots Q (F0 m (pc + 3) ls (rest))) : W p l e R s m args below meth c H locs cells slots Q (F0 m pc ls (.ref (gM G) :: rest)) :=
  M_inv hC hP hS [] (m_e l G σ _ hF) (cwV 0 hC.2.2.2.2.1 (lw_V q2309 q2311 qs91 q145 q2312) rfl rfl rfl (by decide +kernel) hR) rfl rfl hl hW hf hdg kk
end
