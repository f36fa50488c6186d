set_option maxRecDepth 100000
noncomputable section
/-! settleMarks -/
abbrev rmM_settleMarks : Room := { frames := 1, cells := 0, slots := 0, locals := 22 }
def F_settleMarks_b149 (k8 : Int32 → MS → Option MS) (x1 : Int32) (σ : MS) : Option MS :=
  lt (x1 + (1 : Int32)) fun x1_1 =>
  k8 x1_1 σ
set_option maxHeartbeats 4000000 in
theorem w_settleMarks_b149 {p : Program} {l : Launch} {e : Env} {s : State} {m : MethodId} {args : Array Value} {below : List Frame} {meth : Method} {c : Code} {G : MG} (hC : MCx G cX10_settleMarks 3 p s m args meth c) (hr : meth.sig.returnType = none) {x : MS} (k8 : Int32 → MS → Option MS) (hk8 : ∀ (x1 : Int32) (σ : MS), k8 x1 σ = some x → MJ p l e rmM_settleMarks s m args below meth c G 3 none x 8 [(0, .ref (gM G)), (1, .int x1)] [] σ) :
    ∀ (x1 : Int32) (σ : MS), F_settleMarks_b149 k8 x1 σ = some x → MJ p l e rmM_settleMarks s m args below meth c G 3 none x 149 [(0, .ref (gM G)), (1, .int x1)] [] σ := by
  have hx := hC.1
  have hb := hC.2.1
  intro x1 σ hF H locs ls hP hS hl
  rw [F_settleMarks_b149] at hF
  obtain ⟨x1_1, ex1_1, hF⟩ := lt_ok hF
  refine lv_iinc (v := x1_1) (lv' := [(1, .int x1_1), (0, .ref (gM G))]) hx hb dX10_settleMarks_149 hl (k := 1) rfl (by rw [ex1_1]; rfl) (by decide) rfl (fun ls hl => ?_)
  refine lv_goto (tgt := 8) hx hb dX10_settleMarks_152 (by decide) ?_
  exact hk8 x1_1 σ hF H locs ls hP hS (lv_sub hl [1, 0] rfl)
def F_settleMarks_b128 (k149 : Int32 → MS → Option MS) (x1 : Int32) (σ : MS) : Option MS :=
  gd (inb x1 104) <|
  if 0 ≤ (mA σ 25 (Int32.toNatClampNeg x1)) then
    k149 x1 σ
  else
    gd (inb x1 104) <|
    bd (F_fails (6 : Int32) (mA σ 28 (Int32.toNatClampNeg x1)) σ) fun σ_5 =>
    k149 x1 σ_5
set_option maxHeartbeats 4000000 in
theorem w_settleMarks_b128 {p : Program} {l : Launch} {e : Env} {s : State} {m : MethodId} {args : Array Value} {below : List Frame} {meth : Method} {c : Code} {G : MG} (hC : MCx G cX10_settleMarks 3 p s m args meth c) (hr : meth.sig.returnType = none) {x : MS} (k149 : Int32 → MS → Option MS) (hk149 : ∀ (x1 : Int32) (σ : MS), k149 x1 σ = some x → MJ p l e rmM_settleMarks s m args below meth c G 3 none x 149 [(0, .ref (gM G)), (1, .int x1)] [] σ) :
    ∀ (x1 : Int32) (σ : MS), F_settleMarks_b128 k149 x1 σ = some x → MJ p l e rmM_settleMarks s m args below meth c G 3 none x 128 [(0, .ref (gM G)), (1, .int x1)] [] σ := by
  have hx := hC.1
  have hb := hC.2.1
  intro x1 σ hF H locs ls hP hS hl
  rw [F_settleMarks_b128] at hF
  refine lv_aload_n hx hb dX10_settleMarks_128 rfl (lv_at hl 0 rfl) ?_
  refine gM25 hC hP dX10_settleMarks_129 ?_
  refine lv_iload_n hx hb dX10_settleMarks_132 rfl (lv_at hl 1 rfl) ?_
  obtain ⟨h_1, hF⟩ := gd_ok hF
  refine M_iald hC hP 25 (by decide) rfl rfl rfl h_1 dX10_settleMarks_133 ?_
  refine lv_if_ge (tgt := 149) hx hb dX10_settleMarks_134 (by decide) (fun c_2 => ?_) (fun c_2 => ?_)
  · replace hF := it_t hF c_2
    exact hk149 x1 σ hF H locs ls hP hS (lv_sub hl [0, 1] rfl)
  · replace hF := it_f hF c_2
    refine lv_aload_n hx hb dX10_settleMarks_137 rfl (lv_at hl 0 rfl) ?_
    refine lv_bipush (v := 6) hx hb dX10_settleMarks_138 (by decide) ?_
    refine lv_aload_n hx hb dX10_settleMarks_140 rfl (lv_at hl 0 rfl) ?_
    refine gM28 hC hP dX10_settleMarks_141 ?_
    refine lv_iload_n hx hb dX10_settleMarks_144 rfl (lv_at hl 1 rfl) ?_
    obtain ⟨h_3, hF⟩ := gd_ok hF
    refine M_iald hC hP 28 (by decide) rfl rfl rfl h_3 dX10_settleMarks_145 ?_
    obtain ⟨σ_5, hc_4, hF⟩ := bd_ok hF
    refine iM_fails hC hP hS hc_4 hl.1 (Nat.le_of_ble_eq_true rfl) ⟨Nat.le_of_ble_eq_true rfl, Nat.le_of_ble_eq_true rfl⟩ ⟨Nat.zero_le _, Nat.zero_le _⟩ dX10_settleMarks_146 (fun H locs hP hS => ?_)
    exact hk149 x1 σ_5 hF H locs ls hP hS (lv_sub hl [0, 1] rfl)
def F_settleMarks_b122 (k59 : Int32 → Int32 → MS → Option MS) (x1 : Int32) (x2 : Int32) (σ : MS) : Option MS :=
  lt (x2 + (1 : Int32)) fun x2_1 =>
  k59 x1 x2_1 σ
set_option maxHeartbeats 4000000 in
theorem w_settleMarks_b122 {p : Program} {l : Launch} {e : Env} {s : State} {m : MethodId} {args : Array Value} {below : List Frame} {meth : Method} {c : Code} {G : MG} (hC : MCx G cX10_settleMarks 3 p s m args meth c) (hr : meth.sig.returnType = none) {x : MS} (k59 : Int32 → Int32 → MS → Option MS) (hk59 : ∀ (x1 : Int32) (x2 : Int32) (σ : MS), k59 x1 x2 σ = some x → MJ p l e rmM_settleMarks s m args below meth c G 3 none x 59 [(0, .ref (gM G)), (1, .int x1), (2, .int x2)] [] σ) :
    ∀ (x1 : Int32) (x2 : Int32) (σ : MS), F_settleMarks_b122 k59 x1 x2 σ = some x → MJ p l e rmM_settleMarks s m args below meth c G 3 none x 122 [(0, .ref (gM G)), (1, .int x1), (2, .int x2)] [] σ := by
  have hx := hC.1
  have hb := hC.2.1
  intro x1 x2 σ hF H locs ls hP hS hl
  rw [F_settleMarks_b122] at hF
  obtain ⟨x2_1, ex2_1, hF⟩ := lt_ok hF
  refine lv_iinc (v := x2_1) (lv' := [(2, .int x2_1), (0, .ref (gM G)), (1, .int x1)]) hx hb dX10_settleMarks_122 hl (k := 2) rfl (by rw [ex2_1]; rfl) (by decide) rfl (fun ls hl => ?_)
  refine lv_goto (tgt := 59) hx hb dX10_settleMarks_125 (by decide) ?_
  exact hk59 x1 x2_1 σ hF H locs ls hP hS (lv_sub hl [1, 2, 0] rfl)
def F_settleMarks_L59 (k149 : Int32 → MS → Option MS) : Nat → Int32 → Int32 → MS → Option MS
  | 0, _, _, _ => none
  | fu + 1, x1, x2, σ =>
    gd (inb (mI σ 36) 2) <|
    if (((52 : Int32) * (mI σ 36)) + (mA σ 13 (Int32.toNatClampNeg (mI σ 36)))) ≤ x2 then
      F_settleMarks_b128 k149 x1 σ
    else
      gd (inb x2 104) <|
      if (mA σ 22 (Int32.toNatClampNeg x2)) = (10 : Int32) then
        gd (inb x2 104) <|
        gd (inb x1 104) <|
        if (lg_cmp (mL σ 29 (Int32.toNatClampNeg x2)) (mL σ 29 (Int32.toNatClampNeg x1))) = 0 then
          gd (inb x1 104) <|
          lt (wA σ 25 (Int32.toNatClampNeg x1) (x2 - ((52 : Int32) * (mI σ 36)))) fun σ_9 =>
          F_settleMarks_b122 (F_settleMarks_L59 k149 fu) x1 x2 σ_9
        else
          F_settleMarks_b122 (F_settleMarks_L59 k149 fu) x1 x2 σ
      else
        F_settleMarks_b122 (F_settleMarks_L59 k149 fu) x1 x2 σ
set_option maxHeartbeats 4000000 in
theorem w_settleMarks_L59 {p : Program} {l : Launch} {e : Env} {s : State} {m : MethodId} {args : Array Value} {below : List Frame} {meth : Method} {c : Code} {G : MG} (hC : MCx G cX10_settleMarks 3 p s m args meth c) (hr : meth.sig.returnType = none) {x : MS} (k149 : Int32 → MS → Option MS) (hk149 : ∀ (x1 : Int32) (σ : MS), k149 x1 σ = some x → MJ p l e rmM_settleMarks s m args below meth c G 3 none x 149 [(0, .ref (gM G)), (1, .int x1)] [] σ) :
    ∀ (fu : Nat) (x1 : Int32) (x2 : Int32) (σ : MS), F_settleMarks_L59 k149 fu x1 x2 σ = some x → MJ p l e rmM_settleMarks s m args below meth c G 3 none x 59 [(0, .ref (gM G)), (1, .int x1), (2, .int x2)] [] σ := by
  have hx := hC.1
  have hb := hC.2.1
  intro fu
  induction fu with
  | zero => intro x1 x2 σ hF; exact nm_none hF
  | succ fu ih =>
    intro x1 x2 σ hF H locs ls hP hS hl
    rw [F_settleMarks_L59] at hF
    refine lv_iload_n hx hb dX10_settleMarks_59 rfl (lv_at hl 2 rfl) ?_
    refine lv_bipush (v := 52) hx hb dX10_settleMarks_60 (by decide) ?_
    refine lv_aload_n hx hb dX10_settleMarks_62 rfl (lv_at hl 0 rfl) ?_
    refine gM36 hC hP dX10_settleMarks_63 ?_
    refine lv_imul hx hb dX10_settleMarks_66 ?_
    refine lv_aload_n hx hb dX10_settleMarks_67 rfl (lv_at hl 0 rfl) ?_
    refine gM13 hC hP dX10_settleMarks_68 ?_
    refine lv_aload_n hx hb dX10_settleMarks_71 rfl (lv_at hl 0 rfl) ?_
    refine gM36 hC hP dX10_settleMarks_72 ?_
    obtain ⟨h_1, hF⟩ := gd_ok hF
    refine M_iald hC hP 13 (by decide) rfl rfl rfl h_1 dX10_settleMarks_75 ?_
    refine lv_iadd hx hb dX10_settleMarks_76 ?_
    refine lv_icmp_ge (tgt := 128) hx hb dX10_settleMarks_77 (by decide) (fun c_2 => ?_) (fun c_2 => ?_)
    · replace hF := it_t hF c_2
      exact w_settleMarks_b128 hC hr k149 hk149 x1 σ hF H locs ls hP hS (lv_sub hl [0, 1] rfl)
    · replace hF := it_f hF c_2
      refine lv_aload_n hx hb dX10_settleMarks_80 rfl (lv_at hl 0 rfl) ?_
      refine gM22 hC hP dX10_settleMarks_81 ?_
      refine lv_iload_n hx hb dX10_settleMarks_84 rfl (lv_at hl 2 rfl) ?_
      obtain ⟨h_3, hF⟩ := gd_ok hF
      refine M_iald hC hP 22 (by decide) rfl rfl rfl h_3 dX10_settleMarks_85 ?_
      refine lv_bipush (v := 10) hx hb dX10_settleMarks_86 (by decide) ?_
      refine lv_icmp_ne (tgt := 122) hx hb dX10_settleMarks_88 (by decide) (fun c_4 => ?_) (fun c_4 => ?_)
      · replace hF := it_f hF c_4
        exact w_settleMarks_b122 hC hr (F_settleMarks_L59 k149 fu) ih x1 x2 σ hF H locs ls hP hS (lv_sub hl [0, 1, 2] rfl)
      · replace hF := it_t hF c_4
        refine lv_aload_n hx hb dX10_settleMarks_91 rfl (lv_at hl 0 rfl) ?_
        refine gM29 hC hP dX10_settleMarks_92 ?_
        refine lv_iload_n hx hb dX10_settleMarks_95 rfl (lv_at hl 2 rfl) ?_
        obtain ⟨h_5, hF⟩ := gd_ok hF
        refine M_lald hC hP 29 (by decide) rfl rfl rfl h_5 dX10_settleMarks_96 ?_
        refine lv_aload_n hx hb dX10_settleMarks_97 rfl (lv_at hl 0 rfl) ?_
        refine gM29 hC hP dX10_settleMarks_98 ?_
        refine lv_iload_n hx hb dX10_settleMarks_101 rfl (lv_at hl 1 rfl) ?_
        obtain ⟨h_6, hF⟩ := gd_ok hF
        refine M_lald hC hP 29 (by decide) rfl rfl rfl h_6 dX10_settleMarks_102 ?_
        refine W.lcmp hx hb dX10_settleMarks_103 ?_
        refine lv_if_ne (tgt := 122) hx hb dX10_settleMarks_104 (by decide) (fun c_7 => ?_) (fun c_7 => ?_)
        · replace hF := it_f hF c_7
          exact w_settleMarks_b122 hC hr (F_settleMarks_L59 k149 fu) ih x1 x2 σ hF H locs ls hP hS (lv_sub hl [0, 1, 2] rfl)
        · replace hF := it_t hF c_7
          refine lv_aload_n hx hb dX10_settleMarks_107 rfl (lv_at hl 0 rfl) ?_
          refine gM25 hC hP dX10_settleMarks_108 ?_
          refine lv_iload_n hx hb dX10_settleMarks_111 rfl (lv_at hl 1 rfl) ?_
          refine lv_iload_n hx hb dX10_settleMarks_112 rfl (lv_at hl 2 rfl) ?_
          refine lv_bipush (v := 52) hx hb dX10_settleMarks_113 (by decide) ?_
          refine lv_aload_n hx hb dX10_settleMarks_115 rfl (lv_at hl 0 rfl) ?_
          refine gM36 hC hP dX10_settleMarks_116 ?_
          refine lv_imul hx hb dX10_settleMarks_119 ?_
          refine lv_isub hx hb dX10_settleMarks_120 ?_
          obtain ⟨h_8, hF⟩ := gd_ok hF
          refine M_iast hC hP hS 25 (by decide) rfl rfl rfl h_8 dX10_settleMarks_121 (fun H locs hP hS => ?_)
          obtain ⟨σ_9, eσ_9, hF⟩ := lt_ok hF
          rw [← eσ_9] at hP
          exact w_settleMarks_b122 hC hr (F_settleMarks_L59 k149 fu) ih x1 x2 σ_9 hF H locs ls hP hS (lv_sub hl [0, 1, 2] rfl)
def F_settleMarks_L8 : Nat → Int32 → MS → Option MS
  | 0, _, _ => none
  | fu + 1, x1, σ =>
    gd (inb (mI σ 36) 2) <|
    if (((52 : Int32) * (mI σ 36)) + (mA σ 13 (Int32.toNatClampNeg (mI σ 36)))) ≤ x1 then
      some σ
    else
      bd (F_isGood σ) fun r_4 =>
      if r_4 = 0 then
        some σ
      else
        gd (inb x1 104) <|
        if (mA σ 22 (Int32.toNatClampNeg x1)) = (9 : Int32) then
          gd (inb x1 104) <|
          lt (wA σ 25 (Int32.toNatClampNeg x1) (-1 : Int32)) fun σ_9 =>
          F_settleMarks_L59 (F_settleMarks_b149 (F_settleMarks_L8 fu)) MN x1 x1 σ_9
        else
          F_settleMarks_b149 (F_settleMarks_L8 fu) x1 σ
set_option maxHeartbeats 4000000 in
theorem w_settleMarks_L8 {p : Program} {l : Launch} {e : Env} {s : State} {m : MethodId} {args : Array Value} {below : List Frame} {meth : Method} {c : Code} {G : MG} (hC : MCx G cX10_settleMarks 3 p s m args meth c) (hr : meth.sig.returnType = none) {x : MS} :
    ∀ (fu : Nat) (x1 : Int32) (σ : MS), F_settleMarks_L8 fu x1 σ = some x → MJ p l e rmM_settleMarks s m args below meth c G 3 none x 8 [(0, .ref (gM G)), (1, .int x1)] [] σ := by
  have hx := hC.1
  have hb := hC.2.1
  intro fu
  induction fu with
  | zero => intro x1 σ hF; exact nm_none hF
  | succ fu ih =>
    intro x1 σ hF H locs ls hP hS hl
    rw [F_settleMarks_L8] at hF
    refine lv_iload_n hx hb dX10_settleMarks_8 rfl (lv_at hl 1 rfl) ?_
    refine lv_bipush (v := 52) hx hb dX10_settleMarks_9 (by decide) ?_
    refine lv_aload_n hx hb dX10_settleMarks_11 rfl (lv_at hl 0 rfl) ?_
    refine gM36 hC hP dX10_settleMarks_12 ?_
    refine lv_imul hx hb dX10_settleMarks_15 ?_
    refine lv_aload_n hx hb dX10_settleMarks_16 rfl (lv_at hl 0 rfl) ?_
    refine gM13 hC hP dX10_settleMarks_17 ?_
    refine lv_aload_n hx hb dX10_settleMarks_20 rfl (lv_at hl 0 rfl) ?_
    refine gM36 hC hP dX10_settleMarks_21 ?_
    obtain ⟨h_1, hF⟩ := gd_ok hF
    refine M_iald hC hP 13 (by decide) rfl rfl rfl h_1 dX10_settleMarks_24 ?_
    refine lv_iadd hx hb dX10_settleMarks_25 ?_
    refine lv_icmp_ge (tgt := 155) hx hb dX10_settleMarks_26 (by decide) (fun c_2 => ?_) (fun c_2 => ?_)
    · replace hF := it_t hF c_2
      exact M_retv hC hP hS hr (Option.some.inj hF) dX10_settleMarks_155
    · replace hF := it_f hF c_2
      refine lv_aload_n hx hb dX10_settleMarks_29 rfl (lv_at hl 0 rfl) ?_
      obtain ⟨r_4, hc_3, hF⟩ := bd_ok hF
      refine iM_isGood hC hP hS hc_3 hl.1 (Nat.le_of_ble_eq_true rfl) ⟨Nat.le_of_ble_eq_true rfl, Nat.le_of_ble_eq_true rfl⟩ ⟨Nat.zero_le _, Nat.zero_le _⟩ dX10_settleMarks_30 (fun H locs hP hS => ?_)
      refine lv_if_eq (tgt := 155) hx hb dX10_settleMarks_33 (by decide) (fun c_5 => ?_) (fun c_5 => ?_)
      · replace hF := it_t hF c_5
        exact M_retv hC hP hS hr (Option.some.inj hF) dX10_settleMarks_155
      · replace hF := it_f hF c_5
        refine lv_aload_n hx hb dX10_settleMarks_36 rfl (lv_at hl 0 rfl) ?_
        refine gM22 hC hP dX10_settleMarks_37 ?_
        refine lv_iload_n hx hb dX10_settleMarks_40 rfl (lv_at hl 1 rfl) ?_
        obtain ⟨h_6, hF⟩ := gd_ok hF
        refine M_iald hC hP 22 (by decide) rfl rfl rfl h_6 dX10_settleMarks_41 ?_
        refine lv_bipush (v := 9) hx hb dX10_settleMarks_42 (by decide) ?_
        refine lv_icmp_eq (tgt := 50) hx hb dX10_settleMarks_44 (by decide) (fun c_7 => ?_) (fun c_7 => ?_)
        · replace hF := it_t hF c_7
          refine lv_aload_n hx hb dX10_settleMarks_50 rfl (lv_at hl 0 rfl) ?_
          refine gM25 hC hP dX10_settleMarks_51 ?_
          refine lv_iload_n hx hb dX10_settleMarks_54 rfl (lv_at hl 1 rfl) ?_
          refine lv_iconst (v := -1) hx hb dX10_settleMarks_55 (by decide) ?_
          obtain ⟨h_8, hF⟩ := gd_ok hF
          refine M_iast hC hP hS 25 (by decide) rfl rfl rfl h_8 dX10_settleMarks_56 (fun H locs hP hS => ?_)
          obtain ⟨σ_9, eσ_9, hF⟩ := lt_ok hF
          rw [← eσ_9] at hP
          refine lv_iload_n hx hb dX10_settleMarks_57 rfl (lv_at hl 1 rfl) ?_
          refine lv_istore_n (lv' := [(2, .int x1), (0, .ref (gM G)), (1, .int x1)]) hx hb dX10_settleMarks_58 rfl hl (by decide) rfl (fun ls hl => ?_)
          exact w_settleMarks_L59 hC hr (F_settleMarks_b149 (F_settleMarks_L8 fu)) (w_settleMarks_b149 hC hr (F_settleMarks_L8 fu) ih) MN x1 x1 σ_9 hF H locs ls hP hS (lv_sub hl [1, 2, 0] rfl)
        · replace hF := it_f hF c_7
          refine lv_goto (tgt := 149) hx hb dX10_settleMarks_47 (by decide) ?_
          exact w_settleMarks_b149 hC hr (F_settleMarks_L8 fu) ih x1 σ hF H locs ls hP hS (lv_sub hl [0, 1] rfl)
def F_settleMarks (σ : MS) : Option MS :=
  lt (((52 : Int32) * (mI σ 36))) fun x1_1 =>
  F_settleMarks_L8 MN x1_1 σ
set_option maxHeartbeats 4000000 in
theorem w_settleMarks {p : Program} {l : Launch} {e : Env} {s : State} {m : MethodId} {args : Array Value} {below : List Frame} {meth : Method} {c : Code} {G : MG} (hC : MCx G cX10_settleMarks 3 p s m args meth c) (hr : meth.sig.returnType = none) {x : MS} :
    ∀ (σ : MS), F_settleMarks σ = some x → MJ p l e rmM_settleMarks s m args below meth c G 3 none x 0 [(0, .ref (gM G))] [] σ := by
  have hx := hC.1
  have hb := hC.2.1
  intro σ hF H locs ls hP hS hl
  rw [F_settleMarks] at hF
  refine lv_bipush (v := 52) hx hb dX10_settleMarks_0 (by decide) ?_
  refine lv_aload_n hx hb dX10_settleMarks_2 rfl (lv_at hl 0 rfl) ?_
  refine gM36 hC hP dX10_settleMarks_3 ?_
  refine lv_imul hx hb dX10_settleMarks_6 ?_
  refine lv_topi (fun x1_1 ex1_1 => ?_)
  replace hF := lt_at hF ex1_1
  refine lv_istore_n (lv' := [(1, .int x1_1), (0, .ref (gM G))]) hx hb dX10_settleMarks_7 rfl hl (by decide) rfl (fun ls hl => ?_)
  exact w_settleMarks_L8 hC hr MN x1_1 σ hF H locs ls hP hS (lv_sub hl [1, 0] rfl)
theorem m_settleMarks (l : Launch) (G : MG) (σ : MS) (x : MS) (hF : F_settleMarks σ = some x) : Met l yX10_settleMarks (ws_ yX10_settleMarks cX10_settleMarks 3 none) rmM_settleMarks (mP G [.ref (gM G)] σ) (mQ G none x) 0 0 (MA G) := by
  refine M_met rfl plM (Nat.le_of_ble_eq_true rfl) ?_
  intro p e s m below meth c hC hr ls hl hP
  exact w_settleMarks hC hr σ hF s.heap [] ls hP va_S.rf hl
theorem iM_settleMarks {p : Program} {l : Launch} {e : Env} {R : Room} {s : State} {m : MethodId} {args : Array Value} {below : List Frame} {meth : Method} {c : Code} {H H0 : Heap} {locs : List Loc} {cells slots nL : Nat} {Q : State → Prop} {G : MG} {σ : MS} {cc : ByteArray} {pc : Nat} {ls : Array Slot} {rest : List Value} (hC : MCx G cc nL p s m args meth c) (hP : MRep G σ H) (hS : va_S (MA G) H0 H locs) {x : MS} (hF : F_settleMarks σ = some x) (hl : ls.size = nL) (hW : (rest.map fun v => v.category).sum ≤ 8) (hR : rmM_settleMarks.frames + 1 ≤ R.frames ∧ 8 + (3 + 11) + rmM_settleMarks.locals ≤ R.locals) (hf : cells ≤ R.cells ∧ slots ≤ R.slots) (hdg : decode cc pc = .ok (.invokevirtual 315, 3))
    (kk : ∀ (H1 : Heap) (locs1 : List Loc), MRep G x H1 → va_S (MA G) H0 H1 locs1 → W p l e R s m args below meth c H1 locs1 cells slots Q (F0 m (pc + 3) ls (rest))) : W p l e R s m args below meth c H locs cells slots Q (F0 m pc ls (.ref (gM G) :: rest)) :=
  M_inv hC hP hS [] (m_settleMarks l G σ _ hF) (cwV 0 hC.2.2.2.2.1 (lw_V q2385 q2387 qs110 q145 q2388) rfl rfl rfl (by decide +kernel) hR) rfl rfl hl hW hf hdg kk
/-! recipe -/
abbrev rmM_recipe : Room := { frames := 7, cells := 0, slots := 0, locals := 161 }
def F_recipe_b146 (σ : MS) : Option (Int32 × MS) :=
  bd (F_layPaths σ) fun σ_2 =>
  gd (inb (mI σ_2 35) 2) <|
  some ((mA σ_2 13 (Int32.toNatClampNeg (mI σ_2 35))), σ_2)
set_option maxHeartbeats 4000000 in
theorem w_recipe_b146 {p : Program} {l : Launch} {e : Env} {s : State} {m : MethodId} {args : Array Value} {below : List Frame} {meth : Method} {c : Code} {G : MG} (hC : MCx G cX10_recipe 2 p s m args meth c) (hr : meth.sig.returnType = some .int) {x : (Int32 × MS)} :
    ∀ (σ : MS), F_recipe_b146 σ = some x → MJ p l e rmM_recipe s m args below meth c G 2 (some (.int x.1)) x.2 146 [(0, .ref (gM G))] [] σ := by
  have hx := hC.1
  have hb := hC.2.1
  intro σ hF H locs ls hP hS hl
  rw [F_recipe_b146] at hF
  refine lv_aload_n hx hb dX10_recipe_146 rfl (lv_at hl 0 rfl) ?_
  obtain ⟨σ_2, hc_1, hF⟩ := bd_ok hF
  refine iM_layPaths hC hP hS hc_1 hl.1 (Nat.le_of_ble_eq_true rfl) ⟨Nat.le_of_ble_eq_true rfl, Nat.le_of_ble_eq_true rfl⟩ ⟨Nat.zero_le _, Nat.zero_le _⟩ dX10_recipe_147 (fun H locs hP hS => ?_)
  refine lv_aload_n hx hb dX10_recipe_150 rfl (lv_at hl 0 rfl) ?_
  refine gM13 hC hP dX10_recipe_151 ?_
  refine lv_aload_n hx hb dX10_recipe_154 rfl (lv_at hl 0 rfl) ?_
  refine gM35 hC hP dX10_recipe_155 ?_
  obtain ⟨h_3, hF⟩ := gd_ok hF
  refine M_iald hC hP 13 (by decide) rfl rfl rfl h_3 dX10_recipe_158 ?_
  exact M_reti hC hP hS hr (rt1 hF) (rt2 hF) dX10_recipe_159
def F_recipe_L128 : Nat → Int32 → MS → Option (Int32 × MS)
  | 0, _, _ => none
  | fu + 1, x1, σ =>
    if (3 : Int32) ≤ x1 then
      F_recipe_b146 σ
    else
      gd (inb x1 3) <|
      lt (wA σ 84 (Int32.toNatClampNeg x1) (-1 : Int32)) fun σ_3 =>
      lt (x1 + (1 : Int32)) fun x1_4 =>
      F_recipe_L128 fu x1_4 σ_3
set_option maxHeartbeats 4000000 in
theorem w_recipe_L128 {p : Program} {l : Launch} {e : Env} {s : State} {m : MethodId} {args : Array Value} {below : List Frame} {meth : Method} {c : Code} {G : MG} (hC : MCx G cX10_recipe 2 p s m args meth c) (hr : meth.sig.returnType = some .int) {x : (Int32 × MS)} :
    ∀ (fu : Nat) (x1 : Int32) (σ : MS), F_recipe_L128 fu x1 σ = some x → MJ p l e rmM_recipe s m args below meth c G 2 (some (.int x.1)) x.2 128 [(0, .ref (gM G)), (1, .int x1)] [] σ := by
  have hx := hC.1
  have hb := hC.2.1
  intro fu
  induction fu with
  | zero => intro x1 σ hF; exact nm_none hF
  | succ fu ih =>
    intro x1 σ hF H locs ls hP hS hl
    rw [F_recipe_L128] at hF
    refine lv_iload_n hx hb dX10_recipe_128 rfl (lv_at hl 1 rfl) ?_
    refine lv_iconst (v := 3) hx hb dX10_recipe_129 (by decide) ?_
    refine lv_icmp_ge (tgt := 146) hx hb dX10_recipe_130 (by decide) (fun c_1 => ?_) (fun c_1 => ?_)
    · replace hF := it_t hF c_1
      exact w_recipe_b146 hC hr σ hF H locs ls hP hS (lv_sub hl [0] rfl)
    · replace hF := it_f hF c_1
      refine lv_aload_n hx hb dX10_recipe_133 rfl (lv_at hl 0 rfl) ?_
      refine gM84 hC hP dX10_recipe_134 ?_
      refine lv_iload_n hx hb dX10_recipe_137 rfl (lv_at hl 1 rfl) ?_
      refine lv_iconst (v := -1) hx hb dX10_recipe_138 (by decide) ?_
      obtain ⟨h_2, hF⟩ := gd_ok hF
      refine M_iast hC hP hS 84 (by decide) rfl rfl rfl h_2 dX10_recipe_139 (fun H locs hP hS => ?_)
      obtain ⟨σ_3, eσ_3, hF⟩ := lt_ok hF
      rw [← eσ_3] at hP
      obtain ⟨x1_4, ex1_4, hF⟩ := lt_ok hF
      refine lv_iinc (v := x1_4) (lv' := [(1, .int x1_4), (0, .ref (gM G))]) hx hb dX10_recipe_140 hl (k := 1) rfl (by rw [ex1_4]; rfl) (by decide) rfl (fun ls hl => ?_)
      refine lv_goto (tgt := 128) hx hb dX10_recipe_143 (by decide) ?_
      exact ih x1_4 σ_3 hF H locs ls hP hS (lv_sub hl [1, 0] rfl)
def F_recipe_b95 (σ : MS) : Option (Int32 × MS) :=
  bd (F_settleMarks σ) fun σ_2 =>
  bd (F_isGood σ_2) fun r_4 =>
  if r_4 = 0 then
    some ((-1 : Int32), σ_2)
  else
    lt (wI σ_2 35 (mI σ_2 36)) fun σ_6 =>
    lt (wI σ_6 82 (0 : Int32)) fun σ_7 =>
    lt (wI σ_7 77 (0 : Int32)) fun σ_8 =>
    F_recipe_L128 MN (0 : Int32) σ_8
set_option maxHeartbeats 4000000 in
theorem w_recipe_b95 {p : Program} {l : Launch} {e : Env} {s : State} {m : MethodId} {args : Array Value} {below : List Frame} {meth : Method} {c : Code} {G : MG} (hC : MCx G cX10_recipe 2 p s m args meth c) (hr : meth.sig.returnType = some .int) {x : (Int32 × MS)} :
    ∀ (σ : MS), F_recipe_b95 σ = some x → MJ p l e rmM_recipe s m args below meth c G 2 (some (.int x.1)) x.2 95 [(0, .ref (gM G))] [] σ := by
  have hx := hC.1
  have hb := hC.2.1
  intro σ hF H locs ls hP hS hl
  rw [F_recipe_b95] at hF
  refine lv_aload_n hx hb dX10_recipe_95 rfl (lv_at hl 0 rfl) ?_
  obtain ⟨σ_2, hc_1, hF⟩ := bd_ok hF
  refine iM_settleMarks hC hP hS hc_1 hl.1 (Nat.le_of_ble_eq_true rfl) ⟨Nat.le_of_ble_eq_true rfl, Nat.le_of_ble_eq_true rfl⟩ ⟨Nat.zero_le _, Nat.zero_le _⟩ dX10_recipe_96 (fun H locs hP hS => ?_)
  refine lv_aload_n hx hb dX10_recipe_99 rfl (lv_at hl 0 rfl) ?_
  obtain ⟨r_4, hc_3, hF⟩ := bd_ok hF
  refine iM_isGood hC hP hS hc_3 hl.1 (Nat.le_of_ble_eq_true rfl) ⟨Nat.le_of_ble_eq_true rfl, Nat.le_of_ble_eq_true rfl⟩ ⟨Nat.zero_le _, Nat.zero_le _⟩ dX10_recipe_100 (fun H locs hP hS => ?_)
  refine lv_if_ne (tgt := 108) hx hb dX10_recipe_103 (by decide) (fun c_5 => ?_) (fun c_5 => ?_)
  · replace hF := it_f hF c_5
    refine lv_aload_n hx hb dX10_recipe_108 rfl (lv_at hl 0 rfl) ?_
    refine lv_aload_n hx hb dX10_recipe_109 rfl (lv_at hl 0 rfl) ?_
    refine gM36 hC hP dX10_recipe_110 ?_
    refine pM35 hC hP hS dX10_recipe_113 (fun H locs hP hS => ?_)
    obtain ⟨σ_6, eσ_6, hF⟩ := lt_ok hF
    rw [← eσ_6] at hP
    refine lv_aload_n hx hb dX10_recipe_116 rfl (lv_at hl 0 rfl) ?_
    refine lv_iconst (v := 0) hx hb dX10_recipe_117 (by decide) ?_
    refine pM82 hC hP hS dX10_recipe_118 (fun H locs hP hS => ?_)
    obtain ⟨σ_7, eσ_7, hF⟩ := lt_ok hF
    rw [← eσ_7] at hP
    refine lv_aload_n hx hb dX10_recipe_121 rfl (lv_at hl 0 rfl) ?_
    refine lv_iconst (v := 0) hx hb dX10_recipe_122 (by decide) ?_
    refine pM77 hC hP hS (Or.inl rfl) dX10_recipe_123 (fun H locs hP hS => ?_)
    obtain ⟨σ_8, eσ_8, hF⟩ := lt_ok hF
    rw [← eσ_8] at hP
    refine lv_iconst (v := 0) hx hb dX10_recipe_126 (by decide) ?_
    refine lv_istore_n (lv' := [(1, .int (0 : Int32)), (0, .ref (gM G))]) hx hb dX10_recipe_127 rfl hl (by decide) rfl (fun ls hl => ?_)
    exact w_recipe_L128 hC hr MN (0 : Int32) σ_8 hF H locs ls hP hS (lv_sub hl [1, 0] rfl)
  · replace hF := it_t hF c_5
    refine lv_iconst (v := -1) hx hb dX10_recipe_106 (by decide) ?_
    exact M_reti hC hP hS hr (rt1 hF) (rt2 hF) dX10_recipe_107
def F_recipe_L74 : Nat → MS → Option (Int32 × MS)
  | 0, _ => none
  | fu + 1, σ =>
    bd (F_isGood σ) fun r_2 =>
    if r_2 = 0 then
      F_recipe_b95 σ
    else
      if (mI σ 8) = 0 then
        F_recipe_b95 σ
      else
        bd (F_readLine σ) fun σ_6 =>
        F_recipe_L74 fu σ_6
set_option maxHeartbeats 4000000 in
theorem w_recipe_L74 {p : Program} {l : Launch} {e : Env} {s : State} {m : MethodId} {args : Array Value} {below : List Frame} {meth : Method} {c : Code} {G : MG} (hC : MCx G cX10_recipe 2 p s m args meth c) (hr : meth.sig.returnType = some .int) {x : (Int32 × MS)} :
    ∀ (fu : Nat) (σ : MS), F_recipe_L74 fu σ = some x → MJ p l e rmM_recipe s m args below meth c G 2 (some (.int x.1)) x.2 74 [(0, .ref (gM G))] [] σ := by
  have hx := hC.1
  have hb := hC.2.1
  intro fu
  induction fu with
  | zero => intro σ hF; exact nm_none hF
  | succ fu ih =>
    intro σ hF H locs ls hP hS hl
    rw [F_recipe_L74] at hF
    refine lv_aload_n hx hb dX10_recipe_74 rfl (lv_at hl 0 rfl) ?_
    obtain ⟨r_2, hc_1, hF⟩ := bd_ok hF
    refine iM_isGood hC hP hS hc_1 hl.1 (Nat.le_of_ble_eq_true rfl) ⟨Nat.le_of_ble_eq_true rfl, Nat.le_of_ble_eq_true rfl⟩ ⟨Nat.zero_le _, Nat.zero_le _⟩ dX10_recipe_75 (fun H locs hP hS => ?_)
    refine lv_if_eq (tgt := 95) hx hb dX10_recipe_78 (by decide) (fun c_3 => ?_) (fun c_3 => ?_)
    · replace hF := it_t hF c_3
      exact w_recipe_b95 hC hr σ hF H locs ls hP hS (lv_sub hl [0] rfl)
    · replace hF := it_f hF c_3
      refine lv_aload_n hx hb dX10_recipe_81 rfl (lv_at hl 0 rfl) ?_
      refine gM8 hC hP dX10_recipe_82 ?_
      refine lv_if_eq (tgt := 95) hx hb dX10_recipe_85 (by decide) (fun c_4 => ?_) (fun c_4 => ?_)
      · replace hF := it_t hF c_4
        exact w_recipe_b95 hC hr σ hF H locs ls hP hS (lv_sub hl [0] rfl)
      · replace hF := it_f hF c_4
        refine lv_aload_n hx hb dX10_recipe_88 rfl (lv_at hl 0 rfl) ?_
        obtain ⟨σ_6, hc_5, hF⟩ := bd_ok hF
        refine iM_readLine hC hP hS hc_5 hl.1 (Nat.le_of_ble_eq_true rfl) ⟨Nat.le_of_ble_eq_true rfl, Nat.le_of_ble_eq_true rfl⟩ ⟨Nat.zero_le _, Nat.zero_le _⟩ dX10_recipe_89 (fun H locs hP hS => ?_)
        refine lv_goto (tgt := 74) hx hb dX10_recipe_92 (by decide) ?_
        exact ih σ_6 hF H locs ls hP hS (lv_sub hl [0] rfl)
def F_recipe_b46 (σ : MS) : Option (Int32 × MS) :=
  lt (wI σ 2 (0 : Int32)) fun σ_1 =>
  lt (wI σ_1 7 (0 : Int32)) fun σ_2 =>
  lt (wI σ_2 36 ((1 : Int32) - (mI σ_2 35))) fun σ_3 =>
  bd (F_clearBank σ_3) fun σ_5 =>
  bd (F_goOn σ_5) fun σ_7 =>
  F_recipe_L74 MN σ_7
set_option maxHeartbeats 4000000 in
theorem w_recipe_b46 {p : Program} {l : Launch} {e : Env} {s : State} {m : MethodId} {args : Array Value} {below : List Frame} {meth : Method} {c : Code} {G : MG} (hC : MCx G cX10_recipe 2 p s m args meth c) (hr : meth.sig.returnType = some .int) {x : (Int32 × MS)} :
    ∀ (σ : MS), F_recipe_b46 σ = some x → MJ p l e rmM_recipe s m args below meth c G 2 (some (.int x.1)) x.2 46 [(0, .ref (gM G))] [] σ := by
  have hx := hC.1
  have hb := hC.2.1
  intro σ hF H locs ls hP hS hl
  rw [F_recipe_b46] at hF
  refine lv_aload_n hx hb dX10_recipe_46 rfl (lv_at hl 0 rfl) ?_
  refine lv_iconst (v := 0) hx hb dX10_recipe_47 (by decide) ?_
  refine pM2 hC hP hS dX10_recipe_48 (fun H locs hP hS => ?_)
  obtain ⟨σ_1, eσ_1, hF⟩ := lt_ok hF
  rw [← eσ_1] at hP
  refine lv_aload_n hx hb dX10_recipe_51 rfl (lv_at hl 0 rfl) ?_
  refine lv_iconst (v := 0) hx hb dX10_recipe_52 (by decide) ?_
  refine pM7 hC hP hS dX10_recipe_53 (fun H locs hP hS => ?_)
  obtain ⟨σ_2, eσ_2, hF⟩ := lt_ok hF
  rw [← eσ_2] at hP
  refine lv_aload_n hx hb dX10_recipe_56 rfl (lv_at hl 0 rfl) ?_
  refine lv_iconst (v := 1) hx hb dX10_recipe_57 (by decide) ?_
  refine lv_aload_n hx hb dX10_recipe_58 rfl (lv_at hl 0 rfl) ?_
  refine gM35 hC hP dX10_recipe_59 ?_
  refine lv_isub hx hb dX10_recipe_62 ?_
  refine pM36 hC hP hS dX10_recipe_63 (fun H locs hP hS => ?_)
  obtain ⟨σ_3, eσ_3, hF⟩ := lt_ok hF
  rw [← eσ_3] at hP
  refine lv_aload_n hx hb dX10_recipe_66 rfl (lv_at hl 0 rfl) ?_
  obtain ⟨σ_5, hc_4, hF⟩ := bd_ok hF
  refine iM_clearBank hC hP hS hc_4 hl.1 (Nat.le_of_ble_eq_true rfl) ⟨Nat.le_of_ble_eq_true rfl, Nat.le_of_ble_eq_true rfl⟩ ⟨Nat.zero_le _, Nat.zero_le _⟩ dX10_recipe_67 (fun H locs hP hS => ?_)
  refine lv_aload_n hx hb dX10_recipe_70 rfl (lv_at hl 0 rfl) ?_
  obtain ⟨σ_7, hc_6, hF⟩ := bd_ok hF
  refine iM_goOn hC hP hS hc_6 hl.1 (Nat.le_of_ble_eq_true rfl) ⟨Nat.le_of_ble_eq_true rfl, Nat.le_of_ble_eq_true rfl⟩ ⟨Nat.zero_le _, Nat.zero_le _⟩ dX10_recipe_71 (fun H locs hP hS => ?_)
  exact w_recipe_L74 hC hr MN σ_7 hF H locs ls hP hS (lv_sub hl [0] rfl)
def F_recipe_L20 : Nat → Int32 → MS → Option (Int32 × MS)
  | 0, _, _ => none
  | fu + 1, x1, σ =>
    if (mI σ 3) ≤ x1 then
      F_recipe_b46 σ
    else
      gd (inb x1 1620) <|
      gd (inb x1 1600) <|
      lt (wA σ 1 (Int32.toNatClampNeg x1) (Int8.toInt32 (Int32.toInt8 (mA σ 0 (Int32.toNatClampNeg x1))))) fun σ_4 =>
      lt (x1 + (1 : Int32)) fun x1_5 =>
      F_recipe_L20 fu x1_5 σ_4
set_option maxHeartbeats 4000000 in
theorem w_recipe_L20 {p : Program} {l : Launch} {e : Env} {s : State} {m : MethodId} {args : Array Value} {below : List Frame} {meth : Method} {c : Code} {G : MG} (hC : MCx G cX10_recipe 2 p s m args meth c) (hr : meth.sig.returnType = some .int) {x : (Int32 × MS)} :
    ∀ (fu : Nat) (x1 : Int32) (σ : MS), F_recipe_L20 fu x1 σ = some x → MJ p l e rmM_recipe s m args below meth c G 2 (some (.int x.1)) x.2 20 [(0, .ref (gM G)), (1, .int x1)] [] σ := by
  have hx := hC.1
  have hb := hC.2.1
  intro fu
  induction fu with
  | zero => intro x1 σ hF; exact nm_none hF
  | succ fu ih =>
    intro x1 σ hF H locs ls hP hS hl
    rw [F_recipe_L20] at hF
    refine lv_iload_n hx hb dX10_recipe_20 rfl (lv_at hl 1 rfl) ?_
    refine lv_aload_n hx hb dX10_recipe_21 rfl (lv_at hl 0 rfl) ?_
    refine gM3 hC hP dX10_recipe_22 ?_
    refine lv_icmp_ge (tgt := 46) hx hb dX10_recipe_25 (by decide) (fun c_1 => ?_) (fun c_1 => ?_)
    · replace hF := it_t hF c_1
      exact w_recipe_b46 hC hr σ hF H locs ls hP hS (lv_sub hl [0] rfl)
    · replace hF := it_f hF c_1
      refine lv_aload_n hx hb dX10_recipe_28 rfl (lv_at hl 0 rfl) ?_
      refine gM1 hC hP dX10_recipe_29 ?_
      refine lv_iload_n hx hb dX10_recipe_32 rfl (lv_at hl 1 rfl) ?_
      refine lv_aload_n hx hb dX10_recipe_33 rfl (lv_at hl 0 rfl) ?_
      refine gM0 hC hP dX10_recipe_34 ?_
      refine lv_iload_n hx hb dX10_recipe_37 rfl (lv_at hl 1 rfl) ?_
      obtain ⟨h_2, hF⟩ := gd_ok hF
      refine M_bald hC hP 0 (by decide) rfl rfl rfl h_2 dX10_recipe_38 ?_
      obtain ⟨h_3, hF⟩ := gd_ok hF
      refine M_bast hC hP hS 1 (by decide) rfl rfl rfl h_3 dX10_recipe_39 (fun H locs hP hS => ?_)
      obtain ⟨σ_4, eσ_4, hF⟩ := lt_ok hF
      rw [← eσ_4] at hP
      obtain ⟨x1_5, ex1_5, hF⟩ := lt_ok hF
      refine lv_iinc (v := x1_5) (lv' := [(1, .int x1_5), (0, .ref (gM G))]) hx hb dX10_recipe_40 hl (k := 1) rfl (by rw [ex1_5]; rfl) (by decide) rfl (fun ls hl => ?_)
      refine lv_goto (tgt := 20) hx hb dX10_recipe_43 (by decide) ?_
      exact ih x1_5 σ_4 hF H locs ls hP hS (lv_sub hl [1, 0] rfl)
def F_recipe (σ : MS) : Option (Int32 × MS) :=
  lt (wI σ 4 (0 : Int32)) fun σ_1 =>
  lt (wI σ_1 5 (-1 : Int32)) fun σ_2 =>
  lt (wI σ_2 3 (mI σ_2 2)) fun σ_3 =>
  F_recipe_L20 MN (0 : Int32) σ_3
set_option maxHeartbeats 4000000 in
theorem w_recipe {p : Program} {l : Launch} {e : Env} {s : State} {m : MethodId} {args : Array Value} {below : List Frame} {meth : Method} {c : Code} {G : MG} (hC : MCx G cX10_recipe 2 p s m args meth c) (hr : meth.sig.returnType = some .int) {x : (Int32 × MS)} :
    ∀ (σ : MS), F_recipe σ = some x → MJ p l e rmM_recipe s m args below meth c G 2 (some (.int x.1)) x.2 0 [(0, .ref (gM G))] [] σ := by
  have hx := hC.1
  have hb := hC.2.1
  intro σ hF H locs ls hP hS hl
  rw [F_recipe] at hF
  refine lv_aload_n hx hb dX10_recipe_0 rfl (lv_at hl 0 rfl) ?_
  refine lv_iconst (v := 0) hx hb dX10_recipe_1 (by decide) ?_
  refine pM4 hC hP hS dX10_recipe_2 (fun H locs hP hS => ?_)
  obtain ⟨σ_1, eσ_1, hF⟩ := lt_ok hF
  rw [← eσ_1] at hP
  refine lv_aload_n hx hb dX10_recipe_5 rfl (lv_at hl 0 rfl) ?_
  refine lv_iconst (v := -1) hx hb dX10_recipe_6 (by decide) ?_
  refine pM5 hC hP hS dX10_recipe_7 (fun H locs hP hS => ?_)
  obtain ⟨σ_2, eσ_2, hF⟩ := lt_ok hF
  rw [← eσ_2] at hP
  refine lv_aload_n hx hb dX10_recipe_10 rfl (lv_at hl 0 rfl) ?_
  refine lv_aload_n hx hb dX10_recipe_11 rfl (lv_at hl 0 rfl) ?_
  refine gM2 hC hP dX10_recipe_12 ?_
  refine pM3 hC hP hS dX10_recipe_15 (fun H locs hP hS => ?_)
  obtain ⟨σ_3, eσ_3, hF⟩ := lt_ok hF
  rw [← eσ_3] at hP
  refine lv_iconst (v := 0) hx hb dX10_recipe_18 (by decide) ?_
  refine lv_istore_n (lv' := [(1, .int (0 : Int32)), (0, .ref (gM G))]) hx hb dX10_recipe_19 rfl hl (by decide) rfl (fun ls hl => ?_)
  exact w_recipe_L20 hC hr MN (0 : Int32) σ_3 hF H locs ls hP hS (lv_sub hl [1, 0] rfl)
theorem m_recipe (l : Launch) (G : MG) (σ : MS) (x : (Int32 × MS)) (hF : F_recipe σ = some x) : Met l yX10_recipe (ws_ yX10_recipe cX10_recipe 2 (some .int)) rmM_recipe (mP G [.ref (gM G)] σ) (mQ G (some (.int x.1)) x.2) 0 0 (MA G) := by
  refine M_met rfl plM (Nat.le_of_ble_eq_true rfl) ?_
  intro p e s m below meth c hC hr ls hl hP
  exact w_recipe hC hr σ hF s.heap [] ls hP va_S.rf hl
/-! fault -/
abbrev rmM_fault : Room := { frames := 0, cells := 0, slots := 0, locals := 0 }
def F_fault (σ : MS) (a0 : Int32) : Option Int32 :=
  if a0 = 0 then
    some (mI σ 4)
  else
    if a0 = (1 : Int32) then
      some (mI σ 5)
    else
      some (-1 : Int32)
set_option maxHeartbeats 4000000 in
theorem w_fault {p : Program} {l : Launch} {e : Env} {s : State} {m : MethodId} {args : Array Value} {below : List Frame} {meth : Method} {c : Code} {G : MG} (hC : MCx G cX10_fault 2 p s m args meth c) (hr : meth.sig.returnType = some .int) {x : Int32} {σ : MS} :
    ∀ (a0 : Int32), F_fault σ a0 = some x → MJ p l e rmM_fault s m args below meth c G 2 (some (.int x)) σ 0 [(0, .ref (gM G)), (1, .int a0)] [] σ := by
  have hx := hC.1
  have hb := hC.2.1
  intro a0 hF H locs ls hP hS hl
  rw [F_fault] at hF
  refine lv_iload_n hx hb dX10_fault_0 rfl (lv_at hl 1 rfl) ?_
  refine lv_if_ne (tgt := 11) hx hb dX10_fault_1 (by decide) (fun c_1 => ?_) (fun c_1 => ?_)
  · replace hF := it_f hF c_1
    refine lv_iload_n hx hb dX10_fault_11 rfl (lv_at hl 1 rfl) ?_
    refine lv_iconst (v := 1) hx hb dX10_fault_12 (by decide) ?_
    refine lv_icmp_ne (tgt := 23) hx hb dX10_fault_13 (by decide) (fun c_2 => ?_) (fun c_2 => ?_)
    · replace hF := it_f hF c_2
      refine lv_iconst (v := -1) hx hb dX10_fault_23 (by decide) ?_
      exact M_reti hC hP hS hr (Option.some.inj hF) rfl dX10_fault_24
    · replace hF := it_t hF c_2
      refine lv_aload_n hx hb dX10_fault_16 rfl (lv_at hl 0 rfl) ?_
      refine gM5 hC hP dX10_fault_17 ?_
      refine lv_goto (tgt := 24) hx hb dX10_fault_20 (by decide) ?_
      exact M_reti hC hP hS hr (Option.some.inj hF) rfl dX10_fault_24
  · replace hF := it_t hF c_1
    refine lv_aload_n hx hb dX10_fault_4 rfl (lv_at hl 0 rfl) ?_
    refine gM4 hC hP dX10_fault_5 ?_
    refine lv_goto (tgt := 24) hx hb dX10_fault_8 (by decide) ?_
    exact M_reti hC hP hS hr (Option.some.inj hF) rfl dX10_fault_24
theorem m_fault (l : Launch) (G : MG) (a0 : Int32) (σ : MS) (x : Int32) (hF : F_fault σ a0 = some x) : Met l yX10_fault (ws_ yX10_fault cX10_fault 2 (some .int)) rmM_fault (mP G [.ref (gM G), .int a0] σ) (mQ G (some (.int x)) σ) 0 0 (MA G) := by
  refine M_met rfl plM (Nat.le_of_ble_eq_true rfl) ?_
  intro p e s m below meth c hC hr ls hl hP
  exact w_fault hC hr a0 hF s.heap [] ls hP va_S.rf hl
/-! isIn -/
abbrev rmM_isIn : Room := { frames := 0, cells := 0, slots := 0, locals := 0 }
def F_isIn (a0 : Int32) (a1 : Int32) (a2 : Int32) : Option Int32 :=
  if a0 < a1 then
    some (0 : Int32)
  else
    if a2 < a0 then
      some (0 : Int32)
    else
      some (1 : Int32)
set_option maxHeartbeats 4000000 in
theorem w_isIn {p : Program} {l : Launch} {e : Env} {s : State} {m : MethodId} {args : Array Value} {below : List Frame} {meth : Method} {c : Code} {G : MG} (hC : MCx G cX10_isIn 3 p s m args meth c) (hr : meth.sig.returnType = some .boolean) {x : Int32} {σ : MS} :
    ∀ (a0 : Int32) (a1 : Int32) (a2 : Int32), F_isIn a0 a1 a2 = some x → MJ p l e rmM_isIn s m args below meth c G 3 (some (.int x)) σ 0 [(0, .int a0), (1, .int a1), (2, .int a2)] [] σ := by
  have hx := hC.1
  have hb := hC.2.1
  intro a0 a1 a2 hF H locs ls hP hS hl
  rw [F_isIn] at hF
  refine lv_iload_n hx hb dX10_isIn_0 rfl (lv_at hl 0 rfl) ?_
  refine lv_iload_n hx hb dX10_isIn_1 rfl (lv_at hl 1 rfl) ?_
  refine lv_icmp_lt (tgt := 14) hx hb dX10_isIn_2 (by decide) (fun c_1 => ?_) (fun c_1 => ?_)
  · replace hF := it_t hF c_1
    refine lv_iconst (v := 0) hx hb dX10_isIn_14 (by decide) ?_
    exact M_retz hC hP hS hr (Or.inl rfl) (Option.some.inj hF) rfl dX10_isIn_15
  · replace hF := it_f hF c_1
    refine lv_iload_n hx hb dX10_isIn_5 rfl (lv_at hl 0 rfl) ?_
    refine lv_iload_n hx hb dX10_isIn_6 rfl (lv_at hl 2 rfl) ?_
    refine lv_icmp_gt (tgt := 14) hx hb dX10_isIn_7 (by decide) (fun c_2 => ?_) (fun c_2 => ?_)
    · replace hF := it_t hF c_2
      refine lv_iconst (v := 0) hx hb dX10_isIn_14 (by decide) ?_
      exact M_retz hC hP hS hr (Or.inl rfl) (Option.some.inj hF) rfl dX10_isIn_15
    · replace hF := it_f hF c_2
      refine lv_iconst (v := 1) hx hb dX10_isIn_10 (by decide) ?_
      refine lv_goto (tgt := 15) hx hb dX10_isIn_11 (by decide) ?_
      exact M_retz hC hP hS hr (Or.inr rfl) (Option.some.inj hF) rfl dX10_isIn_15
theorem m_isIn (l : Launch) (G : MG) (a0 : Int32) (a1 : Int32) (a2 : Int32) (σ : MS) (x : Int32) (hF : F_isIn a0 a1 a2 = some x) : Met l yX10_isIn (ws_ yX10_isIn cX10_isIn 3 (some .boolean)) rmM_isIn (mP G [.int a0, .int a1, .int a2] σ) (mQ G (some (.int x)) σ) 0 0 (MA G) := by
  refine M_met rfl plM (Nat.le_of_ble_eq_true rfl) ?_
  intro p e s m below meth c hC hr ls hl hP
  exact w_isIn hC hr a0 a1 a2 hF s.heap [] ls hP va_S.rf hl
theorem iM_isIn {p : Program} {l : Launch} {e : Env} {R : Room} {s : State} {m : MethodId} {args : Array Value} {below : List Frame} {meth : Method} {c : Code} {H H0 : Heap} {locs : List Loc} {cells slots nL : Nat} {Q : State → Prop} {G : MG} {σ : MS} {cc : ByteArray} {pc : Nat} {ls : Array Slot} {rest : List Value} (hC : MCx G cc nL p s m args meth c) (hP : MRep G σ H) (hS : va_S (MA G) H0 H locs) {a0 : Int32} {a1 : Int32} {a2 : Int32} {x : Int32} (hF : F_isIn a0 a1 a2 = some x) (hl : ls.size = nL) (hW : (rest.map fun v => v.category).sum ≤ 8) (hR : rmM_isIn.frames + 1 ≤ R.frames ∧ 8 + (3 + 11) + rmM_isIn.locals ≤ R.locals) (hf : cells ≤ R.cells ∧ slots ≤ R.slots) (hdg : decode cc pc = .ok (.invokestatic 420, 3))
    (kk : ∀ (H1 : Heap) (locs1 : List Loc), MRep G σ H1 → va_S (MA G) H0 H1 locs1 → W p l e R s m args below meth c H1 locs1 cells slots Q (F0 m (pc + 3) ls (.int x :: rest))) : W p l e R s m args below meth c H locs cells slots Q (F0 m pc ls (.int a2 :: .int a1 :: .int a0 :: rest)) :=
  M_invS hC hP hS [.int a0, .int a1, .int a2] (m_isIn l G a0 a1 a2 σ _ hF) (va_cwS 3 hC.2.2.2.2.1 (lw_S q2401 q2402 q145 q2403) rfl rfl rfl (by decide +kernel) hR) rfl rfl hl hW hf hdg kk
/-! isInput -/
abbrev rmM_isInput : Room := { frames := 1, cells := 0, slots := 0, locals := 22 }
def F_isInput (σ : MS) (a0 : Int32) : Option Int32 :=
  bd (F_inputs σ) fun r_2 =>
  bd (F_isIn a0 (0 : Int32) (r_2 - (1 : Int32))) fun r_4 =>
  gd (r_4 = 0 ∨ r_4 = 1) <|
  some r_4
set_option maxHeartbeats 4000000 in
theorem w_isInput {p : Program} {l : Launch} {e : Env} {s : State} {m : MethodId} {args : Array Value} {below : List Frame} {meth : Method} {c : Code} {G : MG} (hC : MCx G cX10_isInput 2 p s m args meth c) (hr : meth.sig.returnType = some .boolean) {x : Int32} {σ : MS} :
    ∀ (a0 : Int32), F_isInput σ a0 = some x → MJ p l e rmM_isInput s m args below meth c G 2 (some (.int x)) σ 0 [(0, .ref (gM G)), (1, .int a0)] [] σ := by
  have hx := hC.1
  have hb := hC.2.1
  intro a0 hF H locs ls hP hS hl
  rw [F_isInput] at hF
  refine lv_iload_n hx hb dX10_isInput_0 rfl (lv_at hl 1 rfl) ?_
  refine lv_iconst (v := 0) hx hb dX10_isInput_1 (by decide) ?_
  refine lv_aload_n hx hb dX10_isInput_2 rfl (lv_at hl 0 rfl) ?_
  obtain ⟨r_2, hc_1, hF⟩ := bd_ok hF
  refine iM_inputs hC hP hS hc_1 hl.1 (Nat.le_of_ble_eq_true rfl) ⟨Nat.le_of_ble_eq_true rfl, Nat.le_of_ble_eq_true rfl⟩ ⟨Nat.zero_le _, Nat.zero_le _⟩ dX10_isInput_3 (fun H locs hP hS => ?_)
  refine lv_iconst (v := 1) hx hb dX10_isInput_6 (by decide) ?_
  refine lv_isub hx hb dX10_isInput_7 ?_
  obtain ⟨r_4, hc_3, hF⟩ := bd_ok hF
  refine iM_isIn hC hP hS hc_3 hl.1 (Nat.le_of_ble_eq_true rfl) ⟨Nat.le_of_ble_eq_true rfl, Nat.le_of_ble_eq_true rfl⟩ ⟨Nat.zero_le _, Nat.zero_le _⟩ dX10_isInput_8 (fun H locs hP hS => ?_)
  obtain ⟨h_5, hF⟩ := gd_ok hF
  exact M_retz hC hP hS hr h_5 (Option.some.inj hF) rfl dX10_isInput_11
theorem m_isInput (l : Launch) (G : MG) (a0 : Int32) (σ : MS) (x : Int32) (hF : F_isInput σ a0 = some x) : Met l yX10_isInput (ws_ yX10_isInput cX10_isInput 2 (some .boolean)) rmM_isInput (mP G [.ref (gM G), .int a0] σ) (mQ G (some (.int x)) σ) 0 0 (MA G) := by
  refine M_met rfl plM (Nat.le_of_ble_eq_true rfl) ?_
  intro p e s m below meth c hC hr ls hl hP
  exact w_isInput hC hr a0 hF s.heap [] ls hP va_S.rf hl
theorem iM_isInput {p : Program} {l : Launch} {e : Env} {R : Room} {s : State} {m : MethodId} {args : Array Value} {below : List Frame} {meth : Method} {c : Code} {H H0 : Heap} {locs : List Loc} {cells slots nL : Nat} {Q : State → Prop} {G : MG} {σ : MS} {cc : ByteArray} {pc : Nat} {ls : Array Slot} {rest : List Value} (hC : MCx G cc nL p s m args meth c) (hP : MRep G σ H) (hS : va_S (MA G) H0 H locs) {a0 : Int32} {x : Int32} (hF : F_isInput σ a0 = some x) (hl : ls.size = nL) (hW : (rest.map fun v => v.category).sum ≤ 8) (hR : rmM_isInput.frames + 1 ≤ R.frames ∧ 8 + (2 + 11) + rmM_isInput.locals ≤ R.locals) (hf : cells ≤ R.cells ∧ slots ≤ R.slots) (hdg : decode cc pc = .ok (.invokevirtual 424, 3))
    (kk : ∀ (H1 : Heap) (locs1 : List Loc), MRep G σ H1 → va_S (MA G) H0 H1 locs1 → W p l e R s m args below meth c H1 locs1 cells slots Q (F0 m (pc + 3) ls (.int x :: rest))) : W p l e R s m args below meth c H locs cells slots Q (F0 m pc ls (.int a0 :: .ref (gM G) :: rest)) :=
  M_inv hC hP hS [.int a0] (m_isInput l G a0 σ _ hF) (cwV 1 hC.2.2.2.2.1 (lw_V q2397 q2399 qs111 q145 q2400) rfl rfl rfl (by decide +kernel) hR) rfl rfl hl hW hf hdg kk
/-! asked -/
abbrev rmM_asked : Room := { frames := 2, cells := 0, slots := 0, locals := 46 }
def F_asked (a0 : Int32) (σ : MS) : Option (Int32 × MS) :=
  bd (F_isInput σ a0) fun r_2 =>
  if r_2 = 0 then
    some ((-1000000 : Int32), σ)
  else
    bd2 (F_askedOf a0 σ) fun r_6 σ_5 =>
    some (r_6, σ_5)
set_option maxHeartbeats 4000000 in
theorem w_asked {p : Program} {l : Launch} {e : Env} {s : State} {m : MethodId} {args : Array Value} {below : List Frame} {meth : Method} {c : Code} {G : MG} (hC : MCx G cX10_asked 2 p s m args meth c) (hr : meth.sig.returnType = some .int) {x : (Int32 × MS)} :
    ∀ (a0 : Int32) (σ : MS), F_asked a0 σ = some x → MJ p l e rmM_asked s m args below meth c G 2 (some (.int x.1)) x.2 0 [(0, .ref (gM G)), (1, .int a0)] [] σ := by
  have hx := hC.1
  have hb := hC.2.1
  intro a0 σ hF H locs ls hP hS hl
  rw [F_asked] at hF
  refine lv_aload_n hx hb dX10_asked_0 rfl (lv_at hl 0 rfl) ?_
  refine lv_iload_n hx hb dX10_asked_1 rfl (lv_at hl 1 rfl) ?_
  obtain ⟨r_2, hc_1, hF⟩ := bd_ok hF
  refine iM_isInput hC hP hS hc_1 hl.1 (Nat.le_of_ble_eq_true rfl) ⟨Nat.le_of_ble_eq_true rfl, Nat.le_of_ble_eq_true rfl⟩ ⟨Nat.zero_le _, Nat.zero_le _⟩ dX10_asked_2 (fun H locs hP hS => ?_)
  refine lv_if_eq (tgt := 16) hx hb dX10_asked_5 (by decide) (fun c_3 => ?_) (fun c_3 => ?_)
  · replace hF := it_t hF c_3
    refine lv_ldcw (v := -1000000) hx hb hC.2.2.2.1 (hC.2.2.2.2.1 _ q2404) dX10_asked_16 ?_
    exact M_reti hC hP hS hr (rt1 hF) (rt2 hF) dX10_asked_19
  · replace hF := it_f hF c_3
    refine lv_aload_n hx hb dX10_asked_8 rfl (lv_at hl 0 rfl) ?_
    refine lv_iload_n hx hb dX10_asked_9 rfl (lv_at hl 1 rfl) ?_
    obtain ⟨r_6, σ_5, hc_4, hF⟩ := bd2_ok hF
    refine iM_askedOf hC hP hS hc_4 hl.1 (Nat.le_of_ble_eq_true rfl) ⟨Nat.le_of_ble_eq_true rfl, Nat.le_of_ble_eq_true rfl⟩ ⟨Nat.zero_le _, Nat.zero_le _⟩ dX10_asked_10 (fun H locs hP hS => ?_)
    refine lv_goto (tgt := 19) hx hb dX10_asked_13 (by decide) ?_
    exact M_reti hC hP hS hr (rt1 hF) (rt2 hF) dX10_asked_19
theorem m_asked (l : Launch) (G : MG) (a0 : Int32) (σ : MS) (x : (Int32 × MS)) (hF : F_asked a0 σ = some x) : Met l yX10_asked (ws_ yX10_asked cX10_asked 2 (some .int)) rmM_asked (mP G [.ref (gM G), .int a0] σ) (mQ G (some (.int x.1)) x.2) 0 0 (MA G) := by
  refine M_met rfl plM (Nat.le_of_ble_eq_true rfl) ?_
  intro p e s m below meth c hC hr ls hl hP
  exact w_asked hC hr a0 σ hF s.heap [] ls hP va_S.rf hl
/-! paths -/
abbrev rmM_paths : Room := { frames := 0, cells := 0, slots := 0, locals := 0 }
def F_paths (σ : MS) : Option Int32 :=
  if (mI σ 65) = 0 then
    some (mI σ 63)
  else
    some (-2 : Int32)
set_option maxHeartbeats 4000000 in
theorem w_paths {p : Program} {l : Launch} {e : Env} {s : State} {m : MethodId} {args : Array Value} {below : List Frame} {meth : Method} {c : Code} {G : MG} (hC : MCx G cX10_paths 1 p s m args meth c) (hr : meth.sig.returnType = some .int) {x : Int32} {σ : MS} :
    F_paths σ = some x → MJ p l e rmM_paths s m args below meth c G 1 (some (.int x)) σ 0 [(0, .ref (gM G))] [] σ := by
  have hx := hC.1
  have hb := hC.2.1
  intro hF H locs ls hP hS hl
  rw [F_paths] at hF
  refine lv_aload_n hx hb dX10_paths_0 rfl (lv_at hl 0 rfl) ?_
  refine gM65 hC hP dX10_paths_1 ?_
  refine lv_if_eq (tgt := 12) hx hb dX10_paths_4 (by decide) (fun c_1 => ?_) (fun c_1 => ?_)
  · replace hF := it_t hF c_1
    refine lv_aload_n hx hb dX10_paths_12 rfl (lv_at hl 0 rfl) ?_
    refine gM63 hC hP dX10_paths_13 ?_
    exact M_reti hC hP hS hr (Option.some.inj hF) rfl dX10_paths_16
  · replace hF := it_f hF c_1
    refine lv_bipush (v := -2) hx hb dX10_paths_7 (by decide) ?_
    refine lv_goto (tgt := 16) hx hb dX10_paths_9 (by decide) ?_
    exact M_reti hC hP hS hr (Option.some.inj hF) rfl dX10_paths_16
theorem m_paths (l : Launch) (G : MG) (σ : MS) (x : Int32) (hF : F_paths σ = some x) : Met l yX10_paths (ws_ yX10_paths cX10_paths 1 (some .int)) rmM_paths (mP G [.ref (gM G)] σ) (mQ G (some (.int x)) σ) 0 0 (MA G) := by
  refine M_met rfl plM (Nat.le_of_ble_eq_true rfl) ?_
  intro p e s m below meth c hC hr ls hl hP
  exact w_paths hC hr hF s.heap [] ls hP va_S.rf hl
/-! isPath -/
abbrev rmM_isPath : Room := { frames := 1, cells := 0, slots := 0, locals := 22 }
def F_isPath (σ : MS) (a0 : Int32) : Option Int32 :=
  bd (F_isIn a0 (0 : Int32) ((mI σ 63) - (1 : Int32))) fun r_2 =>
  gd (r_2 = 0 ∨ r_2 = 1) <|
  some r_2
set_option maxHeartbeats 4000000 in
theorem w_isPath {p : Program} {l : Launch} {e : Env} {s : State} {m : MethodId} {args : Array Value} {below : List Frame} {meth : Method} {c : Code} {G : MG} (hC : MCx G cX10_isPath 2 p s m args meth c) (hr : meth.sig.returnType = some .boolean) {x : Int32} {σ : MS} :
    ∀ (a0 : Int32), F_isPath σ a0 = some x → MJ p l e rmM_isPath s m args below meth c G 2 (some (.int x)) σ 0 [(0, .ref (gM G)), (1, .int a0)] [] σ := by
  have hx := hC.1
  have hb := hC.2.1
  intro a0 hF H locs ls hP hS hl
  rw [F_isPath] at hF
  refine lv_iload_n hx hb dX10_isPath_0 rfl (lv_at hl 1 rfl) ?_
  refine lv_iconst (v := 0) hx hb dX10_isPath_1 (by decide) ?_
  refine lv_aload_n hx hb dX10_isPath_2 rfl (lv_at hl 0 rfl) ?_
  refine gM63 hC hP dX10_isPath_3 ?_
  refine lv_iconst (v := 1) hx hb dX10_isPath_6 (by decide) ?_
  refine lv_isub hx hb dX10_isPath_7 ?_
  obtain ⟨r_2, hc_1, hF⟩ := bd_ok hF
  refine iM_isIn hC hP hS hc_1 hl.1 (Nat.le_of_ble_eq_true rfl) ⟨Nat.le_of_ble_eq_true rfl, Nat.le_of_ble_eq_true rfl⟩ ⟨Nat.zero_le _, Nat.zero_le _⟩ dX10_isPath_8 (fun H locs hP hS => ?_)
  obtain ⟨h_3, hF⟩ := gd_ok hF
  exact M_retz hC hP hS hr h_3 (Option.some.inj hF) rfl dX10_isPath_11
theorem m_isPath (l : Launch) (G : MG) (a0 : Int32) (σ : MS) (x : Int32) (hF : F_isPath σ a0 = some x) : Met l yX10_isPath (ws_ yX10_isPath cX10_isPath 2 (some .boolean)) rmM_isPath (mP G [.ref (gM G), .int a0] σ) (mQ G (some (.int x)) σ) 0 0 (MA G) := by
  refine M_met rfl plM (Nat.le_of_ble_eq_true rfl) ?_
  intro p e s m below meth c hC hr ls hl hP
  exact w_isPath hC hr a0 hF s.heap [] ls hP va_S.rf hl
theorem iM_isPath {p : Program} {l : Launch} {e : Env} {R : Room} {s : State} {m : MethodId} {args : Array Value} {below : List Frame} {meth : Method} {c : Code} {H H0 : Heap} {locs : List Loc} {cells slots nL : Nat} {Q : State → Prop} {G : MG} {σ : MS} {cc : ByteArray} {pc : Nat} {ls : Array Slot} {rest : List Value} (hC : MCx G cc nL p s m args meth c) (hP : MRep G σ H) (hS : va_S (MA G) H0 H locs) {a0 : Int32} {x : Int32} (hF : F_isPath σ a0 = some x) (hl : ls.size = nL) (hW : (rest.map fun v => v.category).sum ≤ 8) (hR : rmM_isPath.frames + 1 ≤ R.frames ∧ 8 + (2 + 11) + rmM_isPath.locals ≤ R.locals) (hf : cells ≤ R.cells ∧ slots ≤ R.slots) (hdg : decode cc pc = .ok (.invokevirtual 546, 3))
    (kk : ∀ (H1 : Heap) (locs1 : List Loc), MRep G σ H1 → va_S (MA G) H0 H1 locs1 → W p l e R s m args below meth c H1 locs1 cells slots Q (F0 m (pc + 3) ls (.int x :: rest))) : W p l e R s m args below meth c H locs cells slots Q (F0 m pc ls (.int a0 :: .ref (gM G) :: rest)) :=
  M_inv hC hP hS [.int a0] (m_isPath l G a0 σ _ hF) (cwV 1 hC.2.2.2.2.1 (lw_V q2413 q2415 qs112 q145 q2416) rfl rfl rfl (by decide +kernel) hR) rfl rfl hl hW hf hdg kk
/-! look -/
abbrev rmM_look : Room := { frames := 2, cells := 0, slots := 0, locals := 43 }
def F_look (σ : MS) (a0 : Int32) (a1 : Int32) : Option Int32 :=
  if (mI σ 65) = 0 then
    bd (F_isPath σ a0) fun r_3 =>
    if r_3 = 0 then
      some (-1 : Int32)
    else
      gd (inb a0 200) <|
      bd (F_isIn a1 (0 : Int32) ((mA σ 57 (Int32.toNatClampNeg a0)) - (1 : Int32))) fun r_7 =>
      if r_7 = 0 then
        some (-1 : Int32)
      else
        gd (inb (((6 : Int32) * a0) + a1) 1200) <|
        some (mA σ 58 (Int32.toNatClampNeg (((6 : Int32) * a0) + a1)))
  else
    some (-2 : Int32)
set_option maxHeartbeats 4000000 in
theorem w_look {p : Program} {l : Launch} {e : Env} {s : State} {m : MethodId} {args : Array Value} {below : List Frame} {meth : Method} {c : Code} {G : MG} (hC : MCx G cX10_look 3 p s m args meth c) (hr : meth.sig.returnType = some .int) {x : Int32} {σ : MS} :
    ∀ (a0 : Int32) (a1 : Int32), F_look σ a0 a1 = some x → MJ p l e rmM_look s m args below meth c G 3 (some (.int x)) σ 0 [(0, .ref (gM G)), (1, .int a0), (2, .int a1)] [] σ := by
  have hx := hC.1
  have hb := hC.2.1
  intro a0 a1 hF H locs ls hP hS hl
  rw [F_look] at hF
  refine lv_aload_n hx hb dX10_look_0 rfl (lv_at hl 0 rfl) ?_
  refine gM65 hC hP dX10_look_1 ?_
  refine lv_if_eq (tgt := 12) hx hb dX10_look_4 (by decide) (fun c_1 => ?_) (fun c_1 => ?_)
  · replace hF := it_t hF c_1
    refine lv_aload_n hx hb dX10_look_12 rfl (lv_at hl 0 rfl) ?_
    refine lv_iload_n hx hb dX10_look_13 rfl (lv_at hl 1 rfl) ?_
    obtain ⟨r_3, hc_2, hF⟩ := bd_ok hF
    refine iM_isPath hC hP hS hc_2 hl.1 (Nat.le_of_ble_eq_true rfl) ⟨Nat.le_of_ble_eq_true rfl, Nat.le_of_ble_eq_true rfl⟩ ⟨Nat.zero_le _, Nat.zero_le _⟩ dX10_look_14 (fun H locs hP hS => ?_)
    refine lv_if_eq (tgt := 50) hx hb dX10_look_17 (by decide) (fun c_4 => ?_) (fun c_4 => ?_)
    · replace hF := it_t hF c_4
      refine lv_iconst (v := -1) hx hb dX10_look_50 (by decide) ?_
      exact M_reti hC hP hS hr (Option.some.inj hF) rfl dX10_look_51
    · replace hF := it_f hF c_4
      refine lv_iload_n hx hb dX10_look_20 rfl (lv_at hl 2 rfl) ?_
      refine lv_iconst (v := 0) hx hb dX10_look_21 (by decide) ?_
      refine lv_aload_n hx hb dX10_look_22 rfl (lv_at hl 0 rfl) ?_
      refine gM57 hC hP dX10_look_23 ?_
      refine lv_iload_n hx hb dX10_look_26 rfl (lv_at hl 1 rfl) ?_
      obtain ⟨h_5, hF⟩ := gd_ok hF
      refine M_iald hC hP 57 (by decide) rfl rfl rfl h_5 dX10_look_27 ?_
      refine lv_iconst (v := 1) hx hb dX10_look_28 (by decide) ?_
      refine lv_isub hx hb dX10_look_29 ?_
      obtain ⟨r_7, hc_6, hF⟩ := bd_ok hF
      refine iM_isIn hC hP hS hc_6 hl.1 (Nat.le_of_ble_eq_true rfl) ⟨Nat.le_of_ble_eq_true rfl, Nat.le_of_ble_eq_true rfl⟩ ⟨Nat.zero_le _, Nat.zero_le _⟩ dX10_look_30 (fun H locs hP hS => ?_)
      refine lv_if_eq (tgt := 50) hx hb dX10_look_33 (by decide) (fun c_8 => ?_) (fun c_8 => ?_)
      · replace hF := it_t hF c_8
        refine lv_iconst (v := -1) hx hb dX10_look_50 (by decide) ?_
        exact M_reti hC hP hS hr (Option.some.inj hF) rfl dX10_look_51
      · replace hF := it_f hF c_8
        refine lv_aload_n hx hb dX10_look_36 rfl (lv_at hl 0 rfl) ?_
        refine gM58 hC hP dX10_look_37 ?_
        refine lv_bipush (v := 6) hx hb dX10_look_40 (by decide) ?_
        refine lv_iload_n hx hb dX10_look_42 rfl (lv_at hl 1 rfl) ?_
        refine lv_imul hx hb dX10_look_43 ?_
        refine lv_iload_n hx hb dX10_look_44 rfl (lv_at hl 2 rfl) ?_
        refine lv_iadd hx hb dX10_look_45 ?_
        obtain ⟨h_9, hF⟩ := gd_ok hF
        refine M_iald hC hP 58 (by decide) rfl rfl rfl h_9 dX10_look_46 ?_
        refine lv_goto (tgt := 51) hx hb dX10_look_47 (by decide) ?_
        exact M_reti hC hP hS hr (Option.some.inj hF) rfl dX10_look_51
  · replace hF := it_f hF c_1
    refine lv_bipush (v := -2) hx hb dX10_look_7 (by decide) ?_
    refine lv_goto (tgt := 51) hx hb dX10_look_9 (by decide) ?_
    exact M_reti hC hP hS hr (Option.some.inj hF) rfl dX10_look_51
theorem m_look (l : Launch) (G : MG) (a0 : Int32) (a1 : Int32) (σ : MS) (x : Int32) (hF : F_look σ a0 a1 = some x) : Met l yX10_look (ws_ yX10_look cX10_look 3 (some .int)) rmM_look (mP G [.ref (gM G), .int a0, .int a1] σ) (mQ G (some (.int x)) σ) 0 0 (MA G) := by
  refine M_met rfl plM (Nat.le_of_ble_eq_true rfl) ?_
  intro p e s m below meth c hC hr ls hl hP
  exact w_look hC hr a0 a1 hF s.heap [] ls hP va_S.rf hl
/-! lowest -/
abbrev rmM_lowest : Room := { frames := 0, cells := 0, slots := 0, locals := 0 }
def F_lowest_b31 (x0 : Int64) (x2 : Int64) (x4 : Int32) (x5 : Int64) : Option Int64 :=
  if x4 = 0 then
    gd (¬ x5 = 0) <|
    some (x0 / x5)
  else
    gd (¬ x5 = 0) <|
    some (x2 / x5)
set_option maxHeartbeats 4000000 in
theorem w_lowest_b31 {p : Program} {l : Launch} {e : Env} {s : State} {m : MethodId} {args : Array Value} {below : List Frame} {meth : Method} {c : Code} {G : MG} (hC : MCx G cX10_lowest 11 p s m args meth c) (hr : meth.sig.returnType = some .long) {x : Int64} {σ : MS} :
    ∀ (x0 : Int64) (x2 : Int64) (x4 : Int32) (x5 : Int64), F_lowest_b31 x0 x2 x4 x5 = some x → MJ p l e rmM_lowest s m args below meth c G 11 (some (.long x)) σ 31 [(0, .long x0), (2, .long x2), (4, .int x4), (5, .long x5)] [] σ := by
  have hx := hC.1
  have hb := hC.2.1
  intro x0 x2 x4 x5 hF H locs ls hP hS hl
  rw [F_lowest_b31] at hF
  refine lv_iload hx hb dX10_lowest_31 (lv_at hl 2 rfl) ?_
  refine lv_if_ne (tgt := 43) hx hb dX10_lowest_33 (by decide) (fun c_1 => ?_) (fun c_1 => ?_)
  · replace hF := it_f hF c_1
    refine lv_lload_n hx hb dX10_lowest_43 rfl (lv_at hl 1 rfl) ?_
    refine lv_lload hx hb dX10_lowest_44 (lv_at hl 3 rfl) ?_
    obtain ⟨h_2, hF⟩ := gd_ok hF
    refine lv_ldiv hx hb dX10_lowest_46 h_2 ?_
    exact M_retl hC hP hS hr (Option.some.inj hF) rfl dX10_lowest_47
  · replace hF := it_t hF c_1
    refine lv_lload_n hx hb dX10_lowest_36 rfl (lv_at hl 0 rfl) ?_
    refine lv_lload hx hb dX10_lowest_37 (lv_at hl 3 rfl) ?_
    obtain ⟨h_3, hF⟩ := gd_ok hF
    refine lv_ldiv hx hb dX10_lowest_39 h_3 ?_
    refine lv_goto (tgt := 47) hx hb dX10_lowest_40 (by decide) ?_
    exact M_retl hC hP hS hr (Option.some.inj hF) rfl dX10_lowest_47
def F_lowest_L6 : Nat → Int64 → Int64 → Int32 → Int64 → Int64 → Option Int64
  | 0, _, _, _, _, _ => none
  | fu + 1, x0, x2, x4, x5, x7 =>
    if (lg_cmp x7 (0 : Int64)) = 0 then
      F_lowest_b31 x0 x2 x4 x5
    else
      gd (¬ x7 = 0) <|
      lt ((x5 - x5 / x7 * x7)) fun x9_3 =>
      F_lowest_L6 fu x0 x2 x4 x7 x9_3
set_option maxHeartbeats 4000000 in
theorem w_lowest_L6 {p : Program} {l : Launch} {e : Env} {s : State} {m : MethodId} {args : Array Value} {below : List Frame} {meth : Method} {c : Code} {G : MG} (hC : MCx G cX10_lowest 11 p s m args meth c) (hr : meth.sig.returnType = some .long) {x : Int64} {σ : MS} :
    ∀ (fu : Nat) (x0 : Int64) (x2 : Int64) (x4 : Int32) (x5 : Int64) (x7 : Int64), F_lowest_L6 fu x0 x2 x4 x5 x7 = some x → MJ p l e rmM_lowest s m args below meth c G 11 (some (.long x)) σ 6 [(0, .long x0), (2, .long x2), (4, .int x4), (5, .long x5), (7, .long x7)] [] σ := by
  have hx := hC.1
  have hb := hC.2.1
  intro fu
  induction fu with
  | zero => intro x0 x2 x4 x5 x7 hF; exact nm_none hF
  | succ fu ih =>
    intro x0 x2 x4 x5 x7 hF H locs ls hP hS hl
    rw [F_lowest_L6] at hF
    refine lv_lload hx hb dX10_lowest_6 (lv_at hl 4 rfl) ?_
    refine lv_lconst (v := 0) hx hb dX10_lowest_8 (by decide) ?_
    refine W.lcmp hx hb dX10_lowest_9 ?_
    refine lv_if_eq (tgt := 31) hx hb dX10_lowest_10 (by decide) (fun c_1 => ?_) (fun c_1 => ?_)
    · replace hF := it_t hF c_1
      exact w_lowest_b31 hC hr x0 x2 x4 x5 hF H locs ls hP hS (lv_sub hl [0, 1, 2, 3] rfl)
    · replace hF := it_f hF c_1
      refine lv_lload hx hb dX10_lowest_13 (lv_at hl 3 rfl) ?_
      refine lv_lload hx hb dX10_lowest_15 (lv_at hl 4 rfl) ?_
      obtain ⟨h_2, hF⟩ := gd_ok hF
      refine lv_lrem hx hb dX10_lowest_17 h_2 ?_
      refine lv_topl (fun x9_3 ex9_3 => ?_)
      replace hF := lt_at hF ex9_3
      refine lv_lstore (lv' := [(9, .long x9_3), (0, .long x0), (2, .long x2), (4, .int x4), (5, .long x5), (7, .long x7)]) hx hb dX10_lowest_18 hl (by decide) rfl (fun ls hl => ?_)
      refine lv_lload hx hb dX10_lowest_20 (lv_at hl 5 rfl) ?_
      refine lv_lstore (lv' := [(5, .long x7), (9, .long x9_3), (0, .long x0), (2, .long x2), (4, .int x4), (7, .long x7)]) hx hb dX10_lowest_22 hl (by decide) rfl (fun ls hl => ?_)
      refine lv_lload hx hb dX10_lowest_24 (lv_at hl 1 rfl) ?_
      refine lv_lstore (lv' := [(7, .long x9_3), (5, .long x7), (9, .long x9_3), (0, .long x0), (2, .long x2), (4, .int x4)]) hx hb dX10_lowest_26 hl (by decide) rfl (fun ls hl => ?_)
      refine lv_goto (tgt := 6) hx hb dX10_lowest_28 (by decide) ?_
      exact ih x0 x2 x4 x7 x9_3 hF H locs ls hP hS (lv_sub hl [3, 4, 5, 1, 0] rfl)
def F_lowest (a0 : Int64) (a1 : Int64) (a2 : Int32) : Option Int64 :=
  F_lowest_L6 MN a0 a1 a2 a0 a1
set_option maxHeartbeats 4000000 in
theorem w_lowest {p : Program} {l : Launch} {e : Env} {s : State} {m : MethodId} {args : Array Value} {below : List Frame} {meth : Method} {c : Code} {G : MG} (hC : MCx G cX10_lowest 11 p s m args meth c) (hr : meth.sig.returnType = some .long) {x : Int64} {σ : MS} :
    ∀ (a0 : Int64) (a1 : Int64) (a2 : Int32), F_lowest a0 a1 a2 = some x → MJ p l e rmM_lowest s m args below meth c G 11 (some (.long x)) σ 0 [(0, .long a0), (2, .long a1), (4, .int a2)] [] σ := by
  have hx := hC.1
  have hb := hC.2.1
  intro a0 a1 a2 hF H locs ls hP hS hl
  rw [F_lowest] at hF
  refine lv_lload_n hx hb dX10_lowest_0 rfl (lv_at hl 0 rfl) ?_
  refine lv_lstore (lv' := [(5, .long a0), (0, .long a0), (2, .long a1), (4, .int a2)]) hx hb dX10_lowest_1 hl (by decide) rfl (fun ls hl => ?_)
  refine lv_lload_n hx hb dX10_lowest_3 rfl (lv_at hl 2 rfl) ?_
  refine lv_lstore (lv' := [(7, .long a1), (5, .long a0), (0, .long a0), (2, .long a1), (4, .int a2)]) hx hb dX10_lowest_4 hl (by decide) rfl (fun ls hl => ?_)
  exact w_lowest_L6 hC hr MN a0 a1 a2 a0 a1 hF H locs ls hP hS (lv_sub hl [2, 3, 4, 1, 0] rfl)
theorem m_lowest (l : Launch) (G : MG) (a0 : Int64) (a1 : Int64) (a2 : Int32) (σ : MS) (x : Int64) (hF : F_lowest a0 a1 a2 = some x) : Met l yX10_lowest (ws_ yX10_lowest cX10_lowest 11 (some .long)) rmM_lowest (mP G [.long a0, .long a1, .int a2] σ) (mQ G (some (.long x)) σ) 0 0 (MA G) := by
  refine M_met rfl plM (Nat.le_of_ble_eq_true rfl) ?_
  intro p e s m below meth c hC hr ls hl hP
  exact w_lowest hC hr a0 a1 a2 hF s.heap [] ls hP va_S.rf hl
theorem iM_lowest {p : Program} {l : Launch} {e : Env} {R : Room} {s : State} {m : MethodId} {args : Array Value} {below : List Frame} {meth : Method} {c : Code} {H H0 : Heap} {locs : List Loc} {cells slots nL : Nat} {Q : State → Prop} {G : MG} {σ : MS} {cc : ByteArray} {pc : Nat} {ls : Array Slot} {rest : List Value} (hC : MCx G cc nL p s m args meth c) (hP : MRep G σ H) (hS : va_S (MA G) H0 H locs) {a0 : Int64} {a1 : Int64} {a2 : Int32} {x : Int64} (hF : F_lowest a0 a1 a2 = some x) (hl : ls.size = nL) (hW : (rest.map fun v => v.category).sum ≤ 8) (hR : rmM_lowest.frames + 1 ≤ R.frames ∧ 8 + (11 + 11) + rmM_lowest.locals ≤ R.locals) (hf : cells ≤ R.cells ∧ slots ≤ R.slots) (hdg : decode cc pc = .ok (.invokestatic 551, 3))
    (kk : ∀ (H1 : Heap) (locs1 : List Loc), MRep G σ H1 → va_S (MA G) H0 H1 locs1 → W p l e R s m args below meth c H1 locs1 cells slots Q (F0 m (pc + 3) ls (.long x :: rest))) : W p l e R s m args below meth c H locs cells slots Q (F0 m pc ls (.int a2 :: .long a1 :: .long a0 :: rest)) :=
  M_invS hC hP hS [.long a0, .long a1, .int a2] (m_lowest l G a0 a1 a2 σ _ hF) (va_cwS 3 hC.2.2.2.2.1 (lw_S q2422 q2423 q145 q2424) rfl rfl rfl (by decide +kernel) hR) rfl rfl hl hW hf hdg kk
/-! odds -/
abbrev rmM_odds : Room := { frames := 2, cells := 0, slots := 0, locals := 43 }
def F_odds (σ : MS) (a0 : Int32) (a1 : Int32) (a2 : Int32) : Option Int64 :=
  if (mI σ 65) = 0 then
    bd (F_isPath σ a0) fun r_3 =>
    if r_3 = 0 then
      some (-1 : Int64)
    else
      bd (F_isInput σ a1) fun r_6 =>
      if r_6 = 0 then
        some (-1 : Int64)
      else
        bd (F_isIn a2 (0 : Int32) (1 : Int32)) fun r_9 =>
        if r_9 = 0 then
          some (-1 : Int64)
        else
          gd (inb (((8 : Int32) * a0) + a1) 1600) <|
          gd (inb a0 200) <|
          bd (F_lowest (mL σ 61 (Int32.toNatClampNeg (((8 : Int32) * a0) + a1))) (mL σ 62 (Int32.toNatClampNeg a0)) a2) fun r_14 =>
          some r_14
  else
    some (-2 : Int64)
set_option maxHeartbeats 4000000 in
theorem w_odds {p : Program} {l : Launch} {e : Env} {s : State} {m : MethodId} {args : Array Value} {below : List Frame} {meth : Method} {c : Code} {G : MG} (hC : MCx G cX10_odds 4 p s m args meth c) (hr : meth.sig.returnType = some .long) {x : Int64} {σ : MS} :
    ∀ (a0 : Int32) (a1 : Int32) (a2 : Int32), F_odds σ a0 a1 a2 = some x → MJ p l e rmM_odds s m args below meth c G 4 (some (.long x)) σ 0 [(0, .ref (gM G)), (1, .int a0), (2, .int a1), (3, .int a2)] [] σ := by
  have hx := hC.1
  have hb := hC.2.1
  intro a0 a1 a2 hF H locs ls hP hS hl
  rw [F_odds] at hF
  refine lv_aload_n hx hb dX10_odds_0 rfl (lv_at hl 0 rfl) ?_
  refine gM65 hC hP dX10_odds_1 ?_
  refine lv_if_eq (tgt := 11) hx hb dX10_odds_4 (by decide) (fun c_1 => ?_) (fun c_1 => ?_)
  · replace hF := it_t hF c_1
    refine lv_aload_n hx hb dX10_odds_11 rfl (lv_at hl 0 rfl) ?_
    refine lv_iload_n hx hb dX10_odds_12 rfl (lv_at hl 1 rfl) ?_
    obtain ⟨r_3, hc_2, hF⟩ := bd_ok hF
    refine iM_isPath hC hP hS hc_2 hl.1 (Nat.le_of_ble_eq_true rfl) ⟨Nat.le_of_ble_eq_true rfl, Nat.le_of_ble_eq_true rfl⟩ ⟨Nat.zero_le _, Nat.zero_le _⟩ dX10_odds_13 (fun H locs hP hS => ?_)
    refine lv_if_eq (tgt := 60) hx hb dX10_odds_16 (by decide) (fun c_4 => ?_) (fun c_4 => ?_)
    · replace hF := it_t hF c_4
      refine lv_ldc2 (v := -1) hx hb hC.2.2.2.1 (hC.2.2.2.2.1 _ q2425) dX10_odds_60 ?_
      exact M_retl hC hP hS hr (Option.some.inj hF) rfl dX10_odds_63
    · replace hF := it_f hF c_4
      refine lv_aload_n hx hb dX10_odds_19 rfl (lv_at hl 0 rfl) ?_
      refine lv_iload_n hx hb dX10_odds_20 rfl (lv_at hl 2 rfl) ?_
      obtain ⟨r_6, hc_5, hF⟩ := bd_ok hF
      refine iM_isInput hC hP hS hc_5 hl.1 (Nat.le_of_ble_eq_true rfl) ⟨Nat.le_of_ble_eq_true rfl, Nat.le_of_ble_eq_true rfl⟩ ⟨Nat.zero_le _, Nat.zero_le _⟩ dX10_odds_21 (fun H locs hP hS => ?_)
      refine lv_if_eq (tgt := 60) hx hb dX10_odds_24 (by decide) (fun c_7 => ?_) (fun c_7 => ?_)
      · replace hF := it_t hF c_7
        refine lv_ldc2 (v := -1) hx hb hC.2.2.2.1 (hC.2.2.2.2.1 _ q2425) dX10_odds_60 ?_
        exact M_retl hC hP hS hr (Option.some.inj hF) rfl dX10_odds_63
      · replace hF := it_f hF c_7
        refine lv_iload_n hx hb dX10_odds_27 rfl (lv_at hl 3 rfl) ?_
        refine lv_iconst (v := 0) hx hb dX10_odds_28 (by decide) ?_
        refine lv_iconst (v := 1) hx hb dX10_odds_29 (by decide) ?_
        obtain ⟨r_9, hc_8, hF⟩ := bd_ok hF
        refine iM_isIn hC hP hS hc_8 hl.1 (Nat.le_of_ble_eq_true rfl) ⟨Nat.le_of_ble_eq_true rfl, Nat.le_of_ble_eq_true rfl⟩ ⟨Nat.zero_le _, Nat.zero_le _⟩ dX10_odds_30 (fun H locs hP hS => ?_)
        refine lv_if_eq (tgt := 60) hx hb dX10_odds_33 (by decide) (fun c_10 => ?_) (fun c_10 => ?_)
        · replace hF := it_t hF c_10
          refine lv_ldc2 (v := -1) hx hb hC.2.2.2.1 (hC.2.2.2.2.1 _ q2425) dX10_odds_60 ?_
          exact M_retl hC hP hS hr (Option.some.inj hF) rfl dX10_odds_63
        · replace hF := it_f hF c_10
          refine lv_aload_n hx hb dX10_odds_36 rfl (lv_at hl 0 rfl) ?_
          refine gM61 hC hP dX10_odds_37 ?_
          refine lv_bipush (v := 8) hx hb dX10_odds_40 (by decide) ?_
          refine lv_iload_n hx hb dX10_odds_42 rfl (lv_at hl 1 rfl) ?_
          refine lv_imul hx hb dX10_odds_43 ?_
          refine lv_iload_n hx hb dX10_odds_44 rfl (lv_at hl 2 rfl) ?_
          refine lv_iadd hx hb dX10_odds_45 ?_
          obtain ⟨h_11, hF⟩ := gd_ok hF
          refine M_lald hC hP 61 (by decide) rfl rfl rfl h_11 dX10_odds_46 ?_
          refine lv_aload_n hx hb dX10_odds_47 rfl (lv_at hl 0 rfl) ?_
          refine gM62 hC hP dX10_odds_48 ?_
          refine lv_iload_n hx hb dX10_odds_51 rfl (lv_at hl 1 rfl) ?_
          obtain ⟨h_12, hF⟩ := gd_ok hF
          refine M_lald hC hP 62 (by decide) rfl rfl rfl h_12 dX10_odds_52 ?_
          refine lv_iload_n hx hb dX10_odds_53 rfl (lv_at hl 3 rfl) ?_
          obtain ⟨r_14, hc_13, hF⟩ := bd_ok hF
          refine iM_lowest hC hP hS hc_13 hl.1 (Nat.le_of_ble_eq_true rfl) ⟨Nat.le_of_ble_eq_true rfl, Nat.le_of_ble_eq_true rfl⟩ ⟨Nat.zero_le _, Nat.zero_le _⟩ dX10_odds_54 (fun H locs hP hS => ?_)
          refine lv_goto (tgt := 63) hx hb dX10_odds_57 (by decide) ?_
          exact M_retl hC hP hS hr (Option.some.inj hF) rfl dX10_odds_63
  · replace hF := it_f hF c_1
    refine lv_ldc2 (v := -2) hx hb hC.2.2.2.1 (hC.2.2.2.2.1 _ q2421) dX10_odds_7 ?_
    exact M_retl hC hP hS hr (Option.some.inj hF) rfl dX10_odds_10
theorem m_odds (l : Launch) (G : MG) (a0 : Int32) (a1 : Int32) (a2 : Int32) (σ : MS) (x : Int64) (hF : F_odds σ a0 a1 a2 = some x) : Met l yX10_odds (ws_ yX10_odds cX10_odds 4 (some .long)) rmM_odds (mP G [.ref (gM G), .int a0, .int a1, .int a2] σ) (mQ G (some (.long x)) σ) 0 0 (MA G) := by
  refine M_met rfl plM (Nat.le_of_ble_eq_true rfl) ?_
  intro p e s m below meth c hC hr ls hl hP
  exact w_odds hC hr a0 a1 a2 hF s.heap [] ls hP va_S.rf hl
/-! ends -/
abbrev rmM_ends : Room := { frames := 2, cells := 0, slots := 0, locals := 43 }
def F_ends (σ : MS) (a0 : Int32) (a1 : Int32) : Option Int32 :=
  if (mI σ 65) = 0 then
    bd (F_isPath σ a0) fun r_3 =>
    if r_3 = 0 then
      some (-1 : Int32)
    else
      bd (F_isInput σ a1) fun r_6 =>
      if r_6 = 0 then
        some (-1 : Int32)
      else
        gd (inb (((8 : Int32) * a0) + a1) 1600) <|
        some (mA σ 59 (Int32.toNatClampNeg (((8 : Int32) * a0) + a1)))
  else
    some (-2 : Int32)
set_option maxHeartbeats 4000000 in
theorem w_ends {p : Program} {l : Launch} {e : Env} {s : State} {m : MethodId} {args : Array Value} {below : List Frame} {meth : Method} {c : Code} {G : MG} (hC : MCx G cX10_ends 3 p s m args meth c) (hr : meth.sig.returnType = some .int) {x : Int32} {σ : MS} :
    ∀ (a0 : Int32) (a1 : Int32), F_ends σ a0 a1 = some x → MJ p l e rmM_ends s m args below meth c G 3 (some (.int x)) σ 0 [(0, .ref (gM G)), (1, .int a0), (2, .int a1)] [] σ := by
  have hx := hC.1
  have hb := hC.2.1
  intro a0 a1 hF H locs ls hP hS hl
  rw [F_ends] at hF
  refine lv_aload_n hx hb dX10_ends_0 rfl (lv_at hl 0 rfl) ?_
  refine gM65 hC hP dX10_ends_1 ?_
  refine lv_if_eq (tgt := 12) hx hb dX10_ends_4 (by decide) (fun c_1 => ?_) (fun c_1 => ?_)
  · replace hF := it_t hF c_1
    refine lv_aload_n hx hb dX10_ends_12 rfl (lv_at hl 0 rfl) ?_
    refine lv_iload_n hx hb dX10_ends_13 rfl (lv_at hl 1 rfl) ?_
    obtain ⟨r_3, hc_2, hF⟩ := bd_ok hF
    refine iM_isPath hC hP hS hc_2 hl.1 (Nat.le_of_ble_eq_true rfl) ⟨Nat.le_of_ble_eq_true rfl, Nat.le_of_ble_eq_true rfl⟩ ⟨Nat.zero_le _, Nat.zero_le _⟩ dX10_ends_14 (fun H locs hP hS => ?_)
    refine lv_if_eq (tgt := 42) hx hb dX10_ends_17 (by decide) (fun c_4 => ?_) (fun c_4 => ?_)
    · replace hF := it_t hF c_4
      refine lv_iconst (v := -1) hx hb dX10_ends_42 (by decide) ?_
      exact M_reti hC hP hS hr (Option.some.inj hF) rfl dX10_ends_43
    · replace hF := it_f hF c_4
      refine lv_aload_n hx hb dX10_ends_20 rfl (lv_at hl 0 rfl) ?_
      refine lv_iload_n hx hb dX10_ends_21 rfl (lv_at hl 2 rfl) ?_
      obtain ⟨r_6, hc_5, hF⟩ := bd_ok hF
      refine iM_isInput hC hP hS hc_5 hl.1 (Nat.le_of_ble_eq_true rfl) ⟨Nat.le_of_ble_eq_true rfl, Nat.le_of_ble_eq_true rfl⟩ ⟨Nat.zero_le _, Nat.zero_le _⟩ dX10_ends_22 (fun H locs hP hS => ?_)
      refine lv_if_eq (tgt := 42) hx hb dX10_ends_25 (by decide) (fun c_7 => ?_) (fun c_7 => ?_)
      · replace hF := it_t hF c_7
        refine lv_iconst (v := -1) hx hb dX10_ends_42 (by decide) ?_
        exact M_reti hC hP hS hr (Option.some.inj hF) rfl dX10_ends_43
      · replace hF := it_f hF c_7
        refine lv_aload_n hx hb dX10_ends_28 rfl (lv_at hl 0 rfl) ?_
        refine gM59 hC hP dX10_ends_29 ?_
        refine lv_bipush (v := 8) hx hb dX10_ends_32 (by decide) ?_
        refine lv_iload_n hx hb dX10_ends_34 rfl (lv_at hl 1 rfl) ?_
        refine lv_imul hx hb dX10_ends_35 ?_
        refine lv_iload_n hx hb dX10_ends_36 rfl (lv_at hl 2 rfl) ?_
        refine lv_iadd hx hb dX10_ends_37 ?_
        obtain ⟨h_8, hF⟩ := gd_ok hF
        refine M_iald hC hP 59 (by decide) rfl rfl rfl h_8 dX10_ends_38 ?_
        refine lv_goto (tgt := 43) hx hb dX10_ends_39 (by decide) ?_
        exact M_reti hC hP hS hr (Option.some.inj hF) rfl dX10_ends_43
  · replace hF := it_f hF c_1
    refine lv_bipush (v := -2) hx hb dX10_ends_7 (by decide) ?_
    refine lv_goto (tgt := 43) hx hb dX10_ends_9 (by decide) ?_
    exact M_reti hC hP hS hr (Option.some.inj hF) rfl dX10_ends_43
theorem m_ends (l : Launch) (G : MG) (a0 : Int32) (a1 : Int32) (σ : MS) (x : Int32) (hF : F_ends σ a0 a1 = some x) : Met l yX10_ends (ws_ yX10_ends cX10_ends 3 (some .int)) rmM_ends (mP G [.ref (gM G), .int a0, .int a1] σ) (mQ G (some (.int x)) σ) 0 0 (MA G) := by
  refine M_met rfl plM (Nat.le_of_ble_eq_true rfl) ?_
  intro p e s m below meth c hC hr ls hl hP
  exact w_ends hC hr a0 a1 hF s.heap [] ls hP va_S.rf hl
/-! isRight -/
abbrev rmM_isRight : Room := { frames := 2, cells := 0, slots := 0, locals := 46 }
def F_isRight_b60 (x1 : Int32) (x2 : Int32) (x3 : Int32) (σ : MS) : Option (Int32 × MS) :=
  gd (inb (((8 : Int32) * x1) + x2) 1600) <|
  if (mA σ 59 (Int32.toNatClampNeg (((8 : Int32) * x1) + x2))) = ((1 : Int32) <<< (x3 &&& 31)) then
    some ((1 : Int32), σ)
  else
    some ((0 : Int32), σ)
set_option maxHeartbeats 4000000 in
theorem w_isRight_b60 {p : Program} {l : Launch} {e : Env} {s : State} {m : MethodId} {args : Array Value} {below : List Frame} {meth : Method} {c : Code} {G : MG} (hC : MCx G cX10_isRight 4 p s m args meth c) (hr : meth.sig.returnType = some .boolean) {x : (Int32 × MS)} :
    ∀ (x1 : Int32) (x2 : Int32) (x3 : Int32) (σ : MS), F_isRight_b60 x1 x2 x3 σ = some x → MJ p l e rmM_isRight s m args below meth c G 4 (some (.int x.1)) x.2 60 [(0, .ref (gM G)), (1, .int x1), (2, .int x2), (3, .int x3)] [] σ := by
  have hx := hC.1
  have hb := hC.2.1
  intro x1 x2 x3 σ hF H locs ls hP hS hl
  rw [F_isRight_b60] at hF
  refine lv_aload_n hx hb dX10_isRight_60 rfl (lv_at hl 0 rfl) ?_
  refine gM59 hC hP dX10_isRight_61 ?_
  refine lv_bipush (v := 8) hx hb dX10_isRight_64 (by decide) ?_
  refine lv_iload_n hx hb dX10_isRight_66 rfl (lv_at hl 1 rfl) ?_
  refine lv_imul hx hb dX10_isRight_67 ?_
  refine lv_iload_n hx hb dX10_isRight_68 rfl (lv_at hl 2 rfl) ?_
  refine lv_iadd hx hb dX10_isRight_69 ?_
  obtain ⟨h_1, hF⟩ := gd_ok hF
  refine M_iald hC hP 59 (by decide) rfl rfl rfl h_1 dX10_isRight_70 ?_
  refine lv_iconst (v := 1) hx hb dX10_isRight_71 (by decide) ?_
  refine lv_iload_n hx hb dX10_isRight_72 rfl (lv_at hl 3 rfl) ?_
  refine lv_ishl hx hb dX10_isRight_73 ?_
  refine lv_icmp_ne (tgt := 81) hx hb dX10_isRight_74 (by decide) (fun c_2 => ?_) (fun c_2 => ?_)
  · replace hF := it_f hF c_2
    refine lv_iconst (v := 0) hx hb dX10_isRight_81 (by decide) ?_
    exact M_retz hC hP hS hr (Or.inl rfl) (rt1 hF) (rt2 hF) dX10_isRight_82
  · replace hF := it_t hF c_2
    refine lv_iconst (v := 1) hx hb dX10_isRight_77 (by decide) ?_
    refine lv_goto (tgt := 82) hx hb dX10_isRight_78 (by decide) ?_
    exact M_retz hC hP hS hr (Or.inr rfl) (rt1 hF) (rt2 hF) dX10_isRight_82
def F_isRight (a0 : Int32) (a1 : Int32) (σ : MS) : Option (Int32 × MS) :=
  gd (inb (((8 : Int32) * a0) + a1) 1600) <|
  if (lg_cmp (mL σ 61 (Int32.toNatClampNeg (((8 : Int32) * a0) + a1))) (0 : Int64)) = 0 then
    some ((1 : Int32), σ)
  else
    bd2 (F_askedOf a1 σ) fun r_5 σ_4 =>
    gd (inb a0 200) <|
    if (mA σ_4 60 (Int32.toNatClampNeg a0)) < 0 then
      if r_5 = 0 then
        F_isRight_b60 a0 a1 r_5 σ_4
      else
        if r_5 = (1 : Int32) then
          F_isRight_b60 a0 a1 r_5 σ_4
        else
          some ((0 : Int32), σ_4)
    else
      gd (inb a0 200) <|
      if (mA σ_4 60 (Int32.toNatClampNeg a0)) = r_5 then
        some ((1 : Int32), σ_4)
      else
        some ((0 : Int32), σ_4)
set_option maxHeartbeats 4000000 in
theorem w_isRight {p : Program} {l : Launch} {e : Env} {s : State} {m : MethodId} {args : Array Value} {below : List Frame} {meth : Method} {c : Code} {G : MG} (hC : MCx G cX10_isRight 4 p s m args meth c) (hr : meth.sig.returnType = some .boolean) {x : (Int32 × MS)} :
    ∀ (a0 : Int32) (a1 : Int32) (σ : MS), F_isRight a0 a1 σ = some x → MJ p l e rmM_isRight s m args below meth c G 4 (some (.int x.1)) x.2 0 [(0, .ref (gM G)), (1, .int a0), (2, .int a1)] [] σ := by
  have hx := hC.1
  have hb := hC.2.1
  intro a0 a1 σ hF H locs ls hP hS hl
  rw [F_isRight] at hF
  refine lv_aload_n hx hb dX10_isRight_0 rfl (lv_at hl 0 rfl) ?_
  refine gM61 hC hP dX10_isRight_1 ?_
  refine lv_bipush (v := 8) hx hb dX10_isRight_4 (by decide) ?_
  refine lv_iload_n hx hb dX10_isRight_6 rfl (lv_at hl 1 rfl) ?_
  refine lv_imul hx hb dX10_isRight_7 ?_
  refine lv_iload_n hx hb dX10_isRight_8 rfl (lv_at hl 2 rfl) ?_
  refine lv_iadd hx hb dX10_isRight_9 ?_
  obtain ⟨h_1, hF⟩ := gd_ok hF
  refine M_lald hC hP 61 (by decide) rfl rfl rfl h_1 dX10_isRight_10 ?_
  refine lv_lconst (v := 0) hx hb dX10_isRight_11 (by decide) ?_
  refine W.lcmp hx hb dX10_isRight_12 ?_
  refine lv_if_ne (tgt := 18) hx hb dX10_isRight_13 (by decide) (fun c_2 => ?_) (fun c_2 => ?_)
  · replace hF := it_f hF c_2
    refine lv_aload_n hx hb dX10_isRight_18 rfl (lv_at hl 0 rfl) ?_
    refine lv_iload_n hx hb dX10_isRight_19 rfl (lv_at hl 2 rfl) ?_
    obtain ⟨r_5, σ_4, hc_3, hF⟩ := bd2_ok hF
    refine iM_askedOf hC hP hS hc_3 hl.1 (Nat.le_of_ble_eq_true rfl) ⟨Nat.le_of_ble_eq_true rfl, Nat.le_of_ble_eq_true rfl⟩ ⟨Nat.zero_le _, Nat.zero_le _⟩ dX10_isRight_20 (fun H locs hP hS => ?_)
    refine lv_istore_n (lv' := [(3, .int r_5), (0, .ref (gM G)), (1, .int a0), (2, .int a1)]) hx hb dX10_isRight_23 rfl hl (by decide) rfl (fun ls hl => ?_)
    refine lv_aload_n hx hb dX10_isRight_24 rfl (lv_at hl 1 rfl) ?_
    refine gM60 hC hP dX10_isRight_25 ?_
    refine lv_iload_n hx hb dX10_isRight_28 rfl (lv_at hl 2 rfl) ?_
    obtain ⟨h_6, hF⟩ := gd_ok hF
    refine M_iald hC hP 60 (by decide) rfl rfl rfl h_6 dX10_isRight_29 ?_
    refine lv_if_lt (tgt := 51) hx hb dX10_isRight_30 (by decide) (fun c_7 => ?_) (fun c_7 => ?_)
    · replace hF := it_t hF c_7
      refine lv_iload_n hx hb dX10_isRight_51 rfl (lv_at hl 0 rfl) ?_
      refine lv_if_eq (tgt := 60) hx hb dX10_isRight_52 (by decide) (fun c_8 => ?_) (fun c_8 => ?_)
      · replace hF := it_t hF c_8
        exact w_isRight_b60 hC hr a0 a1 r_5 σ_4 hF H locs ls hP hS (lv_sub hl [1, 2, 3, 0] rfl)
      · replace hF := it_f hF c_8
        refine lv_iload_n hx hb dX10_isRight_55 rfl (lv_at hl 0 rfl) ?_
        refine lv_iconst (v := 1) hx hb dX10_isRight_56 (by decide) ?_
        refine lv_icmp_ne (tgt := 81) hx hb dX10_isRight_57 (by decide) (fun c_9 => ?_) (fun c_9 => ?_)
        · replace hF := it_f hF c_9
          refine lv_iconst (v := 0) hx hb dX10_isRight_81 (by decide) ?_
          exact M_retz hC hP hS hr (Or.inl rfl) (rt1 hF) (rt2 hF) dX10_isRight_82
        · replace hF := it_t hF c_9
          exact w_isRight_b60 hC hr a0 a1 r_5 σ_4 hF H locs ls hP hS (lv_sub hl [1, 2, 3, 0] rfl)
    · replace hF := it_f hF c_7
      refine lv_aload_n hx hb dX10_isRight_33 rfl (lv_at hl 1 rfl) ?_
      refine gM60 hC hP dX10_isRight_34 ?_
      refine lv_iload_n hx hb dX10_isRight_37 rfl (lv_at hl 2 rfl) ?_
      obtain ⟨h_10, hF⟩ := gd_ok hF
      refine M_iald hC hP 60 (by decide) rfl rfl rfl h_10 dX10_isRight_38 ?_
      refine lv_iload_n hx hb dX10_isRight_39 rfl (lv_at hl 0 rfl) ?_
      refine lv_icmp_ne (tgt := 47) hx hb dX10_isRight_40 (by decide) (fun c_11 => ?_) (fun c_11 => ?_)
      · replace hF := it_f hF c_11
        refine lv_iconst (v := 0) hx hb dX10_isRight_47 (by decide) ?_
        refine lv_goto (tgt := 82) hx hb dX10_isRight_48 (by decide) ?_
        exact M_retz hC hP hS hr (Or.inl rfl) (rt1 hF) (rt2 hF) dX10_isRight_82
      · replace hF := it_t hF c_11
        refine lv_iconst (v := 1) hx hb dX10_isRight_43 (by decide) ?_
        refine lv_goto (tgt := 82) hx hb dX10_isRight_44 (by decide) ?_
        exact M_retz hC hP hS hr (Or.inr rfl) (rt1 hF) (rt2 hF) dX10_isRight_82
  · replace hF := it_t hF c_2
    refine lv_iconst (v := 1) hx hb dX10_isRight_16 (by decide) ?_
    exact M_retz hC hP hS hr (Or.inr rfl) (rt1 hF) (rt2 hF) dX10_isRight_17
theorem m_isRight (l : Launch) (G : MG) (a0 : Int32) (a1 : Int32) (σ : MS) (x : (Int32 × MS)) (hF : F_isRight a0 a1 σ = some x) : Met l yX10_isRight (ws_ yX10_isRight cX10_isRight 4 (some .boolean)) rmM_isRight (mP G [.ref (gM G), .int a0, .int a1] σ) (mQ G (some (.int x.1)) x.2) 0 0 (MA G) := by
  refine M_met rfl plM (Nat.le_of_ble_eq_true rfl) ?_
  intro p e s m below meth c hC hr ls hl hP
  exact w_isRight hC hr a0 a1 σ hF s.heap [] ls hP va_S.rf hl
theorem iM_isRight {p : Program} {l : Launch} {e : Env} {R : Room} {s : State} {m : MethodId} {args : Array Value} {below : List Frame} {meth : Method} {c : Code} {H H0 : Heap} {locs : List Loc} {cells slots nL : Nat} {Q : State → Prop} {G : MG} {σ : MS} {cc : ByteArray} {pc : Nat} {ls : Array Slot} {rest : List Value} (hC : MCx G cc nL p s m args meth c) (hP : MRep G σ H) (hS : va_S (MA G) H0 H locs) {a0 : Int32} {a1 : Int32} {x : Int32} {σ1 : MS} (hF : F_isRight a0 a1 σ = some (x, σ1)) (hl : ls.size = nL) (hW : (rest.map fun v => v.category).sum ≤ 8) (hR : rmM_isRight.frames + 1 ≤ R.frames ∧ 8 + (4 + 11) + rmM_isRight.locals ≤ R.locals) (hf : cells ≤ R.cells ∧ slots ≤ R.slots) (hdg : decode cc pc = .ok (.invokevirtual 557, 3))
    (kk : ∀ (H1 : Heap) (locs1 : List Loc), MRep G σ1 H1 → va_S (MA G) H0 H1 locs1 → W p l e R s m args below meth c H1 locs1 cells slots Q (F0 m (pc + 3) ls (.int x :: rest))) : W p l e R s m args below meth c H locs cells slots Q (F0 m pc ls (.int a1 :: .int a0 :: .ref (gM G) :: rest)) :=
  M_inv hC hP hS [.int a0, .int a1] (m_isRight l G a0 a1 σ _ hF) (cwV 2 hC.2.2.2.2.1 (lw_V q2434 q2436 qs113 q145 q2437) rfl rfl rfl (by decide +kernel) hR) rfl rfl hl hW hf hdg kk
/-! wrong -/
abbrev rmM_wrong : Room := { frames := 3, cells := 0, slots := 0, locals := 69 }
def F_wrong_b47 (k12 : Int32 → MS → Option (Int32 × MS)) (x1 : Int32) (σ : MS) : Option (Int32 × MS) :=
  lt (x1 + (1 : Int32)) fun x1_1 =>
  k12 x1_1 σ
set_option maxHeartbeats 4000000 in
theorem w_wrong_b47 {p : Program} {l : Launch} {e : Env} {s : State} {m : MethodId} {args : Array Value} {below : List Frame} {meth : Method} {c : Code} {G : MG} (hC : MCx G cX10_wrong 3 p s m args meth c) (hr : meth.sig.returnType = some .int) {x : (Int32 × MS)} (k12 : Int32 → MS → Option (Int32 × MS)) (hk12 : ∀ (x1 : Int32) (σ : MS), k12 x1 σ = some x → MJ p l e rmM_wrong s m args below meth c G 3 (some (.int x.1)) x.2 12 [(0, .ref (gM G)), (1, .int x1)] [] σ) :
    ∀ (x1 : Int32) (σ : MS), F_wrong_b47 k12 x1 σ = some x → MJ p l e rmM_wrong s m args below meth c G 3 (some (.int x.1)) x.2 47 [(0, .ref (gM G)), (1, .int x1)] [] σ := by
  have hx := hC.1
  have hb := hC.2.1
  intro x1 σ hF H locs ls hP hS hl
  rw [F_wrong_b47] at hF
  obtain ⟨x1_1, ex1_1, hF⟩ := lt_ok hF
  refine lv_iinc (v := x1_1) (lv' := [(1, .int x1_1), (0, .ref (gM G))]) hx hb dX10_wrong_47 hl (k := 1) rfl (by rw [ex1_1]; rfl) (by decide) rfl (fun ls hl => ?_)
  refine lv_goto (tgt := 12) hx hb dX10_wrong_50 (by decide) ?_
  exact hk12 x1_1 σ hF H locs ls hP hS (lv_sub hl [1, 0] rfl)
def F_wrong_L22 (k12 : Int32 → MS → Option (Int32 × MS)) : Nat → Int32 → Int32 → MS → Option (Int32 × MS)
  | 0, _, _, _ => none
  | fu + 1, x1, x2, σ =>
    if (mI σ 63) ≤ x2 then
      F_wrong_b47 k12 x1 σ
    else
      bd2 (F_isRight x2 x1 σ) fun r_4 σ_3 =>
      if r_4 = 0 then
        some (x1, σ_3)
      else
        lt (x2 + (1 : Int32)) fun x2_6 =>
        F_wrong_L22 k12 fu x1 x2_6 σ_3
set_option maxHeartbeats 4000000 in
theorem w_wrong_L22 {p : Program} {l : Launch} {e : Env} {s : State} {m : MethodId} {args : Array Value} {below : List Frame} {meth : Method} {c : Code} {G : MG} (hC : MCx G cX10_wrong 3 p s m args meth c) (hr : meth.sig.returnType = some .int) {x : (Int32 × MS)} (k12 : Int32 → MS → Option (Int32 × MS)) (hk12 : ∀ (x1 : Int32) (σ : MS), k12 x1 σ = some x → MJ p l e rmM_wrong s m args below meth c G 3 (some (.int x.1)) x.2 12 [(0, .ref (gM G)), (1, .int x1)] [] σ) :
    ∀ (fu : Nat) (x1 : Int32) (x2 : Int32) (σ : MS), F_wrong_L22 k12 fu x1 x2 σ = some x → MJ p l e rmM_wrong s m args below meth c G 3 (some (.int x.1)) x.2 22 [(0, .ref (gM G)), (1, .int x1), (2, .int x2)] [] σ := by
  have hx := hC.1
  have hb := hC.2.1
  intro fu
  induction fu with
  | zero => intro x1 x2 σ hF; exact nm_none hF
  | succ fu ih =>
    intro x1 x2 σ hF H locs ls hP hS hl
    rw [F_wrong_L22] at hF
    refine lv_iload_n hx hb dX10_wrong_22 rfl (lv_at hl 2 rfl) ?_
    refine lv_aload_n hx hb dX10_wrong_23 rfl (lv_at hl 0 rfl) ?_
    refine gM63 hC hP dX10_wrong_24 ?_
    refine lv_icmp_ge (tgt := 47) hx hb dX10_wrong_27 (by decide) (fun c_1 => ?_) (fun c_1 => ?_)
    · replace hF := it_t hF c_1
      exact w_wrong_b47 hC hr k12 hk12 x1 σ hF H locs ls hP hS (lv_sub hl [0, 1] rfl)
    · replace hF := it_f hF c_1
      refine lv_aload_n hx hb dX10_wrong_30 rfl (lv_at hl 0 rfl) ?_
      refine lv_iload_n hx hb dX10_wrong_31 rfl (lv_at hl 2 rfl) ?_
      refine lv_iload_n hx hb dX10_wrong_32 rfl (lv_at hl 1 rfl) ?_
      obtain ⟨r_4, σ_3, hc_2, hF⟩ := bd2_ok hF
      refine iM_isRight hC hP hS hc_2 hl.1 (Nat.le_of_ble_eq_true rfl) ⟨Nat.le_of_ble_eq_true rfl, Nat.le_of_ble_eq_true rfl⟩ ⟨Nat.zero_le _, Nat.zero_le _⟩ dX10_wrong_33 (fun H locs hP hS => ?_)
      refine lv_if_ne (tgt := 41) hx hb dX10_wrong_36 (by decide) (fun c_5 => ?_) (fun c_5 => ?_)
      · replace hF := it_f hF c_5
        obtain ⟨x2_6, ex2_6, hF⟩ := lt_ok hF
        refine lv_iinc (v := x2_6) (lv' := [(2, .int x2_6), (0, .ref (gM G)), (1, .int x1)]) hx hb dX10_wrong_41 hl (k := 2) rfl (by rw [ex2_6]; rfl) (by decide) rfl (fun ls hl => ?_)
        refine lv_goto (tgt := 22) hx hb dX10_wrong_44 (by decide) ?_
        exact ih x1 x2_6 σ_3 hF H locs ls hP hS (lv_sub hl [1, 2, 0] rfl)
      · replace hF := it_t hF c_5
        refine lv_iload_n hx hb dX10_wrong_39 rfl (lv_at hl 1 rfl) ?_
        exact M_reti hC hP hS hr (rt1 hF) (rt2 hF) dX10_wrong_40
def F_wrong_L12 : Nat → Int32 → MS → Option (Int32 × MS)
  | 0, _, _ => none
  | fu + 1, x1, σ =>
    bd (F_inputs σ) fun r_2 =>
    if r_2 ≤ x1 then
      some ((-1 : Int32), σ)
    else
      F_wrong_L22 (F_wrong_L12 fu) MN x1 (0 : Int32) σ
set_option maxHeartbeats 4000000 in
theorem w_wrong_L12 {p : Program} {l : Launch} {e : Env} {s : State} {m : MethodId} {args : Array Value} {below : List Frame} {meth : Method} {c : Code} {G : MG} (hC : MCx G cX10_wrong 3 p s m args meth c) (hr : meth.sig.returnType = some .int) {x : (Int32 × MS)} :
    ∀ (fu : Nat) (x1 : Int32) (σ : MS), F_wrong_L12 fu x1 σ = some x → MJ p l e rmM_wrong s m args below meth c G 3 (some (.int x.1)) x.2 12 [(0, .ref (gM G)), (1, .int x1)] [] σ := by
  have hx := hC.1
  have hb := hC.2.1
  intro fu
  induction fu with
  | zero => intro x1 σ hF; exact nm_none hF
  | succ fu ih =>
    intro x1 σ hF H locs ls hP hS hl
    rw [F_wrong_L12] at hF
    refine lv_iload_n hx hb dX10_wrong_12 rfl (lv_at hl 1 rfl) ?_
    refine lv_aload_n hx hb dX10_wrong_13 rfl (lv_at hl 0 rfl) ?_
    obtain ⟨r_2, hc_1, hF⟩ := bd_ok hF
    refine iM_inputs hC hP hS hc_1 hl.1 (Nat.le_of_ble_eq_true rfl) ⟨Nat.le_of_ble_eq_true rfl, Nat.le_of_ble_eq_true rfl⟩ ⟨Nat.zero_le _, Nat.zero_le _⟩ dX10_wrong_14 (fun H locs hP hS => ?_)
    refine lv_icmp_ge (tgt := 53) hx hb dX10_wrong_17 (by decide) (fun c_3 => ?_) (fun c_3 => ?_)
    · replace hF := it_t hF c_3
      refine lv_iconst (v := -1) hx hb dX10_wrong_53 (by decide) ?_
      exact M_reti hC hP hS hr (rt1 hF) (rt2 hF) dX10_wrong_54
    · replace hF := it_f hF c_3
      refine lv_iconst (v := 0) hx hb dX10_wrong_20 (by decide) ?_
      refine lv_istore_n (lv' := [(2, .int (0 : Int32)), (0, .ref (gM G)), (1, .int x1)]) hx hb dX10_wrong_21 rfl hl (by decide) rfl (fun ls hl => ?_)
      exact w_wrong_L22 hC hr (F_wrong_L12 fu) ih MN x1 (0 : Int32) σ hF H locs ls hP hS (lv_sub hl [1, 2, 0] rfl)
def F_wrong (σ : MS) : Option (Int32 × MS) :=
  if (mI σ 65) = 0 then
    F_wrong_L12 MN (0 : Int32) σ
  else
    some ((-2 : Int32), σ)
set_option maxHeartbeats 4000000 in
theorem w_wrong {p : Program} {l : Launch} {e : Env} {s : State} {m : MethodId} {args : Array Value} {below : List Frame} {meth : Method} {c : Code} {G : MG} (hC : MCx G cX10_wrong 3 p s m args meth c) (hr : meth.sig.returnType = some .int) {x : (Int32 × MS)} :
    ∀ (σ : MS), F_wrong σ = some x → MJ p l e rmM_wrong s m args below meth c G 3 (some (.int x.1)) x.2 0 [(0, .ref (gM G))] [] σ := by
  have hx := hC.1
  have hb := hC.2.1
  intro σ hF H locs ls hP hS hl
  rw [F_wrong] at hF
  refine lv_aload_n hx hb dX10_wrong_0 rfl (lv_at hl 0 rfl) ?_
  refine gM65 hC hP dX10_wrong_1 ?_
  refine lv_if_eq (tgt := 10) hx hb dX10_wrong_4 (by decide) (fun c_1 => ?_) (fun c_1 => ?_)
  · replace hF := it_t hF c_1
    refine lv_iconst (v := 0) hx hb dX10_wrong_10 (by decide) ?_
    refine lv_istore_n (lv' := [(1, .int (0 : Int32)), (0, .ref (gM G))]) hx hb dX10_wrong_11 rfl hl (by decide) rfl (fun ls hl => ?_)
    exact w_wrong_L12 hC hr MN (0 : Int32) σ hF H locs ls hP hS (lv_sub hl [1, 0] rfl)
  · replace hF := it_f hF c_1
    refine lv_bipush (v := -2) hx hb dX10_wrong_7 (by decide) ?_
    exact M_reti hC hP hS hr (rt1 hF) (rt2 hF) dX10_wrong_9
theorem m_wrong (l : Launch) (G : MG) (σ : MS) (x : (Int32 × MS)) (hF : F_wrong σ = some x) : Met l yX10_wrong (ws_ yX10_wrong cX10_wrong 3 (some .int)) rmM_wrong (mP G [.ref (gM G)] σ) (mQ G (some (.int x.1)) x.2) 0 0 (MA G) := by
  refine M_met rfl plM (Nat.le_of_ble_eq_true rfl) ?_
  intro p e s m below meth c hC hr ls hl hP
  exact w_wrong hC hr σ hF s.heap [] ls hP va_S.rf hl
/-! leaks -/
abbrev rmM_leaks : Room := { frames := 2, cells := 0, slots := 0, locals := 46 }
def F_leaks_b118 (k12 : Int32 → Int32 → MS → Option (Int32 × MS)) (x1 : Int32) (x2 : Int32) (σ : MS) : Option (Int32 × MS) :=
  lt (x2 + (1 : Int32)) fun x2_1 =>
  k12 x1 x2_1 σ
set_option maxHeartbeats 4000000 in
theorem w_leaks_b118 {p : Program} {l : Launch} {e : Env} {s : State} {m : MethodId} {args : Array Value} {below : List Frame} {meth : Method} {c : Code} {G : MG} (hC : MCx G cX10_leaks 5 p s m args meth c) (hr : meth.sig.returnType = some .int) {x : (Int32 × MS)} (k12 : Int32 → Int32 → MS → Option (Int32 × MS)) (hk12 : ∀ (x1 : Int32) (x2 : Int32) (σ : MS), k12 x1 x2 σ = some x → MJ p l e rmM_leaks s m args below meth c G 5 (some (.int x.1)) x.2 12 [(0, .ref (gM G)), (1, .int x1), (2, .int x2)] [] σ) :
    ∀ (x1 : Int32) (x2 : Int32) (σ : MS), F_leaks_b118 k12 x1 x2 σ = some x → MJ p l e rmM_leaks s m args below meth c G 5 (some (.int x.1)) x.2 118 [(0, .ref (gM G)), (1, .int x1), (2, .int x2)] [] σ := by
  have hx := hC.1
  have hb := hC.2.1
  intro x1 x2 σ hF H locs ls hP hS hl
  rw [F_leaks_b118] at hF
  obtain ⟨x2_1, ex2_1, hF⟩ := lt_ok hF
  refine lv_iinc (v := x2_1) (lv' := [(2, .int x2_1), (0, .ref (gM G)), (1, .int x1)]) hx hb dX10_leaks_118 hl (k := 2) rfl (by rw [ex2_1]; rfl) (by decide) rfl (fun ls hl => ?_)
  refine lv_goto (tgt := 12) hx hb dX10_leaks_121 (by decide) ?_
  exact hk12 x1 x2_1 σ hF H locs ls hP hS (lv_sub hl [1, 2, 0] rfl)
def F_leaks_b112 (k22 : Int32 → Int32 → Int32 → MS → Option (Int32 × MS)) (x1 : Int32) (x2 : Int32) (x3 : Int32) (σ : MS) : Option (Int32 × MS) :=
  lt (x3 + (1 : Int32)) fun x3_1 =>
  k22 x1 x2 x3_1 σ
set_option maxHeartbeats 4000000 in
theorem w_leaks_b112 {p : Program} {l : Launch} {e : Env} {s : State} {m : MethodId} {args : Array Value} {below : List Frame} {meth : Method} {c : Code} {G : MG} (hC : MCx G cX10_leaks 5 p s m args meth c) (hr : meth.sig.returnType = some .int) {x : (Int32 × MS)} (k22 : Int32 → Int32 → Int32 → MS → Option (Int32 × MS)) (hk22 : ∀ (x1 : Int32) (x2 : Int32) (x3 : Int32) (σ : MS), k22 x1 x2 x3 σ = some x → MJ p l e rmM_leaks s m args below meth c G 5 (some (.int x.1)) x.2 22 [(0, .ref (gM G)), (1, .int x1), (2, .int x2), (3, .int x3)] [] σ) :
    ∀ (x1 : Int32) (x2 : Int32) (x3 : Int32) (σ : MS), F_leaks_b112 k22 x1 x2 x3 σ = some x → MJ p l e rmM_leaks s m args below meth c G 5 (some (.int x.1)) x.2 112 [(0, .ref (gM G)), (1, .int x1), (2, .int x2), (3, .int x3)] [] σ := by
  have hx := hC.1
  have hb := hC.2.1
  intro x1 x2 x3 σ hF H locs ls hP hS hl
  rw [F_leaks_b112] at hF
  obtain ⟨x3_1, ex3_1, hF⟩ := lt_ok hF
  refine lv_iinc (v := x3_1) (lv' := [(3, .int x3_1), (0, .ref (gM G)), (1, .int x1), (2, .int x2)]) hx hb dX10_leaks_112 hl (k := 3) rfl (by rw [ex3_1]; rfl) (by decide) rfl (fun ls hl => ?_)
  refine lv_goto (tgt := 22) hx hb dX10_leaks_115 (by decide) ?_
  exact hk22 x1 x2 x3_1 σ hF H locs ls hP hS (lv_sub hl [1, 2, 3, 0] rfl)
def F_leaks_b106 (k35 : Int32 → Int32 → Int32 → Int32 → MS → Option (Int32 × MS)) (x1 : Int32) (x2 : Int32) (x3 : Int32) (x4 : Int32) (σ : MS) : Option (Int32 × MS) :=
  lt (x4 + (1 : Int32)) fun x4_1 =>
  k35 x1 x2 x3 x4_1 σ
set_option maxHeartbeats 4000000 in
theorem w_leaks_b106 {p : Program} {l : Launch} {e : Env} {s : State} {m : MethodId} {args : Array Value} {below : List Frame} {meth : Method} {c : Code} {G : MG} (hC : MCx G cX10_leaks 5 p s m args meth c) (hr : meth.sig.returnType = some .int) {x : (Int32 × MS)} (k35 : Int32 → Int32 → Int32 → Int32 → MS → Option (Int32 × MS)) (hk35 : ∀ (x1 : Int32) (x2 : Int32) (x3 : Int32) (x4 : Int32) (σ : MS), k35 x1 x2 x3 x4 σ = some x → MJ p l e rmM_leaks s m args below meth c G 5 (some (.int x.1)) x.2 35 [(0, .ref (gM G)), (1, .int x1), (2, .int x2), (3, .int x3), (4, .int x4)] [] σ) :
    ∀ (x1 : Int32) (x2 : Int32) (x3 : Int32) (x4 : Int32) (σ : MS), F_leaks_b106 k35 x1 x2 x3 x4 σ = some x → MJ p l e rmM_leaks s m args below meth c G 5 (some (.int x.1)) x.2 106 [(0, .ref (gM G)), (1, .int x1), (2, .int x2), (3, .int x3), (4, .int x4)] [] σ := by
  have hx := hC.1
  have hb := hC.2.1
  intro x1 x2 x3 x4 σ hF H locs ls hP hS hl
  rw [F_leaks_b106] at hF
  obtain ⟨x4_1, ex4_1, hF⟩ := lt_ok hF
  refine lv_iinc (v := x4_1) (lv' := [(4, .int x4_1), (0, .ref (gM G)), (1, .int x1), (2, .int x2), (3, .int x3)]) hx hb dX10_leaks_106 hl (k := 4) rfl (by rw [ex4_1]; rfl) (by decide) rfl (fun ls hl => ?_)
  refine lv_goto (tgt := 35) hx hb dX10_leaks_109 (by decide) ?_
  exact hk35 x1 x2 x3 x4_1 σ hF H locs ls hP hS (lv_sub hl [1, 2, 3, 4, 0] rfl)
def F_leaks_b89 (x2 : Int32) (x3 : Int32) (x4 : Int32) (σ : MS) : Option (Int32 × MS) :=
  some (((((1000 : Int32) * x2) + ((100 : Int32) * x3)) + ((10 : Int32) * x4)), σ)
set_option maxHeartbeats 4000000 in
theorem w_leaks_b89 {p : Program} {l : Launch} {e : Env} {s : State} {m : MethodId} {args : Array Value} {below : List Frame} {meth : Method} {c : Code} {G : MG} (hC : MCx G cX10_leaks 5 p s m args meth c) (hr : meth.sig.returnType = some .int) {x : (Int32 × MS)} :
    ∀ (x2 : Int32) (x3 : Int32) (x4 : Int32) (σ : MS), F_leaks_b89 x2 x3 x4 σ = some x → MJ p l e rmM_leaks s m args below meth c G 5 (some (.int x.1)) x.2 89 [(2, .int x2), (3, .int x3), (4, .int x4)] [] σ := by
  have hx := hC.1
  have hb := hC.2.1
  intro x2 x3 x4 σ hF H locs ls hP hS hl
  rw [F_leaks_b89] at hF
  refine lv_sipush (v := 1000) hx hb dX10_leaks_89 (by decide) ?_
  refine lv_iload_n hx hb dX10_leaks_92 rfl (lv_at hl 0 rfl) ?_
  refine lv_imul hx hb dX10_leaks_93 ?_
  refine lv_bipush (v := 100) hx hb dX10_leaks_94 (by decide) ?_
  refine lv_iload_n hx hb dX10_leaks_96 rfl (lv_at hl 1 rfl) ?_
  refine lv_imul hx hb dX10_leaks_97 ?_
  refine lv_iadd hx hb dX10_leaks_98 ?_
  refine lv_bipush (v := 10) hx hb dX10_leaks_99 (by decide) ?_
  refine lv_iload hx hb dX10_leaks_101 (lv_at hl 2 rfl) ?_
  refine lv_imul hx hb dX10_leaks_103 ?_
  refine lv_iadd hx hb dX10_leaks_104 ?_
  exact M_reti hC hP hS hr (rt1 hF) (rt2 hF) dX10_leaks_105
def F_leaks_L35 (k22 : Int32 → Int32 → Int32 → MS → Option (Int32 × MS)) : Nat → Int32 → Int32 → Int32 → Int32 → MS → Option (Int32 × MS)
  | 0, _, _, _, _, _ => none
  | fu + 1, x1, x2, x3, x4, σ =>
    bd (F_inputs σ) fun r_2 =>
    if r_2 ≤ x4 then
      F_leaks_b112 k22 x1 x2 x3 σ
    else
      gd (inb (((8 : Int32) * x2) + x3) 1600) <|
      gd (inb (((8 : Int32) * x2) + x4) 1600) <|
      if (lg_cmp (mL σ 61 (Int32.toNatClampNeg (((8 : Int32) * x2) + x3))) (mL σ 61 (Int32.toNatClampNeg (((8 : Int32) * x2) + x4)))) = 0 then
        F_leaks_b106 (F_leaks_L35 k22 fu) x1 x2 x3 x4 σ
      else
        if x1 = 0 then
          bd2 (F_askedOf x3 σ) fun r_10 σ_9 =>
          bd2 (F_askedOf x4 σ_9) fun r_13 σ_12 =>
          if r_10 = r_13 then
            F_leaks_b89 x2 x3 x4 σ_12
          else
            F_leaks_b106 (F_leaks_L35 k22 fu) x1 x2 x3 x4 σ_12
        else
          F_leaks_b89 x2 x3 x4 σ
set_option maxHeartbeats 4000000 in
theorem w_leaks_L35 {p : Program} {l : Launch} {e : Env} {s : State} {m : MethodId} {args : Array Value} {below : List Frame} {meth : Method} {c : Code} {G : MG} (hC : MCx G cX10_leaks 5 p s m args meth c) (hr : meth.sig.returnType = some .int) {x : (Int32 × MS)} (k22 : Int32 → Int32 → Int32 → MS → Option (Int32 × MS)) (hk22 : ∀ (x1 : Int32) (x2 : Int32) (x3 : Int32) (σ : MS), k22 x1 x2 x3 σ = some x → MJ p l e rmM_leaks s m args below meth c G 5 (some (.int x.1)) x.2 22 [(0, .ref (gM G)), (1, .int x1), (2, .int x2), (3, .int x3)] [] σ) :
    ∀ (fu : Nat) (x1 : Int32) (x2 : Int32) (x3 : Int32) (x4 : Int32) (σ : MS), F_leaks_L35 k22 fu x1 x2 x3 x4 σ = some x → MJ p l e rmM_leaks s m args below meth c G 5 (some (.int x.1)) x.2 35 [(0, .ref (gM G)), (1, .int x1), (2, .int x2), (3, .int x3), (4, .int x4)] [] σ := by
  have hx := hC.1
  have hb := hC.2.1
  intro fu
  induction fu with
  | zero => intro x1 x2 x3 x4 σ hF; exact nm_none hF
  | succ fu ih =>
    intro x1 x2 x3 x4 σ hF H locs ls hP hS hl
    rw [F_leaks_L35] at hF
    refine lv_iload hx hb dX10_leaks_35 (lv_at hl 4 rfl) ?_
    refine lv_aload_n hx hb dX10_leaks_37 rfl (lv_at hl 0 rfl) ?_
    obtain ⟨r_2, hc_1, hF⟩ := bd_ok hF
    refine iM_inputs hC hP hS hc_1 hl.1 (Nat.le_of_ble_eq_true rfl) ⟨Nat.le_of_ble_eq_true rfl, Nat.le_of_ble_eq_true rfl⟩ ⟨Nat.zero_le _, Nat.zero_le _⟩ dX10_leaks_38 (fun H locs hP hS => ?_)
    refine lv_icmp_ge (tgt := 112) hx hb dX10_leaks_41 (by decide) (fun c_3 => ?_) (fun c_3 => ?_)
    · replace hF := it_t hF c_3
      exact w_leaks_b112 hC hr k22 hk22 x1 x2 x3 σ hF H locs ls hP hS (lv_sub hl [0, 1, 2, 3] rfl)
    · replace hF := it_f hF c_3
      refine lv_aload_n hx hb dX10_leaks_44 rfl (lv_at hl 0 rfl) ?_
      refine gM61 hC hP dX10_leaks_45 ?_
      refine lv_bipush (v := 8) hx hb dX10_leaks_48 (by decide) ?_
      refine lv_iload_n hx hb dX10_leaks_50 rfl (lv_at hl 2 rfl) ?_
      refine lv_imul hx hb dX10_leaks_51 ?_
      refine lv_iload_n hx hb dX10_leaks_52 rfl (lv_at hl 3 rfl) ?_
      refine lv_iadd hx hb dX10_leaks_53 ?_
      obtain ⟨h_4, hF⟩ := gd_ok hF
      refine M_lald hC hP 61 (by decide) rfl rfl rfl h_4 dX10_leaks_54 ?_
      refine lv_aload_n hx hb dX10_leaks_55 rfl (lv_at hl 0 rfl) ?_
      refine gM61 hC hP dX10_leaks_56 ?_
      refine lv_bipush (v := 8) hx hb dX10_leaks_59 (by decide) ?_
      refine lv_iload_n hx hb dX10_leaks_61 rfl (lv_at hl 2 rfl) ?_
      refine lv_imul hx hb dX10_leaks_62 ?_
      refine lv_iload hx hb dX10_leaks_63 (lv_at hl 4 rfl) ?_
      refine lv_iadd hx hb dX10_leaks_65 ?_
      obtain ⟨h_5, hF⟩ := gd_ok hF
      refine M_lald hC hP 61 (by decide) rfl rfl rfl h_5 dX10_leaks_66 ?_
      refine W.lcmp hx hb dX10_leaks_67 ?_
      refine lv_if_eq (tgt := 106) hx hb dX10_leaks_68 (by decide) (fun c_6 => ?_) (fun c_6 => ?_)
      · replace hF := it_t hF c_6
        exact w_leaks_b106 hC hr (F_leaks_L35 k22 fu) ih x1 x2 x3 x4 σ hF H locs ls hP hS (lv_sub hl [0, 1, 2, 3, 4] rfl)
      · replace hF := it_f hF c_6
        refine lv_iload_n hx hb dX10_leaks_71 rfl (lv_at hl 1 rfl) ?_
        refine lv_if_ne (tgt := 89) hx hb dX10_leaks_72 (by decide) (fun c_7 => ?_) (fun c_7 => ?_)
        · replace hF := it_f hF c_7
          exact w_leaks_b89 hC hr x2 x3 x4 σ hF H locs ls hP hS (lv_sub hl [2, 3, 4] rfl)
        · replace hF := it_t hF c_7
          refine lv_aload_n hx hb dX10_leaks_75 rfl (lv_at hl 0 rfl) ?_
          refine lv_iload_n hx hb dX10_leaks_76 rfl (lv_at hl 3 rfl) ?_
          obtain ⟨r_10, σ_9, hc_8, hF⟩ := bd2_ok hF
          refine iM_askedOf hC hP hS hc_8 hl.1 (Nat.le_of_ble_eq_true rfl) ⟨Nat.le_of_ble_eq_true rfl, Nat.le_of_ble_eq_true rfl⟩ ⟨Nat.zero_le _, Nat.zero_le _⟩ dX10_leaks_77 (fun H locs hP hS => ?_)
          refine lv_aload_n hx hb dX10_leaks_80 rfl (lv_at hl 0 rfl) ?_
          refine lv_iload hx hb dX10_leaks_81 (lv_at hl 4 rfl) ?_
          obtain ⟨r_13, σ_12, hc_11, hF⟩ := bd2_ok hF
          refine iM_askedOf hC hP hS hc_11 hl.1 (Nat.le_of_ble_eq_true rfl) ⟨Nat.le_of_ble_eq_true rfl, Nat.le_of_ble_eq_true rfl⟩ ⟨Nat.zero_le _, Nat.zero_le _⟩ dX10_leaks_83 (fun H locs hP hS => ?_)
          refine lv_icmp_ne (tgt := 106) hx hb dX10_leaks_86 (by decide) (fun c_14 => ?_) (fun c_14 => ?_)
          · replace hF := it_f hF c_14
            exact w_leaks_b106 hC hr (F_leaks_L35 k22 fu) ih x1 x2 x3 x4 σ_12 hF H locs ls hP hS (lv_sub hl [0, 1, 2, 3, 4] rfl)
          · replace hF := it_t hF c_14
            exact w_leaks_b89 hC hr x2 x3 x4 σ_12 hF H locs ls hP hS (lv_sub hl [2, 3, 4] rfl)
def F_leaks_L22 (k12 : Int32 → Int32 → MS → Option (Int32 × MS)) : Nat → Int32 → Int32 → Int32 → MS → Option (Int32 × MS)
  | 0, _, _, _, _ => none
  | fu + 1, x1, x2, x3, σ =>
    bd (F_inputs σ) fun r_2 =>
    if r_2 ≤ x3 then
      F_leaks_b118 k12 x1 x2 σ
    else
      lt ((x3 + (1 : Int32))) fun x4_4 =>
      F_leaks_L35 (F_leaks_L22 k12 fu) MN x1 x2 x3 x4_4 σ
set_option maxHeartbeats 4000000 in
theorem w_leaks_L22 {p : Program} {l : Launch} {e : Env} {s : State} {m : MethodId} {args : Array Value} {below : List Frame} {meth : Method} {c : Code} {G : MG} (hC : MCx G cX10_leaks 5 p s m args meth c) (hr : meth.sig.returnType = some .int) {x : (Int32 × MS)} (k12 : Int32 → Int32 → MS → Option (Int32 × MS)) (hk12 : ∀ (x1 : Int32) (x2 : Int32) (σ : MS), k12 x1 x2 σ = some x → MJ p l e rmM_leaks s m args below meth c G 5 (some (.int x.1)) x.2 12 [(0, .ref (gM G)), (1, .int x1), (2, .int x2)] [] σ) :
    ∀ (fu : Nat) (x1 : Int32) (x2 : Int32) (x3 : Int32) (σ : MS), F_leaks_L22 k12 fu x1 x2 x3 σ = some x → MJ p l e rmM_leaks s m args below meth c G 5 (some (.int x.1)) x.2 22 [(0, .ref (gM G)), (1, .int x1), (2, .int x2), (3, .int x3)] [] σ := by
  have hx := hC.1
  have hb := hC.2.1
  intro fu
  induction fu with
  | zero => intro x1 x2 x3 σ hF; exact nm_none hF
  | succ fu ih =>
    intro x1 x2 x3 σ hF H locs ls hP hS hl
    rw [F_leaks_L22] at hF
    refine lv_iload_n hx hb dX10_leaks_22 rfl (lv_at hl 3 rfl) ?_
    refine lv_aload_n hx hb dX10_leaks_23 rfl (lv_at hl 0 rfl) ?_
    obtain ⟨r_2, hc_1, hF⟩ := bd_ok hF
    refine iM_inputs hC hP hS hc_1 hl.1 (Nat.le_of_ble_eq_true rfl) ⟨Nat.le_of_ble_eq_true rfl, Nat.le_of_ble_eq_true rfl⟩ ⟨Nat.zero_le _, Nat.zero_le _⟩ dX10_leaks_24 (fun H locs hP hS => ?_)
    refine lv_icmp_ge (tgt := 118) hx hb dX10_leaks_27 (by decide) (fun c_3 => ?_) (fun c_3 => ?_)
    · replace hF := it_t hF c_3
      exact w_leaks_b118 hC hr k12 hk12 x1 x2 σ hF H locs ls hP hS (lv_sub hl [0, 1, 2] rfl)
    · replace hF := it_f hF c_3
      refine lv_iload_n hx hb dX10_leaks_30 rfl (lv_at hl 3 rfl) ?_
      refine lv_iconst (v := 1) hx hb dX10_leaks_31 (by decide) ?_
      refine lv_iadd hx hb dX10_leaks_32 ?_
      refine lv_topi (fun x4_4 ex4_4 => ?_)
      replace hF := lt_at hF ex4_4
      refine lv_istore (lv' := [(4, .int x4_4), (0, .ref (gM G)), (1, .int x1), (2, .int x2), (3, .int x3)]) hx hb dX10_leaks_33 hl (by decide) rfl (fun ls hl => ?_)
      exact w_leaks_L35 hC hr (F_leaks_L22 k12 fu) ih MN x1 x2 x3 x4_4 σ hF H locs ls hP hS (lv_sub hl [1, 2, 3, 4, 0] rfl)
def F_leaks_L12 : Nat → Int32 → Int32 → MS → Option (Int32 × MS)
  | 0, _, _, _ => none
  | fu + 1, x1, x2, σ =>
    if (mI σ 63) ≤ x2 then
      some ((-1 : Int32), σ)
    else
      F_leaks_L22 (F_leaks_L12 fu) MN x1 x2 (0 : Int32) σ
set_option maxHeartbeats 4000000 in
theorem w_leaks_L12 {p : Program} {l : Launch} {e : Env} {s : State} {m : MethodId} {args : Array Value} {below : List Frame} {meth : Method} {c : Code} {G : MG} (hC : MCx G cX10_leaks 5 p s m args meth c) (hr : meth.sig.returnType = some .int) {x : (Int32 × MS)} :
    ∀ (fu : Nat) (x1 : Int32) (x2 : Int32) (σ : MS), F_leaks_L12 fu x1 x2 σ = some x → MJ p l e rmM_leaks s m args below meth c G 5 (some (.int x.1)) x.2 12 [(0, .ref (gM G)), (1, .int x1), (2, .int x2)] [] σ := by
  have hx := hC.1
  have hb := hC.2.1
  intro fu
  induction fu with
  | zero => intro x1 x2 σ hF; exact nm_none hF
  | succ fu ih =>
    intro x1 x2 σ hF H locs ls hP hS hl
    rw [F_leaks_L12] at hF
    refine lv_iload_n hx hb dX10_leaks_12 rfl (lv_at hl 2 rfl) ?_
    refine lv_aload_n hx hb dX10_leaks_13 rfl (lv_at hl 0 rfl) ?_
    refine gM63 hC hP dX10_leaks_14 ?_
    refine lv_icmp_ge (tgt := 124) hx hb dX10_leaks_17 (by decide) (fun c_1 => ?_) (fun c_1 => ?_)
    · replace hF := it_t hF c_1
      refine lv_iconst (v := -1) hx hb dX10_leaks_124 (by decide) ?_
      exact M_reti hC hP hS hr (rt1 hF) (rt2 hF) dX10_leaks_125
    · replace hF := it_f hF c_1
      refine lv_iconst (v := 0) hx hb dX10_leaks_20 (by decide) ?_
      refine lv_istore_n (lv' := [(3, .int (0 : Int32)), (0, .ref (gM G)), (1, .int x1), (2, .int x2)]) hx hb dX10_leaks_21 rfl hl (by decide) rfl (fun ls hl => ?_)
      exact w_leaks_L22 hC hr (F_leaks_L12 fu) ih MN x1 x2 (0 : Int32) σ hF H locs ls hP hS (lv_sub hl [1, 2, 3, 0] rfl)
def F_leaks (a0 : Int32) (σ : MS) : Option (Int32 × MS) :=
  if (mI σ 65) = 0 then
    F_leaks_L12 MN a0 (0 : Int32) σ
  else
    some ((-2 : Int32), σ)
set_option maxHeartbeats 4000000 in
theorem w_leaks {p : Program} {l : Launch} {e : Env} {s : State} {m : MethodId} {args : Array Value} {below : List Frame} {meth : Method} {c : Code} {G : MG} (hC : MCx G cX10_leaks 5 p s m args meth c) (hr : meth.sig.returnType = some .int) {x : (Int32 × MS)} :
    ∀ (a0 : Int32) (σ : MS), F_leaks a0 σ = some x → MJ p l e rmM_leaks s m args below meth c G 5 (some (.int x.1)) x.2 0 [(0, .ref (gM G)), (1, .int a0)] [] σ := by
  have hx := hC.1
  have hb := hC.2.1
  intro a0 σ hF H locs ls hP hS hl
  rw [F_leaks] at hF
  refine lv_aload_n hx hb dX10_leaks_0 rfl (lv_at hl 0 rfl) ?_
  refine gM65 hC hP dX10_leaks_1 ?_
  refine lv_if_eq (tgt := 10) hx hb dX10_leaks_4 (by decide) (fun c_1 => ?_) (fun c_1 => ?_)
  · replace hF := it_t hF c_1
    refine lv_iconst (v := 0) hx hb dX10_leaks_10 (by decide) ?_
    refine lv_istore_n (lv' := [(2, .int (0 : Int32)), (0, .ref (gM G)), (1, .int a0)]) hx hb dX10_leaks_11 rfl hl (by decide) rfl (fun ls hl => ?_)
    exact w_leaks_L12 hC hr MN a0 (0 : Int32) σ hF H locs ls hP hS (lv_sub hl [1, 2, 0] rfl)
  · replace hF := it_f hF c_1
    refine lv_bipush (v := -2) hx hb dX10_leaks_7 (by decide) ?_
    exact M_reti hC hP hS hr (rt1 hF) (rt2 hF) dX10_leaks_9
theorem m_leaks (l : Launch) (G : MG) (a0 : Int32) (σ : MS) (x : (Int32 × MS)) (hF : F_leaks a0 σ = some x) : Met l yX10_leaks (ws_ yX10_leaks cX10_leaks 5 (some .int)) rmM_leaks (mP G [.ref (gM G), .int a0] σ) (mQ G (some (.int x.1)) x.2) 0 0 (MA G) := by
  refine M_met rfl plM (Nat.le_of_ble_eq_true rfl) ?_
  intro p e s m below meth c hC hr ls hl hP
  exact w_leaks hC hr a0 σ hF s.heap [] ls hP va_S.rf hl
/-! isClosed -/
abbrev rmM_isClosed : Room := { frames := 5, cells := 0, slots := 0, locals := 125 }
def F_isClosed (a0 : Int32) (a1 : Int32) (a2 : Int32) (σ : MS) : Option (Int32 × MS) :=
  gd (a2 = 0 ∨ a2 = 1) <|
  lt (wI σ 67 a2) fun σ_2 =>
  lt (wI σ_2 66 (0 : Int32)) fun σ_3 =>
  bd2 (F_explore a0 a1 (5000 : Int32) σ_3) fun r_6 σ_5 =>
  if r_6 = 0 then
    some ((-2 : Int32), σ_5)
  else
    if (mI σ_5 66) = 0 then
      some ((1 : Int32), σ_5)
    else
      some ((0 : Int32), σ_5)
set_option maxHeartbeats 4000000 in
theorem w_isClosed {p : Program} {l : Launch} {e : Env} {s : State} {m : MethodId} {args : Array Value} {below : List Frame} {meth : Method} {c : Code} {G : MG} (hC : MCx G cX10_isClosed 5 p s m args meth c) (hr : meth.sig.returnType = some .int) {x : (Int32 × MS)} :
    ∀ (a0 : Int32) (a1 : Int32) (a2 : Int32) (σ : MS), F_isClosed a0 a1 a2 σ = some x → MJ p l e rmM_isClosed s m args below meth c G 5 (some (.int x.1)) x.2 0 [(0, .ref (gM G)), (1, .int a0), (2, .int a1), (3, .int a2)] [] σ := by
  have hx := hC.1
  have hb := hC.2.1
  intro a0 a1 a2 σ hF H locs ls hP hS hl
  rw [F_isClosed] at hF
  refine lv_aload_n hx hb dX10_isClosed_0 rfl (lv_at hl 0 rfl) ?_
  refine lv_iload_n hx hb dX10_isClosed_1 rfl (lv_at hl 3 rfl) ?_
  obtain ⟨h_1, hF⟩ := gd_ok hF
  refine pM67 hC hP hS h_1 dX10_isClosed_2 (fun H locs hP hS => ?_)
  obtain ⟨σ_2, eσ_2, hF⟩ := lt_ok hF
  rw [← eσ_2] at hP
  refine lv_aload_n hx hb dX10_isClosed_5 rfl (lv_at hl 0 rfl) ?_
  refine lv_iconst (v := 0) hx hb dX10_isClosed_6 (by decide) ?_
  refine pM66 hC hP hS (Or.inl rfl) dX10_isClosed_7 (fun H locs hP hS => ?_)
  obtain ⟨σ_3, eσ_3, hF⟩ := lt_ok hF
  rw [← eσ_3] at hP
  refine lv_aload_n hx hb dX10_isClosed_10 rfl (lv_at hl 0 rfl) ?_
  refine lv_iload_n hx hb dX10_isClosed_11 rfl (lv_at hl 1 rfl) ?_
  refine lv_iload_n hx hb dX10_isClosed_12 rfl (lv_at hl 2 rfl) ?_
  refine lv_sipush (v := 5000) hx hb dX10_isClosed_13 (by decide) ?_
  obtain ⟨r_6, σ_5, hc_4, hF⟩ := bd2_ok hF
  refine iM_explore hC hP hS hc_4 hl.1 (Nat.le_of_ble_eq_true rfl) ⟨Nat.le_of_ble_eq_true rfl, Nat.le_of_ble_eq_true rfl⟩ ⟨Nat.zero_le _, Nat.zero_le _⟩ dX10_isClosed_16 (fun H locs hP hS => ?_)
  refine lv_istore (lv' := [(4, .int r_6), (0, .ref (gM G)), (1, .int a0), (2, .int a1), (3, .int a2)]) hx hb dX10_isClosed_19 hl (by decide) rfl (fun ls hl => ?_)
  refine lv_iload hx hb dX10_isClosed_21 (lv_at hl 0 rfl) ?_
  refine lv_if_ne (tgt := 31) hx hb dX10_isClosed_23 (by decide) (fun c_7 => ?_) (fun c_7 => ?_)
  · replace hF := it_f hF c_7
    refine lv_aload_n hx hb dX10_isClosed_31 rfl (lv_at hl 1 rfl) ?_
    refine gM66 hC hP dX10_isClosed_32 ?_
    refine lv_if_eq (tgt := 42) hx hb dX10_isClosed_35 (by decide) (fun c_8 => ?_) (fun c_8 => ?_)
    · replace hF := it_t hF c_8
      refine lv_iconst (v := 1) hx hb dX10_isClosed_42 (by decide) ?_
      exact M_reti hC hP hS hr (rt1 hF) (rt2 hF) dX10_isClosed_43
    · replace hF := it_f hF c_8
      refine lv_iconst (v := 0) hx hb dX10_isClosed_38 (by decide) ?_
      refine lv_goto (tgt := 43) hx hb dX10_isClosed_39 (by decide) ?_
      exact M_reti hC hP hS hr (rt1 hF) (rt2 hF) dX10_isClosed_43
  · replace hF := it_t hF c_7
    refine lv_bipush (v := -2) hx hb dX10_isClosed_26 (by decide) ?_
    refine lv_goto (tgt := 43) hx hb dX10_isClosed_28 (by decide) ?_
    exact M_reti hC hP hS hr (rt1 hF) (rt2 hF) dX10_isClosed_43
theorem m_isClosed (l : Launch) (G : MG) (a0 : Int32) (a1 : Int32) (a2 : Int32) (σ : MS) (x : (Int32 × MS)) (hF : F_isClosed a0 a1 a2 σ = some x) : Met l yX10_isClosed (ws_ yX10_isClosed cX10_isClosed 5 (some .int)) rmM_isClosed (mP G [.ref (gM G), .int a0, .int a1, .int a2] σ) (mQ G (some (.int x.1)) x.2) 0 0 (MA G) := by
  refine M_met rfl plM (Nat.le_of_ble_eq_true rfl) ?_
  intro p e s m below meth c hC hr ls hl hP
  exact w_isClosed hC hr a0 a1 a2 σ hF s.heap [] ls hP va_S.rf hl
theorem iM_isClosed {p : Program} {l : Launch} {e : Env} {R : Room} {s : State} {m : MethodId} {args : Array Value} {below : List Frame} {meth : Method} {c : Code} {H H0 : Heap} {locs : List Loc} {cells slots nL : Nat} {Q : State → Prop} {G : MG} {σ : MS} {cc : ByteArray} {pc : Nat} {ls : Array Slot} {rest : List Value} (hC : MCx G cc nL p s m args meth c) (hP : MRep G σ H) (hS : va_S (MA G) H0 H locs) {a0 : Int32} {a1 : Int32} {a2 : Int32} {x : Int32} {σ1 : MS} (hF : F_isClosed a0 a1 a2 σ = some (x, σ1)) (hl : ls.size = nL) (hW : (rest.map fun v => v.category).sum ≤ 8) (hR : rmM_isClosed.frames + 1 ≤ R.frames ∧ 8 + (5 + 11) + rmM_isClosed.locals ≤ R.locals) (hf : cells ≤ R.cells ∧ slots ≤ R.slots) (hdg : decode cc pc = .ok (.invokevirtual 560, 3))
    (kk : ∀ (H1 : Heap) (locs1 : List Loc), MRep G σ1 H1 → va_S (MA G) H0 H1 locs1 → W p l e R s m args below meth c H1 locs1 cells slots Q (F0 m (pc + 3) ls (.int x :: rest))) : W p l e R s m args below meth c H locs cells slots Q (F0 m pc ls (.int a2 :: .int a1 :: .int a0 :: .ref (gM G) :: rest)) :=
  M_inv hC hP hS [.int a0, .int a1, .int a2] (m_isClosed l G a0 a1 a2 σ _ hF) (cwV 3 hC.2.2.2.2.1 (lw_V q2446 q2448 qs114 q145 q2449) rfl rfl rfl (by decide +kernel) hR) rfl rfl hl hW hf hdg kk
/-! bent -/
abbrev rmM_bent : Room := { frames := 6, cells := 0, slots := 0, locals := 149 }
def F_bent (a0 : Int32) (a1 : Int32) (σ : MS) : Option (Int32 × MS) :=
  bd (F_isIn a0 (0 : Int32) (7 : Int32)) fun r_2 =>
  if r_2 = 0 then
    some ((-1 : Int32), σ)
  else
    bd2 (F_isClosed (1 : Int32) a0 a1 σ) fun r_6 σ_5 =>
    some (r_6, σ_5)
set_option maxHeartbeats 4000000 in
theorem w_bent {p : Program} {l : Launch} {e : Env} {s : State} {m : MethodId} {args : Array Value} {below : List Frame} {meth : Method} {c : Code} {G : MG} (hC : MCx G cX10_bent 3 p s m args meth c) (hr : meth.sig.returnType = some .int) {x : (Int32 × MS)} :
    ∀ (a0 : Int32) (a1 : Int32) (σ : MS), F_bent a0 a1 σ = some x → MJ p l e rmM_bent s m args below meth c G 3 (some (.int x.1)) x.2 0 [(0, .ref (gM G)), (1, .int a0), (2, .int a1)] [] σ := by
  have hx := hC.1
  have hb := hC.2.1
  intro a0 a1 σ hF H locs ls hP hS hl
  rw [F_bent] at hF
  refine lv_iload_n hx hb dX10_bent_0 rfl (lv_at hl 1 rfl) ?_
  refine lv_iconst (v := 0) hx hb dX10_bent_1 (by decide) ?_
  refine lv_bipush (v := 7) hx hb dX10_bent_2 (by decide) ?_
  obtain ⟨r_2, hc_1, hF⟩ := bd_ok hF
  refine iM_isIn hC hP hS hc_1 hl.1 (Nat.le_of_ble_eq_true rfl) ⟨Nat.le_of_ble_eq_true rfl, Nat.le_of_ble_eq_true rfl⟩ ⟨Nat.zero_le _, Nat.zero_le _⟩ dX10_bent_4 (fun H locs hP hS => ?_)
  refine lv_if_eq (tgt := 20) hx hb dX10_bent_7 (by decide) (fun c_3 => ?_) (fun c_3 => ?_)
  · replace hF := it_t hF c_3
    refine lv_iconst (v := -1) hx hb dX10_bent_20 (by decide) ?_
    exact M_reti hC hP hS hr (rt1 hF) (rt2 hF) dX10_bent_21
  · replace hF := it_f hF c_3
    refine lv_aload_n hx hb dX10_bent_10 rfl (lv_at hl 0 rfl) ?_
    refine lv_iconst (v := 1) hx hb dX10_bent_11 (by decide) ?_
    refine lv_iload_n hx hb dX10_bent_12 rfl (lv_at hl 1 rfl) ?_
    refine lv_iload_n hx hb dX10_bent_13 rfl (lv_at hl 2 rfl) ?_
    obtain ⟨r_6, σ_5, hc_4, hF⟩ := bd2_ok hF
    refine iM_isClosed hC hP hS hc_4 hl.1 (Nat.le_of_ble_eq_true rfl) ⟨Nat.le_of_ble_eq_true rfl, Nat.le_of_ble_eq_true rfl⟩ ⟨Nat.zero_le _, Nat.zero_le _⟩ dX10_bent_14 (fun H locs hP hS => ?_)
    refine lv_goto (tgt := 21) hx hb dX10_bent_17 (by decide) ?_
    exact M_reti hC hP hS hr (rt1 hF) (rt2 hF) dX10_bent_21
theorem m_bent (l : Launch) (G : MG) (a0 : Int32) (a1 : Int32) (σ : MS) (x : (Int32 × MS)) (hF : F_bent a0 a1 σ = some x) : Met l yX10_bent (ws_ yX10_bent cX10_bent 3 (some .int)) rmM_bent (mP G [.ref (gM G), .int a0, .int a1] σ) (mQ G (some (.int x.1)) x.2) 0 0 (MA G) := by
  refine M_met rfl plM (Nat.le_of_ble_eq_true rfl) ?_
  intro p e s m below meth c hC hr ls hl hP
  exact w_bent hC hr a0 a1 σ hF s.heap [] ls hP va_S.rf hl
/-! counted -/
abbrev rmM_counted : Room := { frames := 6, cells := 0, slots := 0, locals := 149 }
def F_counted (a0 : Int32) (a1 : Int32) (σ : MS) : Option (Int32 × MS) :=
  gd (inb (mI σ 35) 2) <|
  bd (F_isIn a0 (0 : Int32) ((mA σ 17 (Int32.toNatClampNeg (mI σ 35))) - (1 : Int32))) fun r_3 =>
  if r_3 = 0 then
    some ((-1 : Int32), σ)
  else
    bd2 (F_isClosed (2 : Int32) a0 a1 σ) fun r_7 σ_6 =>
    some (r_7, σ_6)
set_option maxHeartbeats 4000000 in
theorem w_counted {p : Program} {l : Launch} {e : Env} {s : State} {m : MethodId} {args : Array Value} {below : List Frame} {meth : Method} {c : Code} {G : MG} (hC : MCx G cX10_counted 3 p s m args meth c) (hr : meth.sig.returnType = some .int) {x : (Int32 × MS)} :
    ∀ (a0 : Int32) (a1 : Int32) (σ : MS), F_counted a0 a1 σ = some x → MJ p l e rmM_counted s m args below meth c G 3 (some (.int x.1)) x.2 0 [(0, .ref (gM G)), (1, .int a0), (2, .int a1)] [] σ := by
  have hx := hC.1
  have hb := hC.2.1
  intro a0 a1 σ hF H locs ls hP hS hl
  rw [F_counted] at hF
  refine lv_iload_n hx hb dX10_counted_0 rfl (lv_at hl 1 rfl) ?_
  refine lv_iconst (v := 0) hx hb dX10_counted_1 (by decide) ?_
  refine lv_aload_n hx hb dX10_counted_2 rfl (lv_at hl 0 rfl) ?_
  refine gM17 hC hP dX10_counted_3 ?_
  refine lv_aload_n hx hb dX10_counted_6 rfl (lv_at hl 0 rfl) ?_
  refine gM35 hC hP dX10_counted_7 ?_
  obtain ⟨h_1, hF⟩ := gd_ok hF
  refine M_iald hC hP 17 (by decide) rfl rfl rfl h_1 dX10_counted_10 ?_
  refine lv_iconst (v := 1) hx hb dX10_counted_11 (by decide) ?_
  refine lv_isub hx hb dX10_counted_12 ?_
  obtain ⟨r_3, hc_2, hF⟩ := bd_ok hF
  refine iM_isIn hC hP hS hc_2 hl.1 (Nat.le_of_ble_eq_true rfl) ⟨Nat.le_of_ble_eq_true rfl, Nat.le_of_ble_eq_true rfl⟩ ⟨Nat.zero_le _, Nat.zero_le _⟩ dX10_counted_13 (fun H locs hP hS => ?_)
  refine lv_if_eq (tgt := 29) hx hb dX10_counted_16 (by decide) (fun c_4 => ?_) (fun c_4 => ?_)
  · replace hF := it_t hF c_4
    refine lv_iconst (v := -1) hx hb dX10_counted_29 (by decide) ?_
    exact M_reti hC hP hS hr (rt1 hF) (rt2 hF) dX10_counted_30
  · replace hF := it_f hF c_4
    refine lv_aload_n hx hb dX10_counted_19 rfl (lv_at hl 0 rfl) ?_
    refine lv_iconst (v := 2) hx hb dX10_counted_20 (by decide) ?_
    refine lv_iload_n hx hb dX10_counted_21 rfl (lv_at hl 1 rfl) ?_
    refine lv_iload_n hx hb dX10_counted_22 rfl (lv_at hl 2 rfl) ?_
    obtain ⟨r_7, σ_6, hc_5, hF⟩ := bd2_ok hF
    refine iM_isClosed hC hP hS hc_5 hl.1 (Nat.le_of_ble_eq_true rfl) ⟨Nat.le_of_ble_eq_true rfl, Nat.le_of_ble_eq_true rfl⟩ ⟨Nat.zero_le _, Nat.zero_le _⟩ dX10_counted_23 (fun H locs hP hS => ?_)
    refine lv_goto (tgt := 30) hx hb dX10_counted_26 (by decide) ?_
    exact M_reti hC hP hS hr (rt1 hF) (rt2 hF) dX10_counted_30
theorem m_counted (l : Launch) (G : MG) (a0 : Int32) (a1 : Int32) (σ : MS) (x : (Int32 × MS)) (hF : F_counted a0 a1 σ = some x) : Met l yX10_counted (ws_ yX10_counted cX10_counted 3 (some .int)) rmM_counted (mP G [.ref (gM G), .int a0, .int a1] σ) (mQ G (some (.int x.1)) x.2) 0 0 (MA G) := by
  refine M_met rfl plM (Nat.le_of_ble_eq_true rfl) ?_
  intro p e s m below meth c hC hr ls hl hP
  exact w_counted hC hr a0 a1 σ hF s.heap [] ls hP va_S.rf hl
/-! cheat -/
abbrev rmM_cheat : Room := { frames := 5, cells := 0, slots := 0, locals := 125 }
def F_cheat_b36 (x1 : Int32) (y0 : Int32) (σ : MS) : Option (Int32 × MS) :=
  lt (wI σ 53 y0) fun σ_1 =>
  bd2 (F_explore (3 : Int32) x1 (5000 : Int32) σ_1) fun r_4 σ_3 =>
  if r_4 = 0 then
    some ((-2 : Int32), σ_3)
  else
    some ((mI σ_3 64), σ_3)
set_option maxHeartbeats 4000000 in
theorem w_cheat_b36 {p : Program} {l : Launch} {e : Env} {s : State} {m : MethodId} {args : Array Value} {below : List Frame} {meth : Method} {c : Code} {G : MG} (hC : MCx G cX10_cheat 3 p s m args meth c) (hr : meth.sig.returnType = some .int) {x : (Int32 × MS)} :
    ∀ (x1 : Int32) (y0 : Int32) (σ : MS), F_cheat_b36 x1 y0 σ = some x → MJ p l e rmM_cheat s m args below meth c G 3 (some (.int x.1)) x.2 36 [(0, .ref (gM G)), (1, .int x1)] [.int y0, .ref (gM G)] σ := by
  have hx := hC.1
  have hb := hC.2.1
  intro x1 y0 σ hF H locs ls hP hS hl
  rw [F_cheat_b36] at hF
  refine pM53 hC hP hS dX10_cheat_36 (fun H locs hP hS => ?_)
  obtain ⟨σ_1, eσ_1, hF⟩ := lt_ok hF
  rw [← eσ_1] at hP
  refine lv_aload_n hx hb dX10_cheat_39 rfl (lv_at hl 0 rfl) ?_
  refine lv_iconst (v := 3) hx hb dX10_cheat_40 (by decide) ?_
  refine lv_iload_n hx hb dX10_cheat_41 rfl (lv_at hl 1 rfl) ?_
  refine lv_sipush (v := 5000) hx hb dX10_cheat_42 (by decide) ?_
  obtain ⟨r_4, σ_3, hc_2, hF⟩ := bd2_ok hF
  refine iM_explore hC hP hS hc_2 hl.1 (Nat.le_of_ble_eq_true rfl) ⟨Nat.le_of_ble_eq_true rfl, Nat.le_of_ble_eq_true rfl⟩ ⟨Nat.zero_le _, Nat.zero_le _⟩ dX10_cheat_45 (fun H locs hP hS => ?_)
  refine lv_if_eq (tgt := 58) hx hb dX10_cheat_48 (by decide) (fun c_5 => ?_) (fun c_5 => ?_)
  · replace hF := it_t hF c_5
    refine lv_bipush (v := -2) hx hb dX10_cheat_58 (by decide) ?_
    exact M_reti hC hP hS hr (rt1 hF) (rt2 hF) dX10_cheat_60
  · replace hF := it_f hF c_5
    refine lv_aload_n hx hb dX10_cheat_51 rfl (lv_at hl 0 rfl) ?_
    refine gM64 hC hP dX10_cheat_52 ?_
    refine lv_goto (tgt := 60) hx hb dX10_cheat_55 (by decide) ?_
    exact M_reti hC hP hS hr (rt1 hF) (rt2 hF) dX10_cheat_60
def F_cheat (a0 : Int32) (a1 : Int32) (σ : MS) : Option (Int32 × MS) :=
  gd (inb (mI σ 35) 2) <|
  bd (F_isIn a0 (0 : Int32) ((mA σ 12 (Int32.toNatClampNeg (mI σ 35))) - (1 : Int32))) fun r_3 =>
  if r_3 = 0 then
    some ((-1 : Int32), σ)
  else
    lt (wI σ 64 (0 : Int32)) fun σ_5 =>
    if a1 = 0 then
      F_cheat_b36 a0 (0 : Int32) σ_5
    else
      F_cheat_b36 a0 (1 : Int32) σ_5
set_option maxHeartbeats 4000000 in
theorem w_cheat {p : Program} {l : Launch} {e : Env} {s : State} {m : MethodId} {args : Array Value} {below : List Frame} {meth : Method} {c : Code} {G : MG} (hC : MCx G cX10_cheat 3 p s m args meth c) (hr : meth.sig.returnType = some .int) {x : (Int32 × MS)} :
    ∀ (a0 : Int32) (a1 : Int32) (σ : MS), F_cheat a0 a1 σ = some x → MJ p l e rmM_cheat s m args below meth c G 3 (some (.int x.1)) x.2 0 [(0, .ref (gM G)), (1, .int a0), (2, .int a1)] [] σ := by
  have hx := hC.1
  have hb := hC.2.1
  intro a0 a1 σ hF H locs ls hP hS hl
  rw [F_cheat] at hF
  refine lv_iload_n hx hb dX10_cheat_0 rfl (lv_at hl 1 rfl) ?_
  refine lv_iconst (v := 0) hx hb dX10_cheat_1 (by decide) ?_
  refine lv_aload_n hx hb dX10_cheat_2 rfl (lv_at hl 0 rfl) ?_
  refine gM12 hC hP dX10_cheat_3 ?_
  refine lv_aload_n hx hb dX10_cheat_6 rfl (lv_at hl 0 rfl) ?_
  refine gM35 hC hP dX10_cheat_7 ?_
  obtain ⟨h_1, hF⟩ := gd_ok hF
  refine M_iald hC hP 12 (by decide) rfl rfl rfl h_1 dX10_cheat_10 ?_
  refine lv_iconst (v := 1) hx hb dX10_cheat_11 (by decide) ?_
  refine lv_isub hx hb dX10_cheat_12 ?_
  obtain ⟨r_3, hc_2, hF⟩ := bd_ok hF
  refine iM_isIn hC hP hS hc_2 hl.1 (Nat.le_of_ble_eq_true rfl) ⟨Nat.le_of_ble_eq_true rfl, Nat.le_of_ble_eq_true rfl⟩ ⟨Nat.zero_le _, Nat.zero_le _⟩ dX10_cheat_13 (fun H locs hP hS => ?_)
  refine lv_if_ne (tgt := 21) hx hb dX10_cheat_16 (by decide) (fun c_4 => ?_) (fun c_4 => ?_)
  · replace hF := it_f hF c_4
    refine lv_aload_n hx hb dX10_cheat_21 rfl (lv_at hl 0 rfl) ?_
    refine lv_iconst (v := 0) hx hb dX10_cheat_22 (by decide) ?_
    refine pM64 hC hP hS dX10_cheat_23 (fun H locs hP hS => ?_)
    obtain ⟨σ_5, eσ_5, hF⟩ := lt_ok hF
    rw [← eσ_5] at hP
    refine lv_aload_n hx hb dX10_cheat_26 rfl (lv_at hl 0 rfl) ?_
    refine lv_iload_n hx hb dX10_cheat_27 rfl (lv_at hl 2 rfl) ?_
    refine lv_if_eq (tgt := 35) hx hb dX10_cheat_28 (by decide) (fun c_6 => ?_) (fun c_6 => ?_)
    · replace hF := it_t hF c_6
      refine lv_iconst (v := 0) hx hb dX10_cheat_35 (by decide) ?_
      exact w_cheat_b36 hC hr a0 (0 : Int32) σ_5 hF H locs ls hP hS (lv_sub hl [0, 1] rfl)
    · replace hF := it_f hF c_6
      refine lv_iconst (v := 1) hx hb dX10_cheat_31 (by decide) ?_
      refine lv_goto (tgt := 36) hx hb dX10_cheat_32 (by decide) ?_
      exact w_cheat_b36 hC hr a0 (1 : Int32) σ_5 hF H locs ls hP hS (lv_sub hl [0, 1] rfl)
  · replace hF := it_t hF c_4
    refine lv_iconst (v := -1) hx hb dX10_cheat_19 (by decide) ?_
    exact M_reti hC hP hS hr (rt1 hF) (rt2 hF) dX10_cheat_20
theorem m_cheat (l : Launch) (G : MG) (a0 : Int32) (a1 : Int32) (σ : MS) (x : (Int32 × MS)) (hF : F_cheat a0 a1 σ = some x) : Met l yX10_cheat (ws_ yX10_cheat cX10_cheat 3 (some .int)) rmM_cheat (mP G [.ref (gM G), .int a0, .int a1] σ) (mQ G (some (.int x.1)) x.2) 0 0 (MA G) := by
  refine M_met rfl plM (Nat.le_of_ble_eq_true rfl) ?_
  intro p e s m below meth c hC hr ls hl hP
  exact w_cheat hC hr a0 a1 σ hF s.heap [] ls hP va_S.rf hl
/-! layStart -/
abbrev rmM_layStart : Room := { frames := 3, cells := 0, slots := 0, locals := 76 }
def F_layStart_b130 (σ : MS) : Option MS :=
  gd (inb (0 : Int32) 16) <|
  lt (wI σ 68 (mA σ 46 (Int32.toNatClampNeg (0 : Int32)))) fun σ_2 =>
  bd (F_bringBack (0 : Int32) (17 : Int32) σ_2) fun σ_4 =>
  some σ_4
set_option maxHeartbeats 4000000 in
theorem w_layStart_b130 {p : Program} {l : Launch} {e : Env} {s : State} {m : MethodId} {args : Array Value} {below : List Frame} {meth : Method} {c : Code} {G : MG} (hC : MCx G cX10_layStart 4 p s m args meth c) (hr : meth.sig.returnType = none) {x : MS} :
    ∀ (σ : MS), F_layStart_b130 σ = some x → MJ p l e rmM_layStart s m args below meth c G 4 none x 130 [(0, .ref (gM G))] [] σ := by
  have hx := hC.1
  have hb := hC.2.1
  intro σ hF H locs ls hP hS hl
  rw [F_layStart_b130] at hF
  refine lv_aload_n hx hb dX10_layStart_130 rfl (lv_at hl 0 rfl) ?_
  refine lv_aload_n hx hb dX10_layStart_131 rfl (lv_at hl 0 rfl) ?_
  refine gM46 hC hP dX10_layStart_132 ?_
  refine lv_iconst (v := 0) hx hb dX10_layStart_135 (by decide) ?_
  obtain ⟨h_1, hF⟩ := gd_ok hF
  refine M_iald hC hP 46 (by decide) rfl rfl rfl h_1 dX10_layStart_136 ?_
  refine pM68 hC hP hS dX10_layStart_137 (fun H locs hP hS => ?_)
  obtain ⟨σ_2, eσ_2, hF⟩ := lt_ok hF
  rw [← eσ_2] at hP
  refine lv_aload_n hx hb dX10_layStart_140 rfl (lv_at hl 0 rfl) ?_
  refine lv_iconst (v := 0) hx hb dX10_layStart_141 (by decide) ?_
  refine lv_bipush (v := 17) hx hb dX10_layStart_142 (by decide) ?_
  obtain ⟨σ_4, hc_3, hF⟩ := bd_ok hF
  refine iM_bringBack hC hP hS hc_3 hl.1 (Nat.le_of_ble_eq_true rfl) ⟨Nat.le_of_ble_eq_true rfl, Nat.le_of_ble_eq_true rfl⟩ ⟨Nat.zero_le _, Nat.zero_le _⟩ dX10_layStart_144 (fun H locs hP hS => ?_)
  exact M_retv hC hP hS hr (Option.some.inj hF) dX10_layStart_147
def F_layStart_b124 (k13 : Int32 → Int32 → MS → Option MS) (x1 : Int32) (x2 : Int32) (σ : MS) : Option MS :=
  lt (x2 + (1 : Int32)) fun x2_1 =>
  k13 x1 x2_1 σ
set_option maxHeartbeats 4000000 in
theorem w_layStart_b124 {p : Program} {l : Launch} {e : Env} {s : State} {m : MethodId} {args : Array Value} {below : List Frame} {meth : Method} {c : Code} {G : MG} (hC : MCx G cX10_layStart 4 p s m args meth c) (hr : meth.sig.returnType = none) {x : MS} (k13 : Int32 → Int32 → MS → Option MS) (hk13 : ∀ (x1 : Int32) (x2 : Int32) (σ : MS), k13 x1 x2 σ = some x → MJ p l e rmM_layStart s m args below meth c G 4 none x 13 [(0, .ref (gM G)), (1, .int x1), (2, .int x2)] [] σ) :
    ∀ (x1 : Int32) (x2 : Int32) (σ : MS), F_layStart_b124 k13 x1 x2 σ = some x → MJ p l e rmM_layStart s m args below meth c G 4 none x 124 [(0, .ref (gM G)), (1, .int x1), (2, .int x2)] [] σ := by
  have hx := hC.1
  have hb := hC.2.1
  intro x1 x2 σ hF H locs ls hP hS hl
  rw [F_layStart_b124] at hF
  obtain ⟨x2_1, ex2_1, hF⟩ := lt_ok hF
  refine lv_iinc (v := x2_1) (lv' := [(2, .int x2_1), (0, .ref (gM G)), (1, .int x1)]) hx hb dX10_layStart_124 hl (k := 2) rfl (by rw [ex2_1]; rfl) (by decide) rfl (fun ls hl => ?_)
  refine lv_goto (tgt := 13) hx hb dX10_layStart_127 (by decide) ?_
  exact hk13 x1 x2_1 σ hF H locs ls hP hS (lv_sub hl [1, 2, 0] rfl)
def F_layStart_b93 (k124 : Int32 → Int32 → MS → Option MS) (x2 : Int32) (x3 : Int32) (y0 : Int32) (σ : MS) : Option MS :=
  if y0 = 0 then
    k124 y0 x2 σ
  else
    bd (F_lays (0 : Int32) x3 (1 : Int32) σ) fun σ_3 =>
    gd (inb x3 104) <|
    if (mA σ_3 22 (Int32.toNatClampNeg x3)) = 0 then
      bd (F_lays (0 : Int32) x3 (0 : Int32) σ_3) fun σ_7 =>
      k124 y0 x2 σ_7
    else
      k124 y0 x2 σ_3
set_option maxHeartbeats 4000000 in
theorem w_layStart_b93 {p : Program} {l : Launch} {e : Env} {s : State} {m : MethodId} {args : Array Value} {below : List Frame} {meth : Method} {c : Code} {G : MG} (hC : MCx G cX10_layStart 4 p s m args meth c) (hr : meth.sig.returnType = none) {x : MS} (k124 : Int32 → Int32 → MS → Option MS) (hk124 : ∀ (x1 : Int32) (x2 : Int32) (σ : MS), k124 x1 x2 σ = some x → MJ p l e rmM_layStart s m args below meth c G 4 none x 124 [(0, .ref (gM G)), (1, .int x1), (2, .int x2)] [] σ) :
    ∀ (x2 : Int32) (x3 : Int32) (y0 : Int32) (σ : MS), F_layStart_b93 k124 x2 x3 y0 σ = some x → MJ p l e rmM_layStart s m args below meth c G 4 none x 93 [(0, .ref (gM G)), (2, .int x2), (3, .int x3)] [.int y0] σ := by
  have hx := hC.1
  have hb := hC.2.1
  intro x2 x3 y0 σ hF H locs ls hP hS hl
  rw [F_layStart_b93] at hF
  refine lv_istore_n (lv' := [(1, .int y0), (0, .ref (gM G)), (2, .int x2), (3, .int x3)]) hx hb dX10_layStart_93 rfl hl (by decide) rfl (fun ls hl => ?_)
  refine lv_iload_n hx hb dX10_layStart_94 rfl (lv_at hl 0 rfl) ?_
  refine lv_if_ne (tgt := 101) hx hb dX10_layStart_95 (by decide) (fun c_1 => ?_) (fun c_1 => ?_)
  · replace hF := it_f hF c_1
    refine lv_aload_n hx hb dX10_layStart_101 rfl (lv_at hl 1 rfl) ?_
    refine lv_iconst (v := 0) hx hb dX10_layStart_102 (by decide) ?_
    refine lv_iload_n hx hb dX10_layStart_103 rfl (lv_at hl 3 rfl) ?_
    refine lv_iconst (v := 1) hx hb dX10_layStart_104 (by decide) ?_
    obtain ⟨σ_3, hc_2, hF⟩ := bd_ok hF
    refine iM_lays hC hP hS hc_2 hl.1 (Nat.le_of_ble_eq_true rfl) ⟨Nat.le_of_ble_eq_true rfl, Nat.le_of_ble_eq_true rfl⟩ ⟨Nat.zero_le _, Nat.zero_le _⟩ dX10_layStart_105 (fun H locs hP hS => ?_)
    refine lv_aload_n hx hb dX10_layStart_108 rfl (lv_at hl 1 rfl) ?_
    refine gM22 hC hP dX10_layStart_109 ?_
    refine lv_iload_n hx hb dX10_layStart_112 rfl (lv_at hl 3 rfl) ?_
    obtain ⟨h_4, hF⟩ := gd_ok hF
    refine M_iald hC hP 22 (by decide) rfl rfl rfl h_4 dX10_layStart_113 ?_
    refine lv_if_ne (tgt := 124) hx hb dX10_layStart_114 (by decide) (fun c_5 => ?_) (fun c_5 => ?_)
    · replace hF := it_f hF c_5
      exact hk124 y0 x2 σ_3 hF H locs ls hP hS (lv_sub hl [1, 0, 2] rfl)
    · replace hF := it_t hF c_5
      refine lv_aload_n hx hb dX10_layStart_117 rfl (lv_at hl 1 rfl) ?_
      refine lv_iconst (v := 0) hx hb dX10_layStart_118 (by decide) ?_
      refine lv_iload_n hx hb dX10_layStart_119 rfl (lv_at hl 3 rfl) ?_
      refine lv_iconst (v := 0) hx hb dX10_layStart_120 (by decide) ?_
      obtain ⟨σ_7, hc_6, hF⟩ := bd_ok hF
      refine iM_lays hC hP hS hc_6 hl.1 (Nat.le_of_ble_eq_true rfl) ⟨Nat.le_of_ble_eq_true rfl, Nat.le_of_ble_eq_true rfl⟩ ⟨Nat.zero_le _, Nat.zero_le _⟩ dX10_layStart_121 (fun H locs hP hS => ?_)
      exact hk124 y0 x2 σ_7 hF H locs ls hP hS (lv_sub hl [1, 0, 2] rfl)
  · replace hF := it_t hF c_1
    refine lv_goto (tgt := 124) hx hb dX10_layStart_98 (by decide) ?_
    exact hk124 y0 x2 σ hF H locs ls hP hS (lv_sub hl [1, 0, 2] rfl)
def F_layStart_b82 (k124 : Int32 → Int32 → MS → Option MS) (x2 : Int32) (x3 : Int32) (y0 : Int32) (y1 : Int32) (σ : MS) : Option MS :=
  if (8 : Int32) < (y1 + y0) then
    F_layStart_b93 k124 x2 x3 (0 : Int32) σ
  else
    F_layStart_b93 k124 x2 x3 (1 : Int32) σ
set_option maxHeartbeats 4000000 in
theorem w_layStart_b82 {p : Program} {l : Launch} {e : Env} {s : State} {m : MethodId} {args : Array Value} {below : List Frame} {meth : Method} {c : Code} {G : MG} (hC : MCx G cX10_layStart 4 p s m args meth c) (hr : meth.sig.returnType = none) {x : MS} (k124 : Int32 → Int32 → MS → Option MS) (hk124 : ∀ (x1 : Int32) (x2 : Int32) (σ : MS), k124 x1 x2 σ = some x → MJ p l e rmM_layStart s m args below meth c G 4 none x 124 [(0, .ref (gM G)), (1, .int x1), (2, .int x2)] [] σ) :
    ∀ (x2 : Int32) (x3 : Int32) (y0 : Int32) (y1 : Int32) (σ : MS), F_layStart_b82 k124 x2 x3 y0 y1 σ = some x → MJ p l e rmM_layStart s m args below meth c G 4 none x 82 [(0, .ref (gM G)), (2, .int x2), (3, .int x3)] [.int y0, .int y1] σ := by
  have hx := hC.1
  have hb := hC.2.1
  intro x2 x3 y0 y1 σ hF H locs ls hP hS hl
  rw [F_layStart_b82] at hF
  refine lv_iadd hx hb dX10_layStart_82 ?_
  refine lv_bipush (v := 8) hx hb dX10_layStart_83 (by decide) ?_
  refine lv_icmp_gt (tgt := 92) hx hb dX10_layStart_85 (by decide) (fun c_1 => ?_) (fun c_1 => ?_)
  · replace hF := it_t hF c_1
    refine lv_iconst (v := 0) hx hb dX10_layStart_92 (by decide) ?_
    exact w_layStart_b93 hC hr k124 hk124 x2 x3 (0 : Int32) σ hF H locs ls hP hS (lv_sub hl [0, 1, 2] rfl)
  · replace hF := it_f hF c_1
    refine lv_iconst (v := 1) hx hb dX10_layStart_88 (by decide) ?_
    refine lv_goto (tgt := 93) hx hb dX10_layStart_89 (by decide) ?_
    exact w_layStart_b93 hC hr k124 hk124 x2 x3 (1 : Int32) σ hF H locs ls hP hS (lv_sub hl [0, 1, 2] rfl)
def F_layStart_b62 (k124 : Int32 → Int32 → MS → Option MS) (x2 : Int32) (x3 : Int32) (σ : MS) : Option MS :=
  gd (inb (0 : Int32) 16) <|
  gd (inb x3 104) <|
  if (mA σ 22 (Int32.toNatClampNeg x3)) = 0 then
    F_layStart_b82 k124 x2 x3 (2 : Int32) (mA σ 46 (Int32.toNatClampNeg (0 : Int32))) σ
  else
    F_layStart_b82 k124 x2 x3 (1 : Int32) (mA σ 46 (Int32.toNatClampNeg (0 : Int32))) σ
set_option maxHeartbeats 4000000 in
theorem w_layStart_b62 {p : Program} {l : Launch} {e : Env} {s : State} {m : MethodId} {args : Array Value} {below : List Frame} {meth : Method} {c : Code} {G : MG} (hC : MCx G cX10_layStart 4 p s m args meth c) (hr : meth.sig.returnType = none) {x : MS} (k124 : Int32 → Int32 → MS → Option MS) (hk124 : ∀ (x1 : Int32) (x2 : Int32) (σ : MS), k124 x1 x2 σ = some x → MJ p l e rmM_layStart s m args below meth c G 4 none x 124 [(0, .ref (gM G)), (1, .int x1), (2, .int x2)] [] σ) :
    ∀ (x2 : Int32) (x3 : Int32) (σ : MS), F_layStart_b62 k124 x2 x3 σ = some x → MJ p l e rmM_layStart s m args below meth c G 4 none x 62 [(0, .ref (gM G)), (2, .int x2), (3, .int x3)] [] σ := by
  have hx := hC.1
  have hb := hC.2.1
  intro x2 x3 σ hF H locs ls hP hS hl
  rw [F_layStart_b62] at hF
  refine lv_aload_n hx hb dX10_layStart_62 rfl (lv_at hl 0 rfl) ?_
  refine gM46 hC hP dX10_layStart_63 ?_
  refine lv_iconst (v := 0) hx hb dX10_layStart_66 (by decide) ?_
  obtain ⟨h_1, hF⟩ := gd_ok hF
  refine M_iald hC hP 46 (by decide) rfl rfl rfl h_1 dX10_layStart_67 ?_
  refine lv_aload_n hx hb dX10_layStart_68 rfl (lv_at hl 0 rfl) ?_
  refine gM22 hC hP dX10_layStart_69 ?_
  refine lv_iload_n hx hb dX10_layStart_72 rfl (lv_at hl 2 rfl) ?_
  obtain ⟨h_2, hF⟩ := gd_ok hF
  refine M_iald hC hP 22 (by decide) rfl rfl rfl h_2 dX10_layStart_73 ?_
  refine lv_if_ne (tgt := 81) hx hb dX10_layStart_74 (by decide) (fun c_3 => ?_) (fun c_3 => ?_)
  · replace hF := it_f hF c_3
    refine lv_iconst (v := 1) hx hb dX10_layStart_81 (by decide) ?_
    exact w_layStart_b82 hC hr k124 hk124 x2 x3 (1 : Int32) (mA σ 46 (Int32.toNatClampNeg (0 : Int32))) σ hF H locs ls hP hS (lv_sub hl [0, 1, 2] rfl)
  · replace hF := it_t hF c_3
    refine lv_iconst (v := 2) hx hb dX10_layStart_77 (by decide) ?_
    refine lv_goto (tgt := 82) hx hb dX10_layStart_78 (by decide) ?_
    exact w_layStart_b82 hC hr k124 hk124 x2 x3 (2 : Int32) (mA σ 46 (Int32.toNatClampNeg (0 : Int32))) σ hF H locs ls hP hS (lv_sub hl [0, 1, 2] rfl)
def F_layStart_L13 : Nat → Int32 → Int32 → MS → Option MS
  | 0, _, _, _ => none
  | fu + 1, x1, x2, σ =>
    gd (inb (mI σ 35) 2) <|
    if (mA σ 13 (Int32.toNatClampNeg (mI σ 35))) ≤ x2 then
      F_layStart_b130 σ
    else
      if x1 = 0 then
        F_layStart_b130 σ
      else
        lt ((((52 : Int32) * (mI σ 35)) + x2)) fun x3_4 =>
        gd (inb x3_4 104) <|
        if (mA σ 22 (Int32.toNatClampNeg x3_4)) = 0 then
          F_layStart_b62 (F_layStart_b124 (F_layStart_L13 fu)) x2 x3_4 σ
        else
          gd (inb x3_4 104) <|
          if (mA σ 22 (Int32.toNatClampNeg x3_4)) = (1 : Int32) then
            F_layStart_b62 (F_layStart_b124 (F_layStart_L13 fu)) x2 x3_4 σ
          else
            F_layStart_b124 (F_layStart_L13 fu) x1 x2 σ
set_option maxHeartbeats 4000000 in
theorem w_layStart_L13 {p : Program} {l : Launch} {e : Env} {s : State} {m : MethodId} {args : Array Value} {below : List Frame} {meth : Method} {c : Code} {G : MG} (hC : MCx G cX10_layStart 4 p s m args meth c) (hr : meth.sig.returnType = none) {x : MS} :
    ∀ (fu : Nat) (x1 : Int32) (x2 : Int32) (σ : MS), F_layStart_L13 fu x1 x2 σ = some x → MJ p l e rmM_layStart s m args below meth c G 4 none x 13 [(0, .ref (gM G)), (1, .int x1), (2, .int x2)] [] σ := by
  have hx := hC.1
  have hb := hC.2.1
  intro fu
  induction fu with
  | zero => intro x1 x2 σ hF; exact nm_none hF
  | succ fu ih =>
    intro x1 x2 σ hF H locs ls hP hS hl
    rw [F_layStart_L13] at hF
    refine lv_iload_n hx hb dX10_layStart_13 rfl (lv_at hl 2 rfl) ?_
    refine lv_aload_n hx hb dX10_layStart_14 rfl (lv_at hl 0 rfl) ?_
    refine gM13 hC hP dX10_layStart_15 ?_
    refine lv_aload_n hx hb dX10_layStart_18 rfl (lv_at hl 0 rfl) ?_
    refine gM35 hC hP dX10_layStart_19 ?_
    obtain ⟨h_1, hF⟩ := gd_ok hF
    refine M_iald hC hP 13 (by decide) rfl rfl rfl h_1 dX10_layStart_22 ?_
    refine lv_icmp_ge (tgt := 130) hx hb dX10_layStart_23 (by decide) (fun c_2 => ?_) (fun c_2 => ?_)
    · replace hF := it_t hF c_2
      exact w_layStart_b130 hC hr σ hF H locs ls hP hS (lv_sub hl [0] rfl)
    · replace hF := it_f hF c_2
      refine lv_iload_n hx hb dX10_layStart_26 rfl (lv_at hl 1 rfl) ?_
      refine lv_if_eq (tgt := 130) hx hb dX10_layStart_27 (by decide) (fun c_3 => ?_) (fun c_3 => ?_)
      · replace hF := it_t hF c_3
        exact w_layStart_b130 hC hr σ hF H locs ls hP hS (lv_sub hl [0] rfl)
      · replace hF := it_f hF c_3
        refine lv_bipush (v := 52) hx hb dX10_layStart_30 (by decide) ?_
        refine lv_aload_n hx hb dX10_layStart_32 rfl (lv_at hl 0 rfl) ?_
        refine gM35 hC hP dX10_layStart_33 ?_
        refine lv_imul hx hb dX10_layStart_36 ?_
        refine lv_iload_n hx hb dX10_layStart_37 rfl (lv_at hl 2 rfl) ?_
        refine lv_iadd hx hb dX10_layStart_38 ?_
        refine lv_topi (fun x3_4 ex3_4 => ?_)
        replace hF := lt_at hF ex3_4
        refine lv_istore_n (lv' := [(3, .int x3_4), (0, .ref (gM G)), (1, .int x1), (2, .int x2)]) hx hb dX10_layStart_39 rfl hl (by decide) rfl (fun ls hl => ?_)
        refine lv_aload_n hx hb dX10_layStart_40 rfl (lv_at hl 1 rfl) ?_
        refine gM22 hC hP dX10_layStart_41 ?_
        refine lv_iload_n hx hb dX10_layStart_44 rfl (lv_at hl 0 rfl) ?_
        obtain ⟨h_5, hF⟩ := gd_ok hF
        refine M_iald hC hP 22 (by decide) rfl rfl rfl h_5 dX10_layStart_45 ?_
        refine lv_if_eq (tgt := 62) hx hb dX10_layStart_46 (by decide) (fun c_6 => ?_) (fun c_6 => ?_)
        · replace hF := it_t hF c_6
          exact w_layStart_b62 hC hr (F_layStart_b124 (F_layStart_L13 fu)) (w_layStart_b124 hC hr (F_layStart_L13 fu) ih) x2 x3_4 σ hF H locs ls hP hS (lv_sub hl [1, 3, 0] rfl)
        · replace hF := it_f hF c_6
          refine lv_aload_n hx hb dX10_layStart_49 rfl (lv_at hl 1 rfl) ?_
          refine gM22 hC hP dX10_layStart_50 ?_
          refine lv_iload_n hx hb dX10_layStart_53 rfl (lv_at hl 0 rfl) ?_
          obtain ⟨h_7, hF⟩ := gd_ok hF
          refine M_iald hC hP 22 (by decide) rfl rfl rfl h_7 dX10_layStart_54 ?_
          refine lv_iconst (v := 1) hx hb dX10_layStart_55 (by decide) ?_
          refine lv_icmp_eq (tgt := 62) hx hb dX10_layStart_56 (by decide) (fun c_8 => ?_) (fun c_8 => ?_)
          · replace hF := it_t hF c_8
            exact w_layStart_b62 hC hr (F_layStart_b124 (F_layStart_L13 fu)) (w_layStart_b124 hC hr (F_layStart_L13 fu) ih) x2 x3_4 σ hF H locs ls hP hS (lv_sub hl [1, 3, 0] rfl)
          · replace hF := it_f hF c_8
            refine lv_goto (tgt := 124) hx hb dX10_layStart_59 (by decide) ?_
            exact w_layStart_b124 hC hr (F_layStart_L13 fu) ih x1 x2 σ hF H locs ls hP hS (lv_sub hl [1, 2, 3] rfl)
def F_layStart (σ : MS) : Option MS :=
  lt (wI σ 51 (0 : Int32)) fun σ_1 =>
  bd (F_begin σ_1) fun σ_3 =>
  F_layStart_L13 MN (1 : Int32) (0 : Int32) σ_3
set_option maxHeartbeats 4000000 in
theorem w_layStart {p : Program} {l : Launch} {e : Env} {s : State} {m : MethodId} {args : Array Value} {below : List Frame} {meth : Method} {c : Code} {G : MG} (hC : MCx G cX10_layStart 4 p s m args meth c) (hr : meth.sig.returnType = none) {x : MS} :
    ∀ (σ : MS), F_layStart σ = some x → MJ p l e rmM_layStart s m args below meth c G 4 none x 0 [(0, .ref (gM G))] [] σ := by
  have hx := hC.1
  have hb := hC.2.1
  intro σ hF H locs ls hP hS hl
  rw [F_layStart] at hF
  refine lv_aload_n hx hb dX10_layStart_0 rfl (lv_at hl 0 rfl) ?_
  refine lv_iconst (v := 0) hx hb dX10_layStart_1 (by decide) ?_
  refine pM51 hC hP hS dX10_layStart_2 (fun H locs hP hS => ?_)
  obtain ⟨σ_1, eσ_1, hF⟩ := lt_ok hF
  rw [← eσ_1] at hP
  refine lv_aload_n hx hb dX10_layStart_5 rfl (lv_at hl 0 rfl) ?_
  obtain ⟨σ_3, hc_2, hF⟩ := bd_ok hF
  refine iM_begin hC hP hS hc_2 hl.1 (Nat.le_of_ble_eq_true rfl) ⟨Nat.le_of_ble_eq_true rfl, Nat.le_of_ble_eq_true rfl⟩ ⟨Nat.zero_le _, Nat.zero_le _⟩ dX10_layStart_6 (fun H locs hP hS => ?_)
  refine lv_iconst (v := 1) hx hb dX10_layStart_9 (by decide) ?_
  refine lv_istore_n (lv' := [(1, .int (1 : Int32)), (0, .ref (gM G))]) hx hb dX10_layStart_10 rfl hl (by decide) rfl (fun ls hl => ?_)
  refine lv_iconst (v := 0) hx hb dX10_layStart_11 (by decide) ?_
  refine lv_istore_n (lv' := [(2, .int (0 : Int32)), (1, .int (1 : Int32)), (0, .ref (gM G))]) hx hb dX10_layStart_12 rfl hl (by decide) rfl (fun ls hl => ?_)
  exact w_layStart_L13 hC hr MN (1 : Int32) (0 : Int32) σ_3 hF H locs ls hP hS (lv_sub hl [2, 1, 0] rfl)
theorem m_layStart (l : Launch) (G : MG) (σ : MS) (x : MS) (hF : F_layStart σ = some x) : Met l yX10_layStart (ws_ yX10_layStart cX10_layStart 4 none) rmM_layStart (mP G [.ref (gM G)] σ) (mQ G none x) 0 0 (MA G) := by
  refine M_met rfl plM (Nat.le_of_ble_eq_true rfl) ?_
  intro p e s m below meth c hC hr ls hl hP
  exact w_layStart hC hr σ hF s.heap [] ls hP va_S.rf hl
theorem iM_layStart {p : Program} {l : Launch} {e : Env} {R : Room} {s : State} {m : MethodId} {args : Array Value} {below : List Frame} {meth : Method} {c : Code} {H H0 : Heap} {locs : List Loc} {cells slots nL : Nat} {Q : State → Prop} {G : MG} {σ : MS} {cc : ByteArray} {pc : Nat} {ls : Array Slot} {rest : List Value} (hC : MCx G cc nL p s m args meth c) (hP : MRep G σ H) (hS : va_S (MA G) H0 H locs) {x : MS} (hF : F_layStart σ = some x) (hl : ls.size = nL) (hW : (rest.map fun v => v.category).sum ≤ 8) (hR : rmM_layStart.frames + 1 ≤ R.frames ∧ 8 + (4 + 11) + rmM_layStart.locals ≤ R.locals) (hf : cells ≤ R.cells ∧ slots ≤ R.slots) (hdg : decode cc pc = .ok (.invokevirtual 579, 3))
    (kk : ∀ (H1 : Heap) (locs1 : List Loc), MRep G x H1 → va_S (MA G) H0 H1 locs1 → W p l e R s m args below meth c H1 locs1 cells slots Q (F0 m (pc + 3) ls (rest))) : W p l e R s m args below meth c H locs cells slots Q (F0 m pc ls (.ref (gM G) :: rest)) :=
  M_inv hC hP hS [] (m_layStart l G σ _ hF) (cwV 0 hC.2.2.2.2.1 (lw_V q2462 q2464 qs115 q145 q2465) rfl rfl rfl (by decide +kernel) hR) rfl rfl hl hW hf hdg kk
/-! tells -/
abbrev rmM_tells : Room := { frames := 1, cells := 0, slots := 0, locals := 24 }
def F_tells_b219 (k104 : Int32 → Int32 → MS → Option (Int32 × MS)) (x1 : Int32) (x2 : Int32) (σ : MS) : Option (Int32 × MS) :=
  lt (x2 + (1 : Int32)) fun x2_1 =>
  k104 x1 x2_1 σ
set_option maxHeartbeats 4000000 in
theorem w_tells_b219 {p : Program} {l : Launch} {e : Env} {s : State} {m : MethodId} {args : Array Value} {below : List Frame} {meth : Method} {c : Code} {G : MG} (hC : MCx G cX10_tells 9 p s m args meth c) (hr : meth.sig.returnType = some .boolean) {x : (Int32 × MS)} (k104 : Int32 → Int32 → MS → Option (Int32 × MS)) (hk104 : ∀ (x1 : Int32) (x2 : Int32) (σ : MS), k104 x1 x2 σ = some x → MJ p l e rmM_tells s m args below meth c G 9 (some (.int x.1)) x.2 104 [(0, .ref (gM G)), (1, .int x1), (2, .int x2)] [] σ) :
    ∀ (x1 : Int32) (x2 : Int32) (σ : MS), F_tells_b219 k104 x1 x2 σ = some x → MJ p l e rmM_tells s m args below meth c G 9 (some (.int x.1)) x.2 219 [(0, .ref (gM G)), (1, .int x1), (2, .int x2)] [] σ := by
  have hx := hC.1
  have hb := hC.2.1
  intro x1 x2 σ hF H locs ls hP hS hl
  rw [F_tells_b219] at hF
  obtain ⟨x2_1, ex2_1, hF⟩ := lt_ok hF
  refine lv_iinc (v := x2_1) (lv' := [(2, .int x2_1), (0, .ref (gM G)), (1, .int x1)]) hx hb dX10_tells_219 hl (k := 2) rfl (by rw [ex2_1]; rfl) (by decide) rfl (fun ls hl => ?_)
  refine lv_goto (tgt := 104) hx hb dX10_tells_222 (by decide) ?_
  exact hk104 x1 x2_1 σ hF H locs ls hP hS (lv_sub hl [1, 2, 0] rfl)
def F_tells_b213 (k118 : Int32 → Int32 → Int32 → MS → Option (Int32 × MS)) (x1 : Int32) (x2 : Int32) (x3 : Int32) (σ : MS) : Option (Int32 × MS) :=
  lt (x3 + (1 : Int32)) fun x3_1 =>
  k118 x1 x2 x3_1 σ
set_option maxHeartbeats 4000000 in
theorem w_tells_b213 {p : Program} {l : Launch} {e : Env} {s : State} {m : MethodId} {args : Array Value} {below : List Frame} {meth : Method} {c : Code} {G : MG} (hC : MCx G cX10_tells 9 p s m args meth c) (hr : meth.sig.returnType = some .boolean) {x : (Int32 × MS)} (k118 : Int32 → Int32 → Int32 → MS → Option (Int32 × MS)) (hk118 : ∀ (x1 : Int32) (x2 : Int32) (x3 : Int32) (σ : MS), k118 x1 x2 x3 σ = some x → MJ p l e rmM_tells s m args below meth c G 9 (some (.int x.1)) x.2 118 [(0, .ref (gM G)), (1, .int x1), (2, .int x2), (3, .int x3)] [] σ) :
    ∀ (x1 : Int32) (x2 : Int32) (x3 : Int32) (σ : MS), F_tells_b213 k118 x1 x2 x3 σ = some x → MJ p l e rmM_tells s m args below meth c G 9 (some (.int x.1)) x.2 213 [(0, .ref (gM G)), (1, .int x1), (2, .int x2), (3, .int x3)] [] σ := by
  have hx := hC.1
  have hb := hC.2.1
  intro x1 x2 x3 σ hF H locs ls hP hS hl
  rw [F_tells_b213] at hF
  obtain ⟨x3_1, ex3_1, hF⟩ := lt_ok hF
  refine lv_iinc (v := x3_1) (lv' := [(3, .int x3_1), (0, .ref (gM G)), (1, .int x1), (2, .int x2)]) hx hb dX10_tells_213 hl (k := 3) rfl (by rw [ex3_1]; rfl) (by decide) rfl (fun ls hl => ?_)
  refine lv_goto (tgt := 118) hx hb dX10_tells_216 (by decide) ?_
  exact hk118 x1 x2 x3_1 σ hF H locs ls hP hS (lv_sub hl [1, 2, 3, 0] rfl)
def F_tells_b207 (k129 : Int32 → Int32 → Int32 → Int32 → MS → Option (Int32 × MS)) (x1 : Int32) (x2 : Int32) (x3 : Int32) (x4 : Int32) (σ : MS) : Option (Int32 × MS) :=
  lt (x4 + (1 : Int32)) fun x4_1 =>
  k129 x1 x2 x3 x4_1 σ
set_option maxHeartbeats 4000000 in
theorem w_tells_b207 {p : Program} {l : Launch} {e : Env} {s : State} {m : MethodId} {args : Array Value} {below : List Frame} {meth : Method} {c : Code} {G : MG} (hC : MCx G cX10_tells 9 p s m args meth c) (hr : meth.sig.returnType = some .boolean) {x : (Int32 × MS)} (k129 : Int32 → Int32 → Int32 → Int32 → MS → Option (Int32 × MS)) (hk129 : ∀ (x1 : Int32) (x2 : Int32) (x3 : Int32) (x4 : Int32) (σ : MS), k129 x1 x2 x3 x4 σ = some x → MJ p l e rmM_tells s m args below meth c G 9 (some (.int x.1)) x.2 129 [(0, .ref (gM G)), (1, .int x1), (2, .int x2), (3, .int x3), (4, .int x4)] [] σ) :
    ∀ (x1 : Int32) (x2 : Int32) (x3 : Int32) (x4 : Int32) (σ : MS), F_tells_b207 k129 x1 x2 x3 x4 σ = some x → MJ p l e rmM_tells s m args below meth c G 9 (some (.int x.1)) x.2 207 [(0, .ref (gM G)), (1, .int x1), (2, .int x2), (3, .int x3), (4, .int x4)] [] σ := by
  have hx := hC.1
  have hb := hC.2.1
  intro x1 x2 x3 x4 σ hF H locs ls hP hS hl
  rw [F_tells_b207] at hF
  obtain ⟨x4_1, ex4_1, hF⟩ := lt_ok hF
  refine lv_iinc (v := x4_1) (lv' := [(4, .int x4_1), (0, .ref (gM G)), (1, .int x1), (2, .int x2), (3, .int x3)]) hx hb dX10_tells_207 hl (k := 4) rfl (by rw [ex4_1]; rfl) (by decide) rfl (fun ls hl => ?_)
  refine lv_goto (tgt := 129) hx hb dX10_tells_210 (by decide) ?_
  exact hk129 x1 x2 x3 x4_1 σ hF H locs ls hP hS (lv_sub hl [1, 2, 3, 4, 0] rfl)
def F_tells_L129 (k118 : Int32 → Int32 → Int32 → MS → Option (Int32 × MS)) : Nat → Int32 → Int32 → Int32 → Int32 → MS → Option (Int32 × MS)
  | 0, _, _, _, _, _ => none
  | fu + 1, x1, x2, x3, x4, σ =>
    if x3 ≤ x4 then
      F_tells_b213 k118 x1 x2 x3 σ
    else
      gd (inb (((256 : Int32) * x3) + x2) 2048) <|
      lt ((mL σ 71 (Int32.toNatClampNeg (((256 : Int32) * x3) + x2)))) fun x5_3 =>
      gd (inb (((256 : Int32) * x4) + x2) 2048) <|
      lt ((mL σ 71 (Int32.toNatClampNeg (((256 : Int32) * x4) + x2)))) fun x7_5 =>
      gd (inb x3 8) <|
      gd (inb x4 8) <|
      if (mA σ 56 (Int32.toNatClampNeg x3)) = (mA σ 56 (Int32.toNatClampNeg x4)) then
        if (lg_cmp x5_3 x7_5) = 0 then
          F_tells_b207 (F_tells_L129 k118 fu) x1 x2 x3 x4 σ
        else
          some ((0 : Int32), σ)
      else
        if (lg_cmp x5_3 (0 : Int64)) = 0 then
          F_tells_b207 (F_tells_L129 k118 fu) x1 x2 x3 x4 σ
        else
          if (lg_cmp x7_5 (0 : Int64)) = 0 then
            F_tells_b207 (F_tells_L129 k118 fu) x1 x2 x3 x4 σ
          else
            some ((0 : Int32), σ)
set_option maxHeartbeats 4000000 in
theorem w_tells_L129 {p : Program} {l : Launch} {e : Env} {s : State} {m : MethodId} {args : Array Value} {below : List Frame} {meth : Method} {c : Code} {G : MG} (hC : MCx G cX10_tells 9 p s m args meth c) (hr : meth.sig.returnType = some .boolean) {x : (Int32 × MS)} (k118 : Int32 → Int32 → Int32 → MS → Option (Int32 × MS)) (hk118 : ∀ (x1 : Int32) (x2 : Int32) (x3 : Int32) (σ : MS), k118 x1 x2 x3 σ = some x → MJ p l e rmM_tells s m args below meth c G 9 (some (.int x.1)) x.2 118 [(0, .ref (gM G)), (1, .int x1), (2, .int x2), (3, .int x3)] [] σ) :
    ∀ (fu : Nat) (x1 : Int32) (x2 : Int32) (x3 : Int32) (x4 : Int32) (σ : MS), F_tells_L129 k118 fu x1 x2 x3 x4 σ = some x → MJ p l e rmM_tells s m args below meth c G 9 (some (.int x.1)) x.2 129 [(0, .ref (gM G)), (1, .int x1), (2, .int x2), (3, .int x3), (4, .int x4)] [] σ := by
  have hx := hC.1
  have hb := hC.2.1
  intro fu
  induction fu with
  | zero => intro x1 x2 x3 x4 σ hF; exact nm_none hF
  | succ fu ih =>
    intro x1 x2 x3 x4 σ hF H locs ls hP hS hl
    rw [F_tells_L129] at hF
    refine lv_iload hx hb dX10_tells_129 (lv_at hl 4 rfl) ?_
    refine lv_iload_n hx hb dX10_tells_131 rfl (lv_at hl 3 rfl) ?_
    refine lv_icmp_ge (tgt := 213) hx hb dX10_tells_132 (by decide) (fun c_1 => ?_) (fun c_1 => ?_)
    · replace hF := it_t hF c_1
      exact w_tells_b213 hC hr k118 hk118 x1 x2 x3 σ hF H locs ls hP hS (lv_sub hl [0, 1, 2, 3] rfl)
    · replace hF := it_f hF c_1
      refine lv_aload_n hx hb dX10_tells_135 rfl (lv_at hl 0 rfl) ?_
      refine gM71 hC hP dX10_tells_136 ?_
      refine lv_sipush (v := 256) hx hb dX10_tells_139 (by decide) ?_
      refine lv_iload_n hx hb dX10_tells_142 rfl (lv_at hl 3 rfl) ?_
      refine lv_imul hx hb dX10_tells_143 ?_
      refine lv_iload_n hx hb dX10_tells_144 rfl (lv_at hl 2 rfl) ?_
      refine lv_iadd hx hb dX10_tells_145 ?_
      obtain ⟨h_2, hF⟩ := gd_ok hF
      refine M_lald hC hP 71 (by decide) rfl rfl rfl h_2 dX10_tells_146 ?_
      refine lv_topl (fun x5_3 ex5_3 => ?_)
      replace hF := lt_at hF ex5_3
      refine lv_lstore (lv' := [(5, .long x5_3), (0, .ref (gM G)), (1, .int x1), (2, .int x2), (3, .int x3), (4, .int x4)]) hx hb dX10_tells_147 hl (by decide) rfl (fun ls hl => ?_)
      refine lv_aload_n hx hb dX10_tells_149 rfl (lv_at hl 1 rfl) ?_
      refine gM71 hC hP dX10_tells_150 ?_
      refine lv_sipush (v := 256) hx hb dX10_tells_153 (by decide) ?_
      refine lv_iload hx hb dX10_tells_156 (lv_at hl 5 rfl) ?_
      refine lv_imul hx hb dX10_tells_158 ?_
      refine lv_iload_n hx hb dX10_tells_159 rfl (lv_at hl 3 rfl) ?_
      refine lv_iadd hx hb dX10_tells_160 ?_
      obtain ⟨h_4, hF⟩ := gd_ok hF
      refine M_lald hC hP 71 (by decide) rfl rfl rfl h_4 dX10_tells_161 ?_
      refine lv_topl (fun x7_5 ex7_5 => ?_)
      replace hF := lt_at hF ex7_5
      refine lv_lstore (lv' := [(7, .long x7_5), (5, .long x5_3), (0, .ref (gM G)), (1, .int x1), (2, .int x2), (3, .int x3), (4, .int x4)]) hx hb dX10_tells_162 hl (by decide) rfl (fun ls hl => ?_)
      refine lv_aload_n hx hb dX10_tells_164 rfl (lv_at hl 2 rfl) ?_
      refine gM56 hC hP dX10_tells_165 ?_
      refine lv_iload_n hx hb dX10_tells_168 rfl (lv_at hl 5 rfl) ?_
      obtain ⟨h_6, hF⟩ := gd_ok hF
      refine M_iald hC hP 56 (by decide) rfl rfl rfl h_6 dX10_tells_169 ?_
      refine lv_aload_n hx hb dX10_tells_170 rfl (lv_at hl 2 rfl) ?_
      refine gM56 hC hP dX10_tells_171 ?_
      refine lv_iload hx hb dX10_tells_174 (lv_at hl 6 rfl) ?_
      obtain ⟨h_7, hF⟩ := gd_ok hF
      refine M_iald hC hP 56 (by decide) rfl rfl rfl h_7 dX10_tells_176 ?_
      refine lv_icmp_ne (tgt := 191) hx hb dX10_tells_177 (by decide) (fun c_8 => ?_) (fun c_8 => ?_)
      · replace hF := it_f hF c_8
        refine lv_lload hx hb dX10_tells_191 (lv_at hl 1 rfl) ?_
        refine lv_lconst (v := 0) hx hb dX10_tells_193 (by decide) ?_
        refine W.lcmp hx hb dX10_tells_194 ?_
        refine lv_if_eq (tgt := 207) hx hb dX10_tells_195 (by decide) (fun c_9 => ?_) (fun c_9 => ?_)
        · replace hF := it_t hF c_9
          exact w_tells_b207 hC hr (F_tells_L129 k118 fu) ih x1 x2 x3 x4 σ hF H locs ls hP hS (lv_sub hl [2, 3, 4, 5, 6] rfl)
        · replace hF := it_f hF c_9
          refine lv_lload hx hb dX10_tells_198 (lv_at hl 0 rfl) ?_
          refine lv_lconst (v := 0) hx hb dX10_tells_200 (by decide) ?_
          refine W.lcmp hx hb dX10_tells_201 ?_
          refine lv_if_eq (tgt := 207) hx hb dX10_tells_202 (by decide) (fun c_10 => ?_) (fun c_10 => ?_)
          · replace hF := it_t hF c_10
            exact w_tells_b207 hC hr (F_tells_L129 k118 fu) ih x1 x2 x3 x4 σ hF H locs ls hP hS (lv_sub hl [2, 3, 4, 5, 6] rfl)
          · replace hF := it_f hF c_10
            refine lv_iconst (v := 0) hx hb dX10_tells_205 (by decide) ?_
            exact M_retz hC hP hS hr (Or.inl rfl) (rt1 hF) (rt2 hF) dX10_tells_206
      · replace hF := it_t hF c_8
        refine lv_lload hx hb dX10_tells_180 (lv_at hl 1 rfl) ?_
        refine lv_lload hx hb dX10_tells_182 (lv_at hl 0 rfl) ?_
        refine W.lcmp hx hb dX10_tells_184 ?_
        refine lv_if_eq (tgt := 207) hx hb dX10_tells_185 (by decide) (fun c_11 => ?_) (fun c_11 => ?_)
        · replace hF := it_t hF c_11
          exact w_tells_b207 hC hr (F_tells_L129 k118 fu) ih x1 x2 x3 x4 σ hF H locs ls hP hS (lv_sub hl [2, 3, 4, 5, 6] rfl)
        · replace hF := it_f hF c_11
          refine lv_goto (tgt := 205) hx hb dX10_tells_188 (by decide) ?_
          refine lv_iconst (v := 0) hx hb dX10_tells_205 (by decide) ?_
          exact M_retz hC hP hS hr (Or.inl rfl) (rt1 hF) (rt2 hF) dX10_tells_206
def F_tells_L118 (k104 : Int32 → Int32 → MS → Option (Int32 × MS)) : Nat → Int32 → Int32 → Int32 → MS → Option (Int32 × MS)
  | 0, _, _, _, _ => none
  | fu + 1, x1, x2, x3, σ =>
    bd (F_inputs σ) fun r_2 =>
    if r_2 ≤ x3 then
      F_tells_b219 k104 x1 x2 σ
    else
      F_tells_L129 (F_tells_L118 k104 fu) MN x1 x2 x3 (0 : Int32) σ
set_option maxHeartbeats 4000000 in
theorem w_tells_L118 {p : Program} {l : Launch} {e : Env} {s : State} {m : MethodId} {args : Array Value} {below : List Frame} {meth : Method} {c : Code} {G : MG} (hC : MCx G cX10_tells 9 p s m args meth c) (hr : meth.sig.returnType = some .boolean) {x : (Int32 × MS)} (k104 : Int32 → Int32 → MS → Option (Int32 × MS)) (hk104 : ∀ (x1 : Int32) (x2 : Int32) (σ : MS), k104 x1 x2 σ = some x → MJ p l e rmM_tells s m args below meth c G 9 (some (.int x.1)) x.2 104 [(0, .ref (gM G)), (1, .int x1), (2, .int x2)] [] σ) :
    ∀ (fu : Nat) (x1 : Int32) (x2 : Int32) (x3 : Int32) (σ : MS), F_tells_L118 k104 fu x1 x2 x3 σ = some x → MJ p l e rmM_tells s m args below meth c G 9 (some (.int x.1)) x.2 118 [(0, .ref (gM G)), (1, .int x1), (2, .int x2), (3, .int x3)] [] σ := by
  have hx := hC.1
  have hb := hC.2.1
  intro fu
  induction fu with
  | zero => intro x1 x2 x3 σ hF; exact nm_none hF
  | succ fu ih =>
    intro x1 x2 x3 σ hF H locs ls hP hS hl
    rw [F_tells_L118] at hF
    refine lv_iload_n hx hb dX10_tells_118 rfl (lv_at hl 3 rfl) ?_
    refine lv_aload_n hx hb dX10_tells_119 rfl (lv_at hl 0 rfl) ?_
    obtain ⟨r_2, hc_1, hF⟩ := bd_ok hF
    refine iM_inputs hC hP hS hc_1 hl.1 (Nat.le_of_ble_eq_true rfl) ⟨Nat.le_of_ble_eq_true rfl, Nat.le_of_ble_eq_true rfl⟩ ⟨Nat.zero_le _, Nat.zero_le _⟩ dX10_tells_120 (fun H locs hP hS => ?_)
    refine lv_icmp_ge (tgt := 219) hx hb dX10_tells_123 (by decide) (fun c_3 => ?_) (fun c_3 => ?_)
    · replace hF := it_t hF c_3
      exact w_tells_b219 hC hr k104 hk104 x1 x2 σ hF H locs ls hP hS (lv_sub hl [0, 1, 2] rfl)
    · replace hF := it_f hF c_3
      refine lv_iconst (v := 0) hx hb dX10_tells_126 (by decide) ?_
      refine lv_istore (lv' := [(4, .int (0 : Int32)), (0, .ref (gM G)), (1, .int x1), (2, .int x2), (3, .int x3)]) hx hb dX10_tells_127 hl (by decide) rfl (fun ls hl => ?_)
      exact w_tells_L129 hC hr (F_tells_L118 k104 fu) ih MN x1 x2 x3 (0 : Int32) σ hF H locs ls hP hS (lv_sub hl [1, 2, 3, 4, 0] rfl)
def F_tells_L104 : Nat → Int32 → Int32 → MS → Option (Int32 × MS)
  | 0, _, _, _ => none
  | fu + 1, x1, x2, σ =>
    gd (inb x1 104) <|
    if ((1 : Int32) <<< ((mA σ 26 (Int32.toNatClampNeg x1)) &&& 31)) ≤ x2 then
      some ((1 : Int32), σ)
    else
      F_tells_L118 (F_tells_L104 fu) MN x1 x2 (0 : Int32) σ
set_option maxHeartbeats 4000000 in
theorem w_tells_L104 {p : Program} {l : Launch} {e : Env} {s : State} {m : MethodId} {args : Array Value} {below : List Frame} {meth : Method} {c : Code} {G : MG} (hC : MCx G cX10_tells 9 p s m args meth c) (hr : meth.sig.returnType = some .boolean) {x : (Int32 × MS)} :
    ∀ (fu : Nat) (x1 : Int32) (x2 : Int32) (σ : MS), F_tells_L104 fu x1 x2 σ = some x → MJ p l e rmM_tells s m args below meth c G 9 (some (.int x.1)) x.2 104 [(0, .ref (gM G)), (1, .int x1), (2, .int x2)] [] σ := by
  have hx := hC.1
  have hb := hC.2.1
  intro fu
  induction fu with
  | zero => intro x1 x2 σ hF; exact nm_none hF
  | succ fu ih =>
    intro x1 x2 σ hF H locs ls hP hS hl
    rw [F_tells_L104] at hF
    refine lv_iload_n hx hb dX10_tells_104 rfl (lv_at hl 2 rfl) ?_
    refine lv_iconst (v := 1) hx hb dX10_tells_105 (by decide) ?_
    refine lv_aload_n hx hb dX10_tells_106 rfl (lv_at hl 0 rfl) ?_
    refine gM26 hC hP dX10_tells_107 ?_
    refine lv_iload_n hx hb dX10_tells_110 rfl (lv_at hl 1 rfl) ?_
    obtain ⟨h_1, hF⟩ := gd_ok hF
    refine M_iald hC hP 26 (by decide) rfl rfl rfl h_1 dX10_tells_111 ?_
    refine lv_ishl hx hb dX10_tells_112 ?_
    refine lv_icmp_ge (tgt := 225) hx hb dX10_tells_113 (by decide) (fun c_2 => ?_) (fun c_2 => ?_)
    · replace hF := it_t hF c_2
      refine lv_iconst (v := 1) hx hb dX10_tells_225 (by decide) ?_
      exact M_retz hC hP hS hr (Or.inr rfl) (rt1 hF) (rt2 hF) dX10_tells_226
    · replace hF := it_f hF c_2
      refine lv_iconst (v := 0) hx hb dX10_tells_116 (by decide) ?_
      refine lv_istore_n (lv' := [(3, .int (0 : Int32)), (0, .ref (gM G)), (1, .int x1), (2, .int x2)]) hx hb dX10_tells_117 rfl hl (by decide) rfl (fun ls hl => ?_)
      exact w_tells_L118 hC hr (F_tells_L104 fu) ih MN x1 x2 (0 : Int32) σ hF H locs ls hP hS (lv_sub hl [1, 2, 3, 0] rfl)
def F_tells_b102 (x1 : Int32) (σ : MS) : Option (Int32 × MS) :=
  F_tells_L104 MN x1 (0 : Int32) σ
set_option maxHeartbeats 4000000 in
theorem w_tells_b102 {p : Program} {l : Launch} {e : Env} {s : State} {m : MethodId} {args : Array Value} {below : List Frame} {meth : Method} {c : Code} {G : MG} (hC : MCx G cX10_tells 9 p s m args meth c) (hr : meth.sig.returnType = some .boolean) {x : (Int32 × MS)} :
    ∀ (x1 : Int32) (σ : MS), F_tells_b102 x1 σ = some x → MJ p l e rmM_tells s m args below meth c G 9 (some (.int x.1)) x.2 102 [(0, .ref (gM G)), (1, .int x1)] [] σ := by
  have hx := hC.1
  have hb := hC.2.1
  intro x1 σ hF H locs ls hP hS hl
  rw [F_tells_b102] at hF
  refine lv_iconst (v := 0) hx hb dX10_tells_102 (by decide) ?_
  refine lv_istore_n (lv' := [(2, .int (0 : Int32)), (0, .ref (gM G)), (1, .int x1)]) hx hb dX10_tells_103 rfl hl (by decide) rfl (fun ls hl => ?_)
  exact w_tells_L104 hC hr MN x1 (0 : Int32) σ hF H locs ls hP hS (lv_sub hl [1, 2, 0] rfl)
def F_tells_b96 (k24 : Int32 → Int32 → MS → Option (Int32 × MS)) (x1 : Int32) (x2 : Int32) (σ : MS) : Option (Int32 × MS) :=
  lt (x2 + (1 : Int32)) fun x2_1 =>
  k24 x1 x2_1 σ
set_option maxHeartbeats 4000000 in
theorem w_tells_b96 {p : Program} {l : Launch} {e : Env} {s : State} {m : MethodId} {args : Array Value} {below : List Frame} {meth : Method} {c : Code} {G : MG} (hC : MCx G cX10_tells 9 p s m args meth c) (hr : meth.sig.returnType = some .boolean) {x : (Int32 × MS)} (k24 : Int32 → Int32 → MS → Option (Int32 × MS)) (hk24 : ∀ (x1 : Int32) (x2 : Int32) (σ : MS), k24 x1 x2 σ = some x → MJ p l e rmM_tells s m args below meth c G 9 (some (.int x.1)) x.2 24 [(0, .ref (gM G)), (1, .int x1), (2, .int x2)] [] σ) :
    ∀ (x1 : Int32) (x2 : Int32) (σ : MS), F_tells_b96 k24 x1 x2 σ = some x → MJ p l e rmM_tells s m args below meth c G 9 (some (.int x.1)) x.2 96 [(0, .ref (gM G)), (1, .int x1), (2, .int x2)] [] σ := by
  have hx := hC.1
  have hb := hC.2.1
  intro x1 x2 σ hF H locs ls hP hS hl
  rw [F_tells_b96] at hF
  obtain ⟨x2_1, ex2_1, hF⟩ := lt_ok hF
  refine lv_iinc (v := x2_1) (lv' := [(2, .int x2_1), (0, .ref (gM G)), (1, .int x1)]) hx hb dX10_tells_96 hl (k := 2) rfl (by rw [ex2_1]; rfl) (by decide) rfl (fun ls hl => ?_)
  refine lv_goto (tgt := 24) hx hb dX10_tells_99 (by decide) ?_
  exact hk24 x1 x2_1 σ hF H locs ls hP hS (lv_sub hl [1, 2, 0] rfl)
def F_tells_b90 (k34 : Int32 → Int32 → Int32 → MS → Option (Int32 × MS)) (x1 : Int32) (x2 : Int32) (x3 : Int32) (σ : MS) : Option (Int32 × MS) :=
  lt (x3 + (1 : Int32)) fun x3_1 =>
  k34 x1 x2 x3_1 σ
set_option maxHeartbeats 4000000 in
theorem w_tells_b90 {p : Program} {l : Launch} {e : Env} {s : State} {m : MethodId} {args : Array Value} {below : List Frame} {meth : Method} {c : Code} {G : MG} (hC : MCx G cX10_tells 9 p s m args meth c) (hr : meth.sig.returnType = some .boolean) {x : (Int32 × MS)} (k34 : Int32 → Int32 → Int32 → MS → Option (Int32 × MS)) (hk34 : ∀ (x1 : Int32) (x2 : Int32) (x3 : Int32) (σ : MS), k34 x1 x2 x3 σ = some x → MJ p l e rmM_tells s m args below meth c G 9 (some (.int x.1)) x.2 34 [(0, .ref (gM G)), (1, .int x1), (2, .int x2), (3, .int x3)] [] σ) :
    ∀ (x1 : Int32) (x2 : Int32) (x3 : Int32) (σ : MS), F_tells_b90 k34 x1 x2 x3 σ = some x → MJ p l e rmM_tells s m args below meth c G 9 (some (.int x.1)) x.2 90 [(0, .ref (gM G)), (1, .int x1), (2, .int x2), (3, .int x3)] [] σ := by
  have hx := hC.1
  have hb := hC.2.1
  intro x1 x2 x3 σ hF H locs ls hP hS hl
  rw [F_tells_b90] at hF
  obtain ⟨x3_1, ex3_1, hF⟩ := lt_ok hF
  refine lv_iinc (v := x3_1) (lv' := [(3, .int x3_1), (0, .ref (gM G)), (1, .int x1), (2, .int x2)]) hx hb dX10_tells_90 hl (k := 3) rfl (by rw [ex3_1]; rfl) (by decide) rfl (fun ls hl => ?_)
  refine lv_goto (tgt := 34) hx hb dX10_tells_93 (by decide) ?_
  exact hk34 x1 x2 x3_1 σ hF H locs ls hP hS (lv_sub hl [1, 2, 3, 0] rfl)
def F_tells_L34 (k24 : Int32 → Int32 → MS → Option (Int32 × MS)) : Nat → Int32 → Int32 → Int32 → MS → Option (Int32 × MS)
  | 0, _, _, _, _ => none
  | fu + 1, x1, x2, x3, σ =>
    if (256 : Int32) ≤ x3 then
      F_tells_b96 k24 x1 x2 σ
    else
      gd (inb (((256 : Int32) * x2) + x3) 36864) <|
      if (lg_cmp (mL σ 43 (Int32.toNatClampNeg (((256 : Int32) * x2) + x3))) (0 : Int64)) = 0 then
        F_tells_b90 (F_tells_L34 k24 fu) x1 x2 x3 σ
      else
        bd (F_colours σ x1 x3) fun r_5 =>
        gd (inb (((256 : Int32) * x2) + r_5) 2048) <|
        gd (inb (((256 : Int32) * x2) + x3) 36864) <|
        gd (inb (((256 : Int32) * x2) + r_5) 2048) <|
        lt (wL σ 71 (Int32.toNatClampNeg (((256 : Int32) * x2) + r_5)) ((mL σ 71 (Int32.toNatClampNeg (((256 : Int32) * x2) + r_5))) + (mL σ 43 (Int32.toNatClampNeg (((256 : Int32) * x2) + x3))))) fun σ_9 =>
        F_tells_b90 (F_tells_L34 k24 fu) x1 x2 x3 σ_9
set_option maxHeartbeats 4000000 in
theorem w_tells_L34 {p : Program} {l : Launch} {e : Env} {s : State} {m : MethodId} {args : Array Value} {below : List Frame} {meth : Method} {c : Code} {G : MG} (hC : MCx G cX10_tells 9 p s m args meth c) (hr : meth.sig.returnType = some .boolean) {x : (Int32 × MS)} (k24 : Int32 → Int32 → MS → Option (Int32 × MS)) (hk24 : ∀ (x1 : Int32) (x2 : Int32) (σ : MS), k24 x1 x2 σ = some x → MJ p l e rmM_tells s m args below meth c G 9 (some (.int x.1)) x.2 24 [(0, .ref (gM G)), (1, .int x1), (2, .int x2)] [] σ) :
    ∀ (fu : Nat) (x1 : Int32) (x2 : Int32) (x3 : Int32) (σ : MS), F_tells_L34 k24 fu x1 x2 x3 σ = some x → MJ p l e rmM_tells s m args below meth c G 9 (some (.int x.1)) x.2 34 [(0, .ref (gM G)), (1, .int x1), (2, .int x2), (3, .int x3)] [] σ := by
  have hx := hC.1
  have hb := hC.2.1
  intro fu
  induction fu with
  | zero => intro x1 x2 x3 σ hF; exact nm_none hF
  | succ fu ih =>
    intro x1 x2 x3 σ hF H locs ls hP hS hl
    rw [F_tells_L34] at hF
    refine lv_iload_n hx hb dX10_tells_34 rfl (lv_at hl 3 rfl) ?_
    refine lv_sipush (v := 256) hx hb dX10_tells_35 (by decide) ?_
    refine lv_icmp_ge (tgt := 96) hx hb dX10_tells_38 (by decide) (fun c_1 => ?_) (fun c_1 => ?_)
    · replace hF := it_t hF c_1
      exact w_tells_b96 hC hr k24 hk24 x1 x2 σ hF H locs ls hP hS (lv_sub hl [0, 1, 2] rfl)
    · replace hF := it_f hF c_1
      refine lv_aload_n hx hb dX10_tells_41 rfl (lv_at hl 0 rfl) ?_
      refine gM43 hC hP dX10_tells_42 ?_
      refine lv_sipush (v := 256) hx hb dX10_tells_45 (by decide) ?_
      refine lv_iload_n hx hb dX10_tells_48 rfl (lv_at hl 2 rfl) ?_
      refine lv_imul hx hb dX10_tells_49 ?_
      refine lv_iload_n hx hb dX10_tells_50 rfl (lv_at hl 3 rfl) ?_
      refine lv_iadd hx hb dX10_tells_51 ?_
      obtain ⟨h_2, hF⟩ := gd_ok hF
      refine M_lald hC hP 43 (by decide) rfl rfl rfl h_2 dX10_tells_52 ?_
      refine lv_lconst (v := 0) hx hb dX10_tells_53 (by decide) ?_
      refine W.lcmp hx hb dX10_tells_54 ?_
      refine lv_if_eq (tgt := 90) hx hb dX10_tells_55 (by decide) (fun c_3 => ?_) (fun c_3 => ?_)
      · replace hF := it_t hF c_3
        exact w_tells_b90 hC hr (F_tells_L34 k24 fu) ih x1 x2 x3 σ hF H locs ls hP hS (lv_sub hl [0, 1, 2, 3] rfl)
      · replace hF := it_f hF c_3
        refine lv_aload_n hx hb dX10_tells_58 rfl (lv_at hl 0 rfl) ?_
        refine gM71 hC hP dX10_tells_59 ?_
        refine lv_sipush (v := 256) hx hb dX10_tells_62 (by decide) ?_
        refine lv_iload_n hx hb dX10_tells_65 rfl (lv_at hl 2 rfl) ?_
        refine lv_imul hx hb dX10_tells_66 ?_
        refine lv_aload_n hx hb dX10_tells_67 rfl (lv_at hl 0 rfl) ?_
        refine lv_iload_n hx hb dX10_tells_68 rfl (lv_at hl 1 rfl) ?_
        refine lv_iload_n hx hb dX10_tells_69 rfl (lv_at hl 3 rfl) ?_
        obtain ⟨r_5, hc_4, hF⟩ := bd_ok hF
        refine iM_colours hC hP hS hc_4 hl.1 (Nat.le_of_ble_eq_true rfl) ⟨Nat.le_of_ble_eq_true rfl, Nat.le_of_ble_eq_true rfl⟩ ⟨Nat.zero_le _, Nat.zero_le _⟩ dX10_tells_70 (fun H locs hP hS => ?_)
        refine lv_iadd hx hb dX10_tells_73 ?_
        refine lv_dup2_11 hx hb dX10_tells_74 rfl rfl ?_
        obtain ⟨h_6, hF⟩ := gd_ok hF
        refine M_lald hC hP 71 (by decide) rfl rfl rfl h_6 dX10_tells_75 ?_
        refine lv_aload_n hx hb dX10_tells_76 rfl (lv_at hl 0 rfl) ?_
        refine gM43 hC hP dX10_tells_77 ?_
        refine lv_sipush (v := 256) hx hb dX10_tells_80 (by decide) ?_
        refine lv_iload_n hx hb dX10_tells_83 rfl (lv_at hl 2 rfl) ?_
        refine lv_imul hx hb dX10_tells_84 ?_
        refine lv_iload_n hx hb dX10_tells_85 rfl (lv_at hl 3 rfl) ?_
        refine lv_iadd hx hb dX10_tells_86 ?_
        obtain ⟨h_7, hF⟩ := gd_ok hF
        refine M_lald hC hP 43 (by decide) rfl rfl rfl h_7 dX10_tells_87 ?_
        refine lv_ladd hx hb dX10_tells_88 ?_
        obtain ⟨h_8, hF⟩ := gd_ok hF
        refine M_last hC hP hS 71 (by decide) rfl rfl rfl h_8 dX10_tells_89 (fun H locs hP hS => ?_)
        obtain ⟨σ_9, eσ_9, hF⟩ := lt_ok hF
        rw [← eσ_9] at hP
        exact w_tells_b90 hC hr (F_tells_L34 k24 fu) ih x1 x2 x3 σ_9 hF H locs ls hP hS (lv_sub hl [0, 1, 2, 3] rfl)
def F_tells_L24 : Nat → Int32 → Int32 → MS → Option (Int32 × MS)
  | 0, _, _, _ => none
  | fu + 1, x1, x2, σ =>
    bd (F_inputs σ) fun r_2 =>
    if r_2 ≤ x2 then
      F_tells_b102 x1 σ
    else
      F_tells_L34 (F_tells_L24 fu) MN x1 x2 (0 : Int32) σ
set_option maxHeartbeats 4000000 in
theorem w_tells_L24 {p : Program} {l : Launch} {e : Env} {s : State} {m : MethodId} {args : Array Value} {below : List Frame} {meth : Method} {c : Code} {G : MG} (hC : MCx G cX10_tells 9 p s m args meth c) (hr : meth.sig.returnType = some .boolean) {x : (Int32 × MS)} :
    ∀ (fu : Nat) (x1 : Int32) (x2 : Int32) (σ : MS), F_tells_L24 fu x1 x2 σ = some x → MJ p l e rmM_tells s m args below meth c G 9 (some (.int x.1)) x.2 24 [(0, .ref (gM G)), (1, .int x1), (2, .int x2)] [] σ := by
  have hx := hC.1
  have hb := hC.2.1
  intro fu
  induction fu with
  | zero => intro x1 x2 σ hF; exact nm_none hF
  | succ fu ih =>
    intro x1 x2 σ hF H locs ls hP hS hl
    rw [F_tells_L24] at hF
    refine lv_iload_n hx hb dX10_tells_24 rfl (lv_at hl 2 rfl) ?_
    refine lv_aload_n hx hb dX10_tells_25 rfl (lv_at hl 0 rfl) ?_
    obtain ⟨r_2, hc_1, hF⟩ := bd_ok hF
    refine iM_inputs hC hP hS hc_1 hl.1 (Nat.le_of_ble_eq_true rfl) ⟨Nat.le_of_ble_eq_true rfl, Nat.le_of_ble_eq_true rfl⟩ ⟨Nat.zero_le _, Nat.zero_le _⟩ dX10_tells_26 (fun H locs hP hS => ?_)
    refine lv_icmp_ge (tgt := 102) hx hb dX10_tells_29 (by decide) (fun c_3 => ?_) (fun c_3 => ?_)
    · replace hF := it_t hF c_3
      exact w_tells_b102 hC hr x1 σ hF H locs ls hP hS (lv_sub hl [0, 1] rfl)
    · replace hF := it_f hF c_3
      refine lv_iconst (v := 0) hx hb dX10_tells_32 (by decide) ?_
      refine lv_istore_n (lv' := [(3, .int (0 : Int32)), (0, .ref (gM G)), (1, .int x1), (2, .int x2)]) hx hb dX10_tells_33 rfl hl (by decide) rfl (fun ls hl => ?_)
      exact w_tells_L34 hC hr (F_tells_L24 fu) ih MN x1 x2 (0 : Int32) σ hF H locs ls hP hS (lv_sub hl [1, 2, 3, 0] rfl)
def F_tells_b22 (x1 : Int32) (σ : MS) : Option (Int32 × MS) :=
  F_tells_L24 MN x1 (0 : Int32) σ
set_option maxHeartbeats 4000000 in
theorem w_tells_b22 {p : Program} {l : Launch} {e : Env} {s : State} {m : MethodId} {args : Array Value} {below : List Frame} {meth : Method} {c : Code} {G : MG} (hC : MCx G cX10_tells 9 p s m args meth c) (hr : meth.sig.returnType = some .boolean) {x : (Int32 × MS)} :
    ∀ (x1 : Int32) (σ : MS), F_tells_b22 x1 σ = some x → MJ p l e rmM_tells s m args below meth c G 9 (some (.int x.1)) x.2 22 [(0, .ref (gM G)), (1, .int x1)] [] σ := by
  have hx := hC.1
  have hb := hC.2.1
  intro x1 σ hF H locs ls hP hS hl
  rw [F_tells_b22] at hF
  refine lv_iconst (v := 0) hx hb dX10_tells_22 (by decide) ?_
  refine lv_istore_n (lv' := [(2, .int (0 : Int32)), (0, .ref (gM G)), (1, .int x1)]) hx hb dX10_tells_23 rfl hl (by decide) rfl (fun ls hl => ?_)
  exact w_tells_L24 hC hr MN x1 (0 : Int32) σ hF H locs ls hP hS (lv_sub hl [1, 2, 0] rfl)
def F_tells_L2 : Nat → Int32 → Int32 → MS → Option (Int32 × MS)
  | 0, _, _, _ => none
  | fu + 1, x1, x2, σ =>
    if (2048 : Int32) ≤ x2 then
      F_tells_b22 x1 σ
    else
      gd (inb x2 2048) <|
      lt (wL σ 71 (Int32.toNatClampNeg x2) (0 : Int64)) fun σ_3 =>
      lt (x2 + (1 : Int32)) fun x2_4 =>
      F_tells_L2 fu x1 x2_4 σ_3
set_option maxHeartbeats 4000000 in
theorem w_tells_L2 {p : Program} {l : Launch} {e : Env} {s : State} {m : MethodId} {args : Array Value} {below : List Frame} {meth : Method} {c : Code} {G : MG} (hC : MCx G cX10_tells 9 p s m args meth c) (hr : meth.sig.returnType = some .boolean) {x : (Int32 × MS)} :
    ∀ (fu : Nat) (x1 : Int32) (x2 : Int32) (σ : MS), F_tells_L2 fu x1 x2 σ = some x → MJ p l e rmM_tells s m args below meth c G 9 (some (.int x.1)) x.2 2 [(0, .ref (gM G)), (1, .int x1), (2, .int x2)] [] σ := by
  have hx := hC.1
  have hb := hC.2.1
  intro fu
  induction fu with
  | zero => intro x1 x2 σ hF; exact nm_none hF
  | succ fu ih =>
    intro x1 x2 σ hF H locs ls hP hS hl
    rw [F_tells_L2] at hF
    refine lv_iload_n hx hb dX10_tells_2 rfl (lv_at hl 2 rfl) ?_
    refine lv_sipush (v := 2048) hx hb dX10_tells_3 (by decide) ?_
    refine lv_icmp_ge (tgt := 22) hx hb dX10_tells_6 (by decide) (fun c_1 => ?_) (fun c_1 => ?_)
    · replace hF := it_t hF c_1
      exact w_tells_b22 hC hr x1 σ hF H locs ls hP hS (lv_sub hl [0, 1] rfl)
    · replace hF := it_f hF c_1
      refine lv_aload_n hx hb dX10_tells_9 rfl (lv_at hl 0 rfl) ?_
      refine gM71 hC hP dX10_tells_10 ?_
      refine lv_iload_n hx hb dX10_tells_13 rfl (lv_at hl 2 rfl) ?_
      refine lv_lconst (v := 0) hx hb dX10_tells_14 (by decide) ?_
      obtain ⟨h_2, hF⟩ := gd_ok hF
      refine M_last hC hP hS 71 (by decide) rfl rfl rfl h_2 dX10_tells_15 (fun H locs hP hS => ?_)
      obtain ⟨σ_3, eσ_3, hF⟩ := lt_ok hF
      rw [← eσ_3] at hP
      obtain ⟨x2_4, ex2_4, hF⟩ := lt_ok hF
      refine lv_iinc (v := x2_4) (lv' := [(2, .int x2_4), (0, .ref (gM G)), (1, .int x1)]) hx hb dX10_tells_16 hl (k := 2) rfl (by rw [ex2_4]; rfl) (by decide) rfl (fun ls hl => ?_)
      refine lv_goto (tgt := 2) hx hb dX10_tells_19 (by decide) ?_
      exact ih x1 x2_4 σ_3 hF H locs ls hP hS (lv_sub hl [1, 2, 0] rfl)
def F_tells (a0 : Int32) (σ : MS) : Option (Int32 × MS) :=
  F_tells_L2 MN a0 (0 : Int32) σ
set_option maxHeartbeats 4000000 in
theorem w_tells {p : Program} {l : Launch} {e : Env} {s : State} {m : MethodId} {args : Array Value} {below : List Frame} {meth : Method} {c : Code} {G : MG} (hC : MCx G cX10_tells 9 p s m args meth c) (hr : meth.sig.returnType = some .boolean) {x : (Int32 × MS)} :
    ∀ (a0 : Int32) (σ : MS), F_tells a0 σ = some x → MJ p l e rmM_tells s m args below meth c G 9 (some (.int x.1)) x.2 0 [(0, .ref (gM G)), (1, .int a0)] [] σ := by
  have hx := hC.1
  have hb := hC.2.1
  intro a0 σ hF H locs ls hP hS hl
  rw [F_tells] at hF
  refine lv_iconst (v := 0) hx hb dX10_tells_0 (by decide) ?_
  refine lv_istore_n (lv' := [(2, .int (0 : Int32)), (0, .ref (gM G)), (1, .int a0)]) hx hb dX10_tells_1 rfl hl (by decide) rfl (fun ls hl => ?_)
  exact w_tells_L2 hC hr MN a0 (0 : Int32) σ hF H locs ls hP hS (lv_sub hl [1, 2, 0] rfl)
theorem m_tells (l : Launch) (G : MG) (a0 : Int32) (σ : MS) (x : (Int32 × MS)) (hF : F_tells a0 σ = some x) : Met l yX10_tells (ws_ yX10_tells cX10_tells 9 (some .boolean)) rmM_tells (mP G [.ref (gM G), .int a0] σ) (mQ G (some (.int x.1)) x.2) 0 0 (MA G) := by
  refine M_met rfl plM (Nat.le_of_ble_eq_true rfl) ?_
  intro p e s m below meth c hC hr ls hl hP
  exact w_tells hC hr a0 σ hF s.heap [] ls hP va_S.rf hl
theorem iM_tells {p : Program} {l : Launch} {e : Env} {R : Room} {s : State} {m : MethodId} {args : Array Value} {below : List Frame} {meth : Method} {c : Code} {H H0 : Heap} {locs : List Loc} {cells slots nL : Nat} {Q : State → Prop} {G : MG} {σ : MS} {cc : ByteArray} {pc : Nat} {ls : Array Slot} {rest : List Value} (hC : MCx G cc nL p s m args meth c) (hP : MRep G σ H) (hS : va_S (MA G) H0 H locs) {a0 : Int32} {x : Int32} {σ1 : MS} (hF : F_tells a0 σ = some (x, σ1)) (hl : ls.size = nL) (hW : (rest.map fun v => v.category).sum ≤ 8) (hR : rmM_tells.frames + 1 ≤ R.frames ∧ 8 + (9 + 11) + rmM_tells.locals ≤ R.locals) (hf : cells ≤ R.cells ∧ slots ≤ R.slots) (hdg : decode cc pc = .ok (.invokevirtual 570, 3))
    (kk : ∀ (H1 : Heap) (locs1 : List Loc), MRep G σ1 H1 → va_S (MA G) H0 H1 locs1 → W p l e R s m args below meth c H1 locs1 cells slots Q (F0 m (pc + 3) ls (.int x :: rest))) : W p l e R s m args below meth c H locs cells slots Q (F0 m pc ls (.int a0 :: .ref (gM G) :: rest)) :=
  M_inv hC hP hS [.int a0] (m_tells l G a0 σ _ hF) (cwV 1 hC.2.2.2.2.1 (lw_V q2474 q2476 qs118 q145 q2477) rfl rfl rfl (by decide +kernel) hR) rfl rfl hl hW hf hdg kk
/-! isMoved -/
abbrev rmM_isMoved : Room := { frames := 3, cells := 0, slots := 0, locals := 77 }
def F_isMoved_b100 (k42 : Int32 → Int32 → Int32 → Int32 → MS → Option (Int32 × MS)) (x1 : Int32) (x4 : Int32) (x5 : Int32) (x6 : Int32) (y0 : Int32) (σ : MS) : Option (Int32 × MS) :=
  bd (F_fits σ x6 (mI σ 68)) fun r_2 =>
  if r_2 = 0 then
    some ((0 : Int32), σ)
  else
    bd (F_moveAll (0 : Int32) x6 σ) fun σ_5 =>
    lt (x5 + (1 : Int32)) fun x5_6 =>
    k42 x1 y0 x4 x5_6 σ_5
set_option maxHeartbeats 4000000 in
theorem w_isMoved_b100 {p : Program} {l : Launch} {e : Env} {s : State} {m : MethodId} {args : Array Value} {below : List Frame} {meth : Method} {c : Code} {G : MG} (hC : MCx G cX10_isMoved 7 p s m args meth c) (hr : meth.sig.returnType = some .boolean) {x : (Int32 × MS)} (k42 : Int32 → Int32 → Int32 → Int32 → MS → Option (Int32 × MS)) (hk42 : ∀ (x1 : Int32) (x3 : Int32) (x4 : Int32) (x5 : Int32) (σ : MS), k42 x1 x3 x4 x5 σ = some x → MJ p l e rmM_isMoved s m args below meth c G 7 (some (.int x.1)) x.2 42 [(0, .ref (gM G)), (1, .int x1), (3, .int x3), (4, .int x4), (5, .int x5)] [] σ) :
    ∀ (x1 : Int32) (x4 : Int32) (x5 : Int32) (x6 : Int32) (y0 : Int32) (σ : MS), F_isMoved_b100 k42 x1 x4 x5 x6 y0 σ = some x → MJ p l e rmM_isMoved s m args below meth c G 7 (some (.int x.1)) x.2 100 [(0, .ref (gM G)), (1, .int x1), (4, .int x4), (5, .int x5), (6, .int x6)] [.int y0] σ := by
  have hx := hC.1
  have hb := hC.2.1
  intro x1 x4 x5 x6 y0 σ hF H locs ls hP hS hl
  rw [F_isMoved_b100] at hF
  refine lv_istore_n (lv' := [(3, .int y0), (0, .ref (gM G)), (1, .int x1), (4, .int x4), (5, .int x5), (6, .int x6)]) hx hb dX10_isMoved_100 rfl hl (by decide) rfl (fun ls hl => ?_)
  refine lv_aload_n hx hb dX10_isMoved_101 rfl (lv_at hl 1 rfl) ?_
  refine lv_iload hx hb dX10_isMoved_102 (lv_at hl 5 rfl) ?_
  refine lv_aload_n hx hb dX10_isMoved_104 rfl (lv_at hl 1 rfl) ?_
  refine gM68 hC hP dX10_isMoved_105 ?_
  obtain ⟨r_2, hc_1, hF⟩ := bd_ok hF
  refine iM_fits hC hP hS hc_1 hl.1 (Nat.le_of_ble_eq_true rfl) ⟨Nat.le_of_ble_eq_true rfl, Nat.le_of_ble_eq_true rfl⟩ ⟨Nat.zero_le _, Nat.zero_le _⟩ dX10_isMoved_108 (fun H locs hP hS => ?_)
  refine lv_if_ne (tgt := 116) hx hb dX10_isMoved_111 (by decide) (fun c_3 => ?_) (fun c_3 => ?_)
  · replace hF := it_f hF c_3
    refine lv_aload_n hx hb dX10_isMoved_116 rfl (lv_at hl 1 rfl) ?_
    refine lv_iconst (v := 0) hx hb dX10_isMoved_117 (by decide) ?_
    refine lv_iload hx hb dX10_isMoved_118 (lv_at hl 5 rfl) ?_
    obtain ⟨σ_5, hc_4, hF⟩ := bd_ok hF
    refine iM_moveAll hC hP hS hc_4 hl.1 (Nat.le_of_ble_eq_true rfl) ⟨Nat.le_of_ble_eq_true rfl, Nat.le_of_ble_eq_true rfl⟩ ⟨Nat.zero_le _, Nat.zero_le _⟩ dX10_isMoved_120 (fun H locs hP hS => ?_)
    obtain ⟨x5_6, ex5_6, hF⟩ := lt_ok hF
    refine lv_iinc (v := x5_6) (lv' := [(5, .int x5_6), (3, .int y0), (0, .ref (gM G)), (1, .int x1), (4, .int x4), (6, .int x6)]) hx hb dX10_isMoved_123 hl (k := 4) rfl (by rw [ex5_6]; rfl) (by decide) rfl (fun ls hl => ?_)
    refine lv_goto (tgt := 42) hx hb dX10_isMoved_126 (by decide) ?_
    exact hk42 x1 y0 x4 x5_6 σ_5 hF H locs ls hP hS (lv_sub hl [2, 3, 1, 4, 0] rfl)
  · replace hF := it_t hF c_3
    refine lv_iconst (v := 0) hx hb dX10_isMoved_114 (by decide) ?_
    exact M_retz hC hP hS hr (Or.inl rfl) (rt1 hF) (rt2 hF) dX10_isMoved_115
def F_isMoved_L42 : Nat → Int32 → Int32 → Int32 → Int32 → MS → Option (Int32 × MS)
  | 0, _, _, _, _, _ => none
  | fu + 1, x1, x3, x4, x5, σ =>
    if x1 ≤ x5 then
      some ((1 : Int32), σ)
    else
      gd (¬ x3 = 0) <|
      lt (((((52 : Int32) * (mI σ 35)) + (40 : Int32)) + (x4 / x3))) fun x6_3 =>
      gd (¬ x3 = 0) <|
      lt ((x4 - x4 / x3 * x3)) fun x4_5 =>
      gd (inb (mI σ 35) 2) <|
      gd (¬ (mA σ 14 (Int32.toNatClampNeg (mI σ 35))) = 0) <|
      if (x3 / (mA σ 14 (Int32.toNatClampNeg (mI σ 35)))) ≤ 0 then
        F_isMoved_b100 (F_isMoved_L42 fu) x1 x4_5 x5 x6_3 (1 : Int32) σ
      else
        gd (inb (mI σ 35) 2) <|
        gd (¬ (mA σ 14 (Int32.toNatClampNeg (mI σ 35))) = 0) <|
        F_isMoved_b100 (F_isMoved_L42 fu) x1 x4_5 x5 x6_3 (x3 / (mA σ 14 (Int32.toNatClampNeg (mI σ 35)))) σ
set_option maxHeartbeats 4000000 in
theorem w_isMoved_L42 {p : Program} {l : Launch} {e : Env} {s : State} {m : MethodId} {args : Array Value} {below : List Frame} {meth : Method} {c : Code} {G : MG} (hC : MCx G cX10_isMoved 7 p s m args meth c) (hr : meth.sig.returnType = some .boolean) {x : (Int32 × MS)} :
    ∀ (fu : Nat) (x1 : Int32) (x3 : Int32) (x4 : Int32) (x5 : Int32) (σ : MS), F_isMoved_L42 fu x1 x3 x4 x5 σ = some x → MJ p l e rmM_isMoved s m args below meth c G 7 (some (.int x.1)) x.2 42 [(0, .ref (gM G)), (1, .int x1), (3, .int x3), (4, .int x4), (5, .int x5)] [] σ := by
  have hx := hC.1
  have hb := hC.2.1
  intro fu
  induction fu with
  | zero => intro x1 x3 x4 x5 σ hF; exact nm_none hF
  | succ fu ih =>
    intro x1 x3 x4 x5 σ hF H locs ls hP hS hl
    rw [F_isMoved_L42] at hF
    refine lv_iload hx hb dX10_isMoved_42 (lv_at hl 4 rfl) ?_
    refine lv_iload_n hx hb dX10_isMoved_44 rfl (lv_at hl 1 rfl) ?_
    refine lv_icmp_ge (tgt := 129) hx hb dX10_isMoved_45 (by decide) (fun c_1 => ?_) (fun c_1 => ?_)
    · replace hF := it_t hF c_1
      refine lv_iconst (v := 1) hx hb dX10_isMoved_129 (by decide) ?_
      exact M_retz hC hP hS hr (Or.inr rfl) (rt1 hF) (rt2 hF) dX10_isMoved_130
    · replace hF := it_f hF c_1
      refine lv_bipush (v := 52) hx hb dX10_isMoved_48 (by decide) ?_
      refine lv_aload_n hx hb dX10_isMoved_50 rfl (lv_at hl 0 rfl) ?_
      refine gM35 hC hP dX10_isMoved_51 ?_
      refine lv_imul hx hb dX10_isMoved_54 ?_
      refine lv_bipush (v := 40) hx hb dX10_isMoved_55 (by decide) ?_
      refine lv_iadd hx hb dX10_isMoved_57 ?_
      refine lv_iload hx hb dX10_isMoved_58 (lv_at hl 3 rfl) ?_
      refine lv_iload_n hx hb dX10_isMoved_60 rfl (lv_at hl 2 rfl) ?_
      obtain ⟨h_2, hF⟩ := gd_ok hF
      refine lv_idiv hx hb dX10_isMoved_61 h_2 ?_
      refine lv_iadd hx hb dX10_isMoved_62 ?_
      refine lv_topi (fun x6_3 ex6_3 => ?_)
      replace hF := lt_at hF ex6_3
      refine lv_istore (lv' := [(6, .int x6_3), (0, .ref (gM G)), (1, .int x1), (3, .int x3), (4, .int x4), (5, .int x5)]) hx hb dX10_isMoved_63 hl (by decide) rfl (fun ls hl => ?_)
      refine lv_iload hx hb dX10_isMoved_65 (lv_at hl 4 rfl) ?_
      refine lv_iload_n hx hb dX10_isMoved_67 rfl (lv_at hl 3 rfl) ?_
      obtain ⟨h_4, hF⟩ := gd_ok hF
      refine lv_irem hx hb dX10_isMoved_68 h_4 ?_
      refine lv_topi (fun x4_5 ex4_5 => ?_)
      replace hF := lt_at hF ex4_5
      refine lv_istore (lv' := [(4, .int x4_5), (6, .int x6_3), (0, .ref (gM G)), (1, .int x1), (3, .int x3), (5, .int x5)]) hx hb dX10_isMoved_69 hl (by decide) rfl (fun ls hl => ?_)
      refine lv_iload_n hx hb dX10_isMoved_71 rfl (lv_at hl 4 rfl) ?_
      refine lv_aload_n hx hb dX10_isMoved_72 rfl (lv_at hl 2 rfl) ?_
      refine gM14 hC hP dX10_isMoved_73 ?_
      refine lv_aload_n hx hb dX10_isMoved_76 rfl (lv_at hl 2 rfl) ?_
      refine gM35 hC hP dX10_isMoved_77 ?_
      obtain ⟨h_6, hF⟩ := gd_ok hF
      refine M_iald hC hP 14 (by decide) rfl rfl rfl h_6 dX10_isMoved_80 ?_
      obtain ⟨h_7, hF⟩ := gd_ok hF
      refine lv_idiv hx hb dX10_isMoved_81 h_7 ?_
      refine lv_if_le (tgt := 99) hx hb dX10_isMoved_82 (by decide) (fun c_8 => ?_) (fun c_8 => ?_)
      · replace hF := it_t hF c_8
        refine lv_iconst (v := 1) hx hb dX10_isMoved_99 (by decide) ?_
        exact w_isMoved_b100 hC hr (F_isMoved_L42 fu) ih x1 x4_5 x5 x6_3 (1 : Int32) σ hF H locs ls hP hS (lv_sub hl [2, 3, 0, 5, 1] rfl)
      · replace hF := it_f hF c_8
        refine lv_iload_n hx hb dX10_isMoved_85 rfl (lv_at hl 4 rfl) ?_
        refine lv_aload_n hx hb dX10_isMoved_86 rfl (lv_at hl 2 rfl) ?_
        refine gM14 hC hP dX10_isMoved_87 ?_
        refine lv_aload_n hx hb dX10_isMoved_90 rfl (lv_at hl 2 rfl) ?_
        refine gM35 hC hP dX10_isMoved_91 ?_
        obtain ⟨h_9, hF⟩ := gd_ok hF
        refine M_iald hC hP 14 (by decide) rfl rfl rfl h_9 dX10_isMoved_94 ?_
        obtain ⟨h_10, hF⟩ := gd_ok hF
        refine lv_idiv hx hb dX10_isMoved_95 h_10 ?_
        refine lv_goto (tgt := 100) hx hb dX10_isMoved_96 (by decide) ?_
        exact w_isMoved_b100 hC hr (F_isMoved_L42 fu) ih x1 x4_5 x5 x6_3 (x3 / (mA σ 14 (Int32.toNatClampNeg (mI σ 35)))) σ hF H locs ls hP hS (lv_sub hl [2, 3, 0, 5, 1] rfl)
def F_isMoved_b36 (x1 : Int32) (x2 : Int32) (x3 : Int32) (σ : MS) : Option (Int32 × MS) :=
  F_isMoved_L42 MN x1 x3 x2 (0 : Int32) σ
set_option maxHeartbeats 4000000 in
theorem w_isMoved_b36 {p : Program} {l : Launch} {e : Env} {s : State} {m : MethodId} {args : Array Value} {below : List Frame} {meth : Method} {c : Code} {G : MG} (hC : MCx G cX10_isMoved 7 p s m args meth c) (hr : meth.sig.returnType = some .boolean) {x : (Int32 × MS)} :
    ∀ (x1 : Int32) (x2 : Int32) (x3 : Int32) (σ : MS), F_isMoved_b36 x1 x2 x3 σ = some x → MJ p l e rmM_isMoved s m args below meth c G 7 (some (.int x.1)) x.2 36 [(0, .ref (gM G)), (1, .int x1), (2, .int x2), (3, .int x3)] [] σ := by
  have hx := hC.1
  have hb := hC.2.1
  intro x1 x2 x3 σ hF H locs ls hP hS hl
  rw [F_isMoved_b36] at hF
  refine lv_iload_n hx hb dX10_isMoved_36 rfl (lv_at hl 2 rfl) ?_
  refine lv_istore (lv' := [(4, .int x2), (0, .ref (gM G)), (1, .int x1), (2, .int x2), (3, .int x3)]) hx hb dX10_isMoved_37 hl (by decide) rfl (fun ls hl => ?_)
  refine lv_iconst (v := 0) hx hb dX10_isMoved_39 (by decide) ?_
  refine lv_istore (lv' := [(5, .int (0 : Int32)), (4, .int x2), (0, .ref (gM G)), (1, .int x1), (2, .int x2), (3, .int x3)]) hx hb dX10_isMoved_40 hl (by decide) rfl (fun ls hl => ?_)
  exact w_isMoved_L42 hC hr MN x1 x3 x2 (0 : Int32) σ hF H locs ls hP hS (lv_sub hl [2, 3, 5, 1, 0] rfl)
def F_isMoved_L12 : Nat → Int32 → Int32 → Int32 → Int32 → MS → Option (Int32 × MS)
  | 0, _, _, _, _, _ => none
  | fu + 1, x1, x2, x3, x4, σ =>
    if x1 ≤ x4 then
      F_isMoved_b36 x1 x2 x3 σ
    else
      gd (inb (mI σ 35) 2) <|
      lt ((x3 * (mA σ 14 (Int32.toNatClampNeg (mI σ 35))))) fun x3_3 =>
      lt (x4 + (1 : Int32)) fun x4_4 =>
      F_isMoved_L12 fu x1 x2 x3_3 x4_4 σ
set_option maxHeartbeats 4000000 in
theorem w_isMoved_L12 {p : Program} {l : Launch} {e : Env} {s : State} {m : MethodId} {args : Array Value} {below : List Frame} {meth : Method} {c : Code} {G : MG} (hC : MCx G cX10_isMoved 7 p s m args meth c) (hr : meth.sig.returnType = some .boolean) {x : (Int32 × MS)} :
    ∀ (fu : Nat) (x1 : Int32) (x2 : Int32) (x3 : Int32) (x4 : Int32) (σ : MS), F_isMoved_L12 fu x1 x2 x3 x4 σ = some x → MJ p l e rmM_isMoved s m args below meth c G 7 (some (.int x.1)) x.2 12 [(0, .ref (gM G)), (1, .int x1), (2, .int x2), (3, .int x3), (4, .int x4)] [] σ := by
  have hx := hC.1
  have hb := hC.2.1
  intro fu
  induction fu with
  | zero => intro x1 x2 x3 x4 σ hF; exact nm_none hF
  | succ fu ih =>
    intro x1 x2 x3 x4 σ hF H locs ls hP hS hl
    rw [F_isMoved_L12] at hF
    refine lv_iload hx hb dX10_isMoved_12 (lv_at hl 4 rfl) ?_
    refine lv_iload_n hx hb dX10_isMoved_14 rfl (lv_at hl 1 rfl) ?_
    refine lv_icmp_ge (tgt := 36) hx hb dX10_isMoved_15 (by decide) (fun c_1 => ?_) (fun c_1 => ?_)
    · replace hF := it_t hF c_1
      exact w_isMoved_b36 hC hr x1 x2 x3 σ hF H locs ls hP hS (lv_sub hl [0, 1, 2, 3] rfl)
    · replace hF := it_f hF c_1
      refine lv_iload_n hx hb dX10_isMoved_18 rfl (lv_at hl 3 rfl) ?_
      refine lv_aload_n hx hb dX10_isMoved_19 rfl (lv_at hl 0 rfl) ?_
      refine gM14 hC hP dX10_isMoved_20 ?_
      refine lv_aload_n hx hb dX10_isMoved_23 rfl (lv_at hl 0 rfl) ?_
      refine gM35 hC hP dX10_isMoved_24 ?_
      obtain ⟨h_2, hF⟩ := gd_ok hF
      refine M_iald hC hP 14 (by decide) rfl rfl rfl h_2 dX10_isMoved_27 ?_
      refine lv_imul hx hb dX10_isMoved_28 ?_
      refine lv_topi (fun x3_3 ex3_3 => ?_)
      replace hF := lt_at hF ex3_3
      refine lv_istore_n (lv' := [(3, .int x3_3), (0, .ref (gM G)), (1, .int x1), (2, .int x2), (4, .int x4)]) hx hb dX10_isMoved_29 rfl hl (by decide) rfl (fun ls hl => ?_)
      obtain ⟨x4_4, ex4_4, hF⟩ := lt_ok hF
      refine lv_iinc (v := x4_4) (lv' := [(4, .int x4_4), (3, .int x3_3), (0, .ref (gM G)), (1, .int x1), (2, .int x2)]) hx hb dX10_isMoved_30 hl (k := 4) rfl (by rw [ex4_4]; rfl) (by decide) rfl (fun ls hl => ?_)
      refine lv_goto (tgt := 12) hx hb dX10_isMoved_33 (by decide) ?_
      exact ih x1 x2 x3_3 x4_4 σ hF H locs ls hP hS (lv_sub hl [2, 3, 4, 1, 0] rfl)
def F_isMoved (a0 : Int32) (a1 : Int32) (σ : MS) : Option (Int32 × MS) :=
  bd (F_bringBack (17 : Int32) (0 : Int32) σ) fun σ_2 =>
  F_isMoved_L12 MN a0 a1 (1 : Int32) (1 : Int32) σ_2
set_option maxHeartbeats 4000000 in
theorem w_isMoved {p : Program} {l : Launch} {e : Env} {s : State} {m : MethodId} {args : Array Value} {below : List Frame} {meth : Method} {c : Code} {G : MG} (hC : MCx G cX10_isMoved 7 p s m args meth c) (hr : meth.sig.returnType = some .boolean) {x : (Int32 × MS)} :
    ∀ (a0 : Int32) (a1 : Int32) (σ : MS), F_isMoved a0 a1 σ = some x → MJ p l e rmM_isMoved s m args below meth c G 7 (some (.int x.1)) x.2 0 [(0, .ref (gM G)), (1, .int a0), (2, .int a1)] [] σ := by
  have hx := hC.1
  have hb := hC.2.1
  intro a0 a1 σ hF H locs ls hP hS hl
  rw [F_isMoved] at hF
  refine lv_aload_n hx hb dX10_isMoved_0 rfl (lv_at hl 0 rfl) ?_
  refine lv_bipush (v := 17) hx hb dX10_isMoved_1 (by decide) ?_
  refine lv_iconst (v := 0) hx hb dX10_isMoved_3 (by decide) ?_
  obtain ⟨σ_2, hc_1, hF⟩ := bd_ok hF
  refine iM_bringBack hC hP hS hc_1 hl.1 (Nat.le_of_ble_eq_true rfl) ⟨Nat.le_of_ble_eq_true rfl, Nat.le_of_ble_eq_true rfl⟩ ⟨Nat.zero_le _, Nat.zero_le _⟩ dX10_isMoved_4 (fun H locs hP hS => ?_)
  refine lv_iconst (v := 1) hx hb dX10_isMoved_7 (by decide) ?_
  refine lv_istore_n (lv' := [(3, .int (1 : Int32)), (0, .ref (gM G)), (1, .int a0), (2, .int a1)]) hx hb dX10_isMoved_8 rfl hl (by decide) rfl (fun ls hl => ?_)
  refine lv_iconst (v := 1) hx hb dX10_isMoved_9 (by decide) ?_
  refine lv_istore (lv' := [(4, .int (1 : Int32)), (3, .int (1 : Int32)), (0, .ref (gM G)), (1, .int a0), (2, .int a1)]) hx hb dX10_isMoved_10 hl (by decide) rfl (fun ls hl => ?_)
  exact w_isMoved_L12 hC hr MN a0 a1 (1 : Int32) (1 : Int32) σ_2 hF H locs ls hP hS (lv_sub hl [2, 3, 4, 1, 0] rfl)
theorem m_isMoved (l : Launch) (G : MG) (a0 : Int32) (a1 : Int32) (σ : MS) (x : (Int32 × MS)) (hF : F_isMoved a0 a1 σ = some x) : Met l yX10_isMoved (ws_ yX10_isMoved cX10_isMoved 7 (some .boolean)) rmM_isMoved (mP G [.ref (gM G), .int a0, .int a1] σ) (mQ G (some (.int x.1)) x.2) 0 0 (MA G) := by
  refine M_met rfl plM (Nat.le_of_ble_eq_true rfl) ?_
  intro p e s m below meth c hC hr ls hl hP
  exact w_isMoved hC hr a0 a1 σ hF s.heap [] ls hP va_S.rf hl
theorem iM_isMoved {p : Program} {l : Launch} {e : Env} {R : Room} {s : State} {m : MethodId} {args : Array Value} {below : List Frame} {meth : Method} {c : Code} {H H0 : Heap} {locs : List Loc} {cells slots nL : Nat} {Q : State → Prop} {G : MG} {σ : MS} {cc : ByteArray} {pc : Nat} {ls : Array Slot} {rest : List Value} (hC : MCx G cc nL p s m args meth c) (hP : MRep G σ H) (hS : va_S (MA G) H0 H locs) {a0 : Int32} {a1 : Int32} {x : Int32} {σ1 : MS} (hF : F_isMoved a0 a1 σ = some (x, σ1)) (hl : ls.size = nL) (hW : (rest.map fun v => v.category).sum ≤ 8) (hR : rmM_isMoved.frames + 1 ≤ R.frames ∧ 8 + (7 + 11) + rmM_isMoved.locals ≤ R.locals) (hf : cells ≤ R.cells ∧ slots ≤ R.slots) (hdg : decode cc pc = .ok (.invokevirtual 567, 3))
    (kk : ∀ (H1 : Heap) (locs1 : List Loc), MRep G σ1 H1 → va_S (MA G) H0 H1 locs1 → W p l e R s m args below meth c H1 locs1 cells slots Q (F0 m (pc + 3) ls (.int x :: rest))) : W p l e R s m args below meth c H locs cells slots Q (F0 m pc ls (.int a1 :: .int a0 :: .ref (gM G) :: rest)) :=
  M_inv hC hP hS [.int a0, .int a1] (m_isMoved l G a0 a1 σ _ hF) (cwV 2 hC.2.2.2.2.1 (lw_V q2470 q2472 qs117 q145 q2473) rfl rfl rfl (by decide +kernel) hR) rfl rfl hl hW hf hdg kk
/-! seeks -/
abbrev rmM_seeks : Room := { frames := 4, cells := 0, slots := 0, locals := 103 }
def F_seeks_b122 (k29 : Int32 → Int32 → Int32 → MS → Option (Int32 × MS)) (x1 : Int32) (x2 : Int32) (x3 : Int32) (σ : MS) : Option (Int32 × MS) :=
  lt (x3 + (1 : Int32)) fun x3_1 =>
  k29 x1 x2 x3_1 σ
set_option maxHeartbeats 4000000 in
theorem w_seeks_b122 {p : Program} {l : Launch} {e : Env} {s : State} {m : MethodId} {args : Array Value} {below : List Frame} {meth : Method} {c : Code} {G : MG} (hC : MCx G cX10_seeks 6 p s m args meth c) (hr : meth.sig.returnType = some .boolean) {x : (Int32 × MS)} (k29 : Int32 → Int32 → Int32 → MS → Option (Int32 × MS)) (hk29 : ∀ (x1 : Int32) (x2 : Int32) (x3 : Int32) (σ : MS), k29 x1 x2 x3 σ = some x → MJ p l e rmM_seeks s m args below meth c G 6 (some (.int x.1)) x.2 29 [(0, .ref (gM G)), (1, .int x1), (2, .int x2), (3, .int x3)] [] σ) :
    ∀ (x1 : Int32) (x2 : Int32) (x3 : Int32) (σ : MS), F_seeks_b122 k29 x1 x2 x3 σ = some x → MJ p l e rmM_seeks s m args below meth c G 6 (some (.int x.1)) x.2 122 [(0, .ref (gM G)), (1, .int x1), (2, .int x2), (3, .int x3)] [] σ := by
  have hx := hC.1
  have hb := hC.2.1
  intro x1 x2 x3 σ hF H locs ls hP hS hl
  rw [F_seeks_b122] at hF
  obtain ⟨x3_1, ex3_1, hF⟩ := lt_ok hF
  refine lv_iinc (v := x3_1) (lv' := [(3, .int x3_1), (0, .ref (gM G)), (1, .int x1), (2, .int x2)]) hx hb dX10_seeks_122 hl (k := 3) rfl (by rw [ex3_1]; rfl) (by decide) rfl (fun ls hl => ?_)
  refine lv_goto (tgt := 29) hx hb dX10_seeks_125 (by decide) ?_
  exact hk29 x1 x2 x3_1 σ hF H locs ls hP hS (lv_sub hl [1, 2, 3, 0] rfl)
def F_seeks_b116 (k49 : Int32 → Int32 → Int32 → Int32 → MS → Option (Int32 × MS)) (x1 : Int32) (x2 : Int32) (x3 : Int32) (x4 : Int32) (σ : MS) : Option (Int32 × MS) :=
  lt (x4 + (1 : Int32)) fun x4_1 =>
  k49 x1 x2 x3 x4_1 σ
set_option maxHeartbeats 4000000 in
theorem w_seeks_b116 {p : Program} {l : Launch} {e : Env} {s : State} {m : MethodId} {args : Array Value} {below : List Frame} {meth : Method} {c : Code} {G : MG} (hC : MCx G cX10_seeks 6 p s m args meth c) (hr : meth.sig.returnType = some .boolean) {x : (Int32 × MS)} (k49 : Int32 → Int32 → Int32 → Int32 → MS → Option (Int32 × MS)) (hk49 : ∀ (x1 : Int32) (x2 : Int32) (x3 : Int32) (x4 : Int32) (σ : MS), k49 x1 x2 x3 x4 σ = some x → MJ p l e rmM_seeks s m args below meth c G 6 (some (.int x.1)) x.2 49 [(0, .ref (gM G)), (1, .int x1), (2, .int x2), (3, .int x3), (4, .int x4)] [] σ) :
    ∀ (x1 : Int32) (x2 : Int32) (x3 : Int32) (x4 : Int32) (σ : MS), F_seeks_b116 k49 x1 x2 x3 x4 σ = some x → MJ p l e rmM_seeks s m args below meth c G 6 (some (.int x.1)) x.2 116 [(0, .ref (gM G)), (1, .int x1), (2, .int x2), (3, .int x3), (4, .int x4)] [] σ := by
  have hx := hC.1
  have hb := hC.2.1
  intro x1 x2 x3 x4 σ hF H locs ls hP hS hl
  rw [F_seeks_b116] at hF
  obtain ⟨x4_1, ex4_1, hF⟩ := lt_ok hF
  refine lv_iinc (v := x4_1) (lv' := [(4, .int x4_1), (0, .ref (gM G)), (1, .int x1), (2, .int x2), (3, .int x3)]) hx hb dX10_seeks_116 hl (k := 4) rfl (by rw [ex4_1]; rfl) (by decide) rfl (fun ls hl => ?_)
  refine lv_goto (tgt := 49) hx hb dX10_seeks_119 (by decide) ?_
  exact hk49 x1 x2 x3 x4_1 σ hF H locs ls hP hS (lv_sub hl [1, 2, 3, 4, 0] rfl)
def F_seeks_b103 (x3 : Int32) (x4 : Int32) (σ : MS) : Option (Int32 × MS) :=
  lt (wI σ 69 x3) fun σ_1 =>
  lt (wI σ_1 70 x4) fun σ_2 =>
  some ((1 : Int32), σ_2)
set_option maxHeartbeats 4000000 in
theorem w_seeks_b103 {p : Program} {l : Launch} {e : Env} {s : State} {m : MethodId} {args : Array Value} {below : List Frame} {meth : Method} {c : Code} {G : MG} (hC : MCx G cX10_seeks 6 p s m args meth c) (hr : meth.sig.returnType = some .boolean) {x : (Int32 × MS)} :
    ∀ (x3 : Int32) (x4 : Int32) (σ : MS), F_seeks_b103 x3 x4 σ = some x → MJ p l e rmM_seeks s m args below meth c G 6 (some (.int x.1)) x.2 103 [(0, .ref (gM G)), (3, .int x3), (4, .int x4)] [] σ := by
  have hx := hC.1
  have hb := hC.2.1
  intro x3 x4 σ hF H locs ls hP hS hl
  rw [F_seeks_b103] at hF
  refine lv_aload_n hx hb dX10_seeks_103 rfl (lv_at hl 0 rfl) ?_
  refine lv_iload_n hx hb dX10_seeks_104 rfl (lv_at hl 1 rfl) ?_
  refine pM69 hC hP hS dX10_seeks_105 (fun H locs hP hS => ?_)
  obtain ⟨σ_1, eσ_1, hF⟩ := lt_ok hF
  rw [← eσ_1] at hP
  refine lv_aload_n hx hb dX10_seeks_108 rfl (lv_at hl 0 rfl) ?_
  refine lv_iload hx hb dX10_seeks_109 (lv_at hl 2 rfl) ?_
  refine pM70 hC hP hS dX10_seeks_111 (fun H locs hP hS => ?_)
  obtain ⟨σ_2, eσ_2, hF⟩ := lt_ok hF
  rw [← eσ_2] at hP
  refine lv_iconst (v := 1) hx hb dX10_seeks_114 (by decide) ?_
  exact M_retz hC hP hS hr (Or.inr rfl) (rt1 hF) (rt2 hF) dX10_seeks_115
def F_seeks_L49 (k122 : Int32 → Int32 → Int32 → MS → Option (Int32 × MS)) : Nat → Int32 → Int32 → Int32 → Int32 → MS → Option (Int32 × MS)
  | 0, _, _, _, _, _ => none
  | fu + 1, x1, x2, x3, x4, σ =>
    gd (inb (mI σ 35) 2) <|
    if (mA σ 15 (Int32.toNatClampNeg (mI σ 35))) ≤ x4 then
      k122 x1 x2 x3 σ
    else
      lt (((((52 : Int32) * (mI σ 35)) + (48 : Int32)) + x4)) fun x5_3 =>
      bd (F_fits σ x5_3 (mI σ 68)) fun r_5 =>
      if r_5 = 0 then
        F_seeks_b116 (F_seeks_L49 k122 fu) x1 x2 x3 x4 σ
      else
        bd2 (F_tells x5_3 σ) fun r_9 σ_8 =>
        if r_9 = 0 then
          F_seeks_b116 (F_seeks_L49 k122 fu) x1 x2 x3 x4 σ_8
        else
          F_seeks_b103 x3 x4 σ_8
set_option maxHeartbeats 4000000 in
theorem w_seeks_L49 {p : Program} {l : Launch} {e : Env} {s : State} {m : MethodId} {args : Array Value} {below : List Frame} {meth : Method} {c : Code} {G : MG} (hC : MCx G cX10_seeks 6 p s m args meth c) (hr : meth.sig.returnType = some .boolean) {x : (Int32 × MS)} (k122 : Int32 → Int32 → Int32 → MS → Option (Int32 × MS)) (hk122 : ∀ (x1 : Int32) (x2 : Int32) (x3 : Int32) (σ : MS), k122 x1 x2 x3 σ = some x → MJ p l e rmM_seeks s m args below meth c G 6 (some (.int x.1)) x.2 122 [(0, .ref (gM G)), (1, .int x1), (2, .int x2), (3, .int x3)] [] σ) :
    ∀ (fu : Nat) (x1 : Int32) (x2 : Int32) (x3 : Int32) (x4 : Int32) (σ : MS), F_seeks_L49 k122 fu x1 x2 x3 x4 σ = some x → MJ p l e rmM_seeks s m args below meth c G 6 (some (.int x.1)) x.2 49 [(0, .ref (gM G)), (1, .int x1), (2, .int x2), (3, .int x3), (4, .int x4)] [] σ := by
  have hx := hC.1
  have hb := hC.2.1
  intro fu
  induction fu with
  | zero => intro x1 x2 x3 x4 σ hF; exact nm_none hF
  | succ fu ih =>
    intro x1 x2 x3 x4 σ hF H locs ls hP hS hl
    rw [F_seeks_L49] at hF
    refine lv_iload hx hb dX10_seeks_49 (lv_at hl 4 rfl) ?_
    refine lv_aload_n hx hb dX10_seeks_51 rfl (lv_at hl 0 rfl) ?_
    refine gM15 hC hP dX10_seeks_52 ?_
    refine lv_aload_n hx hb dX10_seeks_55 rfl (lv_at hl 0 rfl) ?_
    refine gM35 hC hP dX10_seeks_56 ?_
    obtain ⟨h_1, hF⟩ := gd_ok hF
    refine M_iald hC hP 15 (by decide) rfl rfl rfl h_1 dX10_seeks_59 ?_
    refine lv_icmp_ge (tgt := 122) hx hb dX10_seeks_60 (by decide) (fun c_2 => ?_) (fun c_2 => ?_)
    · replace hF := it_t hF c_2
      exact hk122 x1 x2 x3 σ hF H locs ls hP hS (lv_sub hl [0, 1, 2, 3] rfl)
    · replace hF := it_f hF c_2
      refine lv_bipush (v := 52) hx hb dX10_seeks_63 (by decide) ?_
      refine lv_aload_n hx hb dX10_seeks_65 rfl (lv_at hl 0 rfl) ?_
      refine gM35 hC hP dX10_seeks_66 ?_
      refine lv_imul hx hb dX10_seeks_69 ?_
      refine lv_bipush (v := 48) hx hb dX10_seeks_70 (by decide) ?_
      refine lv_iadd hx hb dX10_seeks_72 ?_
      refine lv_iload hx hb dX10_seeks_73 (lv_at hl 4 rfl) ?_
      refine lv_iadd hx hb dX10_seeks_75 ?_
      refine lv_topi (fun x5_3 ex5_3 => ?_)
      replace hF := lt_at hF ex5_3
      refine lv_istore (lv' := [(5, .int x5_3), (0, .ref (gM G)), (1, .int x1), (2, .int x2), (3, .int x3), (4, .int x4)]) hx hb dX10_seeks_76 hl (by decide) rfl (fun ls hl => ?_)
      refine lv_aload_n hx hb dX10_seeks_78 rfl (lv_at hl 1 rfl) ?_
      refine lv_iload hx hb dX10_seeks_79 (lv_at hl 0 rfl) ?_
      refine lv_aload_n hx hb dX10_seeks_81 rfl (lv_at hl 1 rfl) ?_
      refine gM68 hC hP dX10_seeks_82 ?_
      obtain ⟨r_5, hc_4, hF⟩ := bd_ok hF
      refine iM_fits hC hP hS hc_4 hl.1 (Nat.le_of_ble_eq_true rfl) ⟨Nat.le_of_ble_eq_true rfl, Nat.le_of_ble_eq_true rfl⟩ ⟨Nat.zero_le _, Nat.zero_le _⟩ dX10_seeks_85 (fun H locs hP hS => ?_)
      refine lv_if_eq (tgt := 116) hx hb dX10_seeks_88 (by decide) (fun c_6 => ?_) (fun c_6 => ?_)
      · replace hF := it_t hF c_6
        exact w_seeks_b116 hC hr (F_seeks_L49 k122 fu) ih x1 x2 x3 x4 σ hF H locs ls hP hS (lv_sub hl [1, 2, 3, 4, 5] rfl)
      · replace hF := it_f hF c_6
        refine lv_aload_n hx hb dX10_seeks_91 rfl (lv_at hl 1 rfl) ?_
        refine lv_iload hx hb dX10_seeks_92 (lv_at hl 0 rfl) ?_
        obtain ⟨r_9, σ_8, hc_7, hF⟩ := bd2_ok hF
        refine iM_tells hC hP hS hc_7 hl.1 (Nat.le_of_ble_eq_true rfl) ⟨Nat.le_of_ble_eq_true rfl, Nat.le_of_ble_eq_true rfl⟩ ⟨Nat.zero_le _, Nat.zero_le _⟩ dX10_seeks_94 (fun H locs hP hS => ?_)
        refine lv_if_ne (tgt := 103) hx hb dX10_seeks_97 (by decide) (fun c_10 => ?_) (fun c_10 => ?_)
        · replace hF := it_f hF c_10
          exact w_seeks_b103 hC hr x3 x4 σ_8 hF H locs ls hP hS (lv_sub hl [1, 4, 5] rfl)
        · replace hF := it_t hF c_10
          refine lv_goto (tgt := 116) hx hb dX10_seeks_100 (by decide) ?_
          exact w_seeks_b116 hC hr (F_seeks_L49 k122 fu) ih x1 x2 x3 x4 σ_8 hF H locs ls hP hS (lv_sub hl [1, 2, 3, 4, 5] rfl)
def F_seeks_L29 : Nat → Int32 → Int32 → Int32 → MS → Option (Int32 × MS)
  | 0, _, _, _, _ => none
  | fu + 1, x1, x2, x3, σ =>
    if x2 ≤ x3 then
      some ((0 : Int32), σ)
    else
      bd2 (F_isMoved x1 x3 σ) fun r_4 σ_3 =>
      if r_4 = 0 then
        F_seeks_b122 (F_seeks_L29 fu) x1 x2 x3 σ_3
      else
        F_seeks_L49 (F_seeks_b122 (F_seeks_L29 fu)) MN x1 x2 x3 (0 : Int32) σ_3
set_option maxHeartbeats 4000000 in
theorem w_seeks_L29 {p : Program} {l : Launch} {e : Env} {s : State} {m : MethodId} {args : Array Value} {below : List Frame} {meth : Method} {c : Code} {G : MG} (hC : MCx G cX10_seeks 6 p s m args meth c) (hr : meth.sig.returnType = some .boolean) {x : (Int32 × MS)} :
    ∀ (fu : Nat) (x1 : Int32) (x2 : Int32) (x3 : Int32) (σ : MS), F_seeks_L29 fu x1 x2 x3 σ = some x → MJ p l e rmM_seeks s m args below meth c G 6 (some (.int x.1)) x.2 29 [(0, .ref (gM G)), (1, .int x1), (2, .int x2), (3, .int x3)] [] σ := by
  have hx := hC.1
  have hb := hC.2.1
  intro fu
  induction fu with
  | zero => intro x1 x2 x3 σ hF; exact nm_none hF
  | succ fu ih =>
    intro x1 x2 x3 σ hF H locs ls hP hS hl
    rw [F_seeks_L29] at hF
    refine lv_iload_n hx hb dX10_seeks_29 rfl (lv_at hl 3 rfl) ?_
    refine lv_iload_n hx hb dX10_seeks_30 rfl (lv_at hl 2 rfl) ?_
    refine lv_icmp_ge (tgt := 128) hx hb dX10_seeks_31 (by decide) (fun c_1 => ?_) (fun c_1 => ?_)
    · replace hF := it_t hF c_1
      refine lv_iconst (v := 0) hx hb dX10_seeks_128 (by decide) ?_
      exact M_retz hC hP hS hr (Or.inl rfl) (rt1 hF) (rt2 hF) dX10_seeks_129
    · replace hF := it_f hF c_1
      refine lv_aload_n hx hb dX10_seeks_34 rfl (lv_at hl 0 rfl) ?_
      refine lv_iload_n hx hb dX10_seeks_35 rfl (lv_at hl 1 rfl) ?_
      refine lv_iload_n hx hb dX10_seeks_36 rfl (lv_at hl 3 rfl) ?_
      obtain ⟨r_4, σ_3, hc_2, hF⟩ := bd2_ok hF
      refine iM_isMoved hC hP hS hc_2 hl.1 (Nat.le_of_ble_eq_true rfl) ⟨Nat.le_of_ble_eq_true rfl, Nat.le_of_ble_eq_true rfl⟩ ⟨Nat.zero_le _, Nat.zero_le _⟩ dX10_seeks_37 (fun H locs hP hS => ?_)
      refine lv_if_ne (tgt := 46) hx hb dX10_seeks_40 (by decide) (fun c_5 => ?_) (fun c_5 => ?_)
      · replace hF := it_f hF c_5
        refine lv_iconst (v := 0) hx hb dX10_seeks_46 (by decide) ?_
        refine lv_istore (lv' := [(4, .int (0 : Int32)), (0, .ref (gM G)), (1, .int x1), (2, .int x2), (3, .int x3)]) hx hb dX10_seeks_47 hl (by decide) rfl (fun ls hl => ?_)
        exact w_seeks_L49 hC hr (F_seeks_b122 (F_seeks_L29 fu)) (w_seeks_b122 hC hr (F_seeks_L29 fu) ih) MN x1 x2 x3 (0 : Int32) σ_3 hF H locs ls hP hS (lv_sub hl [1, 2, 3, 4, 0] rfl)
      · replace hF := it_t hF c_5
        refine lv_goto (tgt := 122) hx hb dX10_seeks_43 (by decide) ?_
        exact w_seeks_b122 hC hr (F_seeks_L29 fu) ih x1 x2 x3 σ_3 hF H locs ls hP hS (lv_sub hl [0, 1, 2, 3] rfl)
def F_seeks_b27 (x1 : Int32) (x2 : Int32) (σ : MS) : Option (Int32 × MS) :=
  F_seeks_L29 MN x1 x2 (0 : Int32) σ
set_option maxHeartbeats 4000000 in
theorem w_seeks_b27 {p : Program} {l : Launch} {e : Env} {s : State} {m : MethodId} {args : Array Value} {below : List Frame} {meth : Method} {c : Code} {G : MG} (hC : MCx G cX10_seeks 6 p s m args meth c) (hr : meth.sig.returnType = some .boolean) {x : (Int32 × MS)} :
    ∀ (x1 : Int32) (x2 : Int32) (σ : MS), F_seeks_b27 x1 x2 σ = some x → MJ p l e rmM_seeks s m args below meth c G 6 (some (.int x.1)) x.2 27 [(0, .ref (gM G)), (1, .int x1), (2, .int x2)] [] σ := by
  have hx := hC.1
  have hb := hC.2.1
  intro x1 x2 σ hF H locs ls hP hS hl
  rw [F_seeks_b27] at hF
  refine lv_iconst (v := 0) hx hb dX10_seeks_27 (by decide) ?_
  refine lv_istore_n (lv' := [(3, .int (0 : Int32)), (0, .ref (gM G)), (1, .int x1), (2, .int x2)]) hx hb dX10_seeks_28 rfl hl (by decide) rfl (fun ls hl => ?_)
  exact w_seeks_L29 hC hr MN x1 x2 (0 : Int32) σ hF H locs ls hP hS (lv_sub hl [1, 2, 3, 0] rfl)
def F_seeks_L4 : Nat → Int32 → Int32 → Int32 → MS → Option (Int32 × MS)
  | 0, _, _, _, _ => none
  | fu + 1, x1, x2, x3, σ =>
    if x1 ≤ x3 then
      F_seeks_b27 x1 x2 σ
    else
      gd (inb (mI σ 35) 2) <|
      lt ((x2 * (mA σ 14 (Int32.toNatClampNeg (mI σ 35))))) fun x2_3 =>
      lt (x3 + (1 : Int32)) fun x3_4 =>
      F_seeks_L4 fu x1 x2_3 x3_4 σ
set_option maxHeartbeats 4000000 in
theorem w_seeks_L4 {p : Program} {l : Launch} {e : Env} {s : State} {m : MethodId} {args : Array Value} {below : List Frame} {meth : Method} {c : Code} {G : MG} (hC : MCx G cX10_seeks 6 p s m args meth c) (hr : meth.sig.returnType = some .boolean) {x : (Int32 × MS)} :
    ∀ (fu : Nat) (x1 : Int32) (x2 : Int32) (x3 : Int32) (σ : MS), F_seeks_L4 fu x1 x2 x3 σ = some x → MJ p l e rmM_seeks s m args below meth c G 6 (some (.int x.1)) x.2 4 [(0, .ref (gM G)), (1, .int x1), (2, .int x2), (3, .int x3)] [] σ := by
  have hx := hC.1
  have hb := hC.2.1
  intro fu
  induction fu with
  | zero => intro x1 x2 x3 σ hF; exact nm_none hF
  | succ fu ih =>
    intro x1 x2 x3 σ hF H locs ls hP hS hl
    rw [F_seeks_L4] at hF
    refine lv_iload_n hx hb dX10_seeks_4 rfl (lv_at hl 3 rfl) ?_
    refine lv_iload_n hx hb dX10_seeks_5 rfl (lv_at hl 1 rfl) ?_
    refine lv_icmp_ge (tgt := 27) hx hb dX10_seeks_6 (by decide) (fun c_1 => ?_) (fun c_1 => ?_)
    · replace hF := it_t hF c_1
      exact w_seeks_b27 hC hr x1 x2 σ hF H locs ls hP hS (lv_sub hl [0, 1, 2] rfl)
    · replace hF := it_f hF c_1
      refine lv_iload_n hx hb dX10_seeks_9 rfl (lv_at hl 2 rfl) ?_
      refine lv_aload_n hx hb dX10_seeks_10 rfl (lv_at hl 0 rfl) ?_
      refine gM14 hC hP dX10_seeks_11 ?_
      refine lv_aload_n hx hb dX10_seeks_14 rfl (lv_at hl 0 rfl) ?_
      refine gM35 hC hP dX10_seeks_15 ?_
      obtain ⟨h_2, hF⟩ := gd_ok hF
      refine M_iald hC hP 14 (by decide) rfl rfl rfl h_2 dX10_seeks_18 ?_
      refine lv_imul hx hb dX10_seeks_19 ?_
      refine lv_topi (fun x2_3 ex2_3 => ?_)
      replace hF := lt_at hF ex2_3
      refine lv_istore_n (lv' := [(2, .int x2_3), (0, .ref (gM G)), (1, .int x1), (3, .int x3)]) hx hb dX10_seeks_20 rfl hl (by decide) rfl (fun ls hl => ?_)
      obtain ⟨x3_4, ex3_4, hF⟩ := lt_ok hF
      refine lv_iinc (v := x3_4) (lv' := [(3, .int x3_4), (2, .int x2_3), (0, .ref (gM G)), (1, .int x1)]) hx hb dX10_seeks_21 hl (k := 3) rfl (by rw [ex3_4]; rfl) (by decide) rfl (fun ls hl => ?_)
      refine lv_goto (tgt := 4) hx hb dX10_seeks_24 (by decide) ?_
      exact ih x1 x2_3 x3_4 σ hF H locs ls hP hS (lv_sub hl [2, 3, 1, 0] rfl)
def F_seeks (a0 : Int32) (σ : MS) : Option (Int32 × MS) :=
  F_seeks_L4 MN a0 (1 : Int32) (0 : Int32) σ
set_option maxHeartbeats 4000000 in
theorem w_seeks {p : Program} {l : Launch} {e : Env} {s : State} {m : MethodId} {args : Array Value} {below : List Frame} {meth : Method} {c : Code} {G : MG} (hC : MCx G cX10_seeks 6 p s m args meth c) (hr : meth.sig.returnType = some .boolean) {x : (Int32 × MS)} :
    ∀ (a0 : Int32) (σ : MS), F_seeks a0 σ = some x → MJ p l e rmM_seeks s m args below meth c G 6 (some (.int x.1)) x.2 0 [(0, .ref (gM G)), (1, .int a0)] [] σ := by
  have hx := hC.1
  have hb := hC.2.1
  intro a0 σ hF H locs ls hP hS hl
  rw [F_seeks] at hF
  refine lv_iconst (v := 1) hx hb dX10_seeks_0 (by decide) ?_
  refine lv_istore_n (lv' := [(2, .int (1 : Int32)), (0, .ref (gM G)), (1, .int a0)]) hx hb dX10_seeks_1 rfl hl (by decide) rfl (fun ls hl => ?_)
  refine lv_iconst (v := 0) hx hb dX10_seeks_2 (by decide) ?_
  refine lv_istore_n (lv' := [(3, .int (0 : Int32)), (2, .int (1 : Int32)), (0, .ref (gM G)), (1, .int a0)]) hx hb dX10_seeks_3 rfl hl (by decide) rfl (fun ls hl => ?_)
  exact w_seeks_L4 hC hr MN a0 (1 : Int32) (0 : Int32) σ hF H locs ls hP hS (lv_sub hl [2, 3, 1, 0] rfl)
theorem m_seeks (l : Launch) (G : MG) (a0 : Int32) (σ : MS) (x : (Int32 × MS)) (hF : F_seeks a0 σ = some x) : Met l yX10_seeks (ws_ yX10_seeks cX10_seeks 6 (some .boolean)) rmM_seeks (mP G [.ref (gM G), .int a0] σ) (mQ G (some (.int x.1)) x.2) 0 0 (MA G) := by
  refine M_met rfl plM (Nat.le_of_ble_eq_true rfl) ?_
  intro p e s m below meth c hC hr ls hl hP
  exact w_seeks hC hr a0 σ hF s.heap [] ls hP va_S.rf hl
theorem iM_seeks {p : Program} {l : Launch} {e : Env} {R : Room} {s : State} {m : MethodId} {args : Array Value} {below : List Frame} {meth : Method} {c : Code} {H H0 : Heap} {locs : List Loc} {cells slots nL : Nat} {Q : State → Prop} {G : MG} {σ : MS} {cc : ByteArray} {pc : Nat} {ls : Array Slot} {rest : List Value} (hC : MCx G cc nL p s m args meth c) (hP : MRep G σ H) (hS : va_S (MA G) H0 H locs) {a0 : Int32} {x : Int32} {σ1 : MS} (hF : F_seeks a0 σ = some (x, σ1)) (hl : ls.size = nL) (hW : (rest.map fun v => v.category).sum ≤ 8) (hR : rmM_seeks.frames + 1 ≤ R.frames ∧ 8 + (6 + 11) + rmM_seeks.locals ≤ R.locals) (hf : cells ≤ R.cells ∧ slots ≤ R.slots) (hdg : decode cc pc = .ok (.invokevirtual 582, 3))
    (kk : ∀ (H1 : Heap) (locs1 : List Loc), MRep G σ1 H1 → va_S (MA G) H0 H1 locs1 → W p l e R s m args below meth c H1 locs1 cells slots Q (F0 m (pc + 3) ls (.int x :: rest))) : W p l e R s m args below meth c H locs cells slots Q (F0 m pc ls (.int a0 :: .ref (gM G) :: rest)) :=
  M_inv hC hP hS [.int a0] (m_seeks l G a0 σ _ hF) (cwV 1 hC.2.2.2.2.1 (lw_V q2466 q2468 qs116 q145 q2469) rfl rfl rfl (by decide +kernel) hR) rfl rfl hl hW hf hdg kk
end
