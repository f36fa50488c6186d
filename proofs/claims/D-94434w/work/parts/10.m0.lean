set_option maxRecDepth 100000
noncomputable section
/-! clearBank -/
abbrev rmM_clearBank : Room := { frames := 0, cells := 0, slots := 0, locals := 0 }
def F_clearBank (σ : MS) : Option MS :=
  gd (inb (mI σ 36) 2) <|
  lt (wA σ 12 (Int32.toNatClampNeg (mI σ 36)) (2 : Int32)) fun σ_2 =>
  gd (inb (mI σ_2 36) 2) <|
  lt (wA σ_2 13 (Int32.toNatClampNeg (mI σ_2 36)) (0 : Int32)) fun σ_4 =>
  gd (inb (mI σ_4 36) 2) <|
  lt (wA σ_4 14 (Int32.toNatClampNeg (mI σ_4 36)) (0 : Int32)) fun σ_6 =>
  gd (inb (mI σ_6 36) 2) <|
  lt (wA σ_6 15 (Int32.toNatClampNeg (mI σ_6 36)) (0 : Int32)) fun σ_8 =>
  gd (inb (mI σ_8 36) 2) <|
  lt (wA σ_8 16 (Int32.toNatClampNeg (mI σ_8 36)) (0 : Int32)) fun σ_10 =>
  gd (inb (mI σ_10 36) 2) <|
  lt (wA σ_10 17 (Int32.toNatClampNeg (mI σ_10 36)) (0 : Int32)) fun σ_12 =>
  gd (inb (mI σ_12 36) 2) <|
  lt (wA σ_12 18 (Int32.toNatClampNeg (mI σ_12 36)) (0 : Int32)) fun σ_14 =>
  gd (inb (mI σ_14 36) 2) <|
  lt (wA σ_14 20 (Int32.toNatClampNeg (mI σ_14 36)) (0 : Int32)) fun σ_16 =>
  gd (inb (mI σ_16 36) 2) <|
  lt (wA σ_16 21 (Int32.toNatClampNeg (mI σ_16 36)) (0 : Int32)) fun σ_18 =>
  lt (wI σ_18 40 (0 : Int32)) fun σ_19 =>
  lt (wI σ_19 37 ((400 : Int32) * (mI σ_19 36))) fun σ_20 =>
  gd (inb (mI σ_20 36) 2) <|
  lt (wA σ_20 19 (Int32.toNatClampNeg (mI σ_20 36)) (mI σ_20 37)) fun σ_22 =>
  some σ_22
set_option maxHeartbeats 4000000 in
theorem w_clearBank {p : Program} {l : Launch} {e : Env} {s : State} {m : MethodId} {args : Array Value} {below : List Frame} {meth : Method} {c : Code} {G : MG} (hC : MCx G cX10_clearBank 1 p s m args meth c) (hr : meth.sig.returnType = none) {x : MS} :
    ∀ (σ : MS), F_clearBank σ = some x → MJ p l e rmM_clearBank s m args below meth c G 1 none x 0 [(0, .ref (gM G))] [] σ := by
  have hx := hC.1
  have hb := hC.2.1
  intro σ hF H locs ls hP hS hl
  rw [F_clearBank] at hF
  refine lv_aload_n hx hb dX10_clearBank_0 rfl (lv_at hl 0 rfl) ?_
  refine gM12 hC hP dX10_clearBank_1 ?_
  refine lv_aload_n hx hb dX10_clearBank_4 rfl (lv_at hl 0 rfl) ?_
  refine gM36 hC hP dX10_clearBank_5 ?_
  refine lv_iconst (v := 2) hx hb dX10_clearBank_8 (by decide) ?_
  obtain ⟨h_1, hF⟩ := gd_ok hF
  refine M_iast hC hP hS 12 (by decide) rfl rfl rfl h_1 dX10_clearBank_9 (fun H locs hP hS => ?_)
  obtain ⟨σ_2, eσ_2, hF⟩ := lt_ok hF
  rw [← eσ_2] at hP
  refine lv_aload_n hx hb dX10_clearBank_10 rfl (lv_at hl 0 rfl) ?_
  refine gM13 hC hP dX10_clearBank_11 ?_
  refine lv_aload_n hx hb dX10_clearBank_14 rfl (lv_at hl 0 rfl) ?_
  refine gM36 hC hP dX10_clearBank_15 ?_
  refine lv_iconst (v := 0) hx hb dX10_clearBank_18 (by decide) ?_
  obtain ⟨h_3, hF⟩ := gd_ok hF
  refine M_iast hC hP hS 13 (by decide) rfl rfl rfl h_3 dX10_clearBank_19 (fun H locs hP hS => ?_)
  obtain ⟨σ_4, eσ_4, hF⟩ := lt_ok hF
  rw [← eσ_4] at hP
  refine lv_aload_n hx hb dX10_clearBank_20 rfl (lv_at hl 0 rfl) ?_
  refine gM14 hC hP dX10_clearBank_21 ?_
  refine lv_aload_n hx hb dX10_clearBank_24 rfl (lv_at hl 0 rfl) ?_
  refine gM36 hC hP dX10_clearBank_25 ?_
  refine lv_iconst (v := 0) hx hb dX10_clearBank_28 (by decide) ?_
  obtain ⟨h_5, hF⟩ := gd_ok hF
  refine M_iast hC hP hS 14 (by decide) rfl rfl rfl h_5 dX10_clearBank_29 (fun H locs hP hS => ?_)
  obtain ⟨σ_6, eσ_6, hF⟩ := lt_ok hF
  rw [← eσ_6] at hP
  refine lv_aload_n hx hb dX10_clearBank_30 rfl (lv_at hl 0 rfl) ?_
  refine gM15 hC hP dX10_clearBank_31 ?_
  refine lv_aload_n hx hb dX10_clearBank_34 rfl (lv_at hl 0 rfl) ?_
  refine gM36 hC hP dX10_clearBank_35 ?_
  refine lv_iconst (v := 0) hx hb dX10_clearBank_38 (by decide) ?_
  obtain ⟨h_7, hF⟩ := gd_ok hF
  refine M_iast hC hP hS 15 (by decide) rfl rfl rfl h_7 dX10_clearBank_39 (fun H locs hP hS => ?_)
  obtain ⟨σ_8, eσ_8, hF⟩ := lt_ok hF
  rw [← eσ_8] at hP
  refine lv_aload_n hx hb dX10_clearBank_40 rfl (lv_at hl 0 rfl) ?_
  refine gM16 hC hP dX10_clearBank_41 ?_
  refine lv_aload_n hx hb dX10_clearBank_44 rfl (lv_at hl 0 rfl) ?_
  refine gM36 hC hP dX10_clearBank_45 ?_
  refine lv_iconst (v := 0) hx hb dX10_clearBank_48 (by decide) ?_
  obtain ⟨h_9, hF⟩ := gd_ok hF
  refine M_iast hC hP hS 16 (by decide) rfl rfl rfl h_9 dX10_clearBank_49 (fun H locs hP hS => ?_)
  obtain ⟨σ_10, eσ_10, hF⟩ := lt_ok hF
  rw [← eσ_10] at hP
  refine lv_aload_n hx hb dX10_clearBank_50 rfl (lv_at hl 0 rfl) ?_
  refine gM17 hC hP dX10_clearBank_51 ?_
  refine lv_aload_n hx hb dX10_clearBank_54 rfl (lv_at hl 0 rfl) ?_
  refine gM36 hC hP dX10_clearBank_55 ?_
  refine lv_iconst (v := 0) hx hb dX10_clearBank_58 (by decide) ?_
  obtain ⟨h_11, hF⟩ := gd_ok hF
  refine M_iast hC hP hS 17 (by decide) rfl rfl rfl h_11 dX10_clearBank_59 (fun H locs hP hS => ?_)
  obtain ⟨σ_12, eσ_12, hF⟩ := lt_ok hF
  rw [← eσ_12] at hP
  refine lv_aload_n hx hb dX10_clearBank_60 rfl (lv_at hl 0 rfl) ?_
  refine gM18 hC hP dX10_clearBank_61 ?_
  refine lv_aload_n hx hb dX10_clearBank_64 rfl (lv_at hl 0 rfl) ?_
  refine gM36 hC hP dX10_clearBank_65 ?_
  refine lv_iconst (v := 0) hx hb dX10_clearBank_68 (by decide) ?_
  obtain ⟨h_13, hF⟩ := gd_ok hF
  refine M_iast hC hP hS 18 (by decide) rfl rfl rfl h_13 dX10_clearBank_69 (fun H locs hP hS => ?_)
  obtain ⟨σ_14, eσ_14, hF⟩ := lt_ok hF
  rw [← eσ_14] at hP
  refine lv_aload_n hx hb dX10_clearBank_70 rfl (lv_at hl 0 rfl) ?_
  refine gM20 hC hP dX10_clearBank_71 ?_
  refine lv_aload_n hx hb dX10_clearBank_74 rfl (lv_at hl 0 rfl) ?_
  refine gM36 hC hP dX10_clearBank_75 ?_
  refine lv_iconst (v := 0) hx hb dX10_clearBank_78 (by decide) ?_
  obtain ⟨h_15, hF⟩ := gd_ok hF
  refine M_zast hC hP hS 20 (by decide) rfl rfl rfl (Or.inl rfl) h_15 dX10_clearBank_79 (fun H locs hP hS => ?_)
  obtain ⟨σ_16, eσ_16, hF⟩ := lt_ok hF
  rw [← eσ_16] at hP
  refine lv_aload_n hx hb dX10_clearBank_80 rfl (lv_at hl 0 rfl) ?_
  refine gM21 hC hP dX10_clearBank_81 ?_
  refine lv_aload_n hx hb dX10_clearBank_84 rfl (lv_at hl 0 rfl) ?_
  refine gM36 hC hP dX10_clearBank_85 ?_
  refine lv_iconst (v := 0) hx hb dX10_clearBank_88 (by decide) ?_
  obtain ⟨h_17, hF⟩ := gd_ok hF
  refine M_zast hC hP hS 21 (by decide) rfl rfl rfl (Or.inl rfl) h_17 dX10_clearBank_89 (fun H locs hP hS => ?_)
  obtain ⟨σ_18, eσ_18, hF⟩ := lt_ok hF
  rw [← eσ_18] at hP
  refine lv_aload_n hx hb dX10_clearBank_90 rfl (lv_at hl 0 rfl) ?_
  refine lv_iconst (v := 0) hx hb dX10_clearBank_91 (by decide) ?_
  refine pM40 hC hP hS (Or.inl rfl) dX10_clearBank_92 (fun H locs hP hS => ?_)
  obtain ⟨σ_19, eσ_19, hF⟩ := lt_ok hF
  rw [← eσ_19] at hP
  refine lv_aload_n hx hb dX10_clearBank_95 rfl (lv_at hl 0 rfl) ?_
  refine lv_sipush (v := 400) hx hb dX10_clearBank_96 (by decide) ?_
  refine lv_aload_n hx hb dX10_clearBank_99 rfl (lv_at hl 0 rfl) ?_
  refine gM36 hC hP dX10_clearBank_100 ?_
  refine lv_imul hx hb dX10_clearBank_103 ?_
  refine pM37 hC hP hS dX10_clearBank_104 (fun H locs hP hS => ?_)
  obtain ⟨σ_20, eσ_20, hF⟩ := lt_ok hF
  rw [← eσ_20] at hP
  refine lv_aload_n hx hb dX10_clearBank_107 rfl (lv_at hl 0 rfl) ?_
  refine gM19 hC hP dX10_clearBank_108 ?_
  refine lv_aload_n hx hb dX10_clearBank_111 rfl (lv_at hl 0 rfl) ?_
  refine gM36 hC hP dX10_clearBank_112 ?_
  refine lv_aload_n hx hb dX10_clearBank_115 rfl (lv_at hl 0 rfl) ?_
  refine gM37 hC hP dX10_clearBank_116 ?_
  obtain ⟨h_21, hF⟩ := gd_ok hF
  refine M_iast hC hP hS 19 (by decide) rfl rfl rfl h_21 dX10_clearBank_119 (fun H locs hP hS => ?_)
  obtain ⟨σ_22, eσ_22, hF⟩ := lt_ok hF
  rw [← eσ_22] at hP
  exact M_retv hC hP hS hr (Option.some.inj hF) dX10_clearBank_120
theorem m_clearBank (l : Launch) (G : MG) (σ : MS) (x : MS) (hF : F_clearBank σ = some x) : Met l yX10_clearBank (ws_ yX10_clearBank cX10_clearBank 1 none) rmM_clearBank (mP G [.ref (gM G)] σ) (mQ G none x) 0 0 (MA G) := by
  refine M_met rfl plM (Nat.le_of_ble_eq_true rfl) ?_
  intro p e s m below meth c hC hr ls hl hP
  exact w_clearBank hC hr σ hF s.heap [] ls hP va_S.rf hl
theorem iM_clearBank {p : Program} {l : Launch} {e : Env} {R : Room} {s : State} {m : MethodId} {args : Array Value} {below : List Frame} {meth : Method} {c : Code} {H H0 : Heap} {locs : List Loc} {cells slots nL : Nat} {Q : State → Prop} {G : MG} {σ : MS} {cc : ByteArray} {pc : Nat} {ls : Array Slot} {rest : List Value} (hC : MCx G cc nL p s m args meth c) (hP : MRep G σ H) (hS : va_S (MA G) H0 H locs) {x : MS} (hF : F_clearBank σ = some x) (hl : ls.size = nL) (hW : (rest.map fun v => v.category).sum ≤ 8) (hR : rmM_clearBank.frames + 1 ≤ R.frames ∧ 8 + (1 + 11) + rmM_clearBank.locals ≤ R.locals) (hf : cells ≤ R.cells ∧ slots ≤ R.slots) (hdg : decode cc pc = .ok (.invokevirtual 177, 3))
    (kk : ∀ (H1 : Heap) (locs1 : List Loc), MRep G x H1 → va_S (MA G) H0 H1 locs1 → W p l e R s m args below meth c H1 locs1 cells slots Q (F0 m (pc + 3) ls (rest))) : W p l e R s m args below meth c H locs cells slots Q (F0 m pc ls (.ref (gM G) :: rest)) :=
  M_inv hC hP hS [] (m_clearBank l G σ _ hF) (cwV 0 hC.2.2.2.2.1 (lw_V q1818 q1820 qs48 q145 q1821) rfl rfl rfl (by decide +kernel) hR) rfl rfl hl hW hf hdg kk
/-! fits -/
abbrev rmM_fits : Room := { frames := 0, cells := 0, slots := 0, locals := 0 }
def F_fits_b69 (σ : MS) (x1 : Int32) (x2 : Int32) : Option Int32 :=
  gd (inb x1 104) <|
  if x2 ≤ (mA σ 23 (Int32.toNatClampNeg x1)) then
    some (0 : Int32)
  else
    gd (inb x1 104) <|
    if x2 ≤ (mA σ 24 (Int32.toNatClampNeg x1)) then
      some (0 : Int32)
    else
      some (1 : Int32)
set_option maxHeartbeats 4000000 in
theorem w_fits_b69 {p : Program} {l : Launch} {e : Env} {s : State} {m : MethodId} {args : Array Value} {below : List Frame} {meth : Method} {c : Code} {G : MG} (hC : MCx G cX10_fits 5 p s m args meth c) (hr : meth.sig.returnType = some .boolean) {x : Int32} {σ : MS} :
    ∀ (x1 : Int32) (x2 : Int32), F_fits_b69 σ x1 x2 = some x → MJ p l e rmM_fits s m args below meth c G 5 (some (.int x)) σ 69 [(0, .ref (gM G)), (1, .int x1), (2, .int x2)] [] σ := by
  have hx := hC.1
  have hb := hC.2.1
  intro x1 x2 hF H locs ls hP hS hl
  rw [F_fits_b69] at hF
  refine lv_aload_n hx hb dX10_fits_69 rfl (lv_at hl 0 rfl) ?_
  refine gM23 hC hP dX10_fits_70 ?_
  refine lv_iload_n hx hb dX10_fits_73 rfl (lv_at hl 1 rfl) ?_
  obtain ⟨h_1, hF⟩ := gd_ok hF
  refine M_iald hC hP 23 (by decide) rfl rfl rfl h_1 dX10_fits_74 ?_
  refine lv_iload_n hx hb dX10_fits_75 rfl (lv_at hl 2 rfl) ?_
  refine lv_icmp_ge (tgt := 93) hx hb dX10_fits_76 (by decide) (fun c_2 => ?_) (fun c_2 => ?_)
  · replace hF := it_t hF c_2
    refine lv_iconst (v := 0) hx hb dX10_fits_93 (by decide) ?_
    refine lv_goto (tgt := 112) hx hb dX10_fits_94 (by decide) ?_
    exact M_retz hC hP hS hr (Or.inl rfl) (Option.some.inj hF) rfl dX10_fits_112
  · replace hF := it_f hF c_2
    refine lv_aload_n hx hb dX10_fits_79 rfl (lv_at hl 0 rfl) ?_
    refine gM24 hC hP dX10_fits_80 ?_
    refine lv_iload_n hx hb dX10_fits_83 rfl (lv_at hl 1 rfl) ?_
    obtain ⟨h_3, hF⟩ := gd_ok hF
    refine M_iald hC hP 24 (by decide) rfl rfl rfl h_3 dX10_fits_84 ?_
    refine lv_iload_n hx hb dX10_fits_85 rfl (lv_at hl 2 rfl) ?_
    refine lv_icmp_ge (tgt := 93) hx hb dX10_fits_86 (by decide) (fun c_4 => ?_) (fun c_4 => ?_)
    · replace hF := it_t hF c_4
      refine lv_iconst (v := 0) hx hb dX10_fits_93 (by decide) ?_
      refine lv_goto (tgt := 112) hx hb dX10_fits_94 (by decide) ?_
      exact M_retz hC hP hS hr (Or.inl rfl) (Option.some.inj hF) rfl dX10_fits_112
    · replace hF := it_f hF c_4
      refine lv_iconst (v := 1) hx hb dX10_fits_89 (by decide) ?_
      refine lv_goto (tgt := 112) hx hb dX10_fits_90 (by decide) ?_
      exact M_retz hC hP hS hr (Or.inr rfl) (Option.some.inj hF) rfl dX10_fits_112
def F_fits_L21 (σ : MS) : Nat → Int32 → Int32 → Int32 → Option Int32
  | 0, _, _, _ => none
  | fu + 1, x1, x2, x4 =>
    gd (inb x1 104) <|
    if (mA σ 26 (Int32.toNatClampNeg x1)) ≤ x4 then
      some (1 : Int32)
    else
      gd (inb (((8 : Int32) * x1) + x4) 832) <|
      if (mA σ 27 (Int32.toNatClampNeg (((8 : Int32) * x1) + x4))) < x2 then
        lt (x4 + (1 : Int32)) fun x4_5 =>
        F_fits_L21 σ fu x1 x2 x4_5
      else
        some (0 : Int32)
set_option maxHeartbeats 4000000 in
theorem w_fits_L21 {p : Program} {l : Launch} {e : Env} {s : State} {m : MethodId} {args : Array Value} {below : List Frame} {meth : Method} {c : Code} {G : MG} (hC : MCx G cX10_fits 5 p s m args meth c) (hr : meth.sig.returnType = some .boolean) {x : Int32} {σ : MS} :
    ∀ (fu : Nat) (x1 : Int32) (x2 : Int32) (x4 : Int32), F_fits_L21 σ fu x1 x2 x4 = some x → MJ p l e rmM_fits s m args below meth c G 5 (some (.int x)) σ 21 [(0, .ref (gM G)), (1, .int x1), (2, .int x2), (4, .int x4)] [] σ := by
  have hx := hC.1
  have hb := hC.2.1
  intro fu
  induction fu with
  | zero => intro x1 x2 x4 hF; exact nm_none hF
  | succ fu ih =>
    intro x1 x2 x4 hF H locs ls hP hS hl
    rw [F_fits_L21] at hF
    refine lv_iload hx hb dX10_fits_21 (lv_at hl 3 rfl) ?_
    refine lv_aload_n hx hb dX10_fits_23 rfl (lv_at hl 0 rfl) ?_
    refine gM26 hC hP dX10_fits_24 ?_
    refine lv_iload_n hx hb dX10_fits_27 rfl (lv_at hl 1 rfl) ?_
    obtain ⟨h_1, hF⟩ := gd_ok hF
    refine M_iald hC hP 26 (by decide) rfl rfl rfl h_1 dX10_fits_28 ?_
    refine lv_icmp_ge (tgt := 56) hx hb dX10_fits_29 (by decide) (fun c_2 => ?_) (fun c_2 => ?_)
    · replace hF := it_t hF c_2
      refine lv_iconst (v := 1) hx hb dX10_fits_56 (by decide) ?_
      exact M_retz hC hP hS hr (Or.inr rfl) (Option.some.inj hF) rfl dX10_fits_57
    · replace hF := it_f hF c_2
      refine lv_aload_n hx hb dX10_fits_32 rfl (lv_at hl 0 rfl) ?_
      refine gM27 hC hP dX10_fits_33 ?_
      refine lv_bipush (v := 8) hx hb dX10_fits_36 (by decide) ?_
      refine lv_iload_n hx hb dX10_fits_38 rfl (lv_at hl 1 rfl) ?_
      refine lv_imul hx hb dX10_fits_39 ?_
      refine lv_iload hx hb dX10_fits_40 (lv_at hl 3 rfl) ?_
      refine lv_iadd hx hb dX10_fits_42 ?_
      obtain ⟨h_3, hF⟩ := gd_ok hF
      refine M_iald hC hP 27 (by decide) rfl rfl rfl h_3 dX10_fits_43 ?_
      refine lv_iload_n hx hb dX10_fits_44 rfl (lv_at hl 2 rfl) ?_
      refine lv_icmp_lt (tgt := 50) hx hb dX10_fits_45 (by decide) (fun c_4 => ?_) (fun c_4 => ?_)
      · replace hF := it_t hF c_4
        obtain ⟨x4_5, ex4_5, hF⟩ := lt_ok hF
        refine lv_iinc (v := x4_5) (lv' := [(4, .int x4_5), (0, .ref (gM G)), (1, .int x1), (2, .int x2)]) hx hb dX10_fits_50 hl (k := 3) rfl (by rw [ex4_5]; rfl) (by decide) rfl (fun ls hl => ?_)
        refine lv_goto (tgt := 21) hx hb dX10_fits_53 (by decide) ?_
        exact ih x1 x2 x4_5 hF H locs ls hP hS (lv_sub hl [1, 2, 3, 0] rfl)
      · replace hF := it_f hF c_4
        refine lv_iconst (v := 0) hx hb dX10_fits_48 (by decide) ?_
        exact M_retz hC hP hS hr (Or.inl rfl) (Option.some.inj hF) rfl dX10_fits_49
def F_fits_b18 (σ : MS) (x1 : Int32) (x2 : Int32) : Option Int32 :=
  F_fits_L21 σ MN x1 x2 (0 : Int32)
set_option maxHeartbeats 4000000 in
theorem w_fits_b18 {p : Program} {l : Launch} {e : Env} {s : State} {m : MethodId} {args : Array Value} {below : List Frame} {meth : Method} {c : Code} {G : MG} (hC : MCx G cX10_fits 5 p s m args meth c) (hr : meth.sig.returnType = some .boolean) {x : Int32} {σ : MS} :
    ∀ (x1 : Int32) (x2 : Int32), F_fits_b18 σ x1 x2 = some x → MJ p l e rmM_fits s m args below meth c G 5 (some (.int x)) σ 18 [(0, .ref (gM G)), (1, .int x1), (2, .int x2)] [] σ := by
  have hx := hC.1
  have hb := hC.2.1
  intro x1 x2 hF H locs ls hP hS hl
  rw [F_fits_b18] at hF
  refine lv_iconst (v := 0) hx hb dX10_fits_18 (by decide) ?_
  refine lv_istore (lv' := [(4, .int (0 : Int32)), (0, .ref (gM G)), (1, .int x1), (2, .int x2)]) hx hb dX10_fits_19 hl (by decide) rfl (fun ls hl => ?_)
  exact w_fits_L21 hC hr MN x1 x2 (0 : Int32) hF H locs ls hP hS (lv_sub hl [1, 2, 3, 0] rfl)
def F_fits (σ : MS) (a0 : Int32) (a1 : Int32) : Option Int32 :=
  gd (inb a0 104) <|
  lt ((mA σ 22 (Int32.toNatClampNeg a0))) fun x3_2 =>
  if x3_2 = (3 : Int32) then
    F_fits_b18 σ a0 a1
  else
    if x3_2 = (8 : Int32) then
      F_fits_b18 σ a0 a1
    else
      if x3_2 = (2 : Int32) then
        F_fits_b69 σ a0 a1
      else
        if x3_2 = (11 : Int32) then
          F_fits_b69 σ a0 a1
        else
          gd (inb a0 104) <|
          if a1 ≤ (mA σ 24 (Int32.toNatClampNeg a0)) then
            some (0 : Int32)
          else
            some (1 : Int32)
set_option maxHeartbeats 4000000 in
theorem w_fits {p : Program} {l : Launch} {e : Env} {s : State} {m : MethodId} {args : Array Value} {below : List Frame} {meth : Method} {c : Code} {G : MG} (hC : MCx G cX10_fits 5 p s m args meth c) (hr : meth.sig.returnType = some .boolean) {x : Int32} {σ : MS} :
    ∀ (a0 : Int32) (a1 : Int32), F_fits σ a0 a1 = some x → MJ p l e rmM_fits s m args below meth c G 5 (some (.int x)) σ 0 [(0, .ref (gM G)), (1, .int a0), (2, .int a1)] [] σ := by
  have hx := hC.1
  have hb := hC.2.1
  intro a0 a1 hF H locs ls hP hS hl
  rw [F_fits] at hF
  refine lv_aload_n hx hb dX10_fits_0 rfl (lv_at hl 0 rfl) ?_
  refine gM22 hC hP dX10_fits_1 ?_
  refine lv_iload_n hx hb dX10_fits_4 rfl (lv_at hl 1 rfl) ?_
  obtain ⟨h_1, hF⟩ := gd_ok hF
  refine M_iald hC hP 22 (by decide) rfl rfl rfl h_1 dX10_fits_5 ?_
  refine lv_topi (fun x3_2 ex3_2 => ?_)
  replace hF := lt_at hF ex3_2
  refine lv_istore_n (lv' := [(3, .int x3_2), (0, .ref (gM G)), (1, .int a0), (2, .int a1)]) hx hb dX10_fits_6 rfl hl (by decide) rfl (fun ls hl => ?_)
  refine lv_iload_n hx hb dX10_fits_7 rfl (lv_at hl 0 rfl) ?_
  refine lv_iconst (v := 3) hx hb dX10_fits_8 (by decide) ?_
  refine lv_icmp_eq (tgt := 18) hx hb dX10_fits_9 (by decide) (fun c_3 => ?_) (fun c_3 => ?_)
  · replace hF := it_t hF c_3
    exact w_fits_b18 hC hr a0 a1 hF H locs ls hP hS (lv_sub hl [1, 2, 3] rfl)
  · replace hF := it_f hF c_3
    refine lv_iload_n hx hb dX10_fits_12 rfl (lv_at hl 0 rfl) ?_
    refine lv_bipush (v := 8) hx hb dX10_fits_13 (by decide) ?_
    refine lv_icmp_ne (tgt := 58) hx hb dX10_fits_15 (by decide) (fun c_4 => ?_) (fun c_4 => ?_)
    · replace hF := it_f hF c_4
      refine lv_iload_n hx hb dX10_fits_58 rfl (lv_at hl 0 rfl) ?_
      refine lv_iconst (v := 2) hx hb dX10_fits_59 (by decide) ?_
      refine lv_icmp_eq (tgt := 69) hx hb dX10_fits_60 (by decide) (fun c_5 => ?_) (fun c_5 => ?_)
      · replace hF := it_t hF c_5
        exact w_fits_b69 hC hr a0 a1 hF H locs ls hP hS (lv_sub hl [1, 2, 3] rfl)
      · replace hF := it_f hF c_5
        refine lv_iload_n hx hb dX10_fits_63 rfl (lv_at hl 0 rfl) ?_
        refine lv_bipush (v := 11) hx hb dX10_fits_64 (by decide) ?_
        refine lv_icmp_ne (tgt := 97) hx hb dX10_fits_66 (by decide) (fun c_6 => ?_) (fun c_6 => ?_)
        · replace hF := it_f hF c_6
          refine lv_aload_n hx hb dX10_fits_97 rfl (lv_at hl 1 rfl) ?_
          refine gM24 hC hP dX10_fits_98 ?_
          refine lv_iload_n hx hb dX10_fits_101 rfl (lv_at hl 2 rfl) ?_
          obtain ⟨h_7, hF⟩ := gd_ok hF
          refine M_iald hC hP 24 (by decide) rfl rfl rfl h_7 dX10_fits_102 ?_
          refine lv_iload_n hx hb dX10_fits_103 rfl (lv_at hl 3 rfl) ?_
          refine lv_icmp_ge (tgt := 111) hx hb dX10_fits_104 (by decide) (fun c_8 => ?_) (fun c_8 => ?_)
          · replace hF := it_t hF c_8
            refine lv_iconst (v := 0) hx hb dX10_fits_111 (by decide) ?_
            exact M_retz hC hP hS hr (Or.inl rfl) (Option.some.inj hF) rfl dX10_fits_112
          · replace hF := it_f hF c_8
            refine lv_iconst (v := 1) hx hb dX10_fits_107 (by decide) ?_
            refine lv_goto (tgt := 112) hx hb dX10_fits_108 (by decide) ?_
            exact M_retz hC hP hS hr (Or.inr rfl) (Option.some.inj hF) rfl dX10_fits_112
        · replace hF := it_t hF c_6
          exact w_fits_b69 hC hr a0 a1 hF H locs ls hP hS (lv_sub hl [1, 2, 3] rfl)
    · replace hF := it_t hF c_4
      exact w_fits_b18 hC hr a0 a1 hF H locs ls hP hS (lv_sub hl [1, 2, 3] rfl)
theorem m_fits (l : Launch) (G : MG) (a0 : Int32) (a1 : Int32) (σ : MS) (x : Int32) (hF : F_fits σ a0 a1 = some x) : Met l yX10_fits (ws_ yX10_fits cX10_fits 5 (some .boolean)) rmM_fits (mP G [.ref (gM G), .int a0, .int a1] σ) (mQ G (some (.int x)) σ) 0 0 (MA G) := by
  refine M_met rfl plM (Nat.le_of_ble_eq_true rfl) ?_
  intro p e s m below meth c hC hr ls hl hP
  exact w_fits hC hr a0 a1 hF s.heap [] ls hP va_S.rf hl
theorem iM_fits {p : Program} {l : Launch} {e : Env} {R : Room} {s : State} {m : MethodId} {args : Array Value} {below : List Frame} {meth : Method} {c : Code} {H H0 : Heap} {locs : List Loc} {cells slots nL : Nat} {Q : State → Prop} {G : MG} {σ : MS} {cc : ByteArray} {pc : Nat} {ls : Array Slot} {rest : List Value} (hC : MCx G cc nL p s m args meth c) (hP : MRep G σ H) (hS : va_S (MA G) H0 H locs) {a0 : Int32} {a1 : Int32} {x : Int32} (hF : F_fits σ a0 a1 = some x) (hl : ls.size = nL) (hW : (rest.map fun v => v.category).sum ≤ 8) (hR : rmM_fits.frames + 1 ≤ R.frames ∧ 8 + (5 + 11) + rmM_fits.locals ≤ R.locals) (hf : cells ≤ R.cells ∧ slots ≤ R.slots) (hdg : decode cc pc = .ok (.invokevirtual 475, 3))
    (kk : ∀ (H1 : Heap) (locs1 : List Loc), MRep G σ H1 → va_S (MA G) H0 H1 locs1 → W p l e R s m args below meth c H1 locs1 cells slots Q (F0 m (pc + 3) ls (.int x :: rest))) : W p l e R s m args below meth c H locs cells slots Q (F0 m pc ls (.int a1 :: .int a0 :: .ref (gM G) :: rest)) :=
  M_inv hC hP hS [.int a0, .int a1] (m_fits l G a0 a1 σ _ hF) (cwV 2 hC.2.2.2.2.1 (lw_V q1872 q1874 qs59 q145 q1875) rfl rfl rfl (by decide +kernel) hR) rfl rfl hl hW hf hdg kk
/-! mixNumber -/
abbrev rmM_mixNumber : Room := { frames := 0, cells := 0, slots := 0, locals := 0 }
def F_mixNumber_b42 (σ : MS) (k10 : Int32 → Int32 → Int32 → Option Int32) (x1 : Int32) (x3 : Int32) (y0 : Int32) (y1 : Int32) : Option Int32 :=
  lt ((y1 + y0)) fun x2_1 =>
  lt (x3 + (1 : Int32)) fun x3_2 =>
  k10 x1 x2_1 x3_2
set_option maxHeartbeats 4000000 in
theorem w_mixNumber_b42 {p : Program} {l : Launch} {e : Env} {s : State} {m : MethodId} {args : Array Value} {below : List Frame} {meth : Method} {c : Code} {G : MG} (hC : MCx G cX10_mixNumber 4 p s m args meth c) (hr : meth.sig.returnType = some .int) {x : Int32} {σ : MS} (k10 : Int32 → Int32 → Int32 → Option Int32) (hk10 : ∀ (x1 : Int32) (x2 : Int32) (x3 : Int32), k10 x1 x2 x3 = some x → MJ p l e rmM_mixNumber s m args below meth c G 4 (some (.int x)) σ 10 [(0, .ref (gM G)), (1, .int x1), (2, .int x2), (3, .int x3)] [] σ) :
    ∀ (x1 : Int32) (x3 : Int32) (y0 : Int32) (y1 : Int32), F_mixNumber_b42 σ k10 x1 x3 y0 y1 = some x → MJ p l e rmM_mixNumber s m args below meth c G 4 (some (.int x)) σ 42 [(0, .ref (gM G)), (1, .int x1), (3, .int x3)] [.int y0, .int y1] σ := by
  have hx := hC.1
  have hb := hC.2.1
  intro x1 x3 y0 y1 hF H locs ls hP hS hl
  rw [F_mixNumber_b42] at hF
  refine lv_iadd hx hb dX10_mixNumber_42 ?_
  refine lv_topi (fun x2_1 ex2_1 => ?_)
  replace hF := lt_at hF ex2_1
  refine lv_istore_n (lv' := [(2, .int x2_1), (0, .ref (gM G)), (1, .int x1), (3, .int x3)]) hx hb dX10_mixNumber_43 rfl hl (by decide) rfl (fun ls hl => ?_)
  obtain ⟨x3_2, ex3_2, hF⟩ := lt_ok hF
  refine lv_iinc (v := x3_2) (lv' := [(3, .int x3_2), (2, .int x2_1), (0, .ref (gM G)), (1, .int x1)]) hx hb dX10_mixNumber_44 hl (k := 3) rfl (by rw [ex3_2]; rfl) (by decide) rfl (fun ls hl => ?_)
  refine lv_goto (tgt := 10) hx hb dX10_mixNumber_47 (by decide) ?_
  exact hk10 x1 x2_1 x3_2 hF H locs ls hP hS (lv_sub hl [2, 3, 1, 0] rfl)
def F_mixNumber_b41 (σ : MS) (k42 : Int32 → Int32 → Int32 → Int32 → Option Int32) (x1 : Int32) (x3 : Int32) (y0 : Int32) : Option Int32 :=
  k42 x1 x3 (0 : Int32) y0
set_option maxHeartbeats 4000000 in
theorem w_mixNumber_b41 {p : Program} {l : Launch} {e : Env} {s : State} {m : MethodId} {args : Array Value} {below : List Frame} {meth : Method} {c : Code} {G : MG} (hC : MCx G cX10_mixNumber 4 p s m args meth c) (hr : meth.sig.returnType = some .int) {x : Int32} {σ : MS} (k42 : Int32 → Int32 → Int32 → Int32 → Option Int32) (hk42 : ∀ (x1 : Int32) (x3 : Int32) (y0 : Int32) (y1 : Int32), k42 x1 x3 y0 y1 = some x → MJ p l e rmM_mixNumber s m args below meth c G 4 (some (.int x)) σ 42 [(0, .ref (gM G)), (1, .int x1), (3, .int x3)] [.int y0, .int y1] σ) :
    ∀ (x1 : Int32) (x3 : Int32) (y0 : Int32), F_mixNumber_b41 σ k42 x1 x3 y0 = some x → MJ p l e rmM_mixNumber s m args below meth c G 4 (some (.int x)) σ 41 [(0, .ref (gM G)), (1, .int x1), (3, .int x3)] [.int y0] σ := by
  have hx := hC.1
  have hb := hC.2.1
  intro x1 x3 y0 hF H locs ls hP hS hl
  rw [F_mixNumber_b41] at hF
  refine lv_iconst (v := 0) hx hb dX10_mixNumber_41 (by decide) ?_
  exact hk42 x1 x3 (0 : Int32) y0 hF H locs ls hP hS (lv_sub hl [0, 1, 2] rfl)
def F_mixNumber_L10 (σ : MS) : Nat → Int32 → Int32 → Int32 → Option Int32
  | 0, _, _, _ => none
  | fu + 1, x1, x2, x3 =>
    if x1 ≤ x3 then
      some x2
    else
      gd (inb x3 104) <|
      if (mA σ 22 (Int32.toNatClampNeg x3)) < (4 : Int32) then
        F_mixNumber_b41 σ (F_mixNumber_b42 σ (F_mixNumber_L10 σ fu)) x1 x3 x2
      else
        gd (inb x3 104) <|
        if (7 : Int32) < (mA σ 22 (Int32.toNatClampNeg x3)) then
          F_mixNumber_b41 σ (F_mixNumber_b42 σ (F_mixNumber_L10 σ fu)) x1 x3 x2
        else
          F_mixNumber_b42 σ (F_mixNumber_L10 σ fu) x1 x3 (1 : Int32) x2
set_option maxHeartbeats 4000000 in
theorem w_mixNumber_L10 {p : Program} {l : Launch} {e : Env} {s : State} {m : MethodId} {args : Array Value} {below : List Frame} {meth : Method} {c : Code} {G : MG} (hC : MCx G cX10_mixNumber 4 p s m args meth c) (hr : meth.sig.returnType = some .int) {x : Int32} {σ : MS} :
    ∀ (fu : Nat) (x1 : Int32) (x2 : Int32) (x3 : Int32), F_mixNumber_L10 σ fu x1 x2 x3 = some x → MJ p l e rmM_mixNumber s m args below meth c G 4 (some (.int x)) σ 10 [(0, .ref (gM G)), (1, .int x1), (2, .int x2), (3, .int x3)] [] σ := by
  have hx := hC.1
  have hb := hC.2.1
  intro fu
  induction fu with
  | zero => intro x1 x2 x3 hF; exact nm_none hF
  | succ fu ih =>
    intro x1 x2 x3 hF H locs ls hP hS hl
    rw [F_mixNumber_L10] at hF
    refine lv_iload_n hx hb dX10_mixNumber_10 rfl (lv_at hl 3 rfl) ?_
    refine lv_iload_n hx hb dX10_mixNumber_11 rfl (lv_at hl 1 rfl) ?_
    refine lv_icmp_ge (tgt := 50) hx hb dX10_mixNumber_12 (by decide) (fun c_1 => ?_) (fun c_1 => ?_)
    · replace hF := it_t hF c_1
      refine lv_iload_n hx hb dX10_mixNumber_50 rfl (lv_at hl 2 rfl) ?_
      exact M_reti hC hP hS hr (Option.some.inj hF) rfl dX10_mixNumber_51
    · replace hF := it_f hF c_1
      refine lv_iload_n hx hb dX10_mixNumber_15 rfl (lv_at hl 2 rfl) ?_
      refine lv_aload_n hx hb dX10_mixNumber_16 rfl (lv_at hl 0 rfl) ?_
      refine gM22 hC hP dX10_mixNumber_17 ?_
      refine lv_iload_n hx hb dX10_mixNumber_20 rfl (lv_at hl 3 rfl) ?_
      obtain ⟨h_2, hF⟩ := gd_ok hF
      refine M_iald hC hP 22 (by decide) rfl rfl rfl h_2 dX10_mixNumber_21 ?_
      refine lv_iconst (v := 4) hx hb dX10_mixNumber_22 (by decide) ?_
      refine lv_icmp_lt (tgt := 41) hx hb dX10_mixNumber_23 (by decide) (fun c_3 => ?_) (fun c_3 => ?_)
      · replace hF := it_t hF c_3
        exact w_mixNumber_b41 hC hr (F_mixNumber_b42 σ (F_mixNumber_L10 σ fu)) (w_mixNumber_b42 hC hr (F_mixNumber_L10 σ fu) ih) x1 x3 x2 hF H locs ls hP hS (lv_sub hl [0, 1, 3] rfl)
      · replace hF := it_f hF c_3
        refine lv_aload_n hx hb dX10_mixNumber_26 rfl (lv_at hl 0 rfl) ?_
        refine gM22 hC hP dX10_mixNumber_27 ?_
        refine lv_iload_n hx hb dX10_mixNumber_30 rfl (lv_at hl 3 rfl) ?_
        obtain ⟨h_4, hF⟩ := gd_ok hF
        refine M_iald hC hP 22 (by decide) rfl rfl rfl h_4 dX10_mixNumber_31 ?_
        refine lv_bipush (v := 7) hx hb dX10_mixNumber_32 (by decide) ?_
        refine lv_icmp_gt (tgt := 41) hx hb dX10_mixNumber_34 (by decide) (fun c_5 => ?_) (fun c_5 => ?_)
        · replace hF := it_t hF c_5
          exact w_mixNumber_b41 hC hr (F_mixNumber_b42 σ (F_mixNumber_L10 σ fu)) (w_mixNumber_b42 hC hr (F_mixNumber_L10 σ fu) ih) x1 x3 x2 hF H locs ls hP hS (lv_sub hl [0, 1, 3] rfl)
        · replace hF := it_f hF c_5
          refine lv_iconst (v := 1) hx hb dX10_mixNumber_37 (by decide) ?_
          refine lv_goto (tgt := 42) hx hb dX10_mixNumber_38 (by decide) ?_
          exact w_mixNumber_b42 hC hr (F_mixNumber_L10 σ fu) ih x1 x3 (1 : Int32) x2 hF H locs ls hP hS (lv_sub hl [0, 1, 3] rfl)
def F_mixNumber (σ : MS) (a0 : Int32) : Option Int32 :=
  lt (((52 : Int32) * (mI σ 35))) fun x3_1 =>
  F_mixNumber_L10 σ MN a0 (0 : Int32) x3_1
set_option maxHeartbeats 4000000 in
theorem w_mixNumber {p : Program} {l : Launch} {e : Env} {s : State} {m : MethodId} {args : Array Value} {below : List Frame} {meth : Method} {c : Code} {G : MG} (hC : MCx G cX10_mixNumber 4 p s m args meth c) (hr : meth.sig.returnType = some .int) {x : Int32} {σ : MS} :
    ∀ (a0 : Int32), F_mixNumber σ a0 = some x → MJ p l e rmM_mixNumber s m args below meth c G 4 (some (.int x)) σ 0 [(0, .ref (gM G)), (1, .int a0)] [] σ := by
  have hx := hC.1
  have hb := hC.2.1
  intro a0 hF H locs ls hP hS hl
  rw [F_mixNumber] at hF
  refine lv_iconst (v := 0) hx hb dX10_mixNumber_0 (by decide) ?_
  refine lv_istore_n (lv' := [(2, .int (0 : Int32)), (0, .ref (gM G)), (1, .int a0)]) hx hb dX10_mixNumber_1 rfl hl (by decide) rfl (fun ls hl => ?_)
  refine lv_bipush (v := 52) hx hb dX10_mixNumber_2 (by decide) ?_
  refine lv_aload_n hx hb dX10_mixNumber_4 rfl (lv_at hl 1 rfl) ?_
  refine gM35 hC hP dX10_mixNumber_5 ?_
  refine lv_imul hx hb dX10_mixNumber_8 ?_
  refine lv_topi (fun x3_1 ex3_1 => ?_)
  replace hF := lt_at hF ex3_1
  refine lv_istore_n (lv' := [(3, .int x3_1), (2, .int (0 : Int32)), (0, .ref (gM G)), (1, .int a0)]) hx hb dX10_mixNumber_9 rfl hl (by decide) rfl (fun ls hl => ?_)
  exact w_mixNumber_L10 hC hr MN a0 (0 : Int32) x3_1 hF H locs ls hP hS (lv_sub hl [2, 3, 1, 0] rfl)
theorem m_mixNumber (l : Launch) (G : MG) (a0 : Int32) (σ : MS) (x : Int32) (hF : F_mixNumber σ a0 = some x) : Met l yX10_mixNumber (ws_ yX10_mixNumber cX10_mixNumber 4 (some .int)) rmM_mixNumber (mP G [.ref (gM G), .int a0] σ) (mQ G (some (.int x)) σ) 0 0 (MA G) := by
  refine M_met rfl plM (Nat.le_of_ble_eq_true rfl) ?_
  intro p e s m below meth c hC hr ls hl hP
  exact w_mixNumber hC hr a0 hF s.heap [] ls hP va_S.rf hl
theorem iM_mixNumber {p : Program} {l : Launch} {e : Env} {R : Room} {s : State} {m : MethodId} {args : Array Value} {below : List Frame} {meth : Method} {c : Code} {H H0 : Heap} {locs : List Loc} {cells slots nL : Nat} {Q : State → Prop} {G : MG} {σ : MS} {cc : ByteArray} {pc : Nat} {ls : Array Slot} {rest : List Value} (hC : MCx G cc nL p s m args meth c) (hP : MRep G σ H) (hS : va_S (MA G) H0 H locs) {a0 : Int32} {x : Int32} (hF : F_mixNumber σ a0 = some x) (hl : ls.size = nL) (hW : (rest.map fun v => v.category).sum ≤ 8) (hR : rmM_mixNumber.frames + 1 ≤ R.frames ∧ 8 + (4 + 11) + rmM_mixNumber.locals ≤ R.locals) (hf : cells ≤ R.cells ∧ slots ≤ R.slots) (hdg : decode cc pc = .ok (.invokevirtual 488, 3))
    (kk : ∀ (H1 : Heap) (locs1 : List Loc), MRep G σ H1 → va_S (MA G) H0 H1 locs1 → W p l e R s m args below meth c H1 locs1 cells slots Q (F0 m (pc + 3) ls (.int x :: rest))) : W p l e R s m args below meth c H locs cells slots Q (F0 m pc ls (.int a0 :: .ref (gM G) :: rest)) :=
  M_inv hC hP hS [.int a0] (m_mixNumber l G a0 σ _ hF) (cwV 1 hC.2.2.2.2.1 (lw_V q1884 q1886 qs62 q145 q1887) rfl rfl rfl (by decide +kernel) hR) rfl rfl hl hW hf hdg kk
/-! ways -/
abbrev rmM_ways : Room := { frames := 0, cells := 0, slots := 0, locals := 0 }
def F_ways (σ : MS) (a0 : Int32) : Option Int32 :=
  gd (inb a0 104) <|
  gd (inb a0 104) <|
  lt ((((mA σ 24 (Int32.toNatClampNeg a0)) - (mA σ 23 (Int32.toNatClampNeg a0))) + (1 : Int32))) fun x2_3 =>
  gd (inb a0 104) <|
  if (mA σ 22 (Int32.toNatClampNeg a0)) = (4 : Int32) then
    some x2_3
  else
    gd (inb a0 104) <|
    if (mA σ 22 (Int32.toNatClampNeg a0)) = (5 : Int32) then
      some (2 : Int32)
    else
      gd (inb a0 104) <|
      if (mA σ 22 (Int32.toNatClampNeg a0)) = (6 : Int32) then
        gd (inb a0 104) <|
        gd (¬ (mA σ 25 (Int32.toNatClampNeg a0)) = 0) <|
        some (x2_3 / (mA σ 25 (Int32.toNatClampNeg a0)))
      else
        gd (inb a0 104) <|
        if (mA σ 22 (Int32.toNatClampNeg a0)) = (7 : Int32) then
          if x2_3 = (2 : Int32) then
            some (2 : Int32)
          else
            if x2_3 = (3 : Int32) then
              some (6 : Int32)
            else
              some (24 : Int32)
        else
          some (1 : Int32)
set_option maxHeartbeats 4000000 in
theorem w_ways {p : Program} {l : Launch} {e : Env} {s : State} {m : MethodId} {args : Array Value} {below : List Frame} {meth : Method} {c : Code} {G : MG} (hC : MCx G cX10_ways 3 p s m args meth c) (hr : meth.sig.returnType = some .int) {x : Int32} {σ : MS} :
    ∀ (a0 : Int32), F_ways σ a0 = some x → MJ p l e rmM_ways s m args below meth c G 3 (some (.int x)) σ 0 [(0, .ref (gM G)), (1, .int a0)] [] σ := by
  have hx := hC.1
  have hb := hC.2.1
  intro a0 hF H locs ls hP hS hl
  rw [F_ways] at hF
  refine lv_aload_n hx hb dX10_ways_0 rfl (lv_at hl 0 rfl) ?_
  refine gM24 hC hP dX10_ways_1 ?_
  refine lv_iload_n hx hb dX10_ways_4 rfl (lv_at hl 1 rfl) ?_
  obtain ⟨h_1, hF⟩ := gd_ok hF
  refine M_iald hC hP 24 (by decide) rfl rfl rfl h_1 dX10_ways_5 ?_
  refine lv_aload_n hx hb dX10_ways_6 rfl (lv_at hl 0 rfl) ?_
  refine gM23 hC hP dX10_ways_7 ?_
  refine lv_iload_n hx hb dX10_ways_10 rfl (lv_at hl 1 rfl) ?_
  obtain ⟨h_2, hF⟩ := gd_ok hF
  refine M_iald hC hP 23 (by decide) rfl rfl rfl h_2 dX10_ways_11 ?_
  refine lv_isub hx hb dX10_ways_12 ?_
  refine lv_iconst (v := 1) hx hb dX10_ways_13 (by decide) ?_
  refine lv_iadd hx hb dX10_ways_14 ?_
  refine lv_topi (fun x2_3 ex2_3 => ?_)
  replace hF := lt_at hF ex2_3
  refine lv_istore_n (lv' := [(2, .int x2_3), (0, .ref (gM G)), (1, .int a0)]) hx hb dX10_ways_15 rfl hl (by decide) rfl (fun ls hl => ?_)
  refine lv_aload_n hx hb dX10_ways_16 rfl (lv_at hl 1 rfl) ?_
  refine gM22 hC hP dX10_ways_17 ?_
  refine lv_iload_n hx hb dX10_ways_20 rfl (lv_at hl 2 rfl) ?_
  obtain ⟨h_4, hF⟩ := gd_ok hF
  refine M_iald hC hP 22 (by decide) rfl rfl rfl h_4 dX10_ways_21 ?_
  refine lv_iconst (v := 4) hx hb dX10_ways_22 (by decide) ?_
  refine lv_icmp_ne (tgt := 28) hx hb dX10_ways_23 (by decide) (fun c_5 => ?_) (fun c_5 => ?_)
  · replace hF := it_f hF c_5
    refine lv_aload_n hx hb dX10_ways_28 rfl (lv_at hl 1 rfl) ?_
    refine gM22 hC hP dX10_ways_29 ?_
    refine lv_iload_n hx hb dX10_ways_32 rfl (lv_at hl 2 rfl) ?_
    obtain ⟨h_6, hF⟩ := gd_ok hF
    refine M_iald hC hP 22 (by decide) rfl rfl rfl h_6 dX10_ways_33 ?_
    refine lv_iconst (v := 5) hx hb dX10_ways_34 (by decide) ?_
    refine lv_icmp_ne (tgt := 40) hx hb dX10_ways_35 (by decide) (fun c_7 => ?_) (fun c_7 => ?_)
    · replace hF := it_f hF c_7
      refine lv_aload_n hx hb dX10_ways_40 rfl (lv_at hl 1 rfl) ?_
      refine gM22 hC hP dX10_ways_41 ?_
      refine lv_iload_n hx hb dX10_ways_44 rfl (lv_at hl 2 rfl) ?_
      obtain ⟨h_8, hF⟩ := gd_ok hF
      refine M_iald hC hP 22 (by decide) rfl rfl rfl h_8 dX10_ways_45 ?_
      refine lv_bipush (v := 6) hx hb dX10_ways_46 (by decide) ?_
      refine lv_icmp_ne (tgt := 60) hx hb dX10_ways_48 (by decide) (fun c_9 => ?_) (fun c_9 => ?_)
      · replace hF := it_f hF c_9
        refine lv_aload_n hx hb dX10_ways_60 rfl (lv_at hl 1 rfl) ?_
        refine gM22 hC hP dX10_ways_61 ?_
        refine lv_iload_n hx hb dX10_ways_64 rfl (lv_at hl 2 rfl) ?_
        obtain ⟨h_10, hF⟩ := gd_ok hF
        refine M_iald hC hP 22 (by decide) rfl rfl rfl h_10 dX10_ways_65 ?_
        refine lv_bipush (v := 7) hx hb dX10_ways_66 (by decide) ?_
        refine lv_icmp_eq (tgt := 73) hx hb dX10_ways_68 (by decide) (fun c_11 => ?_) (fun c_11 => ?_)
        · replace hF := it_t hF c_11
          refine lv_iload_n hx hb dX10_ways_73 rfl (lv_at hl 0 rfl) ?_
          refine lv_iconst (v := 2) hx hb dX10_ways_74 (by decide) ?_
          refine lv_icmp_ne (tgt := 82) hx hb dX10_ways_75 (by decide) (fun c_12 => ?_) (fun c_12 => ?_)
          · replace hF := it_f hF c_12
            refine lv_iload_n hx hb dX10_ways_82 rfl (lv_at hl 0 rfl) ?_
            refine lv_iconst (v := 3) hx hb dX10_ways_83 (by decide) ?_
            refine lv_icmp_ne (tgt := 92) hx hb dX10_ways_84 (by decide) (fun c_13 => ?_) (fun c_13 => ?_)
            · replace hF := it_f hF c_13
              refine lv_bipush (v := 24) hx hb dX10_ways_92 (by decide) ?_
              exact M_reti hC hP hS hr (Option.some.inj hF) rfl dX10_ways_94
            · replace hF := it_t hF c_13
              refine lv_bipush (v := 6) hx hb dX10_ways_87 (by decide) ?_
              refine lv_goto (tgt := 94) hx hb dX10_ways_89 (by decide) ?_
              exact M_reti hC hP hS hr (Option.some.inj hF) rfl dX10_ways_94
          · replace hF := it_t hF c_12
            refine lv_iconst (v := 2) hx hb dX10_ways_78 (by decide) ?_
            refine lv_goto (tgt := 94) hx hb dX10_ways_79 (by decide) ?_
            exact M_reti hC hP hS hr (Option.some.inj hF) rfl dX10_ways_94
        · replace hF := it_f hF c_11
          refine lv_iconst (v := 1) hx hb dX10_ways_71 (by decide) ?_
          exact M_reti hC hP hS hr (Option.some.inj hF) rfl dX10_ways_72
      · replace hF := it_t hF c_9
        refine lv_iload_n hx hb dX10_ways_51 rfl (lv_at hl 0 rfl) ?_
        refine lv_aload_n hx hb dX10_ways_52 rfl (lv_at hl 1 rfl) ?_
        refine gM25 hC hP dX10_ways_53 ?_
        refine lv_iload_n hx hb dX10_ways_56 rfl (lv_at hl 2 rfl) ?_
        obtain ⟨h_14, hF⟩ := gd_ok hF
        refine M_iald hC hP 25 (by decide) rfl rfl rfl h_14 dX10_ways_57 ?_
        obtain ⟨h_15, hF⟩ := gd_ok hF
        refine lv_idiv hx hb dX10_ways_58 h_15 ?_
        exact M_reti hC hP hS hr (Option.some.inj hF) rfl dX10_ways_59
    · replace hF := it_t hF c_7
      refine lv_iconst (v := 2) hx hb dX10_ways_38 (by decide) ?_
      exact M_reti hC hP hS hr (Option.some.inj hF) rfl dX10_ways_39
  · replace hF := it_t hF c_5
    refine lv_iload_n hx hb dX10_ways_26 rfl (lv_at hl 0 rfl) ?_
    exact M_reti hC hP hS hr (Option.some.inj hF) rfl dX10_ways_27
theorem m_ways (l : Launch) (G : MG) (a0 : Int32) (σ : MS) (x : Int32) (hF : F_ways σ a0 = some x) : Met l yX10_ways (ws_ yX10_ways cX10_ways 3 (some .int)) rmM_ways (mP G [.ref (gM G), .int a0] σ) (mQ G (some (.int x)) σ) 0 0 (MA G) := by
  refine M_met rfl plM (Nat.le_of_ble_eq_true rfl) ?_
  intro p e s m below meth c hC hr ls hl hP
  exact w_ways hC hr a0 hF s.heap [] ls hP va_S.rf hl
theorem iM_ways {p : Program} {l : Launch} {e : Env} {R : Room} {s : State} {m : MethodId} {args : Array Value} {below : List Frame} {meth : Method} {c : Code} {H H0 : Heap} {locs : List Loc} {cells slots nL : Nat} {Q : State → Prop} {G : MG} {σ : MS} {cc : ByteArray} {pc : Nat} {ls : Array Slot} {rest : List Value} (hC : MCx G cc nL p s m args meth c) (hP : MRep G σ H) (hS : va_S (MA G) H0 H locs) {a0 : Int32} {x : Int32} (hF : F_ways σ a0 = some x) (hl : ls.size = nL) (hW : (rest.map fun v => v.category).sum ≤ 8) (hR : rmM_ways.frames + 1 ≤ R.frames ∧ 8 + (3 + 11) + rmM_ways.locals ≤ R.locals) (hf : cells ≤ R.cells ∧ slots ≤ R.slots) (hdg : decode cc pc = .ok (.invokevirtual 441, 3))
    (kk : ∀ (H1 : Heap) (locs1 : List Loc), MRep G σ H1 → va_S (MA G) H0 H1 locs1 → W p l e R s m args below meth c H1 locs1 cells slots Q (F0 m (pc + 3) ls (.int x :: rest))) : W p l e R s m args below meth c H locs cells slots Q (F0 m pc ls (.int a0 :: .ref (gM G) :: rest)) :=
  M_inv hC hP hS [.int a0] (m_ways l G a0 σ _ hF) (cwV 1 hC.2.2.2.2.1 (lw_V q1880 q1882 qs61 q145 q1883) rfl rfl rfl (by decide +kernel) hR) rfl rfl hl hW hf hdg kk
/-! isSeen -/
abbrev rmM_isSeen : Room := { frames := 1, cells := 0, slots := 0, locals := 23 }
def F_isSeen (σ : MS) (a0 : Int32) (a1 : Int32) : Option Int32 :=
  bd (F_ways σ a1) fun r_2 =>
  if r_2 = (1 : Int32) then
    some (0 : Int32)
  else
    if (mI σ 51) = (2 : Int32) then
      bd (F_mixNumber σ a1) fun r_9 =>
      if r_9 = (mI σ 52) then
        some (1 : Int32)
      else
        some (0 : Int32)
    else
      if (mI σ 51) = (1 : Int32) then
        gd (inb a0 16) <|
        if (mA σ 47 (Int32.toNatClampNeg a0)) < 0 then
          some (0 : Int32)
        else
          some (1 : Int32)
      else
        some (0 : Int32)
set_option maxHeartbeats 4000000 in
theorem w_isSeen {p : Program} {l : Launch} {e : Env} {s : State} {m : MethodId} {args : Array Value} {below : List Frame} {meth : Method} {c : Code} {G : MG} (hC : MCx G cX10_isSeen 3 p s m args meth c) (hr : meth.sig.returnType = some .boolean) {x : Int32} {σ : MS} :
    ∀ (a0 : Int32) (a1 : Int32), F_isSeen σ a0 a1 = some x → MJ p l e rmM_isSeen s m args below meth c G 3 (some (.int x)) σ 0 [(0, .ref (gM G)), (1, .int a0), (2, .int a1)] [] σ := by
  have hx := hC.1
  have hb := hC.2.1
  intro a0 a1 hF H locs ls hP hS hl
  rw [F_isSeen] at hF
  refine lv_aload_n hx hb dX10_isSeen_0 rfl (lv_at hl 0 rfl) ?_
  refine lv_iload_n hx hb dX10_isSeen_1 rfl (lv_at hl 2 rfl) ?_
  obtain ⟨r_2, hc_1, hF⟩ := bd_ok hF
  refine iM_ways hC hP hS hc_1 hl.1 (Nat.le_of_ble_eq_true rfl) ⟨Nat.le_of_ble_eq_true rfl, Nat.le_of_ble_eq_true rfl⟩ ⟨Nat.zero_le _, Nat.zero_le _⟩ dX10_isSeen_2 (fun H locs hP hS => ?_)
  refine lv_iconst (v := 1) hx hb dX10_isSeen_5 (by decide) ?_
  refine lv_icmp_ne (tgt := 11) hx hb dX10_isSeen_6 (by decide) (fun c_3 => ?_) (fun c_3 => ?_)
  · replace hF := it_f hF c_3
    refine lv_aload_n hx hb dX10_isSeen_11 rfl (lv_at hl 0 rfl) ?_
    refine gM51 hC hP dX10_isSeen_12 ?_
    refine lv_iconst (v := 2) hx hb dX10_isSeen_15 (by decide) ?_
    refine lv_icmp_ne (tgt := 37) hx hb dX10_isSeen_16 (by decide) (fun c_4 => ?_) (fun c_4 => ?_)
    · replace hF := it_f hF c_4
      refine lv_aload_n hx hb dX10_isSeen_37 rfl (lv_at hl 0 rfl) ?_
      refine gM51 hC hP dX10_isSeen_38 ?_
      refine lv_iconst (v := 1) hx hb dX10_isSeen_41 (by decide) ?_
      refine lv_icmp_ne (tgt := 58) hx hb dX10_isSeen_42 (by decide) (fun c_5 => ?_) (fun c_5 => ?_)
      · replace hF := it_f hF c_5
        refine lv_iconst (v := 0) hx hb dX10_isSeen_58 (by decide) ?_
        exact M_retz hC hP hS hr (Or.inl rfl) (Option.some.inj hF) rfl dX10_isSeen_59
      · replace hF := it_t hF c_5
        refine lv_aload_n hx hb dX10_isSeen_45 rfl (lv_at hl 0 rfl) ?_
        refine gM47 hC hP dX10_isSeen_46 ?_
        refine lv_iload_n hx hb dX10_isSeen_49 rfl (lv_at hl 1 rfl) ?_
        obtain ⟨h_6, hF⟩ := gd_ok hF
        refine M_iald hC hP 47 (by decide) rfl rfl rfl h_6 dX10_isSeen_50 ?_
        refine lv_if_lt (tgt := 58) hx hb dX10_isSeen_51 (by decide) (fun c_7 => ?_) (fun c_7 => ?_)
        · replace hF := it_t hF c_7
          refine lv_iconst (v := 0) hx hb dX10_isSeen_58 (by decide) ?_
          exact M_retz hC hP hS hr (Or.inl rfl) (Option.some.inj hF) rfl dX10_isSeen_59
        · replace hF := it_f hF c_7
          refine lv_iconst (v := 1) hx hb dX10_isSeen_54 (by decide) ?_
          refine lv_goto (tgt := 59) hx hb dX10_isSeen_55 (by decide) ?_
          exact M_retz hC hP hS hr (Or.inr rfl) (Option.some.inj hF) rfl dX10_isSeen_59
    · replace hF := it_t hF c_4
      refine lv_aload_n hx hb dX10_isSeen_19 rfl (lv_at hl 0 rfl) ?_
      refine lv_iload_n hx hb dX10_isSeen_20 rfl (lv_at hl 2 rfl) ?_
      obtain ⟨r_9, hc_8, hF⟩ := bd_ok hF
      refine iM_mixNumber hC hP hS hc_8 hl.1 (Nat.le_of_ble_eq_true rfl) ⟨Nat.le_of_ble_eq_true rfl, Nat.le_of_ble_eq_true rfl⟩ ⟨Nat.zero_le _, Nat.zero_le _⟩ dX10_isSeen_21 (fun H locs hP hS => ?_)
      refine lv_aload_n hx hb dX10_isSeen_24 rfl (lv_at hl 0 rfl) ?_
      refine gM52 hC hP dX10_isSeen_25 ?_
      refine lv_icmp_ne (tgt := 35) hx hb dX10_isSeen_28 (by decide) (fun c_10 => ?_) (fun c_10 => ?_)
      · replace hF := it_f hF c_10
        refine lv_iconst (v := 0) hx hb dX10_isSeen_35 (by decide) ?_
        exact M_retz hC hP hS hr (Or.inl rfl) (Option.some.inj hF) rfl dX10_isSeen_36
      · replace hF := it_t hF c_10
        refine lv_iconst (v := 1) hx hb dX10_isSeen_31 (by decide) ?_
        refine lv_goto (tgt := 36) hx hb dX10_isSeen_32 (by decide) ?_
        exact M_retz hC hP hS hr (Or.inr rfl) (Option.some.inj hF) rfl dX10_isSeen_36
  · replace hF := it_t hF c_3
    refine lv_iconst (v := 0) hx hb dX10_isSeen_9 (by decide) ?_
    exact M_retz hC hP hS hr (Or.inl rfl) (Option.some.inj hF) rfl dX10_isSeen_10
theorem m_isSeen (l : Launch) (G : MG) (a0 : Int32) (a1 : Int32) (σ : MS) (x : Int32) (hF : F_isSeen σ a0 a1 = some x) : Met l yX10_isSeen (ws_ yX10_isSeen cX10_isSeen 3 (some .boolean)) rmM_isSeen (mP G [.ref (gM G), .int a0, .int a1] σ) (mQ G (some (.int x)) σ) 0 0 (MA G) := by
  refine M_met rfl plM (Nat.le_of_ble_eq_true rfl) ?_
  intro p e s m below meth c hC hr ls hl hP
  exact w_isSeen hC hr a0 a1 hF s.heap [] ls hP va_S.rf hl
theorem iM_isSeen {p : Program} {l : Launch} {e : Env} {R : Room} {s : State} {m : MethodId} {args : Array Value} {below : List Frame} {meth : Method} {c : Code} {H H0 : Heap} {locs : List Loc} {cells slots nL : Nat} {Q : State → Prop} {G : MG} {σ : MS} {cc : ByteArray} {pc : Nat} {ls : Array Slot} {rest : List Value} (hC : MCx G cc nL p s m args meth c) (hP : MRep G σ H) (hS : va_S (MA G) H0 H locs) {a0 : Int32} {a1 : Int32} {x : Int32} (hF : F_isSeen σ a0 a1 = some x) (hl : ls.size = nL) (hW : (rest.map fun v => v.category).sum ≤ 8) (hR : rmM_isSeen.frames + 1 ≤ R.frames ∧ 8 + (3 + 11) + rmM_isSeen.locals ≤ R.locals) (hf : cells ≤ R.cells ∧ slots ≤ R.slots) (hdg : decode cc pc = .ok (.invokevirtual 479, 3))
    (kk : ∀ (H1 : Heap) (locs1 : List Loc), MRep G σ H1 → va_S (MA G) H0 H1 locs1 → W p l e R s m args below meth c H1 locs1 cells slots Q (F0 m (pc + 3) ls (.int x :: rest))) : W p l e R s m args below meth c H locs cells slots Q (F0 m pc ls (.int a1 :: .int a0 :: .ref (gM G) :: rest)) :=
  M_inv hC hP hS [.int a0, .int a1] (m_isSeen l G a0 a1 σ _ hF) (cwV 2 hC.2.2.2.2.1 (lw_V q1876 q1878 qs60 q145 q1879) rfl rfl rfl (by decide +kernel) hR) rfl rfl hl hW hf hdg kk
/-! clearPart -/
abbrev rmM_clearPart : Room := { frames := 0, cells := 0, slots := 0, locals := 0 }
def F_clearPart_L2 : Nat → Int32 → Int32 → Int32 → MS → Option MS
  | 0, _, _, _, _ => none
  | fu + 1, x1, x2, x3, σ =>
    if (256 : Int32) ≤ x3 then
      some σ
    else
      gd (inb ((((2048 : Int32) * x1) + ((256 : Int32) * x2)) + x3) 36864) <|
      gd (inb (((32768 : Int32) + ((256 : Int32) * x2)) + x3) 36864) <|
      lt (wL σ 43 (Int32.toNatClampNeg (((32768 : Int32) + ((256 : Int32) * x2)) + x3)) (mL σ 43 (Int32.toNatClampNeg ((((2048 : Int32) * x1) + ((256 : Int32) * x2)) + x3)))) fun σ_4 =>
      gd (inb ((((2048 : Int32) * x1) + ((256 : Int32) * x2)) + x3) 36864) <|
      lt (wL σ_4 43 (Int32.toNatClampNeg ((((2048 : Int32) * x1) + ((256 : Int32) * x2)) + x3)) (0 : Int64)) fun σ_6 =>
      lt (x3 + (1 : Int32)) fun x3_7 =>
      F_clearPart_L2 fu x1 x2 x3_7 σ_6
set_option maxHeartbeats 4000000 in
theorem w_clearPart_L2 {p : Program} {l : Launch} {e : Env} {s : State} {m : MethodId} {args : Array Value} {below : List Frame} {meth : Method} {c : Code} {G : MG} (hC : MCx G cX10_clearPart 4 p s m args meth c) (hr : meth.sig.returnType = none) {x : MS} :
    ∀ (fu : Nat) (x1 : Int32) (x2 : Int32) (x3 : Int32) (σ : MS), F_clearPart_L2 fu x1 x2 x3 σ = some x → MJ p l e rmM_clearPart s m args below meth c G 4 none x 2 [(0, .ref (gM G)), (1, .int x1), (2, .int x2), (3, .int x3)] [] σ := by
  have hx := hC.1
  have hb := hC.2.1
  intro fu
  induction fu with
  | zero => intro x1 x2 x3 σ hF; exact nm_none hF
  | succ fu ih =>
    intro x1 x2 x3 σ hF H locs ls hP hS hl
    rw [F_clearPart_L2] at hF
    refine lv_iload_n hx hb dX10_clearPart_2 rfl (lv_at hl 3 rfl) ?_
    refine lv_sipush (v := 256) hx hb dX10_clearPart_3 (by decide) ?_
    refine lv_icmp_ge (tgt := 68) hx hb dX10_clearPart_6 (by decide) (fun c_1 => ?_) (fun c_1 => ?_)
    · replace hF := it_t hF c_1
      exact M_retv hC hP hS hr (Option.some.inj hF) dX10_clearPart_68
    · replace hF := it_f hF c_1
      refine lv_aload_n hx hb dX10_clearPart_9 rfl (lv_at hl 0 rfl) ?_
      refine gM43 hC hP dX10_clearPart_10 ?_
      refine lv_ldcw (v := 32768) hx hb hC.2.2.2.1 (hC.2.2.2.2.1 _ q1871) dX10_clearPart_13 ?_
      refine lv_sipush (v := 256) hx hb dX10_clearPart_16 (by decide) ?_
      refine lv_iload_n hx hb dX10_clearPart_19 rfl (lv_at hl 2 rfl) ?_
      refine lv_imul hx hb dX10_clearPart_20 ?_
      refine lv_iadd hx hb dX10_clearPart_21 ?_
      refine lv_iload_n hx hb dX10_clearPart_22 rfl (lv_at hl 3 rfl) ?_
      refine lv_iadd hx hb dX10_clearPart_23 ?_
      refine lv_aload_n hx hb dX10_clearPart_24 rfl (lv_at hl 0 rfl) ?_
      refine gM43 hC hP dX10_clearPart_25 ?_
      refine lv_sipush (v := 2048) hx hb dX10_clearPart_28 (by decide) ?_
      refine lv_iload_n hx hb dX10_clearPart_31 rfl (lv_at hl 1 rfl) ?_
      refine lv_imul hx hb dX10_clearPart_32 ?_
      refine lv_sipush (v := 256) hx hb dX10_clearPart_33 (by decide) ?_
      refine lv_iload_n hx hb dX10_clearPart_36 rfl (lv_at hl 2 rfl) ?_
      refine lv_imul hx hb dX10_clearPart_37 ?_
      refine lv_iadd hx hb dX10_clearPart_38 ?_
      refine lv_iload_n hx hb dX10_clearPart_39 rfl (lv_at hl 3 rfl) ?_
      refine lv_iadd hx hb dX10_clearPart_40 ?_
      obtain ⟨h_2, hF⟩ := gd_ok hF
      refine M_lald hC hP 43 (by decide) rfl rfl rfl h_2 dX10_clearPart_41 ?_
      obtain ⟨h_3, hF⟩ := gd_ok hF
      refine M_last hC hP hS 43 (by decide) rfl rfl rfl h_3 dX10_clearPart_42 (fun H locs hP hS => ?_)
      obtain ⟨σ_4, eσ_4, hF⟩ := lt_ok hF
      rw [← eσ_4] at hP
      refine lv_aload_n hx hb dX10_clearPart_43 rfl (lv_at hl 0 rfl) ?_
      refine gM43 hC hP dX10_clearPart_44 ?_
      refine lv_sipush (v := 2048) hx hb dX10_clearPart_47 (by decide) ?_
      refine lv_iload_n hx hb dX10_clearPart_50 rfl (lv_at hl 1 rfl) ?_
      refine lv_imul hx hb dX10_clearPart_51 ?_
      refine lv_sipush (v := 256) hx hb dX10_clearPart_52 (by decide) ?_
      refine lv_iload_n hx hb dX10_clearPart_55 rfl (lv_at hl 2 rfl) ?_
      refine lv_imul hx hb dX10_clearPart_56 ?_
      refine lv_iadd hx hb dX10_clearPart_57 ?_
      refine lv_iload_n hx hb dX10_clearPart_58 rfl (lv_at hl 3 rfl) ?_
      refine lv_iadd hx hb dX10_clearPart_59 ?_
      refine lv_lconst (v := 0) hx hb dX10_clearPart_60 (by decide) ?_
      obtain ⟨h_5, hF⟩ := gd_ok hF
      refine M_last hC hP hS 43 (by decide) rfl rfl rfl h_5 dX10_clearPart_61 (fun H locs hP hS => ?_)
      obtain ⟨σ_6, eσ_6, hF⟩ := lt_ok hF
      rw [← eσ_6] at hP
      obtain ⟨x3_7, ex3_7, hF⟩ := lt_ok hF
      refine lv_iinc (v := x3_7) (lv' := [(3, .int x3_7), (0, .ref (gM G)), (1, .int x1), (2, .int x2)]) hx hb dX10_clearPart_62 hl (k := 3) rfl (by rw [ex3_7]; rfl) (by decide) rfl (fun ls hl => ?_)
      refine lv_goto (tgt := 2) hx hb dX10_clearPart_65 (by decide) ?_
      exact ih x1 x2 x3_7 σ_6 hF H locs ls hP hS (lv_sub hl [1, 2, 3, 0] rfl)
def F_clearPart (a0 : Int32) (a1 : Int32) (σ : MS) : Option MS :=
  F_clearPart_L2 MN a0 a1 (0 : Int32) σ
set_option maxHeartbeats 4000000 in
theorem w_clearPart {p : Program} {l : Launch} {e : Env} {s : State} {m : MethodId} {args : Array Value} {below : List Frame} {meth : Method} {c : Code} {G : MG} (hC : MCx G cX10_clearPart 4 p s m args meth c) (hr : meth.sig.returnType = none) {x : MS} :
    ∀ (a0 : Int32) (a1 : Int32) (σ : MS), F_clearPart a0 a1 σ = some x → MJ p l e rmM_clearPart s m args below meth c G 4 none x 0 [(0, .ref (gM G)), (1, .int a0), (2, .int a1)] [] σ := by
  have hx := hC.1
  have hb := hC.2.1
  intro a0 a1 σ hF H locs ls hP hS hl
  rw [F_clearPart] at hF
  refine lv_iconst (v := 0) hx hb dX10_clearPart_0 (by decide) ?_
  refine lv_istore_n (lv' := [(3, .int (0 : Int32)), (0, .ref (gM G)), (1, .int a0), (2, .int a1)]) hx hb dX10_clearPart_1 rfl hl (by decide) rfl (fun ls hl => ?_)
  exact w_clearPart_L2 hC hr MN a0 a1 (0 : Int32) σ hF H locs ls hP hS (lv_sub hl [1, 2, 3, 0] rfl)
theorem m_clearPart (l : Launch) (G : MG) (a0 : Int32) (a1 : Int32) (σ : MS) (x : MS) (hF : F_clearPart a0 a1 σ = some x) : Met l yX10_clearPart (ws_ yX10_clearPart cX10_clearPart 4 none) rmM_clearPart (mP G [.ref (gM G), .int a0, .int a1] σ) (mQ G none x) 0 0 (MA G) := by
  refine M_met rfl plM (Nat.le_of_ble_eq_true rfl) ?_
  intro p e s m below meth c hC hr ls hl hP
  exact w_clearPart hC hr a0 a1 σ hF s.heap [] ls hP va_S.rf hl
theorem iM_clearPart {p : Program} {l : Launch} {e : Env} {R : Room} {s : State} {m : MethodId} {args : Array Value} {below : List Frame} {meth : Method} {c : Code} {H H0 : Heap} {locs : List Loc} {cells slots nL : Nat} {Q : State → Prop} {G : MG} {σ : MS} {cc : ByteArray} {pc : Nat} {ls : Array Slot} {rest : List Value} (hC : MCx G cc nL p s m args meth c) (hP : MRep G σ H) (hS : va_S (MA G) H0 H locs) {a0 : Int32} {a1 : Int32} {x : MS} (hF : F_clearPart a0 a1 σ = some x) (hl : ls.size = nL) (hW : (rest.map fun v => v.category).sum ≤ 8) (hR : rmM_clearPart.frames + 1 ≤ R.frames ∧ 8 + (4 + 11) + rmM_clearPart.locals ≤ R.locals) (hf : cells ≤ R.cells ∧ slots ≤ R.slots) (hdg : decode cc pc = .ok (.invokevirtual 453, 3))
    (kk : ∀ (H1 : Heap) (locs1 : List Loc), MRep G x H1 → va_S (MA G) H0 H1 locs1 → W p l e R s m args below meth c H1 locs1 cells slots Q (F0 m (pc + 3) ls (rest))) : W p l e R s m args below meth c H locs cells slots Q (F0 m pc ls (.int a1 :: .int a0 :: .ref (gM G) :: rest)) :=
  M_inv hC hP hS [.int a0, .int a1] (m_clearPart l G a0 a1 σ _ hF) (cwV 2 hC.2.2.2.2.1 (lw_V q1867 q1869 qs58 q145 q1870) rfl rfl rfl (by decide +kernel) hR) rfl rfl hl hW hf hdg kk
/-! addCard -/
abbrev rmM_addCard : Room := { frames := 1, cells := 0, slots := 0, locals := 23 }
def F_addCard_b76 (k9 : Int32 → Int32 → Int32 → Int32 → MS → Option MS) (x1 : Int32) (x2 : Int32) (x3 : Int32) (x4 : Int32) (σ : MS) : Option MS :=
  lt (x4 + (1 : Int32)) fun x4_1 =>
  k9 x1 x2 x3 x4_1 σ
set_option maxHeartbeats 4000000 in
theorem w_addCard_b76 {p : Program} {l : Launch} {e : Env} {s : State} {m : MethodId} {args : Array Value} {below : List Frame} {meth : Method} {c : Code} {G : MG} (hC : MCx G cX10_addCard 7 p s m args meth c) (hr : meth.sig.returnType = none) {x : MS} (k9 : Int32 → Int32 → Int32 → Int32 → MS → Option MS) (hk9 : ∀ (x1 : Int32) (x2 : Int32) (x3 : Int32) (x4 : Int32) (σ : MS), k9 x1 x2 x3 x4 σ = some x → MJ p l e rmM_addCard s m args below meth c G 7 none x 9 [(0, .ref (gM G)), (1, .int x1), (2, .int x2), (3, .int x3), (4, .int x4)] [] σ) :
    ∀ (x1 : Int32) (x2 : Int32) (x3 : Int32) (x4 : Int32) (σ : MS), F_addCard_b76 k9 x1 x2 x3 x4 σ = some x → MJ p l e rmM_addCard s m args below meth c G 7 none x 76 [(0, .ref (gM G)), (1, .int x1), (2, .int x2), (3, .int x3), (4, .int x4)] [] σ := by
  have hx := hC.1
  have hb := hC.2.1
  intro x1 x2 x3 x4 σ hF H locs ls hP hS hl
  rw [F_addCard_b76] at hF
  obtain ⟨x4_1, ex4_1, hF⟩ := lt_ok hF
  refine lv_iinc (v := x4_1) (lv' := [(4, .int x4_1), (0, .ref (gM G)), (1, .int x1), (2, .int x2), (3, .int x3)]) hx hb dX10_addCard_76 hl (k := 4) rfl (by rw [ex4_1]; rfl) (by decide) rfl (fun ls hl => ?_)
  refine lv_goto (tgt := 9) hx hb dX10_addCard_79 (by decide) ?_
  exact hk9 x1 x2 x3 x4_1 σ hF H locs ls hP hS (lv_sub hl [1, 2, 3, 4, 0] rfl)
def F_addCard_L9 : Nat → Int32 → Int32 → Int32 → Int32 → MS → Option MS
  | 0, _, _, _, _, _ => none
  | fu + 1, x1, x2, x3, x4, σ =>
    if (256 : Int32) ≤ x4 then
      some σ
    else
      gd (inb (((32768 : Int32) + ((256 : Int32) * x2)) + x4) 36864) <|
      lt ((mL σ 43 (Int32.toNatClampNeg (((32768 : Int32) + ((256 : Int32) * x2)) + x4)))) fun x5_3 =>
      if (lg_cmp x5_3 (0 : Int64)) = 0 then
        F_addCard_b76 (F_addCard_L9 fu) x1 x2 x3 x4 σ
      else
        gd (inb x1 16) <|
        gd (inb ((((2048 : Int32) * x1) + ((256 : Int32) * x2)) + (x4 ||| (x3 <<< ((mA σ 46 (Int32.toNatClampNeg x1)) &&& 31)))) 36864) <|
        gd (inb ((((2048 : Int32) * x1) + ((256 : Int32) * x2)) + (x4 ||| (x3 <<< ((mA σ 46 (Int32.toNatClampNeg x1)) &&& 31)))) 36864) <|
        lt (wL σ 43 (Int32.toNatClampNeg ((((2048 : Int32) * x1) + ((256 : Int32) * x2)) + (x4 ||| (x3 <<< ((mA σ 46 (Int32.toNatClampNeg x1)) &&& 31))))) ((mL σ 43 (Int32.toNatClampNeg ((((2048 : Int32) * x1) + ((256 : Int32) * x2)) + (x4 ||| (x3 <<< ((mA σ 46 (Int32.toNatClampNeg x1)) &&& 31)))))) + x5_3)) fun σ_8 =>
        F_addCard_b76 (F_addCard_L9 fu) x1 x2 x3 x4 σ_8
set_option maxHeartbeats 4000000 in
theorem w_addCard_L9 {p : Program} {l : Launch} {e : Env} {s : State} {m : MethodId} {args : Array Value} {below : List Frame} {meth : Method} {c : Code} {G : MG} (hC : MCx G cX10_addCard 7 p s m args meth c) (hr : meth.sig.returnType = none) {x : MS} :
    ∀ (fu : Nat) (x1 : Int32) (x2 : Int32) (x3 : Int32) (x4 : Int32) (σ : MS), F_addCard_L9 fu x1 x2 x3 x4 σ = some x → MJ p l e rmM_addCard s m args below meth c G 7 none x 9 [(0, .ref (gM G)), (1, .int x1), (2, .int x2), (3, .int x3), (4, .int x4)] [] σ := by
  have hx := hC.1
  have hb := hC.2.1
  intro fu
  induction fu with
  | zero => intro x1 x2 x3 x4 σ hF; exact nm_none hF
  | succ fu ih =>
    intro x1 x2 x3 x4 σ hF H locs ls hP hS hl
    rw [F_addCard_L9] at hF
    refine lv_iload hx hb dX10_addCard_9 (lv_at hl 4 rfl) ?_
    refine lv_sipush (v := 256) hx hb dX10_addCard_11 (by decide) ?_
    refine lv_icmp_ge (tgt := 82) hx hb dX10_addCard_14 (by decide) (fun c_1 => ?_) (fun c_1 => ?_)
    · replace hF := it_t hF c_1
      exact M_retv hC hP hS hr (Option.some.inj hF) dX10_addCard_82
    · replace hF := it_f hF c_1
      refine lv_aload_n hx hb dX10_addCard_17 rfl (lv_at hl 0 rfl) ?_
      refine gM43 hC hP dX10_addCard_18 ?_
      refine lv_ldcw (v := 32768) hx hb hC.2.2.2.1 (hC.2.2.2.2.1 _ q1871) dX10_addCard_21 ?_
      refine lv_sipush (v := 256) hx hb dX10_addCard_24 (by decide) ?_
      refine lv_iload_n hx hb dX10_addCard_27 rfl (lv_at hl 2 rfl) ?_
      refine lv_imul hx hb dX10_addCard_28 ?_
      refine lv_iadd hx hb dX10_addCard_29 ?_
      refine lv_iload hx hb dX10_addCard_30 (lv_at hl 4 rfl) ?_
      refine lv_iadd hx hb dX10_addCard_32 ?_
      obtain ⟨h_2, hF⟩ := gd_ok hF
      refine M_lald hC hP 43 (by decide) rfl rfl rfl h_2 dX10_addCard_33 ?_
      refine lv_topl (fun x5_3 ex5_3 => ?_)
      replace hF := lt_at hF ex5_3
      refine lv_lstore (lv' := [(5, .long x5_3), (0, .ref (gM G)), (1, .int x1), (2, .int x2), (3, .int x3), (4, .int x4)]) hx hb dX10_addCard_34 hl (by decide) rfl (fun ls hl => ?_)
      refine lv_lload hx hb dX10_addCard_36 (lv_at hl 0 rfl) ?_
      refine lv_lconst (v := 0) hx hb dX10_addCard_38 (by decide) ?_
      refine W.lcmp hx hb dX10_addCard_39 ?_
      refine lv_if_eq (tgt := 76) hx hb dX10_addCard_40 (by decide) (fun c_4 => ?_) (fun c_4 => ?_)
      · replace hF := it_t hF c_4
        exact w_addCard_b76 hC hr (F_addCard_L9 fu) ih x1 x2 x3 x4 σ hF H locs ls hP hS (lv_sub hl [1, 2, 3, 4, 5] rfl)
      · replace hF := it_f hF c_4
        refine lv_aload_n hx hb dX10_addCard_43 rfl (lv_at hl 1 rfl) ?_
        refine gM43 hC hP dX10_addCard_44 ?_
        refine lv_sipush (v := 2048) hx hb dX10_addCard_47 (by decide) ?_
        refine lv_iload_n hx hb dX10_addCard_50 rfl (lv_at hl 2 rfl) ?_
        refine lv_imul hx hb dX10_addCard_51 ?_
        refine lv_sipush (v := 256) hx hb dX10_addCard_52 (by decide) ?_
        refine lv_iload_n hx hb dX10_addCard_55 rfl (lv_at hl 3 rfl) ?_
        refine lv_imul hx hb dX10_addCard_56 ?_
        refine lv_iadd hx hb dX10_addCard_57 ?_
        refine lv_iload hx hb dX10_addCard_58 (lv_at hl 5 rfl) ?_
        refine lv_iload_n hx hb dX10_addCard_60 rfl (lv_at hl 4 rfl) ?_
        refine lv_aload_n hx hb dX10_addCard_61 rfl (lv_at hl 1 rfl) ?_
        refine gM46 hC hP dX10_addCard_62 ?_
        refine lv_iload_n hx hb dX10_addCard_65 rfl (lv_at hl 2 rfl) ?_
        obtain ⟨h_5, hF⟩ := gd_ok hF
        refine M_iald hC hP 46 (by decide) rfl rfl rfl h_5 dX10_addCard_66 ?_
        refine lv_ishl hx hb dX10_addCard_67 ?_
        refine lv_ior hx hb dX10_addCard_68 ?_
        refine lv_iadd hx hb dX10_addCard_69 ?_
        refine lv_dup2_11 hx hb dX10_addCard_70 rfl rfl ?_
        obtain ⟨h_6, hF⟩ := gd_ok hF
        refine M_lald hC hP 43 (by decide) rfl rfl rfl h_6 dX10_addCard_71 ?_
        refine lv_lload hx hb dX10_addCard_72 (lv_at hl 0 rfl) ?_
        refine lv_ladd hx hb dX10_addCard_74 ?_
        obtain ⟨h_7, hF⟩ := gd_ok hF
        refine M_last hC hP hS 43 (by decide) rfl rfl rfl h_7 dX10_addCard_75 (fun H locs hP hS => ?_)
        obtain ⟨σ_8, eσ_8, hF⟩ := lt_ok hF
        rw [← eσ_8] at hP
        exact w_addCard_b76 hC hr (F_addCard_L9 fu) ih x1 x2 x3 x4 σ_8 hF H locs ls hP hS (lv_sub hl [1, 2, 3, 4, 5] rfl)
def F_addCard (a0 : Int32) (a1 : Int32) (a2 : Int32) (σ : MS) : Option MS :=
  bd (F_clearPart a0 a1 σ) fun σ_2 =>
  F_addCard_L9 MN a0 a1 a2 (0 : Int32) σ_2
set_option maxHeartbeats 4000000 in
theorem w_addCard {p : Program} {l : Launch} {e : Env} {s : State} {m : MethodId} {args : Array Value} {below : List Frame} {meth : Method} {c : Code} {G : MG} (hC : MCx G cX10_addCard 7 p s m args meth c) (hr : meth.sig.returnType = none) {x : MS} :
    ∀ (a0 : Int32) (a1 : Int32) (a2 : Int32) (σ : MS), F_addCard a0 a1 a2 σ = some x → MJ p l e rmM_addCard s m args below meth c G 7 none x 0 [(0, .ref (gM G)), (1, .int a0), (2, .int a1), (3, .int a2)] [] σ := by
  have hx := hC.1
  have hb := hC.2.1
  intro a0 a1 a2 σ hF H locs ls hP hS hl
  rw [F_addCard] at hF
  refine lv_aload_n hx hb dX10_addCard_0 rfl (lv_at hl 0 rfl) ?_
  refine lv_iload_n hx hb dX10_addCard_1 rfl (lv_at hl 1 rfl) ?_
  refine lv_iload_n hx hb dX10_addCard_2 rfl (lv_at hl 2 rfl) ?_
  obtain ⟨σ_2, hc_1, hF⟩ := bd_ok hF
  refine iM_clearPart hC hP hS hc_1 hl.1 (Nat.le_of_ble_eq_true rfl) ⟨Nat.le_of_ble_eq_true rfl, Nat.le_of_ble_eq_true rfl⟩ ⟨Nat.zero_le _, Nat.zero_le _⟩ dX10_addCard_3 (fun H locs hP hS => ?_)
  refine lv_iconst (v := 0) hx hb dX10_addCard_6 (by decide) ?_
  refine lv_istore (lv' := [(4, .int (0 : Int32)), (0, .ref (gM G)), (1, .int a0), (2, .int a1), (3, .int a2)]) hx hb dX10_addCard_7 hl (by decide) rfl (fun ls hl => ?_)
  exact w_addCard_L9 hC hr MN a0 a1 a2 (0 : Int32) σ_2 hF H locs ls hP hS (lv_sub hl [1, 2, 3, 4, 0] rfl)
theorem m_addCard (l : Launch) (G : MG) (a0 : Int32) (a1 : Int32) (a2 : Int32) (σ : MS) (x : MS) (hF : F_addCard a0 a1 a2 σ = some x) : Met l yX10_addCard (ws_ yX10_addCard cX10_addCard 7 none) rmM_addCard (mP G [.ref (gM G), .int a0, .int a1, .int a2] σ) (mQ G none x) 0 0 (MA G) := by
  refine M_met rfl plM (Nat.le_of_ble_eq_true rfl) ?_
  intro p e s m below meth c hC hr ls hl hP
  exact w_addCard hC hr a0 a1 a2 σ hF s.heap [] ls hP va_S.rf hl
theorem iM_addCard {p : Program} {l : Launch} {e : Env} {R : Room} {s : State} {m : MethodId} {args : Array Value} {below : List Frame} {meth : Method} {c : Code} {H H0 : Heap} {locs : List Loc} {cells slots nL : Nat} {Q : State → Prop} {G : MG} {σ : MS} {cc : ByteArray} {pc : Nat} {ls : Array Slot} {rest : List Value} (hC : MCx G cc nL p s m args meth c) (hP : MRep G σ H) (hS : va_S (MA G) H0 H locs) {a0 : Int32} {a1 : Int32} {a2 : Int32} {x : MS} (hF : F_addCard a0 a1 a2 σ = some x) (hl : ls.size = nL) (hW : (rest.map fun v => v.category).sum ≤ 8) (hR : rmM_addCard.frames + 1 ≤ R.frames ∧ 8 + (7 + 11) + rmM_addCard.locals ≤ R.locals) (hf : cells ≤ R.cells ∧ slots ≤ R.slots) (hdg : decode cc pc = .ok (.invokevirtual 465, 3))
    (kk : ∀ (H1 : Heap) (locs1 : List Loc), MRep G x H1 → va_S (MA G) H0 H1 locs1 → W p l e R s m args below meth c H1 locs1 cells slots Q (F0 m (pc + 3) ls (rest))) : W p l e R s m args below meth c H locs cells slots Q (F0 m pc ls (.int a2 :: .int a1 :: .int a0 :: .ref (gM G) :: rest)) :=
  M_inv hC hP hS [.int a0, .int a1, .int a2] (m_addCard l G a0 a1 a2 σ _ hF) (cwV 3 hC.2.2.2.2.1 (lw_V q1863 q1865 qs57 q145 q1866) rfl rfl rfl (by decide +kernel) hR) rfl rfl hl hW hf hdg kk
/-! inputs -/
abbrev rmM_inputs : Room := { frames := 0, cells := 0, slots := 0, locals := 0 }
def F_inputs (σ : MS) : Option Int32 :=
  gd (inb (mI σ 35) 2) <|
  some ((1 : Int32) <<< ((mA σ 12 (Int32.toNatClampNeg (mI σ 35))) &&& 31))
set_option maxHeartbeats 4000000 in
theorem w_inputs {p : Program} {l : Launch} {e : Env} {s : State} {m : MethodId} {args : Array Value} {below : List Frame} {meth : Method} {c : Code} {G : MG} (hC : MCx G cX10_inputs 1 p s m args meth c) (hr : meth.sig.returnType = some .int) {x : Int32} {σ : MS} :
    F_inputs σ = some x → MJ p l e rmM_inputs s m args below meth c G 1 (some (.int x)) σ 0 [(0, .ref (gM G))] [] σ := by
  have hx := hC.1
  have hb := hC.2.1
  intro hF H locs ls hP hS hl
  rw [F_inputs] at hF
  refine lv_iconst (v := 1) hx hb dX10_inputs_0 (by decide) ?_
  refine lv_aload_n hx hb dX10_inputs_1 rfl (lv_at hl 0 rfl) ?_
  refine gM12 hC hP dX10_inputs_2 ?_
  refine lv_aload_n hx hb dX10_inputs_5 rfl (lv_at hl 0 rfl) ?_
  refine gM35 hC hP dX10_inputs_6 ?_
  obtain ⟨h_1, hF⟩ := gd_ok hF
  refine M_iald hC hP 12 (by decide) rfl rfl rfl h_1 dX10_inputs_9 ?_
  refine lv_ishl hx hb dX10_inputs_10 ?_
  exact M_reti hC hP hS hr (Option.some.inj hF) rfl dX10_inputs_11
theorem m_inputs (l : Launch) (G : MG) (σ : MS) (x : Int32) (hF : F_inputs σ = some x) : Met l yX10_inputs (ws_ yX10_inputs cX10_inputs 1 (some .int)) rmM_inputs (mP G [.ref (gM G)] σ) (mQ G (some (.int x)) σ) 0 0 (MA G) := by
  refine M_met rfl plM (Nat.le_of_ble_eq_true rfl) ?_
  intro p e s m below meth c hC hr ls hl hP
  exact w_inputs hC hr hF s.heap [] ls hP va_S.rf hl
theorem iM_inputs {p : Program} {l : Launch} {e : Env} {R : Room} {s : State} {m : MethodId} {args : Array Value} {below : List Frame} {meth : Method} {c : Code} {H H0 : Heap} {locs : List Loc} {cells slots nL : Nat} {Q : State → Prop} {G : MG} {σ : MS} {cc : ByteArray} {pc : Nat} {ls : Array Slot} {rest : List Value} (hC : MCx G cc nL p s m args meth c) (hP : MRep G σ H) (hS : va_S (MA G) H0 H locs) {x : Int32} (hF : F_inputs σ = some x) (hl : ls.size = nL) (hW : (rest.map fun v => v.category).sum ≤ 8) (hR : rmM_inputs.frames + 1 ≤ R.frames ∧ 8 + (1 + 11) + rmM_inputs.locals ≤ R.locals) (hf : cells ≤ R.cells ∧ slots ≤ R.slots) (hdg : decode cc pc = .ok (.invokevirtual 417, 3))
    (kk : ∀ (H1 : Heap) (locs1 : List Loc), MRep G σ H1 → va_S (MA G) H0 H1 locs1 → W p l e R s m args below meth c H1 locs1 cells slots Q (F0 m (pc + 3) ls (.int x :: rest))) : W p l e R s m args below meth c H locs cells slots Q (F0 m pc ls (.ref (gM G) :: rest)) :=
  M_inv hC hP hS [] (m_inputs l G σ _ hF) (cwV 0 hC.2.2.2.2.1 (lw_V q1838 q1840 qs53 q145 q1841) rfl rfl rfl (by decide +kernel) hR) rfl rfl hl hW hf hdg kk
/-! lays -/
abbrev rmM_lays : Room := { frames := 2, cells := 0, slots := 0, locals := 49 }
def F_lays_b156 (x1 : Int32) (σ : MS) : Option MS :=
  gd (inb x1 16) <|
  gd (inb x1 16) <|
  lt (wA σ 46 (Int32.toNatClampNeg x1) ((mA σ 46 (Int32.toNatClampNeg x1)) + (1 : Int32))) fun σ_3 =>
  some σ_3
set_option maxHeartbeats 4000000 in
theorem w_lays_b156 {p : Program} {l : Launch} {e : Env} {s : State} {m : MethodId} {args : Array Value} {below : List Frame} {meth : Method} {c : Code} {G : MG} (hC : MCx G cX10_lays 8 p s m args meth c) (hr : meth.sig.returnType = none) {x : MS} :
    ∀ (x1 : Int32) (σ : MS), F_lays_b156 x1 σ = some x → MJ p l e rmM_lays s m args below meth c G 8 none x 156 [(0, .ref (gM G)), (1, .int x1)] [] σ := by
  have hx := hC.1
  have hb := hC.2.1
  intro x1 σ hF H locs ls hP hS hl
  rw [F_lays_b156] at hF
  refine lv_aload_n hx hb dX10_lays_156 rfl (lv_at hl 0 rfl) ?_
  refine gM46 hC hP dX10_lays_157 ?_
  refine lv_iload_n hx hb dX10_lays_160 rfl (lv_at hl 1 rfl) ?_
  refine lv_dup2_11 hx hb dX10_lays_161 rfl rfl ?_
  obtain ⟨h_1, hF⟩ := gd_ok hF
  refine M_iald hC hP 46 (by decide) rfl rfl rfl h_1 dX10_lays_162 ?_
  refine lv_iconst (v := 1) hx hb dX10_lays_163 (by decide) ?_
  refine lv_iadd hx hb dX10_lays_164 ?_
  obtain ⟨h_2, hF⟩ := gd_ok hF
  refine M_iast hC hP hS 46 (by decide) rfl rfl rfl h_2 dX10_lays_165 (fun H locs hP hS => ?_)
  obtain ⟨σ_3, eσ_3, hF⟩ := lt_ok hF
  rw [← eσ_3] at hP
  exact M_retv hC hP hS hr (Option.some.inj hF) dX10_lays_166
def F_lays_b123 (x1 : Int32) (σ : MS) : Option MS :=
  if (mI σ 51) = (1 : Int32) then
    gd (inb x1 16) <|
    if (mA σ 46 (Int32.toNatClampNeg x1)) = (mI σ 52) then
      gd (inb x1 16) <|
      gd (inb x1 16) <|
      lt (wA σ 47 (Int32.toNatClampNeg x1) (mA σ 46 (Int32.toNatClampNeg x1))) fun σ_6 =>
      F_lays_b156 x1 σ_6
    else
      F_lays_b156 x1 σ
  else
    F_lays_b156 x1 σ
set_option maxHeartbeats 4000000 in
theorem w_lays_b123 {p : Program} {l : Launch} {e : Env} {s : State} {m : MethodId} {args : Array Value} {below : List Frame} {meth : Method} {c : Code} {G : MG} (hC : MCx G cX10_lays 8 p s m args meth c) (hr : meth.sig.returnType = none) {x : MS} :
    ∀ (x1 : Int32) (σ : MS), F_lays_b123 x1 σ = some x → MJ p l e rmM_lays s m args below meth c G 8 none x 123 [(0, .ref (gM G)), (1, .int x1)] [] σ := by
  have hx := hC.1
  have hb := hC.2.1
  intro x1 σ hF H locs ls hP hS hl
  rw [F_lays_b123] at hF
  refine lv_aload_n hx hb dX10_lays_123 rfl (lv_at hl 0 rfl) ?_
  refine gM51 hC hP dX10_lays_124 ?_
  refine lv_iconst (v := 1) hx hb dX10_lays_127 (by decide) ?_
  refine lv_icmp_ne (tgt := 156) hx hb dX10_lays_128 (by decide) (fun c_1 => ?_) (fun c_1 => ?_)
  · replace hF := it_f hF c_1
    exact w_lays_b156 hC hr x1 σ hF H locs ls hP hS (lv_sub hl [0, 1] rfl)
  · replace hF := it_t hF c_1
    refine lv_aload_n hx hb dX10_lays_131 rfl (lv_at hl 0 rfl) ?_
    refine gM46 hC hP dX10_lays_132 ?_
    refine lv_iload_n hx hb dX10_lays_135 rfl (lv_at hl 1 rfl) ?_
    obtain ⟨h_2, hF⟩ := gd_ok hF
    refine M_iald hC hP 46 (by decide) rfl rfl rfl h_2 dX10_lays_136 ?_
    refine lv_aload_n hx hb dX10_lays_137 rfl (lv_at hl 0 rfl) ?_
    refine gM52 hC hP dX10_lays_138 ?_
    refine lv_icmp_ne (tgt := 156) hx hb dX10_lays_141 (by decide) (fun c_3 => ?_) (fun c_3 => ?_)
    · replace hF := it_f hF c_3
      exact w_lays_b156 hC hr x1 σ hF H locs ls hP hS (lv_sub hl [0, 1] rfl)
    · replace hF := it_t hF c_3
      refine lv_aload_n hx hb dX10_lays_144 rfl (lv_at hl 0 rfl) ?_
      refine gM47 hC hP dX10_lays_145 ?_
      refine lv_iload_n hx hb dX10_lays_148 rfl (lv_at hl 1 rfl) ?_
      refine lv_aload_n hx hb dX10_lays_149 rfl (lv_at hl 0 rfl) ?_
      refine gM46 hC hP dX10_lays_150 ?_
      refine lv_iload_n hx hb dX10_lays_153 rfl (lv_at hl 1 rfl) ?_
      obtain ⟨h_4, hF⟩ := gd_ok hF
      refine M_iald hC hP 46 (by decide) rfl rfl rfl h_4 dX10_lays_154 ?_
      obtain ⟨h_5, hF⟩ := gd_ok hF
      refine M_iast hC hP hS 47 (by decide) rfl rfl rfl h_5 dX10_lays_155 (fun H locs hP hS => ?_)
      obtain ⟨σ_6, eσ_6, hF⟩ := lt_ok hF
      rw [← eσ_6] at hP
      exact w_lays_b156 hC hr x1 σ_6 hF H locs ls hP hS (lv_sub hl [0, 1] rfl)
def F_lays_b106 (k3 : Int32 → Int32 → Int32 → Int32 → MS → Option MS) (x1 : Int32) (x2 : Int32) (x3 : Int32) (x4 : Int32) (y0 : Int32) (σ : MS) : Option MS :=
  bd (F_addCard x1 x4 y0 σ) fun σ_2 =>
  lt (x4 + (1 : Int32)) fun x4_3 =>
  k3 x1 x2 x3 x4_3 σ_2
set_option maxHeartbeats 4000000 in
theorem w_lays_b106 {p : Program} {l : Launch} {e : Env} {s : State} {m : MethodId} {args : Array Value} {below : List Frame} {meth : Method} {c : Code} {G : MG} (hC : MCx G cX10_lays 8 p s m args meth c) (hr : meth.sig.returnType = none) {x : MS} (k3 : Int32 → Int32 → Int32 → Int32 → MS → Option MS) (hk3 : ∀ (x1 : Int32) (x2 : Int32) (x3 : Int32) (x4 : Int32) (σ : MS), k3 x1 x2 x3 x4 σ = some x → MJ p l e rmM_lays s m args below meth c G 8 none x 3 [(0, .ref (gM G)), (1, .int x1), (2, .int x2), (3, .int x3), (4, .int x4)] [] σ) :
    ∀ (x1 : Int32) (x2 : Int32) (x3 : Int32) (x4 : Int32) (y0 : Int32) (σ : MS), F_lays_b106 k3 x1 x2 x3 x4 y0 σ = some x → MJ p l e rmM_lays s m args below meth c G 8 none x 106 [(0, .ref (gM G)), (1, .int x1), (2, .int x2), (3, .int x3), (4, .int x4)] [.int y0] σ := by
  have hx := hC.1
  have hb := hC.2.1
  intro x1 x2 x3 x4 y0 σ hF H locs ls hP hS hl
  rw [F_lays_b106] at hF
  refine lv_istore (lv' := [(7, .int y0), (0, .ref (gM G)), (1, .int x1), (2, .int x2), (3, .int x3), (4, .int x4)]) hx hb dX10_lays_106 hl (by decide) rfl (fun ls hl => ?_)
  refine lv_aload_n hx hb dX10_lays_108 rfl (lv_at hl 1 rfl) ?_
  refine lv_iload_n hx hb dX10_lays_109 rfl (lv_at hl 2 rfl) ?_
  refine lv_iload hx hb dX10_lays_110 (lv_at hl 5 rfl) ?_
  refine lv_iload hx hb dX10_lays_112 (lv_at hl 0 rfl) ?_
  obtain ⟨σ_2, hc_1, hF⟩ := bd_ok hF
  refine iM_addCard hC hP hS hc_1 hl.1 (Nat.le_of_ble_eq_true rfl) ⟨Nat.le_of_ble_eq_true rfl, Nat.le_of_ble_eq_true rfl⟩ ⟨Nat.zero_le _, Nat.zero_le _⟩ dX10_lays_114 (fun H locs hP hS => ?_)
  obtain ⟨x4_3, ex4_3, hF⟩ := lt_ok hF
  refine lv_iinc (v := x4_3) (lv' := [(4, .int x4_3), (7, .int y0), (0, .ref (gM G)), (1, .int x1), (2, .int x2), (3, .int x3)]) hx hb dX10_lays_117 hl (k := 5) rfl (by rw [ex4_3]; rfl) (by decide) rfl (fun ls hl => ?_)
  refine lv_goto (tgt := 3) hx hb dX10_lays_120 (by decide) ?_
  exact hk3 x1 x2 x3 x4_3 σ_2 hF H locs ls hP hS (lv_sub hl [2, 3, 4, 5, 0] rfl)
def F_lays_b60 (k3 : Int32 → Int32 → Int32 → Int32 → MS → Option MS) (x1 : Int32) (x2 : Int32) (x3 : Int32) (x4 : Int32) (x5 : Int32) (y0 : Int32) (σ : MS) : Option MS :=
  gd (inb x2 104) <|
  if (mA σ 22 (Int32.toNatClampNeg x2)) = (1 : Int32) then
    gd (inb x2 104) <|
    F_lays_b106 k3 x1 x2 x3 x4 (mA σ 23 (Int32.toNatClampNeg x2)) σ
  else
    if y0 = 0 then
      if x3 = 0 then
        F_lays_b106 k3 x1 x2 x3 x4 ((1 : Int32) - x5) σ
      else
        F_lays_b106 k3 x1 x2 x3 x4 x5 σ
    else
      F_lays_b106 k3 x1 x2 x3 x4 (mI σ 53) σ
set_option maxHeartbeats 4000000 in
theorem w_lays_b60 {p : Program} {l : Launch} {e : Env} {s : State} {m : MethodId} {args : Array Value} {below : List Frame} {meth : Method} {c : Code} {G : MG} (hC : MCx G cX10_lays 8 p s m args meth c) (hr : meth.sig.returnType = none) {x : MS} (k3 : Int32 → Int32 → Int32 → Int32 → MS → Option MS) (hk3 : ∀ (x1 : Int32) (x2 : Int32) (x3 : Int32) (x4 : Int32) (σ : MS), k3 x1 x2 x3 x4 σ = some x → MJ p l e rmM_lays s m args below meth c G 8 none x 3 [(0, .ref (gM G)), (1, .int x1), (2, .int x2), (3, .int x3), (4, .int x4)] [] σ) :
    ∀ (x1 : Int32) (x2 : Int32) (x3 : Int32) (x4 : Int32) (x5 : Int32) (y0 : Int32) (σ : MS), F_lays_b60 k3 x1 x2 x3 x4 x5 y0 σ = some x → MJ p l e rmM_lays s m args below meth c G 8 none x 60 [(0, .ref (gM G)), (1, .int x1), (2, .int x2), (3, .int x3), (4, .int x4), (5, .int x5)] [.int y0] σ := by
  have hx := hC.1
  have hb := hC.2.1
  intro x1 x2 x3 x4 x5 y0 σ hF H locs ls hP hS hl
  rw [F_lays_b60] at hF
  refine lv_istore (lv' := [(6, .int y0), (0, .ref (gM G)), (1, .int x1), (2, .int x2), (3, .int x3), (4, .int x4), (5, .int x5)]) hx hb dX10_lays_60 hl (by decide) rfl (fun ls hl => ?_)
  refine lv_aload_n hx hb dX10_lays_62 rfl (lv_at hl 1 rfl) ?_
  refine gM22 hC hP dX10_lays_63 ?_
  refine lv_iload_n hx hb dX10_lays_66 rfl (lv_at hl 3 rfl) ?_
  obtain ⟨h_1, hF⟩ := gd_ok hF
  refine M_iald hC hP 22 (by decide) rfl rfl rfl h_1 dX10_lays_67 ?_
  refine lv_iconst (v := 1) hx hb dX10_lays_68 (by decide) ?_
  refine lv_icmp_ne (tgt := 81) hx hb dX10_lays_69 (by decide) (fun c_2 => ?_) (fun c_2 => ?_)
  · replace hF := it_f hF c_2
    refine lv_iload hx hb dX10_lays_81 (lv_at hl 0 rfl) ?_
    refine lv_if_eq (tgt := 93) hx hb dX10_lays_83 (by decide) (fun c_3 => ?_) (fun c_3 => ?_)
    · replace hF := it_t hF c_3
      refine lv_iload_n hx hb dX10_lays_93 rfl (lv_at hl 4 rfl) ?_
      refine lv_if_eq (tgt := 102) hx hb dX10_lays_94 (by decide) (fun c_4 => ?_) (fun c_4 => ?_)
      · replace hF := it_t hF c_4
        refine lv_iconst (v := 1) hx hb dX10_lays_102 (by decide) ?_
        refine lv_iload hx hb dX10_lays_103 (lv_at hl 6 rfl) ?_
        refine lv_isub hx hb dX10_lays_105 ?_
        exact w_lays_b106 hC hr k3 hk3 x1 x2 x3 x4 ((1 : Int32) - x5) σ hF H locs ls hP hS (lv_sub hl [1, 2, 3, 4, 5] rfl)
      · replace hF := it_f hF c_4
        refine lv_iload hx hb dX10_lays_97 (lv_at hl 6 rfl) ?_
        refine lv_goto (tgt := 106) hx hb dX10_lays_99 (by decide) ?_
        exact w_lays_b106 hC hr k3 hk3 x1 x2 x3 x4 x5 σ hF H locs ls hP hS (lv_sub hl [1, 2, 3, 4, 5] rfl)
    · replace hF := it_f hF c_3
      refine lv_aload_n hx hb dX10_lays_86 rfl (lv_at hl 1 rfl) ?_
      refine gM53 hC hP dX10_lays_87 ?_
      refine lv_goto (tgt := 106) hx hb dX10_lays_90 (by decide) ?_
      exact w_lays_b106 hC hr k3 hk3 x1 x2 x3 x4 (mI σ 53) σ hF H locs ls hP hS (lv_sub hl [1, 2, 3, 4, 5] rfl)
  · replace hF := it_t hF c_2
    refine lv_aload_n hx hb dX10_lays_72 rfl (lv_at hl 1 rfl) ?_
    refine gM23 hC hP dX10_lays_73 ?_
    refine lv_iload_n hx hb dX10_lays_76 rfl (lv_at hl 3 rfl) ?_
    obtain ⟨h_5, hF⟩ := gd_ok hF
    refine M_iald hC hP 23 (by decide) rfl rfl rfl h_5 dX10_lays_77 ?_
    refine lv_goto (tgt := 106) hx hb dX10_lays_78 (by decide) ?_
    exact w_lays_b106 hC hr k3 hk3 x1 x2 x3 x4 (mA σ 23 (Int32.toNatClampNeg x2)) σ hF H locs ls hP hS (lv_sub hl [1, 2, 3, 4, 5] rfl)
def F_lays_b59 (k60 : Int32 → Int32 → Int32 → Int32 → Int32 → Int32 → MS → Option MS) (x1 : Int32) (x2 : Int32) (x3 : Int32) (x4 : Int32) (x5 : Int32) (σ : MS) : Option MS :=
  k60 x1 x2 x3 x4 x5 (0 : Int32) σ
set_option maxHeartbeats 4000000 in
theorem w_lays_b59 {p : Program} {l : Launch} {e : Env} {s : State} {m : MethodId} {args : Array Value} {below : List Frame} {meth : Method} {c : Code} {G : MG} (hC : MCx G cX10_lays 8 p s m args meth c) (hr : meth.sig.returnType = none) {x : MS} (k60 : Int32 → Int32 → Int32 → Int32 → Int32 → Int32 → MS → Option MS) (hk60 : ∀ (x1 : Int32) (x2 : Int32) (x3 : Int32) (x4 : Int32) (x5 : Int32) (y0 : Int32) (σ : MS), k60 x1 x2 x3 x4 x5 y0 σ = some x → MJ p l e rmM_lays s m args below meth c G 8 none x 60 [(0, .ref (gM G)), (1, .int x1), (2, .int x2), (3, .int x3), (4, .int x4), (5, .int x5)] [.int y0] σ) :
    ∀ (x1 : Int32) (x2 : Int32) (x3 : Int32) (x4 : Int32) (x5 : Int32) (σ : MS), F_lays_b59 k60 x1 x2 x3 x4 x5 σ = some x → MJ p l e rmM_lays s m args below meth c G 8 none x 59 [(0, .ref (gM G)), (1, .int x1), (2, .int x2), (3, .int x3), (4, .int x4), (5, .int x5)] [] σ := by
  have hx := hC.1
  have hb := hC.2.1
  intro x1 x2 x3 x4 x5 σ hF H locs ls hP hS hl
  rw [F_lays_b59] at hF
  refine lv_iconst (v := 0) hx hb dX10_lays_59 (by decide) ?_
  exact hk60 x1 x2 x3 x4 x5 (0 : Int32) σ hF H locs ls hP hS (lv_sub hl [0, 1, 2, 3, 4, 5] rfl)
def F_lays_L3 : Nat → Int32 → Int32 → Int32 → Int32 → MS → Option MS
  | 0, _, _, _, _, _ => none
  | fu + 1, x1, x2, x3, x4, σ =>
    bd (F_inputs σ) fun r_2 =>
    if r_2 ≤ x4 then
      F_lays_b123 x1 σ
    else
      gd (inb x2 104) <|
      lt (((x4 >>> ((mA σ 23 (Int32.toNatClampNeg x2)) &&& 31)) &&& (1 : Int32))) fun x5_5 =>
      if (mI σ 51) = (3 : Int32) then
        gd (inb x2 104) <|
        if (mA σ 22 (Int32.toNatClampNeg x2)) = 0 then
          gd (inb x2 104) <|
          if (mA σ 23 (Int32.toNatClampNeg x2)) = (mI σ 52) then
            F_lays_b60 (F_lays_L3 fu) x1 x2 x3 x4 x5_5 (1 : Int32) σ
          else
            F_lays_b59 (F_lays_b60 (F_lays_L3 fu)) x1 x2 x3 x4 x5_5 σ
        else
          F_lays_b59 (F_lays_b60 (F_lays_L3 fu)) x1 x2 x3 x4 x5_5 σ
      else
        F_lays_b59 (F_lays_b60 (F_lays_L3 fu)) x1 x2 x3 x4 x5_5 σ
set_option maxHeartbeats 4000000 in
theorem w_lays_L3 {p : Program} {l : Launch} {e : Env} {s : State} {m : MethodId} {args : Array Value} {below : List Frame} {meth : Method} {c : Code} {G : MG} (hC : MCx G cX10_lays 8 p s m args meth c) (hr : meth.sig.returnType = none) {x : MS} :
    ∀ (fu : Nat) (x1 : Int32) (x2 : Int32) (x3 : Int32) (x4 : Int32) (σ : MS), F_lays_L3 fu x1 x2 x3 x4 σ = some x → MJ p l e rmM_lays s m args below meth c G 8 none x 3 [(0, .ref (gM G)), (1, .int x1), (2, .int x2), (3, .int x3), (4, .int x4)] [] σ := by
  have hx := hC.1
  have hb := hC.2.1
  intro fu
  induction fu with
  | zero => intro x1 x2 x3 x4 σ hF; exact nm_none hF
  | succ fu ih =>
    intro x1 x2 x3 x4 σ hF H locs ls hP hS hl
    rw [F_lays_L3] at hF
    refine lv_iload hx hb dX10_lays_3 (lv_at hl 4 rfl) ?_
    refine lv_aload_n hx hb dX10_lays_5 rfl (lv_at hl 0 rfl) ?_
    obtain ⟨r_2, hc_1, hF⟩ := bd_ok hF
    refine iM_inputs hC hP hS hc_1 hl.1 (Nat.le_of_ble_eq_true rfl) ⟨Nat.le_of_ble_eq_true rfl, Nat.le_of_ble_eq_true rfl⟩ ⟨Nat.zero_le _, Nat.zero_le _⟩ dX10_lays_6 (fun H locs hP hS => ?_)
    refine lv_icmp_ge (tgt := 123) hx hb dX10_lays_9 (by decide) (fun c_3 => ?_) (fun c_3 => ?_)
    · replace hF := it_t hF c_3
      exact w_lays_b123 hC hr x1 σ hF H locs ls hP hS (lv_sub hl [0, 1] rfl)
    · replace hF := it_f hF c_3
      refine lv_iload hx hb dX10_lays_12 (lv_at hl 4 rfl) ?_
      refine lv_aload_n hx hb dX10_lays_14 rfl (lv_at hl 0 rfl) ?_
      refine gM23 hC hP dX10_lays_15 ?_
      refine lv_iload_n hx hb dX10_lays_18 rfl (lv_at hl 2 rfl) ?_
      obtain ⟨h_4, hF⟩ := gd_ok hF
      refine M_iald hC hP 23 (by decide) rfl rfl rfl h_4 dX10_lays_19 ?_
      refine lv_ishr hx hb dX10_lays_20 ?_
      refine lv_iconst (v := 1) hx hb dX10_lays_21 (by decide) ?_
      refine lv_iand hx hb dX10_lays_22 ?_
      refine lv_topi (fun x5_5 ex5_5 => ?_)
      replace hF := lt_at hF ex5_5
      refine lv_istore (lv' := [(5, .int x5_5), (0, .ref (gM G)), (1, .int x1), (2, .int x2), (3, .int x3), (4, .int x4)]) hx hb dX10_lays_23 hl (by decide) rfl (fun ls hl => ?_)
      refine lv_aload_n hx hb dX10_lays_25 rfl (lv_at hl 1 rfl) ?_
      refine gM51 hC hP dX10_lays_26 ?_
      refine lv_iconst (v := 3) hx hb dX10_lays_29 (by decide) ?_
      refine lv_icmp_ne (tgt := 59) hx hb dX10_lays_30 (by decide) (fun c_6 => ?_) (fun c_6 => ?_)
      · replace hF := it_f hF c_6
        exact w_lays_b59 hC hr (F_lays_b60 (F_lays_L3 fu)) (w_lays_b60 hC hr (F_lays_L3 fu) ih) x1 x2 x3 x4 x5_5 σ hF H locs ls hP hS (lv_sub hl [1, 2, 3, 4, 5, 0] rfl)
      · replace hF := it_t hF c_6
        refine lv_aload_n hx hb dX10_lays_33 rfl (lv_at hl 1 rfl) ?_
        refine gM22 hC hP dX10_lays_34 ?_
        refine lv_iload_n hx hb dX10_lays_37 rfl (lv_at hl 3 rfl) ?_
        obtain ⟨h_7, hF⟩ := gd_ok hF
        refine M_iald hC hP 22 (by decide) rfl rfl rfl h_7 dX10_lays_38 ?_
        refine lv_if_ne (tgt := 59) hx hb dX10_lays_39 (by decide) (fun c_8 => ?_) (fun c_8 => ?_)
        · replace hF := it_f hF c_8
          exact w_lays_b59 hC hr (F_lays_b60 (F_lays_L3 fu)) (w_lays_b60 hC hr (F_lays_L3 fu) ih) x1 x2 x3 x4 x5_5 σ hF H locs ls hP hS (lv_sub hl [1, 2, 3, 4, 5, 0] rfl)
        · replace hF := it_t hF c_8
          refine lv_aload_n hx hb dX10_lays_42 rfl (lv_at hl 1 rfl) ?_
          refine gM23 hC hP dX10_lays_43 ?_
          refine lv_iload_n hx hb dX10_lays_46 rfl (lv_at hl 3 rfl) ?_
          obtain ⟨h_9, hF⟩ := gd_ok hF
          refine M_iald hC hP 23 (by decide) rfl rfl rfl h_9 dX10_lays_47 ?_
          refine lv_aload_n hx hb dX10_lays_48 rfl (lv_at hl 1 rfl) ?_
          refine gM52 hC hP dX10_lays_49 ?_
          refine lv_icmp_ne (tgt := 59) hx hb dX10_lays_52 (by decide) (fun c_10 => ?_) (fun c_10 => ?_)
          · replace hF := it_f hF c_10
            exact w_lays_b59 hC hr (F_lays_b60 (F_lays_L3 fu)) (w_lays_b60 hC hr (F_lays_L3 fu) ih) x1 x2 x3 x4 x5_5 σ hF H locs ls hP hS (lv_sub hl [1, 2, 3, 4, 5, 0] rfl)
          · replace hF := it_t hF c_10
            refine lv_iconst (v := 1) hx hb dX10_lays_55 (by decide) ?_
            refine lv_goto (tgt := 60) hx hb dX10_lays_56 (by decide) ?_
            exact w_lays_b60 hC hr (F_lays_L3 fu) ih x1 x2 x3 x4 x5_5 (1 : Int32) σ hF H locs ls hP hS (lv_sub hl [1, 2, 3, 4, 5, 0] rfl)
def F_lays (a0 : Int32) (a1 : Int32) (a2 : Int32) (σ : MS) : Option MS :=
  F_lays_L3 MN a0 a1 a2 (0 : Int32) σ
set_option maxHeartbeats 4000000 in
theorem w_lays {p : Program} {l : Launch} {e : Env} {s : State} {m : MethodId} {args : Array Value} {below : List Frame} {meth : Method} {c : Code} {G : MG} (hC : MCx G cX10_lays 8 p s m args meth c) (hr : meth.sig.returnType = none) {x : MS} :
    ∀ (a0 : Int32) (a1 : Int32) (a2 : Int32) (σ : MS), F_lays a0 a1 a2 σ = some x → MJ p l e rmM_lays s m args below meth c G 8 none x 0 [(0, .ref (gM G)), (1, .int a0), (2, .int a1), (3, .int a2)] [] σ := by
  have hx := hC.1
  have hb := hC.2.1
  intro a0 a1 a2 σ hF H locs ls hP hS hl
  rw [F_lays] at hF
  refine lv_iconst (v := 0) hx hb dX10_lays_0 (by decide) ?_
  refine lv_istore (lv' := [(4, .int (0 : Int32)), (0, .ref (gM G)), (1, .int a0), (2, .int a1), (3, .int a2)]) hx hb dX10_lays_1 hl (by decide) rfl (fun ls hl => ?_)
  exact w_lays_L3 hC hr MN a0 a1 a2 (0 : Int32) σ hF H locs ls hP hS (lv_sub hl [1, 2, 3, 4, 0] rfl)
theorem m_lays (l : Launch) (G : MG) (a0 : Int32) (a1 : Int32) (a2 : Int32) (σ : MS) (x : MS) (hF : F_lays a0 a1 a2 σ = some x) : Met l yX10_lays (ws_ yX10_lays cX10_lays 8 none) rmM_lays (mP G [.ref (gM G), .int a0, .int a1, .int a2] σ) (mQ G none x) 0 0 (MA G) := by
  refine M_met rfl plM (Nat.le_of_ble_eq_true rfl) ?_
  intro p e s m below meth c hC hr ls hl hP
  exact w_lays hC hr a0 a1 a2 σ hF s.heap [] ls hP va_S.rf hl
theorem iM_lays {p : Program} {l : Launch} {e : Env} {R : Room} {s : State} {m : MethodId} {args : Array Value} {below : List Frame} {meth : Method} {c : Code} {H H0 : Heap} {locs : List Loc} {cells slots nL : Nat} {Q : State → Prop} {G : MG} {σ : MS} {cc : ByteArray} {pc : Nat} {ls : Array Slot} {rest : List Value} (hC : MCx G cc nL p s m args meth c) (hP : MRep G σ H) (hS : va_S (MA G) H0 H locs) {a0 : Int32} {a1 : Int32} {a2 : Int32} {x : MS} (hF : F_lays a0 a1 a2 σ = some x) (hl : ls.size = nL) (hW : (rest.map fun v => v.category).sum ≤ 8) (hR : rmM_lays.frames + 1 ≤ R.frames ∧ 8 + (8 + 11) + rmM_lays.locals ≤ R.locals) (hf : cells ≤ R.cells ∧ slots ≤ R.slots) (hdg : decode cc pc = .ok (.invokevirtual 471, 3))
    (kk : ∀ (H1 : Heap) (locs1 : List Loc), MRep G x H1 → va_S (MA G) H0 H1 locs1 → W p l e R s m args below meth c H1 locs1 cells slots Q (F0 m (pc + 3) ls (rest))) : W p l e R s m args below meth c H locs cells slots Q (F0 m pc ls (.int a2 :: .int a1 :: .int a0 :: .ref (gM G) :: rest)) :=
  M_inv hC hP hS [.int a0, .int a1, .int a2] (m_lays l G a0 a1 a2 σ _ hF) (cwV 3 hC.2.2.2.2.1 (lw_V q1859 q1861 qs56 q145 q1862) rfl rfl rfl (by decide +kernel) hR) rfl rfl hl hW hf hdg kk
/-! bringBack -/
abbrev rmM_bringBack : Room := { frames := 0, cells := 0, slots := 0, locals := 0 }
def F_bringBack_L2 : Nat → Int32 → Int32 → Int32 → MS → Option MS
  | 0, _, _, _, _ => none
  | fu + 1, x1, x2, x3, σ =>
    if (2048 : Int32) ≤ x3 then
      some σ
    else
      gd (inb (((2048 : Int32) * x1) + x3) 36864) <|
      gd (inb (((2048 : Int32) * x2) + x3) 36864) <|
      lt (wL σ 43 (Int32.toNatClampNeg (((2048 : Int32) * x2) + x3)) (mL σ 43 (Int32.toNatClampNeg (((2048 : Int32) * x1) + x3)))) fun σ_4 =>
      lt (x3 + (1 : Int32)) fun x3_5 =>
      F_bringBack_L2 fu x1 x2 x3_5 σ_4
set_option maxHeartbeats 4000000 in
theorem w_bringBack_L2 {p : Program} {l : Launch} {e : Env} {s : State} {m : MethodId} {args : Array Value} {below : List Frame} {meth : Method} {c : Code} {G : MG} (hC : MCx G cX10_bringBack 4 p s m args meth c) (hr : meth.sig.returnType = none) {x : MS} :
    ∀ (fu : Nat) (x1 : Int32) (x2 : Int32) (x3 : Int32) (σ : MS), F_bringBack_L2 fu x1 x2 x3 σ = some x → MJ p l e rmM_bringBack s m args below meth c G 4 none x 2 [(0, .ref (gM G)), (1, .int x1), (2, .int x2), (3, .int x3)] [] σ := by
  have hx := hC.1
  have hb := hC.2.1
  intro fu
  induction fu with
  | zero => intro x1 x2 x3 σ hF; exact nm_none hF
  | succ fu ih =>
    intro x1 x2 x3 σ hF H locs ls hP hS hl
    rw [F_bringBack_L2] at hF
    refine lv_iload_n hx hb dX10_bringBack_2 rfl (lv_at hl 3 rfl) ?_
    refine lv_sipush (v := 2048) hx hb dX10_bringBack_3 (by decide) ?_
    refine lv_icmp_ge (tgt := 39) hx hb dX10_bringBack_6 (by decide) (fun c_1 => ?_) (fun c_1 => ?_)
    · replace hF := it_t hF c_1
      exact M_retv hC hP hS hr (Option.some.inj hF) dX10_bringBack_39
    · replace hF := it_f hF c_1
      refine lv_aload_n hx hb dX10_bringBack_9 rfl (lv_at hl 0 rfl) ?_
      refine gM43 hC hP dX10_bringBack_10 ?_
      refine lv_sipush (v := 2048) hx hb dX10_bringBack_13 (by decide) ?_
      refine lv_iload_n hx hb dX10_bringBack_16 rfl (lv_at hl 2 rfl) ?_
      refine lv_imul hx hb dX10_bringBack_17 ?_
      refine lv_iload_n hx hb dX10_bringBack_18 rfl (lv_at hl 3 rfl) ?_
      refine lv_iadd hx hb dX10_bringBack_19 ?_
      refine lv_aload_n hx hb dX10_bringBack_20 rfl (lv_at hl 0 rfl) ?_
      refine gM43 hC hP dX10_bringBack_21 ?_
      refine lv_sipush (v := 2048) hx hb dX10_bringBack_24 (by decide) ?_
      refine lv_iload_n hx hb dX10_bringBack_27 rfl (lv_at hl 1 rfl) ?_
      refine lv_imul hx hb dX10_bringBack_28 ?_
      refine lv_iload_n hx hb dX10_bringBack_29 rfl (lv_at hl 3 rfl) ?_
      refine lv_iadd hx hb dX10_bringBack_30 ?_
      obtain ⟨h_2, hF⟩ := gd_ok hF
      refine M_lald hC hP 43 (by decide) rfl rfl rfl h_2 dX10_bringBack_31 ?_
      obtain ⟨h_3, hF⟩ := gd_ok hF
      refine M_last hC hP hS 43 (by decide) rfl rfl rfl h_3 dX10_bringBack_32 (fun H locs hP hS => ?_)
      obtain ⟨σ_4, eσ_4, hF⟩ := lt_ok hF
      rw [← eσ_4] at hP
      obtain ⟨x3_5, ex3_5, hF⟩ := lt_ok hF
      refine lv_iinc (v := x3_5) (lv' := [(3, .int x3_5), (0, .ref (gM G)), (1, .int x1), (2, .int x2)]) hx hb dX10_bringBack_33 hl (k := 3) rfl (by rw [ex3_5]; rfl) (by decide) rfl (fun ls hl => ?_)
      refine lv_goto (tgt := 2) hx hb dX10_bringBack_36 (by decide) ?_
      exact ih x1 x2 x3_5 σ_4 hF H locs ls hP hS (lv_sub hl [1, 2, 3, 0] rfl)
def F_bringBack (a0 : Int32) (a1 : Int32) (σ : MS) : Option MS :=
  F_bringBack_L2 MN a0 a1 (0 : Int32) σ
set_option maxHeartbeats 4000000 in
theorem w_bringBack {p : Program} {l : Launch} {e : Env} {s : State} {m : MethodId} {args : Array Value} {below : List Frame} {meth : Method} {c : Code} {G : MG} (hC : MCx G cX10_bringBack 4 p s m args meth c) (hr : meth.sig.returnType = none) {x : MS} :
    ∀ (a0 : Int32) (a1 : Int32) (σ : MS), F_bringBack a0 a1 σ = some x → MJ p l e rmM_bringBack s m args below meth c G 4 none x 0 [(0, .ref (gM G)), (1, .int a0), (2, .int a1)] [] σ := by
  have hx := hC.1
  have hb := hC.2.1
  intro a0 a1 σ hF H locs ls hP hS hl
  rw [F_bringBack] at hF
  refine lv_iconst (v := 0) hx hb dX10_bringBack_0 (by decide) ?_
  refine lv_istore_n (lv' := [(3, .int (0 : Int32)), (0, .ref (gM G)), (1, .int a0), (2, .int a1)]) hx hb dX10_bringBack_1 rfl hl (by decide) rfl (fun ls hl => ?_)
  exact w_bringBack_L2 hC hr MN a0 a1 (0 : Int32) σ hF H locs ls hP hS (lv_sub hl [1, 2, 3, 0] rfl)
theorem m_bringBack (l : Launch) (G : MG) (a0 : Int32) (a1 : Int32) (σ : MS) (x : MS) (hF : F_bringBack a0 a1 σ = some x) : Met l yX10_bringBack (ws_ yX10_bringBack cX10_bringBack 4 none) rmM_bringBack (mP G [.ref (gM G), .int a0, .int a1] σ) (mQ G none x) 0 0 (MA G) := by
  refine M_met rfl plM (Nat.le_of_ble_eq_true rfl) ?_
  intro p e s m below meth c hC hr ls hl hP
  exact w_bringBack hC hr a0 a1 σ hF s.heap [] ls hP va_S.rf hl
theorem iM_bringBack {p : Program} {l : Launch} {e : Env} {R : Room} {s : State} {m : MethodId} {args : Array Value} {below : List Frame} {meth : Method} {c : Code} {H H0 : Heap} {locs : List Loc} {cells slots nL : Nat} {Q : State → Prop} {G : MG} {σ : MS} {cc : ByteArray} {pc : Nat} {ls : Array Slot} {rest : List Value} (hC : MCx G cc nL p s m args meth c) (hP : MRep G σ H) (hS : va_S (MA G) H0 H locs) {a0 : Int32} {a1 : Int32} {x : MS} (hF : F_bringBack a0 a1 σ = some x) (hl : ls.size = nL) (hW : (rest.map fun v => v.category).sum ≤ 8) (hR : rmM_bringBack.frames + 1 ≤ R.frames ∧ 8 + (4 + 11) + rmM_bringBack.locals ≤ R.locals) (hf : cells ≤ R.cells ∧ slots ≤ R.slots) (hdg : decode cc pc = .ok (.invokevirtual 450, 3))
    (kk : ∀ (H1 : Heap) (locs1 : List Loc), MRep G x H1 → va_S (MA G) H0 H1 locs1 → W p l e R s m args below meth c H1 locs1 cells slots Q (F0 m (pc + 3) ls (rest))) : W p l e R s m args below meth c H locs cells slots Q (F0 m pc ls (.int a1 :: .int a0 :: .ref (gM G) :: rest)) :=
  M_inv hC hP hS [.int a0, .int a1] (m_bringBack l G a0 a1 σ _ hF) (cwV 2 hC.2.2.2.2.1 (lw_V q1908 q1910 qs68 q145 q1911) rfl rfl rfl (by decide +kernel) hR) rfl rfl hl hW hf hdg kk
/-! clearDist -/
abbrev rmM_clearDist : Room := { frames := 0, cells := 0, slots := 0, locals := 0 }
def F_clearDist_L6 : Nat → Int32 → Int32 → MS → Option MS
  | 0, _, _, _ => none
  | fu + 1, x1, x2, σ =>
    if (((2048 : Int32) * x1) + (2048 : Int32)) ≤ x2 then
      some σ
    else
      gd (inb x2 36864) <|
      lt (wL σ 43 (Int32.toNatClampNeg x2) (0 : Int64)) fun σ_3 =>
      lt (x2 + (1 : Int32)) fun x2_4 =>
      F_clearDist_L6 fu x1 x2_4 σ_3
set_option maxHeartbeats 4000000 in
theorem w_clearDist_L6 {p : Program} {l : Launch} {e : Env} {s : State} {m : MethodId} {args : Array Value} {below : List Frame} {meth : Method} {c : Code} {G : MG} (hC : MCx G cX10_clearDist 3 p s m args meth c) (hr : meth.sig.returnType = none) {x : MS} :
    ∀ (fu : Nat) (x1 : Int32) (x2 : Int32) (σ : MS), F_clearDist_L6 fu x1 x2 σ = some x → MJ p l e rmM_clearDist s m args below meth c G 3 none x 6 [(0, .ref (gM G)), (1, .int x1), (2, .int x2)] [] σ := by
  have hx := hC.1
  have hb := hC.2.1
  intro fu
  induction fu with
  | zero => intro x1 x2 σ hF; exact nm_none hF
  | succ fu ih =>
    intro x1 x2 σ hF H locs ls hP hS hl
    rw [F_clearDist_L6] at hF
    refine lv_iload_n hx hb dX10_clearDist_6 rfl (lv_at hl 2 rfl) ?_
    refine lv_sipush (v := 2048) hx hb dX10_clearDist_7 (by decide) ?_
    refine lv_iload_n hx hb dX10_clearDist_10 rfl (lv_at hl 1 rfl) ?_
    refine lv_imul hx hb dX10_clearDist_11 ?_
    refine lv_sipush (v := 2048) hx hb dX10_clearDist_12 (by decide) ?_
    refine lv_iadd hx hb dX10_clearDist_15 ?_
    refine lv_icmp_ge (tgt := 32) hx hb dX10_clearDist_16 (by decide) (fun c_1 => ?_) (fun c_1 => ?_)
    · replace hF := it_t hF c_1
      exact M_retv hC hP hS hr (Option.some.inj hF) dX10_clearDist_32
    · replace hF := it_f hF c_1
      refine lv_aload_n hx hb dX10_clearDist_19 rfl (lv_at hl 0 rfl) ?_
      refine gM43 hC hP dX10_clearDist_20 ?_
      refine lv_iload_n hx hb dX10_clearDist_23 rfl (lv_at hl 2 rfl) ?_
      refine lv_lconst (v := 0) hx hb dX10_clearDist_24 (by decide) ?_
      obtain ⟨h_2, hF⟩ := gd_ok hF
      refine M_last hC hP hS 43 (by decide) rfl rfl rfl h_2 dX10_clearDist_25 (fun H locs hP hS => ?_)
      obtain ⟨σ_3, eσ_3, hF⟩ := lt_ok hF
      rw [← eσ_3] at hP
      obtain ⟨x2_4, ex2_4, hF⟩ := lt_ok hF
      refine lv_iinc (v := x2_4) (lv' := [(2, .int x2_4), (0, .ref (gM G)), (1, .int x1)]) hx hb dX10_clearDist_26 hl (k := 2) rfl (by rw [ex2_4]; rfl) (by decide) rfl (fun ls hl => ?_)
      refine lv_goto (tgt := 6) hx hb dX10_clearDist_29 (by decide) ?_
      exact ih x1 x2_4 σ_3 hF H locs ls hP hS (lv_sub hl [1, 2, 0] rfl)
def F_clearDist (a0 : Int32) (σ : MS) : Option MS :=
  lt (((2048 : Int32) * a0)) fun x2_1 =>
  F_clearDist_L6 MN a0 x2_1 σ
set_option maxHeartbeats 4000000 in
theorem w_clearDist {p : Program} {l : Launch} {e : Env} {s : State} {m : MethodId} {args : Array Value} {below : List Frame} {meth : Method} {c : Code} {G : MG} (hC : MCx G cX10_clearDist 3 p s m args meth c) (hr : meth.sig.returnType = none) {x : MS} :
    ∀ (a0 : Int32) (σ : MS), F_clearDist a0 σ = some x → MJ p l e rmM_clearDist s m args below meth c G 3 none x 0 [(0, .ref (gM G)), (1, .int a0)] [] σ := by
  have hx := hC.1
  have hb := hC.2.1
  intro a0 σ hF H locs ls hP hS hl
  rw [F_clearDist] at hF
  refine lv_sipush (v := 2048) hx hb dX10_clearDist_0 (by decide) ?_
  refine lv_iload_n hx hb dX10_clearDist_3 rfl (lv_at hl 1 rfl) ?_
  refine lv_imul hx hb dX10_clearDist_4 ?_
  refine lv_topi (fun x2_1 ex2_1 => ?_)
  replace hF := lt_at hF ex2_1
  refine lv_istore_n (lv' := [(2, .int x2_1), (0, .ref (gM G)), (1, .int a0)]) hx hb dX10_clearDist_5 rfl hl (by decide) rfl (fun ls hl => ?_)
  exact w_clearDist_L6 hC hr MN a0 x2_1 σ hF H locs ls hP hS (lv_sub hl [1, 2, 0] rfl)
theorem m_clearDist (l : Launch) (G : MG) (a0 : Int32) (σ : MS) (x : MS) (hF : F_clearDist a0 σ = some x) : Met l yX10_clearDist (ws_ yX10_clearDist cX10_clearDist 3 none) rmM_clearDist (mP G [.ref (gM G), .int a0] σ) (mQ G none x) 0 0 (MA G) := by
  refine M_met rfl plM (Nat.le_of_ble_eq_true rfl) ?_
  intro p e s m below meth c hC hr ls hl hP
  exact w_clearDist hC hr a0 σ hF s.heap [] ls hP va_S.rf hl
theorem iM_clearDist {p : Program} {l : Launch} {e : Env} {R : Room} {s : State} {m : MethodId} {args : Array Value} {below : List Frame} {meth : Method} {c : Code} {H H0 : Heap} {locs : List Loc} {cells slots nL : Nat} {Q : State → Prop} {G : MG} {σ : MS} {cc : ByteArray} {pc : Nat} {ls : Array Slot} {rest : List Value} (hC : MCx G cc nL p s m args meth c) (hP : MRep G σ H) (hS : va_S (MA G) H0 H locs) {a0 : Int32} {x : MS} (hF : F_clearDist a0 σ = some x) (hl : ls.size = nL) (hW : (rest.map fun v => v.category).sum ≤ 8) (hR : rmM_clearDist.frames + 1 ≤ R.frames ∧ 8 + (3 + 11) + rmM_clearDist.locals ≤ R.locals) (hf : cells ≤ R.cells ∧ slots ≤ R.slots) (hdg : decode cc pc = .ok (.invokevirtual 438, 3))
    (kk : ∀ (H1 : Heap) (locs1 : List Loc), MRep G x H1 → va_S (MA G) H0 H1 locs1 → W p l e R s m args below meth c H1 locs1 cells slots Q (F0 m (pc + 3) ls (rest))) : W p l e R s m args below meth c H locs cells slots Q (F0 m pc ls (.int a0 :: .ref (gM G) :: rest)) :=
  M_inv hC hP hS [.int a0] (m_clearDist l G a0 σ _ hF) (cwV 1 hC.2.2.2.2.1 (lw_V q1834 q1836 qs52 q145 q1837) rfl rfl rfl (by decide +kernel) hR) rfl rfl hl hW hf hdg kk
/-! layMix -/
abbrev rmM_layMix : Room := { frames := 0, cells := 0, slots := 0, locals := 0 }
def F_layMix_b137 (k55 : Int32 → Int32 → Int32 → Int32 → Int32 → MS → Option MS) (x1 : Int32) (x2 : Int32) (x4 : Int32) (x5 : Int32) (x6 : Int32) (σ : MS) : Option MS :=
  lt (x6 + (1 : Int32)) fun x6_1 =>
  k55 x1 x2 x4 x5 x6_1 σ
set_option maxHeartbeats 4000000 in
theorem w_layMix_b137 {p : Program} {l : Launch} {e : Env} {s : State} {m : MethodId} {args : Array Value} {below : List Frame} {meth : Method} {c : Code} {G : MG} (hC : MCx G cX10_layMix 9 p s m args meth c) (hr : meth.sig.returnType = none) {x : MS} (k55 : Int32 → Int32 → Int32 → Int32 → Int32 → MS → Option MS) (hk55 : ∀ (x1 : Int32) (x2 : Int32) (x4 : Int32) (x5 : Int32) (x6 : Int32) (σ : MS), k55 x1 x2 x4 x5 x6 σ = some x → MJ p l e rmM_layMix s m args below meth c G 9 none x 55 [(0, .ref (gM G)), (1, .int x1), (2, .int x2), (4, .int x4), (5, .int x5), (6, .int x6)] [] σ) :
    ∀ (x1 : Int32) (x2 : Int32) (x4 : Int32) (x5 : Int32) (x6 : Int32) (σ : MS), F_layMix_b137 k55 x1 x2 x4 x5 x6 σ = some x → MJ p l e rmM_layMix s m args below meth c G 9 none x 137 [(0, .ref (gM G)), (1, .int x1), (2, .int x2), (4, .int x4), (5, .int x5), (6, .int x6)] [] σ := by
  have hx := hC.1
  have hb := hC.2.1
  intro x1 x2 x4 x5 x6 σ hF H locs ls hP hS hl
  rw [F_layMix_b137] at hF
  obtain ⟨x6_1, ex6_1, hF⟩ := lt_ok hF
  refine lv_iinc (v := x6_1) (lv' := [(6, .int x6_1), (0, .ref (gM G)), (1, .int x1), (2, .int x2), (4, .int x4), (5, .int x5)]) hx hb dX10_layMix_137 hl (k := 5) rfl (by rw [ex6_1]; rfl) (by decide) rfl (fun ls hl => ?_)
  refine lv_goto (tgt := 55) hx hb dX10_layMix_140 (by decide) ?_
  exact hk55 x1 x2 x4 x5 x6_1 σ hF H locs ls hP hS (lv_sub hl [1, 2, 3, 4, 5, 0] rfl)
def F_layMix_L104 (k55 : Int32 → Int32 → Int32 → Int32 → Int32 → MS → Option MS) : Nat → Int32 → Int32 → Int32 → Int32 → Int32 → Int32 → MS → Option MS
  | 0, _, _, _, _, _, _, _ => none
  | fu + 1, x1, x2, x4, x5, x6, x8, σ =>
    if (x2 - x6) ≤ (x8 + (1 : Int32)) then
      F_layMix_b137 k55 x1 x2 x4 x5 x6 σ
    else
      gd (inb (x8 + (1 : Int32)) 8) <|
      gd (inb x8 8) <|
      lt (wA σ 42 (Int32.toNatClampNeg x8) (mA σ 42 (Int32.toNatClampNeg (x8 + (1 : Int32))))) fun σ_4 =>
      lt (x8 + (1 : Int32)) fun x8_5 =>
      F_layMix_L104 k55 fu x1 x2 x4 x5 x6 x8_5 σ_4
set_option maxHeartbeats 4000000 in
theorem w_layMix_L104 {p : Program} {l : Launch} {e : Env} {s : State} {m : MethodId} {args : Array Value} {below : List Frame} {meth : Method} {c : Code} {G : MG} (hC : MCx G cX10_layMix 9 p s m args meth c) (hr : meth.sig.returnType = none) {x : MS} (k55 : Int32 → Int32 → Int32 → Int32 → Int32 → MS → Option MS) (hk55 : ∀ (x1 : Int32) (x2 : Int32) (x4 : Int32) (x5 : Int32) (x6 : Int32) (σ : MS), k55 x1 x2 x4 x5 x6 σ = some x → MJ p l e rmM_layMix s m args below meth c G 9 none x 55 [(0, .ref (gM G)), (1, .int x1), (2, .int x2), (4, .int x4), (5, .int x5), (6, .int x6)] [] σ) :
    ∀ (fu : Nat) (x1 : Int32) (x2 : Int32) (x4 : Int32) (x5 : Int32) (x6 : Int32) (x8 : Int32) (σ : MS), F_layMix_L104 k55 fu x1 x2 x4 x5 x6 x8 σ = some x → MJ p l e rmM_layMix s m args below meth c G 9 none x 104 [(0, .ref (gM G)), (1, .int x1), (2, .int x2), (4, .int x4), (5, .int x5), (6, .int x6), (8, .int x8)] [] σ := by
  have hx := hC.1
  have hb := hC.2.1
  intro fu
  induction fu with
  | zero => intro x1 x2 x4 x5 x6 x8 σ hF; exact nm_none hF
  | succ fu ih =>
    intro x1 x2 x4 x5 x6 x8 σ hF H locs ls hP hS hl
    rw [F_layMix_L104] at hF
    refine lv_iload hx hb dX10_layMix_104 (lv_at hl 6 rfl) ?_
    refine lv_iconst (v := 1) hx hb dX10_layMix_106 (by decide) ?_
    refine lv_iadd hx hb dX10_layMix_107 ?_
    refine lv_iload_n hx hb dX10_layMix_108 rfl (lv_at hl 2 rfl) ?_
    refine lv_iload hx hb dX10_layMix_109 (lv_at hl 5 rfl) ?_
    refine lv_isub hx hb dX10_layMix_111 ?_
    refine lv_icmp_ge (tgt := 137) hx hb dX10_layMix_112 (by decide) (fun c_1 => ?_) (fun c_1 => ?_)
    · replace hF := it_t hF c_1
      exact w_layMix_b137 hC hr k55 hk55 x1 x2 x4 x5 x6 σ hF H locs ls hP hS (lv_sub hl [0, 1, 2, 3, 4, 5] rfl)
    · replace hF := it_f hF c_1
      refine lv_aload_n hx hb dX10_layMix_115 rfl (lv_at hl 0 rfl) ?_
      refine gM42 hC hP dX10_layMix_116 ?_
      refine lv_iload hx hb dX10_layMix_119 (lv_at hl 6 rfl) ?_
      refine lv_aload_n hx hb dX10_layMix_121 rfl (lv_at hl 0 rfl) ?_
      refine gM42 hC hP dX10_layMix_122 ?_
      refine lv_iload hx hb dX10_layMix_125 (lv_at hl 6 rfl) ?_
      refine lv_iconst (v := 1) hx hb dX10_layMix_127 (by decide) ?_
      refine lv_iadd hx hb dX10_layMix_128 ?_
      obtain ⟨h_2, hF⟩ := gd_ok hF
      refine M_iald hC hP 42 (by decide) rfl rfl rfl h_2 dX10_layMix_129 ?_
      obtain ⟨h_3, hF⟩ := gd_ok hF
      refine M_iast hC hP hS 42 (by decide) rfl rfl rfl h_3 dX10_layMix_130 (fun H locs hP hS => ?_)
      obtain ⟨σ_4, eσ_4, hF⟩ := lt_ok hF
      rw [← eσ_4] at hP
      obtain ⟨x8_5, ex8_5, hF⟩ := lt_ok hF
      refine lv_iinc (v := x8_5) (lv' := [(8, .int x8_5), (0, .ref (gM G)), (1, .int x1), (2, .int x2), (4, .int x4), (5, .int x5), (6, .int x6)]) hx hb dX10_layMix_131 hl (k := 6) rfl (by rw [ex8_5]; rfl) (by decide) rfl (fun ls hl => ?_)
      refine lv_goto (tgt := 104) hx hb dX10_layMix_134 (by decide) ?_
      exact ih x1 x2 x4 x5 x6 x8_5 σ_4 hF H locs ls hP hS (lv_sub hl [1, 2, 3, 4, 5, 6, 0] rfl)
def F_layMix_L55 : Nat → Int32 → Int32 → Int32 → Int32 → Int32 → MS → Option MS
  | 0, _, _, _, _, _, _ => none
  | fu + 1, x1, x2, x4, x5, x6, σ =>
    if x2 ≤ x6 then
      some σ
    else
      gd (¬ (x2 - x6) = 0) <|
      lt ((x5 / (x2 - x6))) fun x5_3 =>
      gd (¬ x5_3 = 0) <|
      lt ((x4 / x5_3)) fun x7_5 =>
      gd (¬ x5_3 = 0) <|
      lt ((x4 - x4 / x5_3 * x5_3)) fun x4_7 =>
      gd (inb x7_5 8) <|
      gd (inb (x1 + x6) 8) <|
      lt (wA σ 41 (Int32.toNatClampNeg (x1 + x6)) (mA σ 42 (Int32.toNatClampNeg x7_5))) fun σ_10 =>
      F_layMix_L104 (F_layMix_L55 fu) MN x1 x2 x4_7 x5_3 x6 x7_5 σ_10
set_option maxHeartbeats 4000000 in
theorem w_layMix_L55 {p : Program} {l : Launch} {e : Env} {s : State} {m : MethodId} {args : Array Value} {below : List Frame} {meth : Method} {c : Code} {G : MG} (hC : MCx G cX10_layMix 9 p s m args meth c) (hr : meth.sig.returnType = none) {x : MS} :
    ∀ (fu : Nat) (x1 : Int32) (x2 : Int32) (x4 : Int32) (x5 : Int32) (x6 : Int32) (σ : MS), F_layMix_L55 fu x1 x2 x4 x5 x6 σ = some x → MJ p l e rmM_layMix s m args below meth c G 9 none x 55 [(0, .ref (gM G)), (1, .int x1), (2, .int x2), (4, .int x4), (5, .int x5), (6, .int x6)] [] σ := by
  have hx := hC.1
  have hb := hC.2.1
  intro fu
  induction fu with
  | zero => intro x1 x2 x4 x5 x6 σ hF; exact nm_none hF
  | succ fu ih =>
    intro x1 x2 x4 x5 x6 σ hF H locs ls hP hS hl
    rw [F_layMix_L55] at hF
    refine lv_iload hx hb dX10_layMix_55 (lv_at hl 5 rfl) ?_
    refine lv_iload_n hx hb dX10_layMix_57 rfl (lv_at hl 2 rfl) ?_
    refine lv_icmp_ge (tgt := 143) hx hb dX10_layMix_58 (by decide) (fun c_1 => ?_) (fun c_1 => ?_)
    · replace hF := it_t hF c_1
      exact M_retv hC hP hS hr (Option.some.inj hF) dX10_layMix_143
    · replace hF := it_f hF c_1
      refine lv_iload hx hb dX10_layMix_61 (lv_at hl 4 rfl) ?_
      refine lv_iload_n hx hb dX10_layMix_63 rfl (lv_at hl 2 rfl) ?_
      refine lv_iload hx hb dX10_layMix_64 (lv_at hl 5 rfl) ?_
      refine lv_isub hx hb dX10_layMix_66 ?_
      obtain ⟨h_2, hF⟩ := gd_ok hF
      refine lv_idiv hx hb dX10_layMix_67 h_2 ?_
      refine lv_topi (fun x5_3 ex5_3 => ?_)
      replace hF := lt_at hF ex5_3
      refine lv_istore (lv' := [(5, .int x5_3), (0, .ref (gM G)), (1, .int x1), (2, .int x2), (4, .int x4), (6, .int x6)]) hx hb dX10_layMix_68 hl (by decide) rfl (fun ls hl => ?_)
      refine lv_iload hx hb dX10_layMix_70 (lv_at hl 4 rfl) ?_
      refine lv_iload hx hb dX10_layMix_72 (lv_at hl 0 rfl) ?_
      obtain ⟨h_4, hF⟩ := gd_ok hF
      refine lv_idiv hx hb dX10_layMix_74 h_4 ?_
      refine lv_topi (fun x7_5 ex7_5 => ?_)
      replace hF := lt_at hF ex7_5
      refine lv_istore (lv' := [(7, .int x7_5), (5, .int x5_3), (0, .ref (gM G)), (1, .int x1), (2, .int x2), (4, .int x4), (6, .int x6)]) hx hb dX10_layMix_75 hl (by decide) rfl (fun ls hl => ?_)
      refine lv_iload hx hb dX10_layMix_77 (lv_at hl 5 rfl) ?_
      refine lv_iload hx hb dX10_layMix_79 (lv_at hl 1 rfl) ?_
      obtain ⟨h_6, hF⟩ := gd_ok hF
      refine lv_irem hx hb dX10_layMix_81 h_6 ?_
      refine lv_topi (fun x4_7 ex4_7 => ?_)
      replace hF := lt_at hF ex4_7
      refine lv_istore (lv' := [(4, .int x4_7), (7, .int x7_5), (5, .int x5_3), (0, .ref (gM G)), (1, .int x1), (2, .int x2), (6, .int x6)]) hx hb dX10_layMix_82 hl (by decide) rfl (fun ls hl => ?_)
      refine lv_aload_n hx hb dX10_layMix_84 rfl (lv_at hl 3 rfl) ?_
      refine gM41 hC hP dX10_layMix_85 ?_
      refine lv_iload_n hx hb dX10_layMix_88 rfl (lv_at hl 4 rfl) ?_
      refine lv_iload hx hb dX10_layMix_89 (lv_at hl 6 rfl) ?_
      refine lv_iadd hx hb dX10_layMix_91 ?_
      refine lv_aload_n hx hb dX10_layMix_92 rfl (lv_at hl 3 rfl) ?_
      refine gM42 hC hP dX10_layMix_93 ?_
      refine lv_iload hx hb dX10_layMix_96 (lv_at hl 1 rfl) ?_
      obtain ⟨h_8, hF⟩ := gd_ok hF
      refine M_iald hC hP 42 (by decide) rfl rfl rfl h_8 dX10_layMix_98 ?_
      obtain ⟨h_9, hF⟩ := gd_ok hF
      refine M_iast hC hP hS 41 (by decide) rfl rfl rfl h_9 dX10_layMix_99 (fun H locs hP hS => ?_)
      obtain ⟨σ_10, eσ_10, hF⟩ := lt_ok hF
      rw [← eσ_10] at hP
      refine lv_iload hx hb dX10_layMix_100 (lv_at hl 1 rfl) ?_
      refine lv_istore (lv' := [(8, .int x7_5), (4, .int x4_7), (7, .int x7_5), (5, .int x5_3), (0, .ref (gM G)), (1, .int x1), (2, .int x2), (6, .int x6)]) hx hb dX10_layMix_102 hl (by decide) rfl (fun ls hl => ?_)
      exact w_layMix_L104 hC hr (F_layMix_L55 fu) ih MN x1 x2 x4_7 x5_3 x6 x7_5 σ_10 hF H locs ls hP hS (lv_sub hl [4, 5, 6, 1, 3, 7, 0] rfl)
def F_layMix_b52 (x1 : Int32) (x2 : Int32) (x4 : Int32) (x5 : Int32) (σ : MS) : Option MS :=
  F_layMix_L55 MN x1 x2 x4 x5 (0 : Int32) σ
set_option maxHeartbeats 4000000 in
theorem w_layMix_b52 {p : Program} {l : Launch} {e : Env} {s : State} {m : MethodId} {args : Array Value} {below : List Frame} {meth : Method} {c : Code} {G : MG} (hC : MCx G cX10_layMix 9 p s m args meth c) (hr : meth.sig.returnType = none) {x : MS} :
    ∀ (x1 : Int32) (x2 : Int32) (x4 : Int32) (x5 : Int32) (σ : MS), F_layMix_b52 x1 x2 x4 x5 σ = some x → MJ p l e rmM_layMix s m args below meth c G 9 none x 52 [(0, .ref (gM G)), (1, .int x1), (2, .int x2), (4, .int x4), (5, .int x5)] [] σ := by
  have hx := hC.1
  have hb := hC.2.1
  intro x1 x2 x4 x5 σ hF H locs ls hP hS hl
  rw [F_layMix_b52] at hF
  refine lv_iconst (v := 0) hx hb dX10_layMix_52 (by decide) ?_
  refine lv_istore (lv' := [(6, .int (0 : Int32)), (0, .ref (gM G)), (1, .int x1), (2, .int x2), (4, .int x4), (5, .int x5)]) hx hb dX10_layMix_53 hl (by decide) rfl (fun ls hl => ?_)
  exact w_layMix_L55 hC hr MN x1 x2 x4 x5 (0 : Int32) σ hF H locs ls hP hS (lv_sub hl [1, 2, 3, 4, 5, 0] rfl)
def F_layMix_L29 : Nat → Int32 → Int32 → Int32 → Int32 → Int32 → MS → Option MS
  | 0, _, _, _, _, _, _ => none
  | fu + 1, x1, x2, x4, x5, x6, σ =>
    if x2 ≤ x6 then
      F_layMix_b52 x1 x2 x4 x5 σ
    else
      gd (inb x6 8) <|
      lt (wA σ 42 (Int32.toNatClampNeg x6) (x1 + x6)) fun σ_3 =>
      lt (x6 + (1 : Int32)) fun x6_4 =>
      F_layMix_L29 fu x1 x2 x4 x5 x6_4 σ_3
set_option maxHeartbeats 4000000 in
theorem w_layMix_L29 {p : Program} {l : Launch} {e : Env} {s : State} {m : MethodId} {args : Array Value} {below : List Frame} {meth : Method} {c : Code} {G : MG} (hC : MCx G cX10_layMix 9 p s m args meth c) (hr : meth.sig.returnType = none) {x : MS} :
    ∀ (fu : Nat) (x1 : Int32) (x2 : Int32) (x4 : Int32) (x5 : Int32) (x6 : Int32) (σ : MS), F_layMix_L29 fu x1 x2 x4 x5 x6 σ = some x → MJ p l e rmM_layMix s m args below meth c G 9 none x 29 [(0, .ref (gM G)), (1, .int x1), (2, .int x2), (4, .int x4), (5, .int x5), (6, .int x6)] [] σ := by
  have hx := hC.1
  have hb := hC.2.1
  intro fu
  induction fu with
  | zero => intro x1 x2 x4 x5 x6 σ hF; exact nm_none hF
  | succ fu ih =>
    intro x1 x2 x4 x5 x6 σ hF H locs ls hP hS hl
    rw [F_layMix_L29] at hF
    refine lv_iload hx hb dX10_layMix_29 (lv_at hl 5 rfl) ?_
    refine lv_iload_n hx hb dX10_layMix_31 rfl (lv_at hl 2 rfl) ?_
    refine lv_icmp_ge (tgt := 52) hx hb dX10_layMix_32 (by decide) (fun c_1 => ?_) (fun c_1 => ?_)
    · replace hF := it_t hF c_1
      exact w_layMix_b52 hC hr x1 x2 x4 x5 σ hF H locs ls hP hS (lv_sub hl [0, 1, 2, 3, 4] rfl)
    · replace hF := it_f hF c_1
      refine lv_aload_n hx hb dX10_layMix_35 rfl (lv_at hl 0 rfl) ?_
      refine gM42 hC hP dX10_layMix_36 ?_
      refine lv_iload hx hb dX10_layMix_39 (lv_at hl 5 rfl) ?_
      refine lv_iload_n hx hb dX10_layMix_41 rfl (lv_at hl 1 rfl) ?_
      refine lv_iload hx hb dX10_layMix_42 (lv_at hl 5 rfl) ?_
      refine lv_iadd hx hb dX10_layMix_44 ?_
      obtain ⟨h_2, hF⟩ := gd_ok hF
      refine M_iast hC hP hS 42 (by decide) rfl rfl rfl h_2 dX10_layMix_45 (fun H locs hP hS => ?_)
      obtain ⟨σ_3, eσ_3, hF⟩ := lt_ok hF
      rw [← eσ_3] at hP
      obtain ⟨x6_4, ex6_4, hF⟩ := lt_ok hF
      refine lv_iinc (v := x6_4) (lv' := [(6, .int x6_4), (0, .ref (gM G)), (1, .int x1), (2, .int x2), (4, .int x4), (5, .int x5)]) hx hb dX10_layMix_46 hl (k := 5) rfl (by rw [ex6_4]; rfl) (by decide) rfl (fun ls hl => ?_)
      refine lv_goto (tgt := 29) hx hb dX10_layMix_49 (by decide) ?_
      exact ih x1 x2 x4 x5 x6_4 σ_3 hF H locs ls hP hS (lv_sub hl [1, 2, 3, 4, 5, 0] rfl)
def F_layMix_b24 (x1 : Int32) (x2 : Int32) (x4 : Int32) (y0 : Int32) (σ : MS) : Option MS :=
  F_layMix_L29 MN x1 x2 x4 y0 (0 : Int32) σ
set_option maxHeartbeats 4000000 in
theorem w_layMix_b24 {p : Program} {l : Launch} {e : Env} {s : State} {m : MethodId} {args : Array Value} {below : List Frame} {meth : Method} {c : Code} {G : MG} (hC : MCx G cX10_layMix 9 p s m args meth c) (hr : meth.sig.returnType = none) {x : MS} :
    ∀ (x1 : Int32) (x2 : Int32) (x4 : Int32) (y0 : Int32) (σ : MS), F_layMix_b24 x1 x2 x4 y0 σ = some x → MJ p l e rmM_layMix s m args below meth c G 9 none x 24 [(0, .ref (gM G)), (1, .int x1), (2, .int x2), (4, .int x4)] [.int y0] σ := by
  have hx := hC.1
  have hb := hC.2.1
  intro x1 x2 x4 y0 σ hF H locs ls hP hS hl
  rw [F_layMix_b24] at hF
  refine lv_istore (lv' := [(5, .int y0), (0, .ref (gM G)), (1, .int x1), (2, .int x2), (4, .int x4)]) hx hb dX10_layMix_24 hl (by decide) rfl (fun ls hl => ?_)
  refine lv_iconst (v := 0) hx hb dX10_layMix_26 (by decide) ?_
  refine lv_istore (lv' := [(6, .int (0 : Int32)), (5, .int y0), (0, .ref (gM G)), (1, .int x1), (2, .int x2), (4, .int x4)]) hx hb dX10_layMix_27 hl (by decide) rfl (fun ls hl => ?_)
  exact w_layMix_L29 hC hr MN x1 x2 x4 y0 (0 : Int32) σ hF H locs ls hP hS (lv_sub hl [2, 3, 4, 5, 1, 0] rfl)
def F_layMix (a0 : Int32) (a1 : Int32) (a2 : Int32) (σ : MS) : Option MS :=
  if a1 = (2 : Int32) then
    F_layMix_b24 a0 a1 a2 (2 : Int32) σ
  else
    if a1 = (3 : Int32) then
      F_layMix_b24 a0 a1 a2 (6 : Int32) σ
    else
      F_layMix_b24 a0 a1 a2 (24 : Int32) σ
set_option maxHeartbeats 4000000 in
theorem w_layMix {p : Program} {l : Launch} {e : Env} {s : State} {m : MethodId} {args : Array Value} {below : List Frame} {meth : Method} {c : Code} {G : MG} (hC : MCx G cX10_layMix 9 p s m args meth c) (hr : meth.sig.returnType = none) {x : MS} :
    ∀ (a0 : Int32) (a1 : Int32) (a2 : Int32) (σ : MS), F_layMix a0 a1 a2 σ = some x → MJ p l e rmM_layMix s m args below meth c G 9 none x 0 [(0, .ref (gM G)), (1, .int a0), (2, .int a1), (3, .int a2)] [] σ := by
  have hx := hC.1
  have hb := hC.2.1
  intro a0 a1 a2 σ hF H locs ls hP hS hl
  rw [F_layMix] at hF
  refine lv_iload_n hx hb dX10_layMix_0 rfl (lv_at hl 3 rfl) ?_
  refine lv_istore (lv' := [(4, .int a2), (0, .ref (gM G)), (1, .int a0), (2, .int a1), (3, .int a2)]) hx hb dX10_layMix_1 hl (by decide) rfl (fun ls hl => ?_)
  refine lv_iload_n hx hb dX10_layMix_3 rfl (lv_at hl 3 rfl) ?_
  refine lv_iconst (v := 2) hx hb dX10_layMix_4 (by decide) ?_
  refine lv_icmp_ne (tgt := 12) hx hb dX10_layMix_5 (by decide) (fun c_1 => ?_) (fun c_1 => ?_)
  · replace hF := it_f hF c_1
    refine lv_iload_n hx hb dX10_layMix_12 rfl (lv_at hl 3 rfl) ?_
    refine lv_iconst (v := 3) hx hb dX10_layMix_13 (by decide) ?_
    refine lv_icmp_ne (tgt := 22) hx hb dX10_layMix_14 (by decide) (fun c_2 => ?_) (fun c_2 => ?_)
    · replace hF := it_f hF c_2
      refine lv_bipush (v := 24) hx hb dX10_layMix_22 (by decide) ?_
      exact w_layMix_b24 hC hr a0 a1 a2 (24 : Int32) σ hF H locs ls hP hS (lv_sub hl [1, 2, 3, 0] rfl)
    · replace hF := it_t hF c_2
      refine lv_bipush (v := 6) hx hb dX10_layMix_17 (by decide) ?_
      refine lv_goto (tgt := 24) hx hb dX10_layMix_19 (by decide) ?_
      exact w_layMix_b24 hC hr a0 a1 a2 (6 : Int32) σ hF H locs ls hP hS (lv_sub hl [1, 2, 3, 0] rfl)
  · replace hF := it_t hF c_1
    refine lv_iconst (v := 2) hx hb dX10_layMix_8 (by decide) ?_
    refine lv_goto (tgt := 24) hx hb dX10_layMix_9 (by decide) ?_
    exact w_layMix_b24 hC hr a0 a1 a2 (2 : Int32) σ hF H locs ls hP hS (lv_sub hl [1, 2, 3, 0] rfl)
theorem m_layMix (l : Launch) (G : MG) (a0 : Int32) (a1 : Int32) (a2 : Int32) (σ : MS) (x : MS) (hF : F_layMix a0 a1 a2 σ = some x) : Met l yX10_layMix (ws_ yX10_layMix cX10_layMix 9 none) rmM_layMix (mP G [.ref (gM G), .int a0, .int a1, .int a2] σ) (mQ G none x) 0 0 (MA G) := by
  refine M_met rfl plM (Nat.le_of_ble_eq_true rfl) ?_
  intro p e s m below meth c hC hr ls hl hP
  exact w_layMix hC hr a0 a1 a2 σ hF s.heap [] ls hP va_S.rf hl
theorem iM_layMix {p : Program} {l : Launch} {e : Env} {R : Room} {s : State} {m : MethodId} {args : Array Value} {below : List Frame} {meth : Method} {c : Code} {H H0 : Heap} {locs : List Loc} {cells slots nL : Nat} {Q : State → Prop} {G : MG} {σ : MS} {cc : ByteArray} {pc : Nat} {ls : Array Slot} {rest : List Value} (hC : MCx G cc nL p s m args meth c) (hP : MRep G σ H) (hS : va_S (MA G) H0 H locs) {a0 : Int32} {a1 : Int32} {a2 : Int32} {x : MS} (hF : F_layMix a0 a1 a2 σ = some x) (hl : ls.size = nL) (hW : (rest.map fun v => v.category).sum ≤ 8) (hR : rmM_layMix.frames + 1 ≤ R.frames ∧ 8 + (9 + 11) + rmM_layMix.locals ≤ R.locals) (hf : cells ≤ R.cells ∧ slots ≤ R.slots) (hdg : decode cc pc = .ok (.invokevirtual 431, 3))
    (kk : ∀ (H1 : Heap) (locs1 : List Loc), MRep G x H1 → va_S (MA G) H0 H1 locs1 → W p l e R s m args below meth c H1 locs1 cells slots Q (F0 m (pc + 3) ls (rest))) : W p l e R s m args below meth c H locs cells slots Q (F0 m pc ls (.int a2 :: .int a1 :: .int a0 :: .ref (gM G) :: rest)) :=
  M_inv hC hP hS [.int a0, .int a1, .int a2] (m_layMix l G a0 a1 a2 σ _ hF) (cwV 3 hC.2.2.2.2.1 (lw_V q1896 q1898 qs65 q145 q1899) rfl rfl rfl (by decide +kernel) hR) rfl rfl hl hW hf hdg kk
/-! layMove -/
abbrev rmM_layMove : Room := { frames := 1, cells := 0, slots := 0, locals := 28 }
def F_layMove_L197 : Nat → Int32 → Int32 → Int32 → Int32 → MS → Option MS
  | 0, _, _, _, _, _ => none
  | fu + 1, x3, x4, x5, x6, σ =>
    if x4 ≤ x6 then
      some σ
    else
      gd (¬ x4 = 0) <|
      gd (inb (x3 + ((x6 + x5) - (x6 + x5) / x4 * x4)) 8) <|
      lt (wA σ 41 (Int32.toNatClampNeg (x3 + ((x6 + x5) - (x6 + x5) / x4 * x4))) (x3 + x6)) fun σ_4 =>
      lt (x6 + (1 : Int32)) fun x6_5 =>
      F_layMove_L197 fu x3 x4 x5 x6_5 σ_4
set_option maxHeartbeats 4000000 in
theorem w_layMove_L197 {p : Program} {l : Launch} {e : Env} {s : State} {m : MethodId} {args : Array Value} {below : List Frame} {meth : Method} {c : Code} {G : MG} (hC : MCx G cX10_layMove 7 p s m args meth c) (hr : meth.sig.returnType = none) {x : MS} :
    ∀ (fu : Nat) (x3 : Int32) (x4 : Int32) (x5 : Int32) (x6 : Int32) (σ : MS), F_layMove_L197 fu x3 x4 x5 x6 σ = some x → MJ p l e rmM_layMove s m args below meth c G 7 none x 197 [(0, .ref (gM G)), (3, .int x3), (4, .int x4), (5, .int x5), (6, .int x6)] [] σ := by
  have hx := hC.1
  have hb := hC.2.1
  intro fu
  induction fu with
  | zero => intro x3 x4 x5 x6 σ hF; exact nm_none hF
  | succ fu ih =>
    intro x3 x4 x5 x6 σ hF H locs ls hP hS hl
    rw [F_layMove_L197] at hF
    refine lv_iload hx hb dX10_layMove_197 (lv_at hl 4 rfl) ?_
    refine lv_iload hx hb dX10_layMove_199 (lv_at hl 2 rfl) ?_
    refine lv_icmp_ge (tgt := 229) hx hb dX10_layMove_201 (by decide) (fun c_1 => ?_) (fun c_1 => ?_)
    · replace hF := it_t hF c_1
      exact M_retv hC hP hS hr (Option.some.inj hF) dX10_layMove_229
    · replace hF := it_f hF c_1
      refine lv_aload_n hx hb dX10_layMove_204 rfl (lv_at hl 0 rfl) ?_
      refine gM41 hC hP dX10_layMove_205 ?_
      refine lv_iload_n hx hb dX10_layMove_208 rfl (lv_at hl 1 rfl) ?_
      refine lv_iload hx hb dX10_layMove_209 (lv_at hl 4 rfl) ?_
      refine lv_iload hx hb dX10_layMove_211 (lv_at hl 3 rfl) ?_
      refine lv_iadd hx hb dX10_layMove_213 ?_
      refine lv_iload hx hb dX10_layMove_214 (lv_at hl 2 rfl) ?_
      obtain ⟨h_2, hF⟩ := gd_ok hF
      refine lv_irem hx hb dX10_layMove_216 h_2 ?_
      refine lv_iadd hx hb dX10_layMove_217 ?_
      refine lv_iload_n hx hb dX10_layMove_218 rfl (lv_at hl 1 rfl) ?_
      refine lv_iload hx hb dX10_layMove_219 (lv_at hl 4 rfl) ?_
      refine lv_iadd hx hb dX10_layMove_221 ?_
      obtain ⟨h_3, hF⟩ := gd_ok hF
      refine M_iast hC hP hS 41 (by decide) rfl rfl rfl h_3 dX10_layMove_222 (fun H locs hP hS => ?_)
      obtain ⟨σ_4, eσ_4, hF⟩ := lt_ok hF
      rw [← eσ_4] at hP
      obtain ⟨x6_5, ex6_5, hF⟩ := lt_ok hF
      refine lv_iinc (v := x6_5) (lv' := [(6, .int x6_5), (0, .ref (gM G)), (3, .int x3), (4, .int x4), (5, .int x5)]) hx hb dX10_layMove_223 hl (k := 4) rfl (by rw [ex6_5]; rfl) (by decide) rfl (fun ls hl => ?_)
      refine lv_goto (tgt := 197) hx hb dX10_layMove_226 (by decide) ?_
      exact ih x3 x4 x5 x6_5 σ_4 hF H locs ls hP hS (lv_sub hl [1, 2, 3, 4, 0] rfl)
def F_layMove_b192 (x3 : Int32) (x4 : Int32) (y0 : Int32) (σ : MS) : Option MS :=
  F_layMove_L197 MN x3 x4 y0 (0 : Int32) σ
set_option maxHeartbeats 4000000 in
theorem w_layMove_b192 {p : Program} {l : Launch} {e : Env} {s : State} {m : MethodId} {args : Array Value} {below : List Frame} {meth : Method} {c : Code} {G : MG} (hC : MCx G cX10_layMove 7 p s m args meth c) (hr : meth.sig.returnType = none) {x : MS} :
    ∀ (x3 : Int32) (x4 : Int32) (y0 : Int32) (σ : MS), F_layMove_b192 x3 x4 y0 σ = some x → MJ p l e rmM_layMove s m args below meth c G 7 none x 192 [(0, .ref (gM G)), (3, .int x3), (4, .int x4)] [.int y0] σ := by
  have hx := hC.1
  have hb := hC.2.1
  intro x3 x4 y0 σ hF H locs ls hP hS hl
  rw [F_layMove_b192] at hF
  refine lv_istore (lv' := [(5, .int y0), (0, .ref (gM G)), (3, .int x3), (4, .int x4)]) hx hb dX10_layMove_192 hl (by decide) rfl (fun ls hl => ?_)
  refine lv_iconst (v := 0) hx hb dX10_layMove_194 (by decide) ?_
  refine lv_istore (lv' := [(6, .int (0 : Int32)), (5, .int y0), (0, .ref (gM G)), (3, .int x3), (4, .int x4)]) hx hb dX10_layMove_195 hl (by decide) rfl (fun ls hl => ?_)
  exact w_layMove_L197 hC hr MN x3 x4 y0 (0 : Int32) σ hF H locs ls hP hS (lv_sub hl [2, 3, 4, 1, 0] rfl)
def F_layMove_L90 : Nat → Int32 → Int32 → MS → Option MS
  | 0, _, _, _ => none
  | fu + 1, x1, x5, σ =>
    gd (inb x1 104) <|
    if (mA σ 26 (Int32.toNatClampNeg x1)) ≤ x5 then
      some σ
    else
      gd (inb (((8 : Int32) * x1) + x5) 832) <|
      gd (inb x5 8) <|
      lt (wA σ 41 (Int32.toNatClampNeg x5) (mA σ 27 (Int32.toNatClampNeg (((8 : Int32) * x1) + x5)))) fun σ_5 =>
      lt (x5 + (1 : Int32)) fun x5_6 =>
      F_layMove_L90 fu x1 x5_6 σ_5
set_option maxHeartbeats 4000000 in
theorem w_layMove_L90 {p : Program} {l : Launch} {e : Env} {s : State} {m : MethodId} {args : Array Value} {below : List Frame} {meth : Method} {c : Code} {G : MG} (hC : MCx G cX10_layMove 7 p s m args meth c) (hr : meth.sig.returnType = none) {x : MS} :
    ∀ (fu : Nat) (x1 : Int32) (x5 : Int32) (σ : MS), F_layMove_L90 fu x1 x5 σ = some x → MJ p l e rmM_layMove s m args below meth c G 7 none x 90 [(0, .ref (gM G)), (1, .int x1), (5, .int x5)] [] σ := by
  have hx := hC.1
  have hb := hC.2.1
  intro fu
  induction fu with
  | zero => intro x1 x5 σ hF; exact nm_none hF
  | succ fu ih =>
    intro x1 x5 σ hF H locs ls hP hS hl
    rw [F_layMove_L90] at hF
    refine lv_iload hx hb dX10_layMove_90 (lv_at hl 2 rfl) ?_
    refine lv_aload_n hx hb dX10_layMove_92 rfl (lv_at hl 0 rfl) ?_
    refine gM26 hC hP dX10_layMove_93 ?_
    refine lv_iload_n hx hb dX10_layMove_96 rfl (lv_at hl 1 rfl) ?_
    obtain ⟨h_1, hF⟩ := gd_ok hF
    refine M_iald hC hP 26 (by decide) rfl rfl rfl h_1 dX10_layMove_97 ?_
    refine lv_icmp_ge (tgt := 126) hx hb dX10_layMove_98 (by decide) (fun c_2 => ?_) (fun c_2 => ?_)
    · replace hF := it_t hF c_2
      refine lv_goto (tgt := 229) hx hb dX10_layMove_126 (by decide) ?_
      exact M_retv hC hP hS hr (Option.some.inj hF) dX10_layMove_229
    · replace hF := it_f hF c_2
      refine lv_aload_n hx hb dX10_layMove_101 rfl (lv_at hl 0 rfl) ?_
      refine gM41 hC hP dX10_layMove_102 ?_
      refine lv_iload hx hb dX10_layMove_105 (lv_at hl 2 rfl) ?_
      refine lv_aload_n hx hb dX10_layMove_107 rfl (lv_at hl 0 rfl) ?_
      refine gM27 hC hP dX10_layMove_108 ?_
      refine lv_bipush (v := 8) hx hb dX10_layMove_111 (by decide) ?_
      refine lv_iload_n hx hb dX10_layMove_113 rfl (lv_at hl 1 rfl) ?_
      refine lv_imul hx hb dX10_layMove_114 ?_
      refine lv_iload hx hb dX10_layMove_115 (lv_at hl 2 rfl) ?_
      refine lv_iadd hx hb dX10_layMove_117 ?_
      obtain ⟨h_3, hF⟩ := gd_ok hF
      refine M_iald hC hP 27 (by decide) rfl rfl rfl h_3 dX10_layMove_118 ?_
      obtain ⟨h_4, hF⟩ := gd_ok hF
      refine M_iast hC hP hS 41 (by decide) rfl rfl rfl h_4 dX10_layMove_119 (fun H locs hP hS => ?_)
      obtain ⟨σ_5, eσ_5, hF⟩ := lt_ok hF
      rw [← eσ_5] at hP
      obtain ⟨x5_6, ex5_6, hF⟩ := lt_ok hF
      refine lv_iinc (v := x5_6) (lv' := [(5, .int x5_6), (0, .ref (gM G)), (1, .int x1)]) hx hb dX10_layMove_120 hl (k := 2) rfl (by rw [ex5_6]; rfl) (by decide) rfl (fun ls hl => ?_)
      refine lv_goto (tgt := 90) hx hb dX10_layMove_123 (by decide) ?_
      exact ih x1 x5_6 σ_5 hF H locs ls hP hS (lv_sub hl [1, 2, 0] rfl)
def F_layMove_b21 (x1 : Int32) (x2 : Int32) (σ : MS) : Option MS :=
  gd (inb x1 104) <|
  lt ((mA σ 23 (Int32.toNatClampNeg x1))) fun x3_2 =>
  gd (inb x1 104) <|
  lt ((((mA σ 24 (Int32.toNatClampNeg x1)) - x3_2) + (1 : Int32))) fun x4_4 =>
  gd (inb x1 104) <|
  if (mA σ 22 (Int32.toNatClampNeg x1)) = (2 : Int32) then
    gd (inb x1 104) <|
    gd (inb x3_2 8) <|
    lt (wA σ 41 (Int32.toNatClampNeg x3_2) (mA σ 24 (Int32.toNatClampNeg x1))) fun σ_20 =>
    gd (inb x1 104) <|
    gd (inb (mA σ_20 24 (Int32.toNatClampNeg x1)) 8) <|
    lt (wA σ_20 41 (Int32.toNatClampNeg (mA σ_20 24 (Int32.toNatClampNeg x1))) x3_2) fun σ_23 =>
    some σ_23
  else
    gd (inb x1 104) <|
    if (mA σ 22 (Int32.toNatClampNeg x1)) = (3 : Int32) then
      F_layMove_L90 MN x1 (0 : Int32) σ
    else
      gd (inb x1 104) <|
      if (mA σ 22 (Int32.toNatClampNeg x1)) = (7 : Int32) then
        bd (F_layMix x3_2 x4_4 x2 σ) fun σ_17 =>
        some σ_17
      else
        gd (inb x1 104) <|
        if (mA σ 22 (Int32.toNatClampNeg x1)) = (4 : Int32) then
          F_layMove_b192 x3_2 x4_4 x2 σ
        else
          gd (inb x1 104) <|
          if (mA σ 22 (Int32.toNatClampNeg x1)) = (5 : Int32) then
            F_layMove_b192 x3_2 x4_4 ((x2 * x4_4) / (2 : Int32)) σ
          else
            gd (inb x1 104) <|
            F_layMove_b192 x3_2 x4_4 (x2 * (mA σ 25 (Int32.toNatClampNeg x1))) σ
set_option maxHeartbeats 4000000 in
theorem w_layMove_b21 {p : Program} {l : Launch} {e : Env} {s : State} {m : MethodId} {args : Array Value} {below : List Frame} {meth : Method} {c : Code} {G : MG} (hC : MCx G cX10_layMove 7 p s m args meth c) (hr : meth.sig.returnType = none) {x : MS} :
    ∀ (x1 : Int32) (x2 : Int32) (σ : MS), F_layMove_b21 x1 x2 σ = some x → MJ p l e rmM_layMove s m args below meth c G 7 none x 21 [(0, .ref (gM G)), (1, .int x1), (2, .int x2)] [] σ := by
  have hx := hC.1
  have hb := hC.2.1
  intro x1 x2 σ hF H locs ls hP hS hl
  rw [F_layMove_b21] at hF
  refine lv_aload_n hx hb dX10_layMove_21 rfl (lv_at hl 0 rfl) ?_
  refine gM23 hC hP dX10_layMove_22 ?_
  refine lv_iload_n hx hb dX10_layMove_25 rfl (lv_at hl 1 rfl) ?_
  obtain ⟨h_1, hF⟩ := gd_ok hF
  refine M_iald hC hP 23 (by decide) rfl rfl rfl h_1 dX10_layMove_26 ?_
  refine lv_topi (fun x3_2 ex3_2 => ?_)
  replace hF := lt_at hF ex3_2
  refine lv_istore_n (lv' := [(3, .int x3_2), (0, .ref (gM G)), (1, .int x1), (2, .int x2)]) hx hb dX10_layMove_27 rfl hl (by decide) rfl (fun ls hl => ?_)
  refine lv_aload_n hx hb dX10_layMove_28 rfl (lv_at hl 1 rfl) ?_
  refine gM24 hC hP dX10_layMove_29 ?_
  refine lv_iload_n hx hb dX10_layMove_32 rfl (lv_at hl 2 rfl) ?_
  obtain ⟨h_3, hF⟩ := gd_ok hF
  refine M_iald hC hP 24 (by decide) rfl rfl rfl h_3 dX10_layMove_33 ?_
  refine lv_iload_n hx hb dX10_layMove_34 rfl (lv_at hl 0 rfl) ?_
  refine lv_isub hx hb dX10_layMove_35 ?_
  refine lv_iconst (v := 1) hx hb dX10_layMove_36 (by decide) ?_
  refine lv_iadd hx hb dX10_layMove_37 ?_
  refine lv_topi (fun x4_4 ex4_4 => ?_)
  replace hF := lt_at hF ex4_4
  refine lv_istore (lv' := [(4, .int x4_4), (3, .int x3_2), (0, .ref (gM G)), (1, .int x1), (2, .int x2)]) hx hb dX10_layMove_38 hl (by decide) rfl (fun ls hl => ?_)
  refine lv_aload_n hx hb dX10_layMove_40 rfl (lv_at hl 2 rfl) ?_
  refine gM22 hC hP dX10_layMove_41 ?_
  refine lv_iload_n hx hb dX10_layMove_44 rfl (lv_at hl 3 rfl) ?_
  obtain ⟨h_5, hF⟩ := gd_ok hF
  refine M_iald hC hP 22 (by decide) rfl rfl rfl h_5 dX10_layMove_45 ?_
  refine lv_iconst (v := 2) hx hb dX10_layMove_46 (by decide) ?_
  refine lv_icmp_ne (tgt := 77) hx hb dX10_layMove_47 (by decide) (fun c_6 => ?_) (fun c_6 => ?_)
  · replace hF := it_f hF c_6
    refine lv_aload_n hx hb dX10_layMove_77 rfl (lv_at hl 2 rfl) ?_
    refine gM22 hC hP dX10_layMove_78 ?_
    refine lv_iload_n hx hb dX10_layMove_81 rfl (lv_at hl 3 rfl) ?_
    obtain ⟨h_7, hF⟩ := gd_ok hF
    refine M_iald hC hP 22 (by decide) rfl rfl rfl h_7 dX10_layMove_82 ?_
    refine lv_iconst (v := 3) hx hb dX10_layMove_83 (by decide) ?_
    refine lv_icmp_ne (tgt := 129) hx hb dX10_layMove_84 (by decide) (fun c_8 => ?_) (fun c_8 => ?_)
    · replace hF := it_f hF c_8
      refine lv_aload_n hx hb dX10_layMove_129 rfl (lv_at hl 2 rfl) ?_
      refine gM22 hC hP dX10_layMove_130 ?_
      refine lv_iload_n hx hb dX10_layMove_133 rfl (lv_at hl 3 rfl) ?_
      obtain ⟨h_9, hF⟩ := gd_ok hF
      refine M_iald hC hP 22 (by decide) rfl rfl rfl h_9 dX10_layMove_134 ?_
      refine lv_bipush (v := 7) hx hb dX10_layMove_135 (by decide) ?_
      refine lv_icmp_ne (tgt := 151) hx hb dX10_layMove_137 (by decide) (fun c_10 => ?_) (fun c_10 => ?_)
      · replace hF := it_f hF c_10
        refine lv_aload_n hx hb dX10_layMove_151 rfl (lv_at hl 2 rfl) ?_
        refine gM22 hC hP dX10_layMove_152 ?_
        refine lv_iload_n hx hb dX10_layMove_155 rfl (lv_at hl 3 rfl) ?_
        obtain ⟨h_11, hF⟩ := gd_ok hF
        refine M_iald hC hP 22 (by decide) rfl rfl rfl h_11 dX10_layMove_156 ?_
        refine lv_iconst (v := 4) hx hb dX10_layMove_157 (by decide) ?_
        refine lv_icmp_ne (tgt := 165) hx hb dX10_layMove_158 (by decide) (fun c_12 => ?_) (fun c_12 => ?_)
        · replace hF := it_f hF c_12
          refine lv_aload_n hx hb dX10_layMove_165 rfl (lv_at hl 2 rfl) ?_
          refine gM22 hC hP dX10_layMove_166 ?_
          refine lv_iload_n hx hb dX10_layMove_169 rfl (lv_at hl 3 rfl) ?_
          obtain ⟨h_13, hF⟩ := gd_ok hF
          refine M_iald hC hP 22 (by decide) rfl rfl rfl h_13 dX10_layMove_170 ?_
          refine lv_iconst (v := 5) hx hb dX10_layMove_171 (by decide) ?_
          refine lv_icmp_ne (tgt := 184) hx hb dX10_layMove_172 (by decide) (fun c_14 => ?_) (fun c_14 => ?_)
          · replace hF := it_f hF c_14
            refine lv_iload_n hx hb dX10_layMove_184 rfl (lv_at hl 4 rfl) ?_
            refine lv_aload_n hx hb dX10_layMove_185 rfl (lv_at hl 2 rfl) ?_
            refine gM25 hC hP dX10_layMove_186 ?_
            refine lv_iload_n hx hb dX10_layMove_189 rfl (lv_at hl 3 rfl) ?_
            obtain ⟨h_15, hF⟩ := gd_ok hF
            refine M_iald hC hP 25 (by decide) rfl rfl rfl h_15 dX10_layMove_190 ?_
            refine lv_imul hx hb dX10_layMove_191 ?_
            exact w_layMove_b192 hC hr x3_2 x4_4 (x2 * (mA σ 25 (Int32.toNatClampNeg x1))) σ hF H locs ls hP hS (lv_sub hl [2, 1, 0] rfl)
          · replace hF := it_t hF c_14
            refine lv_iload_n hx hb dX10_layMove_175 rfl (lv_at hl 4 rfl) ?_
            refine lv_iload hx hb dX10_layMove_176 (lv_at hl 0 rfl) ?_
            refine lv_imul hx hb dX10_layMove_178 ?_
            refine lv_iconst (v := 2) hx hb dX10_layMove_179 (by decide) ?_
            refine lv_idiv hx hb dX10_layMove_180 (by decide) ?_
            refine lv_goto (tgt := 192) hx hb dX10_layMove_181 (by decide) ?_
            exact w_layMove_b192 hC hr x3_2 x4_4 ((x2 * x4_4) / (2 : Int32)) σ hF H locs ls hP hS (lv_sub hl [2, 1, 0] rfl)
        · replace hF := it_t hF c_12
          refine lv_iload_n hx hb dX10_layMove_161 rfl (lv_at hl 4 rfl) ?_
          refine lv_goto (tgt := 192) hx hb dX10_layMove_162 (by decide) ?_
          exact w_layMove_b192 hC hr x3_2 x4_4 x2 σ hF H locs ls hP hS (lv_sub hl [2, 1, 0] rfl)
      · replace hF := it_t hF c_10
        refine lv_aload_n hx hb dX10_layMove_140 rfl (lv_at hl 2 rfl) ?_
        refine lv_iload_n hx hb dX10_layMove_141 rfl (lv_at hl 1 rfl) ?_
        refine lv_iload hx hb dX10_layMove_142 (lv_at hl 0 rfl) ?_
        refine lv_iload_n hx hb dX10_layMove_144 rfl (lv_at hl 4 rfl) ?_
        obtain ⟨σ_17, hc_16, hF⟩ := bd_ok hF
        refine iM_layMix hC hP hS hc_16 hl.1 (Nat.le_of_ble_eq_true rfl) ⟨Nat.le_of_ble_eq_true rfl, Nat.le_of_ble_eq_true rfl⟩ ⟨Nat.zero_le _, Nat.zero_le _⟩ dX10_layMove_145 (fun H locs hP hS => ?_)
        refine lv_goto (tgt := 229) hx hb dX10_layMove_148 (by decide) ?_
        exact M_retv hC hP hS hr (Option.some.inj hF) dX10_layMove_229
    · replace hF := it_t hF c_8
      refine lv_iconst (v := 0) hx hb dX10_layMove_87 (by decide) ?_
      refine lv_istore (lv' := [(5, .int (0 : Int32)), (4, .int x4_4), (3, .int x3_2), (0, .ref (gM G)), (1, .int x1), (2, .int x2)]) hx hb dX10_layMove_88 hl (by decide) rfl (fun ls hl => ?_)
      exact w_layMove_L90 hC hr MN x1 (0 : Int32) σ hF H locs ls hP hS (lv_sub hl [3, 4, 0] rfl)
  · replace hF := it_t hF c_6
    refine lv_aload_n hx hb dX10_layMove_50 rfl (lv_at hl 2 rfl) ?_
    refine gM41 hC hP dX10_layMove_51 ?_
    refine lv_iload_n hx hb dX10_layMove_54 rfl (lv_at hl 1 rfl) ?_
    refine lv_aload_n hx hb dX10_layMove_55 rfl (lv_at hl 2 rfl) ?_
    refine gM24 hC hP dX10_layMove_56 ?_
    refine lv_iload_n hx hb dX10_layMove_59 rfl (lv_at hl 3 rfl) ?_
    obtain ⟨h_18, hF⟩ := gd_ok hF
    refine M_iald hC hP 24 (by decide) rfl rfl rfl h_18 dX10_layMove_60 ?_
    obtain ⟨h_19, hF⟩ := gd_ok hF
    refine M_iast hC hP hS 41 (by decide) rfl rfl rfl h_19 dX10_layMove_61 (fun H locs hP hS => ?_)
    obtain ⟨σ_20, eσ_20, hF⟩ := lt_ok hF
    rw [← eσ_20] at hP
    refine lv_aload_n hx hb dX10_layMove_62 rfl (lv_at hl 2 rfl) ?_
    refine gM41 hC hP dX10_layMove_63 ?_
    refine lv_aload_n hx hb dX10_layMove_66 rfl (lv_at hl 2 rfl) ?_
    refine gM24 hC hP dX10_layMove_67 ?_
    refine lv_iload_n hx hb dX10_layMove_70 rfl (lv_at hl 3 rfl) ?_
    obtain ⟨h_21, hF⟩ := gd_ok hF
    refine M_iald hC hP 24 (by decide) rfl rfl rfl h_21 dX10_layMove_71 ?_
    refine lv_iload_n hx hb dX10_layMove_72 rfl (lv_at hl 1 rfl) ?_
    obtain ⟨h_22, hF⟩ := gd_ok hF
    refine M_iast hC hP hS 41 (by decide) rfl rfl rfl h_22 dX10_layMove_73 (fun H locs hP hS => ?_)
    obtain ⟨σ_23, eσ_23, hF⟩ := lt_ok hF
    rw [← eσ_23] at hP
    refine lv_goto (tgt := 229) hx hb dX10_layMove_74 (by decide) ?_
    exact M_retv hC hP hS hr (Option.some.inj hF) dX10_layMove_229
def F_layMove_L2 : Nat → Int32 → Int32 → Int32 → MS → Option MS
  | 0, _, _, _, _ => none
  | fu + 1, x1, x2, x3, σ =>
    if (8 : Int32) ≤ x3 then
      F_layMove_b21 x1 x2 σ
    else
      gd (inb x3 8) <|
      lt (wA σ 41 (Int32.toNatClampNeg x3) x3) fun σ_3 =>
      lt (x3 + (1 : Int32)) fun x3_4 =>
      F_layMove_L2 fu x1 x2 x3_4 σ_3
set_option maxHeartbeats 4000000 in
theorem w_layMove_L2 {p : Program} {l : Launch} {e : Env} {s : State} {m : MethodId} {args : Array Value} {below : List Frame} {meth : Method} {c : Code} {G : MG} (hC : MCx G cX10_layMove 7 p s m args meth c) (hr : meth.sig.returnType = none) {x : MS} :
    ∀ (fu : Nat) (x1 : Int32) (x2 : Int32) (x3 : Int32) (σ : MS), F_layMove_L2 fu x1 x2 x3 σ = some x → MJ p l e rmM_layMove s m args below meth c G 7 none x 2 [(0, .ref (gM G)), (1, .int x1), (2, .int x2), (3, .int x3)] [] σ := by
  have hx := hC.1
  have hb := hC.2.1
  intro fu
  induction fu with
  | zero => intro x1 x2 x3 σ hF; exact nm_none hF
  | succ fu ih =>
    intro x1 x2 x3 σ hF H locs ls hP hS hl
    rw [F_layMove_L2] at hF
    refine lv_iload_n hx hb dX10_layMove_2 rfl (lv_at hl 3 rfl) ?_
    refine lv_bipush (v := 8) hx hb dX10_layMove_3 (by decide) ?_
    refine lv_icmp_ge (tgt := 21) hx hb dX10_layMove_5 (by decide) (fun c_1 => ?_) (fun c_1 => ?_)
    · replace hF := it_t hF c_1
      exact w_layMove_b21 hC hr x1 x2 σ hF H locs ls hP hS (lv_sub hl [0, 1, 2] rfl)
    · replace hF := it_f hF c_1
      refine lv_aload_n hx hb dX10_layMove_8 rfl (lv_at hl 0 rfl) ?_
      refine gM41 hC hP dX10_layMove_9 ?_
      refine lv_iload_n hx hb dX10_layMove_12 rfl (lv_at hl 3 rfl) ?_
      refine lv_iload_n hx hb dX10_layMove_13 rfl (lv_at hl 3 rfl) ?_
      obtain ⟨h_2, hF⟩ := gd_ok hF
      refine M_iast hC hP hS 41 (by decide) rfl rfl rfl h_2 dX10_layMove_14 (fun H locs hP hS => ?_)
      obtain ⟨σ_3, eσ_3, hF⟩ := lt_ok hF
      rw [← eσ_3] at hP
      obtain ⟨x3_4, ex3_4, hF⟩ := lt_ok hF
      refine lv_iinc (v := x3_4) (lv' := [(3, .int x3_4), (0, .ref (gM G)), (1, .int x1), (2, .int x2)]) hx hb dX10_layMove_15 hl (k := 3) rfl (by rw [ex3_4]; rfl) (by decide) rfl (fun ls hl => ?_)
      refine lv_goto (tgt := 2) hx hb dX10_layMove_18 (by decide) ?_
      exact ih x1 x2 x3_4 σ_3 hF H locs ls hP hS (lv_sub hl [1, 2, 3, 0] rfl)
def F_layMove (a0 : Int32) (a1 : Int32) (σ : MS) : Option MS :=
  F_layMove_L2 MN a0 a1 (0 : Int32) σ
set_option maxHeartbeats 4000000 in
theorem w_layMove {p : Program} {l : Launch} {e : Env} {s : State} {m : MethodId} {args : Array Value} {below : List Frame} {meth : Method} {c : Code} {G : MG} (hC : MCx G cX10_layMove 7 p s m args meth c) (hr : meth.sig.returnType = none) {x : MS} :
    ∀ (a0 : Int32) (a1 : Int32) (σ : MS), F_layMove a0 a1 σ = some x → MJ p l e rmM_layMove s m args below meth c G 7 none x 0 [(0, .ref (gM G)), (1, .int a0), (2, .int a1)] [] σ := by
  have hx := hC.1
  have hb := hC.2.1
  intro a0 a1 σ hF H locs ls hP hS hl
  rw [F_layMove] at hF
  refine lv_iconst (v := 0) hx hb dX10_layMove_0 (by decide) ?_
  refine lv_istore_n (lv' := [(3, .int (0 : Int32)), (0, .ref (gM G)), (1, .int a0), (2, .int a1)]) hx hb dX10_layMove_1 rfl hl (by decide) rfl (fun ls hl => ?_)
  exact w_layMove_L2 hC hr MN a0 a1 (0 : Int32) σ hF H locs ls hP hS (lv_sub hl [1, 2, 3, 0] rfl)
theorem m_layMove (l : Launch) (G : MG) (a0 : Int32) (a1 : Int32) (σ : MS) (x : MS) (hF : F_layMove a0 a1 σ = some x) : Met l yX10_layMove (ws_ yX10_layMove cX10_layMove 7 none) rmM_layMove (mP G [.ref (gM G), .int a0, .int a1] σ) (mQ G none x) 0 0 (MA G) := by
  refine M_met rfl plM (Nat.le_of_ble_eq_true rfl) ?_
  intro p e s m below meth c hC hr ls hl hP
  exact w_layMove hC hr a0 a1 σ hF s.heap [] ls hP va_S.rf hl
theorem iM_layMove {p : Program} {l : Launch} {e : Env} {R : Room} {s : State} {m : MethodId} {args : Array Value} {below : List Frame} {meth : Method} {c : Code} {H H0 : Heap} {locs : List Loc} {cells slots nL : Nat} {Q : State → Prop} {G : MG} {σ : MS} {cc : ByteArray} {pc : Nat} {ls : Array Slot} {rest : List Value} (hC : MCx G cc nL p s m args meth c) (hP : MRep G σ H) (hS : va_S (MA G) H0 H locs) {a0 : Int32} {a1 : Int32} {x : MS} (hF : F_layMove a0 a1 σ = some x) (hl : ls.size = nL) (hW : (rest.map fun v => v.category).sum ≤ 8) (hR : rmM_layMove.frames + 1 ≤ R.frames ∧ 8 + (7 + 11) + rmM_layMove.locals ≤ R.locals) (hf : cells ≤ R.cells ∧ slots ≤ R.slots) (hdg : decode cc pc = .ok (.invokevirtual 444, 3))
    (kk : ∀ (H1 : Heap) (locs1 : List Loc), MRep G x H1 → va_S (MA G) H0 H1 locs1 → W p l e R s m args below meth c H1 locs1 cells slots Q (F0 m (pc + 3) ls (rest))) : W p l e R s m args below meth c H locs cells slots Q (F0 m pc ls (.int a1 :: .int a0 :: .ref (gM G) :: rest)) :=
  M_inv hC hP hS [.int a0, .int a1] (m_layMove l G a0 a1 σ _ hF) (cwV 2 hC.2.2.2.2.1 (lw_V q1892 q1894 qs64 q145 q1895) rfl rfl rfl (by decide +kernel) hR) rfl rfl hl hW hf hdg kk
/-! moved -/
abbrev rmM_moved : Room := { frames := 0, cells := 0, slots := 0, locals := 0 }
def F_moved_L4 (σ : MS) : Nat → Int32 → Int32 → Int32 → Option Int32
  | 0, _, _, _ => none
  | fu + 1, x1, x2, x3 =>
    if (8 : Int32) ≤ x3 then
      some x2
    else
      gd (inb x3 8) <|
      lt ((x2 ||| (((x1 >>> ((mA σ 41 (Int32.toNatClampNeg x3)) &&& 31)) &&& (1 : Int32)) <<< (x3 &&& 31)))) fun x2_3 =>
      lt (x3 + (1 : Int32)) fun x3_4 =>
      F_moved_L4 σ fu x1 x2_3 x3_4
set_option maxHeartbeats 4000000 in
theorem w_moved_L4 {p : Program} {l : Launch} {e : Env} {s : State} {m : MethodId} {args : Array Value} {below : List Frame} {meth : Method} {c : Code} {G : MG} (hC : MCx G cX10_moved 4 p s m args meth c) (hr : meth.sig.returnType = some .int) {x : Int32} {σ : MS} :
    ∀ (fu : Nat) (x1 : Int32) (x2 : Int32) (x3 : Int32), F_moved_L4 σ fu x1 x2 x3 = some x → MJ p l e rmM_moved s m args below meth c G 4 (some (.int x)) σ 4 [(0, .ref (gM G)), (1, .int x1), (2, .int x2), (3, .int x3)] [] σ := by
  have hx := hC.1
  have hb := hC.2.1
  intro fu
  induction fu with
  | zero => intro x1 x2 x3 hF; exact nm_none hF
  | succ fu ih =>
    intro x1 x2 x3 hF H locs ls hP hS hl
    rw [F_moved_L4] at hF
    refine lv_iload_n hx hb dX10_moved_4 rfl (lv_at hl 3 rfl) ?_
    refine lv_bipush (v := 8) hx hb dX10_moved_5 (by decide) ?_
    refine lv_icmp_ge (tgt := 31) hx hb dX10_moved_7 (by decide) (fun c_1 => ?_) (fun c_1 => ?_)
    · replace hF := it_t hF c_1
      refine lv_iload_n hx hb dX10_moved_31 rfl (lv_at hl 2 rfl) ?_
      exact M_reti hC hP hS hr (Option.some.inj hF) rfl dX10_moved_32
    · replace hF := it_f hF c_1
      refine lv_iload_n hx hb dX10_moved_10 rfl (lv_at hl 2 rfl) ?_
      refine lv_iload_n hx hb dX10_moved_11 rfl (lv_at hl 1 rfl) ?_
      refine lv_aload_n hx hb dX10_moved_12 rfl (lv_at hl 0 rfl) ?_
      refine gM41 hC hP dX10_moved_13 ?_
      refine lv_iload_n hx hb dX10_moved_16 rfl (lv_at hl 3 rfl) ?_
      obtain ⟨h_2, hF⟩ := gd_ok hF
      refine M_iald hC hP 41 (by decide) rfl rfl rfl h_2 dX10_moved_17 ?_
      refine lv_ishr hx hb dX10_moved_18 ?_
      refine lv_iconst (v := 1) hx hb dX10_moved_19 (by decide) ?_
      refine lv_iand hx hb dX10_moved_20 ?_
      refine lv_iload_n hx hb dX10_moved_21 rfl (lv_at hl 3 rfl) ?_
      refine lv_ishl hx hb dX10_moved_22 ?_
      refine lv_ior hx hb dX10_moved_23 ?_
      refine lv_topi (fun x2_3 ex2_3 => ?_)
      replace hF := lt_at hF ex2_3
      refine lv_istore_n (lv' := [(2, .int x2_3), (0, .ref (gM G)), (1, .int x1), (3, .int x3)]) hx hb dX10_moved_24 rfl hl (by decide) rfl (fun ls hl => ?_)
      obtain ⟨x3_4, ex3_4, hF⟩ := lt_ok hF
      refine lv_iinc (v := x3_4) (lv' := [(3, .int x3_4), (2, .int x2_3), (0, .ref (gM G)), (1, .int x1)]) hx hb dX10_moved_25 hl (k := 3) rfl (by rw [ex3_4]; rfl) (by decide) rfl (fun ls hl => ?_)
      refine lv_goto (tgt := 4) hx hb dX10_moved_28 (by decide) ?_
      exact ih x1 x2_3 x3_4 hF H locs ls hP hS (lv_sub hl [2, 3, 1, 0] rfl)
def F_moved (σ : MS) (a0 : Int32) : Option Int32 :=
  F_moved_L4 σ MN a0 (0 : Int32) (0 : Int32)
set_option maxHeartbeats 4000000 in
theorem w_moved {p : Program} {l : Launch} {e : Env} {s : State} {m : MethodId} {args : Array Value} {below : List Frame} {meth : Method} {c : Code} {G : MG} (hC : MCx G cX10_moved 4 p s m args meth c) (hr : meth.sig.returnType = some .int) {x : Int32} {σ : MS} :
    ∀ (a0 : Int32), F_moved σ a0 = some x → MJ p l e rmM_moved s m args below meth c G 4 (some (.int x)) σ 0 [(0, .ref (gM G)), (1, .int a0)] [] σ := by
  have hx := hC.1
  have hb := hC.2.1
  intro a0 hF H locs ls hP hS hl
  rw [F_moved] at hF
  refine lv_iconst (v := 0) hx hb dX10_moved_0 (by decide) ?_
  refine lv_istore_n (lv' := [(2, .int (0 : Int32)), (0, .ref (gM G)), (1, .int a0)]) hx hb dX10_moved_1 rfl hl (by decide) rfl (fun ls hl => ?_)
  refine lv_iconst (v := 0) hx hb dX10_moved_2 (by decide) ?_
  refine lv_istore_n (lv' := [(3, .int (0 : Int32)), (2, .int (0 : Int32)), (0, .ref (gM G)), (1, .int a0)]) hx hb dX10_moved_3 rfl hl (by decide) rfl (fun ls hl => ?_)
  exact w_moved_L4 hC hr MN a0 (0 : Int32) (0 : Int32) hF H locs ls hP hS (lv_sub hl [2, 3, 1, 0] rfl)
theorem m_moved (l : Launch) (G : MG) (a0 : Int32) (σ : MS) (x : Int32) (hF : F_moved σ a0 = some x) : Met l yX10_moved (ws_ yX10_moved cX10_moved 4 (some .int)) rmM_moved (mP G [.ref (gM G), .int a0] σ) (mQ G (some (.int x)) σ) 0 0 (MA G) := by
  refine M_met rfl plM (Nat.le_of_ble_eq_true rfl) ?_
  intro p e s m below meth c hC hr ls hl hP
  exact w_moved hC hr a0 hF s.heap [] ls hP va_S.rf hl
theorem iM_moved {p : Program} {l : Launch} {e : Env} {R : Room} {s : State} {m : MethodId} {args : Array Value} {below : List Frame} {meth : Method} {c : Code} {H H0 : Heap} {locs : List Loc} {cells slots nL : Nat} {Q : State → Prop} {G : MG} {σ : MS} {cc : ByteArray} {pc : Nat} {ls : Array Slot} {rest : List Value} (hC : MCx G cc nL p s m args meth c) (hP : MRep G σ H) (hS : va_S (MA G) H0 H locs) {a0 : Int32} {x : Int32} (hF : F_moved σ a0 = some x) (hl : ls.size = nL) (hW : (rest.map fun v => v.category).sum ≤ 8) (hR : rmM_moved.frames + 1 ≤ R.frames ∧ 8 + (4 + 11) + rmM_moved.locals ≤ R.locals) (hf : cells ≤ R.cells ∧ slots ≤ R.slots) (hdg : decode cc pc = .ok (.invokevirtual 435, 3))
    (kk : ∀ (H1 : Heap) (locs1 : List Loc), MRep G σ H1 → va_S (MA G) H0 H1 locs1 → W p l e R s m args below meth c H1 locs1 cells slots Q (F0 m (pc + 3) ls (.int x :: rest))) : W p l e R s m args below meth c H locs cells slots Q (F0 m pc ls (.int a0 :: .ref (gM G) :: rest)) :=
  M_inv hC hP hS [.int a0] (m_moved l G a0 σ _ hF) (cwV 1 hC.2.2.2.2.1 (lw_V q1904 q1906 qs67 q145 q1907) rfl rfl rfl (by decide +kernel) hR) rfl rfl hl hW hf hdg kk
/-! sendAll -/
abbrev rmM_sendAll : Room := { frames := 1, cells := 0, slots := 0, locals := 23 }
def F_sendAll_b83 (k2 : Int32 → Int32 → Int32 → MS → Option MS) (x1 : Int32) (x2 : Int32) (x3 : Int32) (σ : MS) : Option MS :=
  lt (x3 + (1 : Int32)) fun x3_1 =>
  k2 x1 x2 x3_1 σ
set_option maxHeartbeats 4000000 in
theorem w_sendAll_b83 {p : Program} {l : Launch} {e : Env} {s : State} {m : MethodId} {args : Array Value} {below : List Frame} {meth : Method} {c : Code} {G : MG} (hC : MCx G cX10_sendAll 7 p s m args meth c) (hr : meth.sig.returnType = none) {x : MS} (k2 : Int32 → Int32 → Int32 → MS → Option MS) (hk2 : ∀ (x1 : Int32) (x2 : Int32) (x3 : Int32) (σ : MS), k2 x1 x2 x3 σ = some x → MJ p l e rmM_sendAll s m args below meth c G 7 none x 2 [(0, .ref (gM G)), (1, .int x1), (2, .int x2), (3, .int x3)] [] σ) :
    ∀ (x1 : Int32) (x2 : Int32) (x3 : Int32) (σ : MS), F_sendAll_b83 k2 x1 x2 x3 σ = some x → MJ p l e rmM_sendAll s m args below meth c G 7 none x 83 [(0, .ref (gM G)), (1, .int x1), (2, .int x2), (3, .int x3)] [] σ := by
  have hx := hC.1
  have hb := hC.2.1
  intro x1 x2 x3 σ hF H locs ls hP hS hl
  rw [F_sendAll_b83] at hF
  obtain ⟨x3_1, ex3_1, hF⟩ := lt_ok hF
  refine lv_iinc (v := x3_1) (lv' := [(3, .int x3_1), (0, .ref (gM G)), (1, .int x1), (2, .int x2)]) hx hb dX10_sendAll_83 hl (k := 3) rfl (by rw [ex3_1]; rfl) (by decide) rfl (fun ls hl => ?_)
  refine lv_goto (tgt := 2) hx hb dX10_sendAll_86 (by decide) ?_
  exact hk2 x1 x2 x3_1 σ hF H locs ls hP hS (lv_sub hl [1, 2, 3, 0] rfl)
def F_sendAll_b77 (k13 : Int32 → Int32 → Int32 → Int32 → MS → Option MS) (x1 : Int32) (x2 : Int32) (x3 : Int32) (x4 : Int32) (σ : MS) : Option MS :=
  lt (x4 + (1 : Int32)) fun x4_1 =>
  k13 x1 x2 x3 x4_1 σ
set_option maxHeartbeats 4000000 in
theorem w_sendAll_b77 {p : Program} {l : Launch} {e : Env} {s : State} {m : MethodId} {args : Array Value} {below : List Frame} {meth : Method} {c : Code} {G : MG} (hC : MCx G cX10_sendAll 7 p s m args meth c) (hr : meth.sig.returnType = none) {x : MS} (k13 : Int32 → Int32 → Int32 → Int32 → MS → Option MS) (hk13 : ∀ (x1 : Int32) (x2 : Int32) (x3 : Int32) (x4 : Int32) (σ : MS), k13 x1 x2 x3 x4 σ = some x → MJ p l e rmM_sendAll s m args below meth c G 7 none x 13 [(0, .ref (gM G)), (1, .int x1), (2, .int x2), (3, .int x3), (4, .int x4)] [] σ) :
    ∀ (x1 : Int32) (x2 : Int32) (x3 : Int32) (x4 : Int32) (σ : MS), F_sendAll_b77 k13 x1 x2 x3 x4 σ = some x → MJ p l e rmM_sendAll s m args below meth c G 7 none x 77 [(0, .ref (gM G)), (1, .int x1), (2, .int x2), (3, .int x3), (4, .int x4)] [] σ := by
  have hx := hC.1
  have hb := hC.2.1
  intro x1 x2 x3 x4 σ hF H locs ls hP hS hl
  rw [F_sendAll_b77] at hF
  obtain ⟨x4_1, ex4_1, hF⟩ := lt_ok hF
  refine lv_iinc (v := x4_1) (lv' := [(4, .int x4_1), (0, .ref (gM G)), (1, .int x1), (2, .int x2), (3, .int x3)]) hx hb dX10_sendAll_77 hl (k := 4) rfl (by rw [ex4_1]; rfl) (by decide) rfl (fun ls hl => ?_)
  refine lv_goto (tgt := 13) hx hb dX10_sendAll_80 (by decide) ?_
  exact hk13 x1 x2 x3 x4_1 σ hF H locs ls hP hS (lv_sub hl [1, 2, 3, 4, 0] rfl)
def F_sendAll_L13 (k2 : Int32 → Int32 → Int32 → MS → Option MS) : Nat → Int32 → Int32 → Int32 → Int32 → MS → Option MS
  | 0, _, _, _, _, _ => none
  | fu + 1, x1, x2, x3, x4, σ =>
    if (256 : Int32) ≤ x4 then
      F_sendAll_b83 k2 x1 x2 x3 σ
    else
      gd (inb ((((2048 : Int32) * x1) + ((256 : Int32) * x3)) + x4) 36864) <|
      lt ((mL σ 43 (Int32.toNatClampNeg ((((2048 : Int32) * x1) + ((256 : Int32) * x3)) + x4)))) fun x5_3 =>
      if (lg_cmp x5_3 (0 : Int64)) = 0 then
        F_sendAll_b77 (F_sendAll_L13 k2 fu) x1 x2 x3 x4 σ
      else
        bd (F_moved σ x4) fun r_6 =>
        gd (inb ((((2048 : Int32) * x2) + ((256 : Int32) * x3)) + r_6) 36864) <|
        gd (inb ((((2048 : Int32) * x2) + ((256 : Int32) * x3)) + r_6) 36864) <|
        lt (wL σ 43 (Int32.toNatClampNeg ((((2048 : Int32) * x2) + ((256 : Int32) * x3)) + r_6)) ((mL σ 43 (Int32.toNatClampNeg ((((2048 : Int32) * x2) + ((256 : Int32) * x3)) + r_6))) + x5_3)) fun σ_9 =>
        F_sendAll_b77 (F_sendAll_L13 k2 fu) x1 x2 x3 x4 σ_9
set_option maxHeartbeats 4000000 in
theorem w_sendAll_L13 {p : Program} {l : Launch} {e : Env} {s : State} {m : MethodId} {args : Array Value} {below : List Frame} {meth : Method} {c : Code} {G : MG} (hC : MCx G cX10_sendAll 7 p s m args meth c) (hr : meth.sig.returnType = none) {x : MS} (k2 : Int32 → Int32 → Int32 → MS → Option MS) (hk2 : ∀ (x1 : Int32) (x2 : Int32) (x3 : Int32) (σ : MS), k2 x1 x2 x3 σ = some x → MJ p l e rmM_sendAll s m args below meth c G 7 none x 2 [(0, .ref (gM G)), (1, .int x1), (2, .int x2), (3, .int x3)] [] σ) :
    ∀ (fu : Nat) (x1 : Int32) (x2 : Int32) (x3 : Int32) (x4 : Int32) (σ : MS), F_sendAll_L13 k2 fu x1 x2 x3 x4 σ = some x → MJ p l e rmM_sendAll s m args below meth c G 7 none x 13 [(0, .ref (gM G)), (1, .int x1), (2, .int x2), (3, .int x3), (4, .int x4)] [] σ := by
  have hx := hC.1
  have hb := hC.2.1
  intro fu
  induction fu with
  | zero => intro x1 x2 x3 x4 σ hF; exact nm_none hF
  | succ fu ih =>
    intro x1 x2 x3 x4 σ hF H locs ls hP hS hl
    rw [F_sendAll_L13] at hF
    refine lv_iload hx hb dX10_sendAll_13 (lv_at hl 4 rfl) ?_
    refine lv_sipush (v := 256) hx hb dX10_sendAll_15 (by decide) ?_
    refine lv_icmp_ge (tgt := 83) hx hb dX10_sendAll_18 (by decide) (fun c_1 => ?_) (fun c_1 => ?_)
    · replace hF := it_t hF c_1
      exact w_sendAll_b83 hC hr k2 hk2 x1 x2 x3 σ hF H locs ls hP hS (lv_sub hl [0, 1, 2, 3] rfl)
    · replace hF := it_f hF c_1
      refine lv_aload_n hx hb dX10_sendAll_21 rfl (lv_at hl 0 rfl) ?_
      refine gM43 hC hP dX10_sendAll_22 ?_
      refine lv_sipush (v := 2048) hx hb dX10_sendAll_25 (by decide) ?_
      refine lv_iload_n hx hb dX10_sendAll_28 rfl (lv_at hl 1 rfl) ?_
      refine lv_imul hx hb dX10_sendAll_29 ?_
      refine lv_sipush (v := 256) hx hb dX10_sendAll_30 (by decide) ?_
      refine lv_iload_n hx hb dX10_sendAll_33 rfl (lv_at hl 3 rfl) ?_
      refine lv_imul hx hb dX10_sendAll_34 ?_
      refine lv_iadd hx hb dX10_sendAll_35 ?_
      refine lv_iload hx hb dX10_sendAll_36 (lv_at hl 4 rfl) ?_
      refine lv_iadd hx hb dX10_sendAll_38 ?_
      obtain ⟨h_2, hF⟩ := gd_ok hF
      refine M_lald hC hP 43 (by decide) rfl rfl rfl h_2 dX10_sendAll_39 ?_
      refine lv_topl (fun x5_3 ex5_3 => ?_)
      replace hF := lt_at hF ex5_3
      refine lv_lstore (lv' := [(5, .long x5_3), (0, .ref (gM G)), (1, .int x1), (2, .int x2), (3, .int x3), (4, .int x4)]) hx hb dX10_sendAll_40 hl (by decide) rfl (fun ls hl => ?_)
      refine lv_lload hx hb dX10_sendAll_42 (lv_at hl 0 rfl) ?_
      refine lv_lconst (v := 0) hx hb dX10_sendAll_44 (by decide) ?_
      refine W.lcmp hx hb dX10_sendAll_45 ?_
      refine lv_if_eq (tgt := 77) hx hb dX10_sendAll_46 (by decide) (fun c_4 => ?_) (fun c_4 => ?_)
      · replace hF := it_t hF c_4
        exact w_sendAll_b77 hC hr (F_sendAll_L13 k2 fu) ih x1 x2 x3 x4 σ hF H locs ls hP hS (lv_sub hl [1, 2, 3, 4, 5] rfl)
      · replace hF := it_f hF c_4
        refine lv_aload_n hx hb dX10_sendAll_49 rfl (lv_at hl 1 rfl) ?_
        refine gM43 hC hP dX10_sendAll_50 ?_
        refine lv_sipush (v := 2048) hx hb dX10_sendAll_53 (by decide) ?_
        refine lv_iload_n hx hb dX10_sendAll_56 rfl (lv_at hl 3 rfl) ?_
        refine lv_imul hx hb dX10_sendAll_57 ?_
        refine lv_sipush (v := 256) hx hb dX10_sendAll_58 (by decide) ?_
        refine lv_iload_n hx hb dX10_sendAll_61 rfl (lv_at hl 4 rfl) ?_
        refine lv_imul hx hb dX10_sendAll_62 ?_
        refine lv_iadd hx hb dX10_sendAll_63 ?_
        refine lv_aload_n hx hb dX10_sendAll_64 rfl (lv_at hl 1 rfl) ?_
        refine lv_iload hx hb dX10_sendAll_65 (lv_at hl 5 rfl) ?_
        obtain ⟨r_6, hc_5, hF⟩ := bd_ok hF
        refine iM_moved hC hP hS hc_5 hl.1 (Nat.le_of_ble_eq_true rfl) ⟨Nat.le_of_ble_eq_true rfl, Nat.le_of_ble_eq_true rfl⟩ ⟨Nat.zero_le _, Nat.zero_le _⟩ dX10_sendAll_67 (fun H locs hP hS => ?_)
        refine lv_iadd hx hb dX10_sendAll_70 ?_
        refine lv_dup2_11 hx hb dX10_sendAll_71 rfl rfl ?_
        obtain ⟨h_7, hF⟩ := gd_ok hF
        refine M_lald hC hP 43 (by decide) rfl rfl rfl h_7 dX10_sendAll_72 ?_
        refine lv_lload hx hb dX10_sendAll_73 (lv_at hl 0 rfl) ?_
        refine lv_ladd hx hb dX10_sendAll_75 ?_
        obtain ⟨h_8, hF⟩ := gd_ok hF
        refine M_last hC hP hS 43 (by decide) rfl rfl rfl h_8 dX10_sendAll_76 (fun H locs hP hS => ?_)
        obtain ⟨σ_9, eσ_9, hF⟩ := lt_ok hF
        rw [← eσ_9] at hP
        exact w_sendAll_b77 hC hr (F_sendAll_L13 k2 fu) ih x1 x2 x3 x4 σ_9 hF H locs ls hP hS (lv_sub hl [1, 2, 3, 4, 5] rfl)
def F_sendAll_L2 : Nat → Int32 → Int32 → Int32 → MS → Option MS
  | 0, _, _, _, _ => none
  | fu + 1, x1, x2, x3, σ =>
    bd (F_inputs σ) fun r_2 =>
    if r_2 ≤ x3 then
      some σ
    else
      F_sendAll_L13 (F_sendAll_L2 fu) MN x1 x2 x3 (0 : Int32) σ
set_option maxHeartbeats 4000000 in
theorem w_sendAll_L2 {p : Program} {l : Launch} {e : Env} {s : State} {m : MethodId} {args : Array Value} {below : List Frame} {meth : Method} {c : Code} {G : MG} (hC : MCx G cX10_sendAll 7 p s m args meth c) (hr : meth.sig.returnType = none) {x : MS} :
    ∀ (fu : Nat) (x1 : Int32) (x2 : Int32) (x3 : Int32) (σ : MS), F_sendAll_L2 fu x1 x2 x3 σ = some x → MJ p l e rmM_sendAll s m args below meth c G 7 none x 2 [(0, .ref (gM G)), (1, .int x1), (2, .int x2), (3, .int x3)] [] σ := by
  have hx := hC.1
  have hb := hC.2.1
  intro fu
  induction fu with
  | zero => intro x1 x2 x3 σ hF; exact nm_none hF
  | succ fu ih =>
    intro x1 x2 x3 σ hF H locs ls hP hS hl
    rw [F_sendAll_L2] at hF
    refine lv_iload_n hx hb dX10_sendAll_2 rfl (lv_at hl 3 rfl) ?_
    refine lv_aload_n hx hb dX10_sendAll_3 rfl (lv_at hl 0 rfl) ?_
    obtain ⟨r_2, hc_1, hF⟩ := bd_ok hF
    refine iM_inputs hC hP hS hc_1 hl.1 (Nat.le_of_ble_eq_true rfl) ⟨Nat.le_of_ble_eq_true rfl, Nat.le_of_ble_eq_true rfl⟩ ⟨Nat.zero_le _, Nat.zero_le _⟩ dX10_sendAll_4 (fun H locs hP hS => ?_)
    refine lv_icmp_ge (tgt := 89) hx hb dX10_sendAll_7 (by decide) (fun c_3 => ?_) (fun c_3 => ?_)
    · replace hF := it_t hF c_3
      exact M_retv hC hP hS hr (Option.some.inj hF) dX10_sendAll_89
    · replace hF := it_f hF c_3
      refine lv_iconst (v := 0) hx hb dX10_sendAll_10 (by decide) ?_
      refine lv_istore (lv' := [(4, .int (0 : Int32)), (0, .ref (gM G)), (1, .int x1), (2, .int x2), (3, .int x3)]) hx hb dX10_sendAll_11 hl (by decide) rfl (fun ls hl => ?_)
      exact w_sendAll_L13 hC hr (F_sendAll_L2 fu) ih MN x1 x2 x3 (0 : Int32) σ hF H locs ls hP hS (lv_sub hl [1, 2, 3, 4, 0] rfl)
def F_sendAll (a0 : Int32) (a1 : Int32) (σ : MS) : Option MS :=
  F_sendAll_L2 MN a0 a1 (0 : Int32) σ
set_option maxHeartbeats 4000000 in
theorem w_sendAll {p : Program} {l : Launch} {e : Env} {s : State} {m : MethodId} {args : Array Value} {below : List Frame} {meth : Method} {c : Code} {G : MG} (hC : MCx G cX10_sendAll 7 p s m args meth c) (hr : meth.sig.returnType = none) {x : MS} :
    ∀ (a0 : Int32) (a1 : Int32) (σ : MS), F_sendAll a0 a1 σ = some x → MJ p l e rmM_sendAll s m args below meth c G 7 none x 0 [(0, .ref (gM G)), (1, .int a0), (2, .int a1)] [] σ := by
  have hx := hC.1
  have hb := hC.2.1
  intro a0 a1 σ hF H locs ls hP hS hl
  rw [F_sendAll] at hF
  refine lv_iconst (v := 0) hx hb dX10_sendAll_0 (by decide) ?_
  refine lv_istore_n (lv' := [(3, .int (0 : Int32)), (0, .ref (gM G)), (1, .int a0), (2, .int a1)]) hx hb dX10_sendAll_1 rfl hl (by decide) rfl (fun ls hl => ?_)
  exact w_sendAll_L2 hC hr MN a0 a1 (0 : Int32) σ hF H locs ls hP hS (lv_sub hl [1, 2, 3, 0] rfl)
theorem m_sendAll (l : Launch) (G : MG) (a0 : Int32) (a1 : Int32) (σ : MS) (x : MS) (hF : F_sendAll a0 a1 σ = some x) : Met l yX10_sendAll (ws_ yX10_sendAll cX10_sendAll 7 none) rmM_sendAll (mP G [.ref (gM G), .int a0, .int a1] σ) (mQ G none x) 0 0 (MA G) := by
  refine M_met rfl plM (Nat.le_of_ble_eq_true rfl) ?_
  intro p e s m below meth c hC hr ls hl hP
  exact w_sendAll hC hr a0 a1 σ hF s.heap [] ls hP va_S.rf hl
theorem iM_sendAll {p : Program} {l : Launch} {e : Env} {R : Room} {s : State} {m : MethodId} {args : Array Value} {below : List Frame} {meth : Method} {c : Code} {H H0 : Heap} {locs : List Loc} {cells slots nL : Nat} {Q : State → Prop} {G : MG} {σ : MS} {cc : ByteArray} {pc : Nat} {ls : Array Slot} {rest : List Value} (hC : MCx G cc nL p s m args meth c) (hP : MRep G σ H) (hS : va_S (MA G) H0 H locs) {a0 : Int32} {a1 : Int32} {x : MS} (hF : F_sendAll a0 a1 σ = some x) (hl : ls.size = nL) (hW : (rest.map fun v => v.category).sum ≤ 8) (hR : rmM_sendAll.frames + 1 ≤ R.frames ∧ 8 + (7 + 11) + rmM_sendAll.locals ≤ R.locals) (hf : cells ≤ R.cells ∧ slots ≤ R.slots) (hdg : decode cc pc = .ok (.invokevirtual 447, 3))
    (kk : ∀ (H1 : Heap) (locs1 : List Loc), MRep G x H1 → va_S (MA G) H0 H1 locs1 → W p l e R s m args below meth c H1 locs1 cells slots Q (F0 m (pc + 3) ls (rest))) : W p l e R s m args below meth c H locs cells slots Q (F0 m pc ls (.int a1 :: .int a0 :: .ref (gM G) :: rest)) :=
  M_inv hC hP hS [.int a0, .int a1] (m_sendAll l G a0 a1 σ _ hF) (cwV 2 hC.2.2.2.2.1 (lw_V q1900 q1902 qs66 q145 q1903) rfl rfl rfl (by decide +kernel) hR) rfl rfl hl hW hf hdg kk
/-! moveAll -/
abbrev rmM_moveAll : Room := { frames := 2, cells := 0, slots := 0, locals := 54 }
def F_moveAll_b36 (x1 : Int32) (σ : MS) : Option MS :=
  bd (F_bringBack (16 : Int32) x1 σ) fun σ_2 =>
  some σ_2
set_option maxHeartbeats 4000000 in
theorem w_moveAll_b36 {p : Program} {l : Launch} {e : Env} {s : State} {m : MethodId} {args : Array Value} {below : List Frame} {meth : Method} {c : Code} {G : MG} (hC : MCx G cX10_moveAll 4 p s m args meth c) (hr : meth.sig.returnType = none) {x : MS} :
    ∀ (x1 : Int32) (σ : MS), F_moveAll_b36 x1 σ = some x → MJ p l e rmM_moveAll s m args below meth c G 4 none x 36 [(0, .ref (gM G)), (1, .int x1)] [] σ := by
  have hx := hC.1
  have hb := hC.2.1
  intro x1 σ hF H locs ls hP hS hl
  rw [F_moveAll_b36] at hF
  refine lv_aload_n hx hb dX10_moveAll_36 rfl (lv_at hl 0 rfl) ?_
  refine lv_bipush (v := 16) hx hb dX10_moveAll_37 (by decide) ?_
  refine lv_iload_n hx hb dX10_moveAll_39 rfl (lv_at hl 1 rfl) ?_
  obtain ⟨σ_2, hc_1, hF⟩ := bd_ok hF
  refine iM_bringBack hC hP hS hc_1 hl.1 (Nat.le_of_ble_eq_true rfl) ⟨Nat.le_of_ble_eq_true rfl, Nat.le_of_ble_eq_true rfl⟩ ⟨Nat.zero_le _, Nat.zero_le _⟩ dX10_moveAll_40 (fun H locs hP hS => ?_)
  exact M_retv hC hP hS hr (Option.some.inj hF) dX10_moveAll_43
def F_moveAll_L8 : Nat → Int32 → Int32 → Int32 → MS → Option MS
  | 0, _, _, _, _ => none
  | fu + 1, x1, x2, x3, σ =>
    bd (F_ways σ x2) fun r_2 =>
    if r_2 ≤ x3 then
      F_moveAll_b36 x1 σ
    else
      bd (F_layMove x2 x3 σ) fun σ_5 =>
      bd (F_sendAll x1 (16 : Int32) σ_5) fun σ_7 =>
      lt (x3 + (1 : Int32)) fun x3_8 =>
      F_moveAll_L8 fu x1 x2 x3_8 σ_7
set_option maxHeartbeats 4000000 in
theorem w_moveAll_L8 {p : Program} {l : Launch} {e : Env} {s : State} {m : MethodId} {args : Array Value} {below : List Frame} {meth : Method} {c : Code} {G : MG} (hC : MCx G cX10_moveAll 4 p s m args meth c) (hr : meth.sig.returnType = none) {x : MS} :
    ∀ (fu : Nat) (x1 : Int32) (x2 : Int32) (x3 : Int32) (σ : MS), F_moveAll_L8 fu x1 x2 x3 σ = some x → MJ p l e rmM_moveAll s m args below meth c G 4 none x 8 [(0, .ref (gM G)), (1, .int x1), (2, .int x2), (3, .int x3)] [] σ := by
  have hx := hC.1
  have hb := hC.2.1
  intro fu
  induction fu with
  | zero => intro x1 x2 x3 σ hF; exact nm_none hF
  | succ fu ih =>
    intro x1 x2 x3 σ hF H locs ls hP hS hl
    rw [F_moveAll_L8] at hF
    refine lv_iload_n hx hb dX10_moveAll_8 rfl (lv_at hl 3 rfl) ?_
    refine lv_aload_n hx hb dX10_moveAll_9 rfl (lv_at hl 0 rfl) ?_
    refine lv_iload_n hx hb dX10_moveAll_10 rfl (lv_at hl 2 rfl) ?_
    obtain ⟨r_2, hc_1, hF⟩ := bd_ok hF
    refine iM_ways hC hP hS hc_1 hl.1 (Nat.le_of_ble_eq_true rfl) ⟨Nat.le_of_ble_eq_true rfl, Nat.le_of_ble_eq_true rfl⟩ ⟨Nat.zero_le _, Nat.zero_le _⟩ dX10_moveAll_11 (fun H locs hP hS => ?_)
    refine lv_icmp_ge (tgt := 36) hx hb dX10_moveAll_14 (by decide) (fun c_3 => ?_) (fun c_3 => ?_)
    · replace hF := it_t hF c_3
      exact w_moveAll_b36 hC hr x1 σ hF H locs ls hP hS (lv_sub hl [0, 1] rfl)
    · replace hF := it_f hF c_3
      refine lv_aload_n hx hb dX10_moveAll_17 rfl (lv_at hl 0 rfl) ?_
      refine lv_iload_n hx hb dX10_moveAll_18 rfl (lv_at hl 2 rfl) ?_
      refine lv_iload_n hx hb dX10_moveAll_19 rfl (lv_at hl 3 rfl) ?_
      obtain ⟨σ_5, hc_4, hF⟩ := bd_ok hF
      refine iM_layMove hC hP hS hc_4 hl.1 (Nat.le_of_ble_eq_true rfl) ⟨Nat.le_of_ble_eq_true rfl, Nat.le_of_ble_eq_true rfl⟩ ⟨Nat.zero_le _, Nat.zero_le _⟩ dX10_moveAll_20 (fun H locs hP hS => ?_)
      refine lv_aload_n hx hb dX10_moveAll_23 rfl (lv_at hl 0 rfl) ?_
      refine lv_iload_n hx hb dX10_moveAll_24 rfl (lv_at hl 1 rfl) ?_
      refine lv_bipush (v := 16) hx hb dX10_moveAll_25 (by decide) ?_
      obtain ⟨σ_7, hc_6, hF⟩ := bd_ok hF
      refine iM_sendAll hC hP hS hc_6 hl.1 (Nat.le_of_ble_eq_true rfl) ⟨Nat.le_of_ble_eq_true rfl, Nat.le_of_ble_eq_true rfl⟩ ⟨Nat.zero_le _, Nat.zero_le _⟩ dX10_moveAll_27 (fun H locs hP hS => ?_)
      obtain ⟨x3_8, ex3_8, hF⟩ := lt_ok hF
      refine lv_iinc (v := x3_8) (lv' := [(3, .int x3_8), (0, .ref (gM G)), (1, .int x1), (2, .int x2)]) hx hb dX10_moveAll_30 hl (k := 3) rfl (by rw [ex3_8]; rfl) (by decide) rfl (fun ls hl => ?_)
      refine lv_goto (tgt := 8) hx hb dX10_moveAll_33 (by decide) ?_
      exact ih x1 x2 x3_8 σ_7 hF H locs ls hP hS (lv_sub hl [1, 2, 3, 0] rfl)
def F_moveAll (a0 : Int32) (a1 : Int32) (σ : MS) : Option MS :=
  bd (F_clearDist (16 : Int32) σ) fun σ_2 =>
  F_moveAll_L8 MN a0 a1 (0 : Int32) σ_2
set_option maxHeartbeats 4000000 in
theorem w_moveAll {p : Program} {l : Launch} {e : Env} {s : State} {m : MethodId} {args : Array Value} {below : List Frame} {meth : Method} {c : Code} {G : MG} (hC : MCx G cX10_moveAll 4 p s m args meth c) (hr : meth.sig.returnType = none) {x : MS} :
    ∀ (a0 : Int32) (a1 : Int32) (σ : MS), F_moveAll a0 a1 σ = some x → MJ p l e rmM_moveAll s m args below meth c G 4 none x 0 [(0, .ref (gM G)), (1, .int a0), (2, .int a1)] [] σ := by
  have hx := hC.1
  have hb := hC.2.1
  intro a0 a1 σ hF H locs ls hP hS hl
  rw [F_moveAll] at hF
  refine lv_aload_n hx hb dX10_moveAll_0 rfl (lv_at hl 0 rfl) ?_
  refine lv_bipush (v := 16) hx hb dX10_moveAll_1 (by decide) ?_
  obtain ⟨σ_2, hc_1, hF⟩ := bd_ok hF
  refine iM_clearDist hC hP hS hc_1 hl.1 (Nat.le_of_ble_eq_true rfl) ⟨Nat.le_of_ble_eq_true rfl, Nat.le_of_ble_eq_true rfl⟩ ⟨Nat.zero_le _, Nat.zero_le _⟩ dX10_moveAll_3 (fun H locs hP hS => ?_)
  refine lv_iconst (v := 0) hx hb dX10_moveAll_6 (by decide) ?_
  refine lv_istore_n (lv' := [(3, .int (0 : Int32)), (0, .ref (gM G)), (1, .int a0), (2, .int a1)]) hx hb dX10_moveAll_7 rfl hl (by decide) rfl (fun ls hl => ?_)
  exact w_moveAll_L8 hC hr MN a0 a1 (0 : Int32) σ_2 hF H locs ls hP hS (lv_sub hl [1, 2, 3, 0] rfl)
theorem m_moveAll (l : Launch) (G : MG) (a0 : Int32) (a1 : Int32) (σ : MS) (x : MS) (hF : F_moveAll a0 a1 σ = some x) : Met l yX10_moveAll (ws_ yX10_moveAll cX10_moveAll 4 none) rmM_moveAll (mP G [.ref (gM G), .int a0, .int a1] σ) (mQ G none x) 0 0 (MA G) := by
  refine M_met rfl plM (Nat.le_of_ble_eq_true rfl) ?_
  intro p e s m below meth c hC hr ls hl hP
  exact w_moveAll hC hr a0 a1 σ hF s.heap [] ls hP va_S.rf hl
theorem iM_moveAll {p : Program} {l : Launch} {e : Env} {R : Room} {s : State} {m : MethodId} {args : Array Value} {below : List Frame} {meth : Method} {c : Code} {H H0 : Heap} {locs : List Loc} {cells slots nL : Nat} {Q : State → Prop} {G : MG} {σ : MS} {cc : ByteArray} {pc : Nat} {ls : Array Slot} {rest : List Value} (hC : MCx G cc nL p s m args meth c) (hP : MRep G σ H) (hS : va_S (MA G) H0 H locs) {a0 : Int32} {a1 : Int32} {x : MS} (hF : F_moveAll a0 a1 σ = some x) (hl : ls.size = nL) (hW : (rest.map fun v => v.category).sum ≤ 8) (hR : rmM_moveAll.frames + 1 ≤ R.frames ∧ 8 + (4 + 11) + rmM_moveAll.locals ≤ R.locals) (hf : cells ≤ R.cells ∧ slots ≤ R.slots) (hdg : decode cc pc = .ok (.invokevirtual 482, 3))
    (kk : ∀ (H1 : Heap) (locs1 : List Loc), MRep G x H1 → va_S (MA G) H0 H1 locs1 → W p l e R s m args below meth c H1 locs1 cells slots Q (F0 m (pc + 3) ls (rest))) : W p l e R s m args below meth c H locs cells slots Q (F0 m pc ls (.int a1 :: .int a0 :: .ref (gM G) :: rest)) :=
  M_inv hC hP hS [.int a0, .int a1] (m_moveAll l G a0 a1 σ _ hF) (cwV 2 hC.2.2.2.2.1 (lw_V q1888 q1890 qs63 q145 q1891) rfl rfl rfl (by decide +kernel) hR) rfl rfl hl hW hf hdg kk
/-! movedPlace -/
abbrev rmM_movedPlace : Room := { frames := 0, cells := 0, slots := 0, locals := 0 }
def F_movedPlace_L2 (σ : MS) : Nat → Int32 → Int32 → Option Int32
  | 0, _, _ => none
  | fu + 1, x1, x2 =>
    gd (inb x2 8) <|
    if (mA σ 41 (Int32.toNatClampNeg x2)) = x1 then
      some x2
    else
      lt (x2 + (1 : Int32)) fun x2_3 =>
      F_movedPlace_L2 σ fu x1 x2_3
set_option maxHeartbeats 4000000 in
theorem w_movedPlace_L2 {p : Program} {l : Launch} {e : Env} {s : State} {m : MethodId} {args : Array Value} {below : List Frame} {meth : Method} {c : Code} {G : MG} (hC : MCx G cX10_movedPlace 3 p s m args meth c) (hr : meth.sig.returnType = some .int) {x : Int32} {σ : MS} :
    ∀ (fu : Nat) (x1 : Int32) (x2 : Int32), F_movedPlace_L2 σ fu x1 x2 = some x → MJ p l e rmM_movedPlace s m args below meth c G 3 (some (.int x)) σ 2 [(0, .ref (gM G)), (1, .int x1), (2, .int x2)] [] σ := by
  have hx := hC.1
  have hb := hC.2.1
  intro fu
  induction fu with
  | zero => intro x1 x2 hF; exact nm_none hF
  | succ fu ih =>
    intro x1 x2 hF H locs ls hP hS hl
    rw [F_movedPlace_L2] at hF
    refine lv_aload_n hx hb dX10_movedPlace_2 rfl (lv_at hl 0 rfl) ?_
    refine gM41 hC hP dX10_movedPlace_3 ?_
    refine lv_iload_n hx hb dX10_movedPlace_6 rfl (lv_at hl 2 rfl) ?_
    obtain ⟨h_1, hF⟩ := gd_ok hF
    refine M_iald hC hP 41 (by decide) rfl rfl rfl h_1 dX10_movedPlace_7 ?_
    refine lv_iload_n hx hb dX10_movedPlace_8 rfl (lv_at hl 1 rfl) ?_
    refine lv_icmp_eq (tgt := 18) hx hb dX10_movedPlace_9 (by decide) (fun c_2 => ?_) (fun c_2 => ?_)
    · replace hF := it_t hF c_2
      refine lv_iload_n hx hb dX10_movedPlace_18 rfl (lv_at hl 2 rfl) ?_
      exact M_reti hC hP hS hr (Option.some.inj hF) rfl dX10_movedPlace_19
    · replace hF := it_f hF c_2
      obtain ⟨x2_3, ex2_3, hF⟩ := lt_ok hF
      refine lv_iinc (v := x2_3) (lv' := [(2, .int x2_3), (0, .ref (gM G)), (1, .int x1)]) hx hb dX10_movedPlace_12 hl (k := 2) rfl (by rw [ex2_3]; rfl) (by decide) rfl (fun ls hl => ?_)
      refine lv_goto (tgt := 2) hx hb dX10_movedPlace_15 (by decide) ?_
      exact ih x1 x2_3 hF H locs ls hP hS (lv_sub hl [1, 2, 0] rfl)
def F_movedPlace (σ : MS) (a0 : Int32) : Option Int32 :=
  F_movedPlace_L2 σ MN a0 (0 : Int32)
set_option maxHeartbeats 4000000 in
theorem w_movedPlace {p : Program} {l : Launch} {e : Env} {s : State} {m : MethodId} {args : Array Value} {below : List Frame} {meth : Method} {c : Code} {G : MG} (hC : MCx G cX10_movedPlace 3 p s m args meth c) (hr : meth.sig.returnType = some .int) {x : Int32} {σ : MS} :
    ∀ (a0 : Int32), F_movedPlace σ a0 = some x → MJ p l e rmM_movedPlace s m args below meth c G 3 (some (.int x)) σ 0 [(0, .ref (gM G)), (1, .int a0)] [] σ := by
  have hx := hC.1
  have hb := hC.2.1
  intro a0 hF H locs ls hP hS hl
  rw [F_movedPlace] at hF
  refine lv_iconst (v := 0) hx hb dX10_movedPlace_0 (by decide) ?_
  refine lv_istore_n (lv' := [(2, .int (0 : Int32)), (0, .ref (gM G)), (1, .int a0)]) hx hb dX10_movedPlace_1 rfl hl (by decide) rfl (fun ls hl => ?_)
  exact w_movedPlace_L2 hC hr MN a0 (0 : Int32) hF H locs ls hP hS (lv_sub hl [1, 2, 0] rfl)
theorem m_movedPlace (l : Launch) (G : MG) (a0 : Int32) (σ : MS) (x : Int32) (hF : F_movedPlace σ a0 = some x) : Met l yX10_movedPlace (ws_ yX10_movedPlace cX10_movedPlace 3 (some .int)) rmM_movedPlace (mP G [.ref (gM G), .int a0] σ) (mQ G (some (.int x)) σ) 0 0 (MA G) := by
  refine M_met rfl plM (Nat.le_of_ble_eq_true rfl) ?_
  intro p e s m below meth c hC hr ls hl hP
  exact w_movedPlace hC hr a0 hF s.heap [] ls hP va_S.rf hl
theorem iM_movedPlace {p : Program} {l : Launch} {e : Env} {R : Room} {s : State} {m : MethodId} {args : Array Value} {below : List Frame} {meth : Method} {c : Code} {H H0 : Heap} {locs : List Loc} {cells slots nL : Nat} {Q : State → Prop} {G : MG} {σ : MS} {cc : ByteArray} {pc : Nat} {ls : Array Slot} {rest : List Value} (hC : MCx G cc nL p s m args meth c) (hP : MRep G σ H) (hS : va_S (MA G) H0 H locs) {a0 : Int32} {x : Int32} (hF : F_movedPlace σ a0 = some x) (hl : ls.size = nL) (hW : (rest.map fun v => v.category).sum ≤ 8) (hR : rmM_movedPlace.frames + 1 ≤ R.frames ∧ 8 + (3 + 11) + rmM_movedPlace.locals ≤ R.locals) (hf : cells ≤ R.cells ∧ slots ≤ R.slots) (hdg : decode cc pc = .ok (.invokevirtual 485, 3))
    (kk : ∀ (H1 : Heap) (locs1 : List Loc), MRep G σ H1 → va_S (MA G) H0 H1 locs1 → W p l e R s m args below meth c H1 locs1 cells slots Q (F0 m (pc + 3) ls (.int x :: rest))) : W p l e R s m args below meth c H locs cells slots Q (F0 m pc ls (.int a0 :: .ref (gM G) :: rest)) :=
  M_inv hC hP hS [.int a0] (m_movedPlace l G a0 σ _ hF) (cwV 1 hC.2.2.2.2.1 (lw_V q1912 q1914 qs69 q145 q1915) rfl rfl rfl (by decide +kernel) hR) rfl rfl hl hW hf hdg kk
/-! advance -/
abbrev rmM_advance : Room := { frames := 3, cells := 0, slots := 0, locals := 77 }
def F_advance_b271 (k0 : Int32 → MS → Option (Int32 × MS)) (x1 : Int32) (σ : MS) : Option (Int32 × MS) :=
  gd (inb x1 16) <|
  gd (inb x1 16) <|
  lt (wA σ 45 (Int32.toNatClampNeg x1) ((mA σ 45 (Int32.toNatClampNeg x1)) + (1 : Int32))) fun σ_3 =>
  k0 x1 σ_3
set_option maxHeartbeats 4000000 in
theorem w_advance_b271 {p : Program} {l : Launch} {e : Env} {s : State} {m : MethodId} {args : Array Value} {below : List Frame} {meth : Method} {c : Code} {G : MG} (hC : MCx G cX10_advance 4 p s m args meth c) (hr : meth.sig.returnType = some .int) {x : (Int32 × MS)} (k0 : Int32 → MS → Option (Int32 × MS)) (hk0 : ∀ (x1 : Int32) (σ : MS), k0 x1 σ = some x → MJ p l e rmM_advance s m args below meth c G 4 (some (.int x.1)) x.2 0 [(0, .ref (gM G)), (1, .int x1)] [] σ) :
    ∀ (x1 : Int32) (σ : MS), F_advance_b271 k0 x1 σ = some x → MJ p l e rmM_advance s m args below meth c G 4 (some (.int x.1)) x.2 271 [(0, .ref (gM G)), (1, .int x1)] [] σ := by
  have hx := hC.1
  have hb := hC.2.1
  intro x1 σ hF H locs ls hP hS hl
  rw [F_advance_b271] at hF
  refine lv_aload_n hx hb dX10_advance_271 rfl (lv_at hl 0 rfl) ?_
  refine gM45 hC hP dX10_advance_272 ?_
  refine lv_iload_n hx hb dX10_advance_275 rfl (lv_at hl 1 rfl) ?_
  refine lv_dup2_11 hx hb dX10_advance_276 rfl rfl ?_
  obtain ⟨h_1, hF⟩ := gd_ok hF
  refine M_iald hC hP 45 (by decide) rfl rfl rfl h_1 dX10_advance_277 ?_
  refine lv_iconst (v := 1) hx hb dX10_advance_278 (by decide) ?_
  refine lv_iadd hx hb dX10_advance_279 ?_
  obtain ⟨h_2, hF⟩ := gd_ok hF
  refine M_iast hC hP hS 45 (by decide) rfl rfl rfl h_2 dX10_advance_280 (fun H locs hP hS => ?_)
  obtain ⟨σ_3, eσ_3, hF⟩ := lt_ok hF
  rw [← eσ_3] at hP
  refine lv_goto (tgt := 0) hx hb dX10_advance_281 (by decide) ?_
  exact hk0 x1 σ_3 hF H locs ls hP hS (lv_sub hl [0, 1] rfl)
def F_advance_b197 (x1 : Int32) (x2 : Int32) (σ : MS) : Option (Int32 × MS) :=
  gd (inb x1 16) <|
  bd (F_fits σ x2 (mA σ 46 (Int32.toNatClampNeg x1))) fun r_3 =>
  if r_3 = 0 then
    some ((0 : Int32), σ)
  else
    some ((1 : Int32), σ)
set_option maxHeartbeats 4000000 in
theorem w_advance_b197 {p : Program} {l : Launch} {e : Env} {s : State} {m : MethodId} {args : Array Value} {below : List Frame} {meth : Method} {c : Code} {G : MG} (hC : MCx G cX10_advance 4 p s m args meth c) (hr : meth.sig.returnType = some .int) {x : (Int32 × MS)} :
    ∀ (x1 : Int32) (x2 : Int32) (σ : MS), F_advance_b197 x1 x2 σ = some x → MJ p l e rmM_advance s m args below meth c G 4 (some (.int x.1)) x.2 197 [(0, .ref (gM G)), (1, .int x1), (2, .int x2)] [] σ := by
  have hx := hC.1
  have hb := hC.2.1
  intro x1 x2 σ hF H locs ls hP hS hl
  rw [F_advance_b197] at hF
  refine lv_aload_n hx hb dX10_advance_197 rfl (lv_at hl 0 rfl) ?_
  refine lv_iload_n hx hb dX10_advance_198 rfl (lv_at hl 2 rfl) ?_
  refine lv_aload_n hx hb dX10_advance_199 rfl (lv_at hl 0 rfl) ?_
  refine gM46 hC hP dX10_advance_200 ?_
  refine lv_iload_n hx hb dX10_advance_203 rfl (lv_at hl 1 rfl) ?_
  obtain ⟨h_1, hF⟩ := gd_ok hF
  refine M_iald hC hP 46 (by decide) rfl rfl rfl h_1 dX10_advance_204 ?_
  obtain ⟨r_3, hc_2, hF⟩ := bd_ok hF
  refine iM_fits hC hP hS hc_2 hl.1 (Nat.le_of_ble_eq_true rfl) ⟨Nat.le_of_ble_eq_true rfl, Nat.le_of_ble_eq_true rfl⟩ ⟨Nat.zero_le _, Nat.zero_le _⟩ dX10_advance_205 (fun H locs hP hS => ?_)
  refine lv_if_eq (tgt := 215) hx hb dX10_advance_208 (by decide) (fun c_4 => ?_) (fun c_4 => ?_)
  · replace hF := it_t hF c_4
    refine lv_iconst (v := 0) hx hb dX10_advance_215 (by decide) ?_
    exact M_reti hC hP hS hr (rt1 hF) (rt2 hF) dX10_advance_216
  · replace hF := it_f hF c_4
    refine lv_iconst (v := 1) hx hb dX10_advance_211 (by decide) ?_
    refine lv_goto (tgt := 216) hx hb dX10_advance_212 (by decide) ?_
    exact M_reti hC hP hS hr (rt1 hF) (rt2 hF) dX10_advance_216
def F_advance_b191 (k271 : Int32 → MS → Option (Int32 × MS)) (x1 : Int32) (x2 : Int32) (x3 : Int32) (σ : MS) : Option (Int32 × MS) :=
  if x3 = (11 : Int32) then
    F_advance_b197 x1 x2 σ
  else
    if x3 = (12 : Int32) then
      some ((2 : Int32), σ)
    else
      if x3 = (9 : Int32) then
        gd (inb x1 16) <|
        gd (inb x2 104) <|
        gd (inb x2 104) <|
        if (((mA σ 48 (Int32.toNatClampNeg x1)) >>> (((2 : Int32) * (mA σ 23 (Int32.toNatClampNeg x2))) &&& 31)) &&& (3 : Int32)) = ((mA σ 24 (Int32.toNatClampNeg x2)) + (1 : Int32)) then
          gd (inb x2 104) <|
          gd (inb x1 16) <|
          lt (wA σ 45 (Int32.toNatClampNeg x1) (mA σ 25 (Int32.toNatClampNeg x2))) fun σ_10 =>
          k271 x1 σ_10
        else
          k271 x1 σ
      else
        k271 x1 σ
set_option maxHeartbeats 4000000 in
theorem w_advance_b191 {p : Program} {l : Launch} {e : Env} {s : State} {m : MethodId} {args : Array Value} {below : List Frame} {meth : Method} {c : Code} {G : MG} (hC : MCx G cX10_advance 4 p s m args meth c) (hr : meth.sig.returnType = some .int) {x : (Int32 × MS)} (k271 : Int32 → MS → Option (Int32 × MS)) (hk271 : ∀ (x1 : Int32) (σ : MS), k271 x1 σ = some x → MJ p l e rmM_advance s m args below meth c G 4 (some (.int x.1)) x.2 271 [(0, .ref (gM G)), (1, .int x1)] [] σ) :
    ∀ (x1 : Int32) (x2 : Int32) (x3 : Int32) (σ : MS), F_advance_b191 k271 x1 x2 x3 σ = some x → MJ p l e rmM_advance s m args below meth c G 4 (some (.int x.1)) x.2 191 [(0, .ref (gM G)), (1, .int x1), (2, .int x2), (3, .int x3)] [] σ := by
  have hx := hC.1
  have hb := hC.2.1
  intro x1 x2 x3 σ hF H locs ls hP hS hl
  rw [F_advance_b191] at hF
  refine lv_iload_n hx hb dX10_advance_191 rfl (lv_at hl 3 rfl) ?_
  refine lv_bipush (v := 11) hx hb dX10_advance_192 (by decide) ?_
  refine lv_icmp_ne (tgt := 217) hx hb dX10_advance_194 (by decide) (fun c_1 => ?_) (fun c_1 => ?_)
  · replace hF := it_f hF c_1
    refine lv_iload_n hx hb dX10_advance_217 rfl (lv_at hl 3 rfl) ?_
    refine lv_bipush (v := 12) hx hb dX10_advance_218 (by decide) ?_
    refine lv_icmp_ne (tgt := 225) hx hb dX10_advance_220 (by decide) (fun c_2 => ?_) (fun c_2 => ?_)
    · replace hF := it_f hF c_2
      refine lv_iload_n hx hb dX10_advance_225 rfl (lv_at hl 3 rfl) ?_
      refine lv_bipush (v := 9) hx hb dX10_advance_226 (by decide) ?_
      refine lv_icmp_ne (tgt := 271) hx hb dX10_advance_228 (by decide) (fun c_3 => ?_) (fun c_3 => ?_)
      · replace hF := it_f hF c_3
        exact hk271 x1 σ hF H locs ls hP hS (lv_sub hl [0, 1] rfl)
      · replace hF := it_t hF c_3
        refine lv_aload_n hx hb dX10_advance_231 rfl (lv_at hl 0 rfl) ?_
        refine gM48 hC hP dX10_advance_232 ?_
        refine lv_iload_n hx hb dX10_advance_235 rfl (lv_at hl 1 rfl) ?_
        obtain ⟨h_4, hF⟩ := gd_ok hF
        refine M_iald hC hP 48 (by decide) rfl rfl rfl h_4 dX10_advance_236 ?_
        refine lv_iconst (v := 2) hx hb dX10_advance_237 (by decide) ?_
        refine lv_aload_n hx hb dX10_advance_238 rfl (lv_at hl 0 rfl) ?_
        refine gM23 hC hP dX10_advance_239 ?_
        refine lv_iload_n hx hb dX10_advance_242 rfl (lv_at hl 2 rfl) ?_
        obtain ⟨h_5, hF⟩ := gd_ok hF
        refine M_iald hC hP 23 (by decide) rfl rfl rfl h_5 dX10_advance_243 ?_
        refine lv_imul hx hb dX10_advance_244 ?_
        refine lv_ishr hx hb dX10_advance_245 ?_
        refine lv_iconst (v := 3) hx hb dX10_advance_246 (by decide) ?_
        refine lv_iand hx hb dX10_advance_247 ?_
        refine lv_aload_n hx hb dX10_advance_248 rfl (lv_at hl 0 rfl) ?_
        refine gM24 hC hP dX10_advance_249 ?_
        refine lv_iload_n hx hb dX10_advance_252 rfl (lv_at hl 2 rfl) ?_
        obtain ⟨h_6, hF⟩ := gd_ok hF
        refine M_iald hC hP 24 (by decide) rfl rfl rfl h_6 dX10_advance_253 ?_
        refine lv_iconst (v := 1) hx hb dX10_advance_254 (by decide) ?_
        refine lv_iadd hx hb dX10_advance_255 ?_
        refine lv_icmp_ne (tgt := 271) hx hb dX10_advance_256 (by decide) (fun c_7 => ?_) (fun c_7 => ?_)
        · replace hF := it_f hF c_7
          exact hk271 x1 σ hF H locs ls hP hS (lv_sub hl [0, 1] rfl)
        · replace hF := it_t hF c_7
          refine lv_aload_n hx hb dX10_advance_259 rfl (lv_at hl 0 rfl) ?_
          refine gM45 hC hP dX10_advance_260 ?_
          refine lv_iload_n hx hb dX10_advance_263 rfl (lv_at hl 1 rfl) ?_
          refine lv_aload_n hx hb dX10_advance_264 rfl (lv_at hl 0 rfl) ?_
          refine gM25 hC hP dX10_advance_265 ?_
          refine lv_iload_n hx hb dX10_advance_268 rfl (lv_at hl 2 rfl) ?_
          obtain ⟨h_8, hF⟩ := gd_ok hF
          refine M_iald hC hP 25 (by decide) rfl rfl rfl h_8 dX10_advance_269 ?_
          obtain ⟨h_9, hF⟩ := gd_ok hF
          refine M_iast hC hP hS 45 (by decide) rfl rfl rfl h_9 dX10_advance_270 (fun H locs hP hS => ?_)
          obtain ⟨σ_10, eσ_10, hF⟩ := lt_ok hF
          rw [← eσ_10] at hP
          exact hk271 x1 σ_10 hF H locs ls hP hS (lv_sub hl [0, 1] rfl)
    · replace hF := it_t hF c_2
      refine lv_iconst (v := 2) hx hb dX10_advance_223 (by decide) ?_
      exact M_reti hC hP hS hr (rt1 hF) (rt2 hF) dX10_advance_224
  · replace hF := it_t hF c_1
    exact w_advance_b197 hC hr x1 x2 σ hF H locs ls hP hS (lv_sub hl [0, 1, 2] rfl)
def F_advance_b69 (k271 : Int32 → MS → Option (Int32 × MS)) (x1 : Int32) (x2 : Int32) (x3 : Int32) (y0 : Int32) (y1 : Int32) (σ : MS) : Option (Int32 × MS) :=
  if (y1 + y0) ≤ (8 : Int32) then
    bd (F_lays x1 x2 (1 : Int32) σ) fun σ_3 =>
    if x3 = 0 then
      bd (F_lays x1 x2 (0 : Int32) σ_3) fun σ_6 =>
      k271 x1 σ_6
    else
      k271 x1 σ_3
  else
    some ((0 : Int32), σ)
set_option maxHeartbeats 4000000 in
theorem w_advance_b69 {p : Program} {l : Launch} {e : Env} {s : State} {m : MethodId} {args : Array Value} {below : List Frame} {meth : Method} {c : Code} {G : MG} (hC : MCx G cX10_advance 4 p s m args meth c) (hr : meth.sig.returnType = some .int) {x : (Int32 × MS)} (k271 : Int32 → MS → Option (Int32 × MS)) (hk271 : ∀ (x1 : Int32) (σ : MS), k271 x1 σ = some x → MJ p l e rmM_advance s m args below meth c G 4 (some (.int x.1)) x.2 271 [(0, .ref (gM G)), (1, .int x1)] [] σ) :
    ∀ (x1 : Int32) (x2 : Int32) (x3 : Int32) (y0 : Int32) (y1 : Int32) (σ : MS), F_advance_b69 k271 x1 x2 x3 y0 y1 σ = some x → MJ p l e rmM_advance s m args below meth c G 4 (some (.int x.1)) x.2 69 [(0, .ref (gM G)), (1, .int x1), (2, .int x2), (3, .int x3)] [.int y0, .int y1] σ := by
  have hx := hC.1
  have hb := hC.2.1
  intro x1 x2 x3 y0 y1 σ hF H locs ls hP hS hl
  rw [F_advance_b69] at hF
  refine lv_iadd hx hb dX10_advance_69 ?_
  refine lv_bipush (v := 8) hx hb dX10_advance_70 (by decide) ?_
  refine lv_icmp_le (tgt := 77) hx hb dX10_advance_72 (by decide) (fun c_1 => ?_) (fun c_1 => ?_)
  · replace hF := it_t hF c_1
    refine lv_aload_n hx hb dX10_advance_77 rfl (lv_at hl 0 rfl) ?_
    refine lv_iload_n hx hb dX10_advance_78 rfl (lv_at hl 1 rfl) ?_
    refine lv_iload_n hx hb dX10_advance_79 rfl (lv_at hl 2 rfl) ?_
    refine lv_iconst (v := 1) hx hb dX10_advance_80 (by decide) ?_
    obtain ⟨σ_3, hc_2, hF⟩ := bd_ok hF
    refine iM_lays hC hP hS hc_2 hl.1 (Nat.le_of_ble_eq_true rfl) ⟨Nat.le_of_ble_eq_true rfl, Nat.le_of_ble_eq_true rfl⟩ ⟨Nat.zero_le _, Nat.zero_le _⟩ dX10_advance_81 (fun H locs hP hS => ?_)
    refine lv_iload_n hx hb dX10_advance_84 rfl (lv_at hl 3 rfl) ?_
    refine lv_if_ne (tgt := 271) hx hb dX10_advance_85 (by decide) (fun c_4 => ?_) (fun c_4 => ?_)
    · replace hF := it_f hF c_4
      exact hk271 x1 σ_3 hF H locs ls hP hS (lv_sub hl [0, 1] rfl)
    · replace hF := it_t hF c_4
      refine lv_aload_n hx hb dX10_advance_88 rfl (lv_at hl 0 rfl) ?_
      refine lv_iload_n hx hb dX10_advance_89 rfl (lv_at hl 1 rfl) ?_
      refine lv_iload_n hx hb dX10_advance_90 rfl (lv_at hl 2 rfl) ?_
      refine lv_iconst (v := 0) hx hb dX10_advance_91 (by decide) ?_
      obtain ⟨σ_6, hc_5, hF⟩ := bd_ok hF
      refine iM_lays hC hP hS hc_5 hl.1 (Nat.le_of_ble_eq_true rfl) ⟨Nat.le_of_ble_eq_true rfl, Nat.le_of_ble_eq_true rfl⟩ ⟨Nat.zero_le _, Nat.zero_le _⟩ dX10_advance_92 (fun H locs hP hS => ?_)
      refine lv_goto (tgt := 271) hx hb dX10_advance_95 (by decide) ?_
      exact hk271 x1 σ_6 hF H locs ls hP hS (lv_sub hl [0, 1] rfl)
  · replace hF := it_f hF c_1
    refine lv_iconst (v := 0) hx hb dX10_advance_75 (by decide) ?_
    exact M_reti hC hP hS hr (rt1 hF) (rt2 hF) dX10_advance_76
def F_advance_b54 (k271 : Int32 → MS → Option (Int32 × MS)) (x1 : Int32) (x2 : Int32) (x3 : Int32) (σ : MS) : Option (Int32 × MS) :=
  gd (inb x1 16) <|
  if x3 = 0 then
    F_advance_b69 k271 x1 x2 x3 (2 : Int32) (mA σ 46 (Int32.toNatClampNeg x1)) σ
  else
    F_advance_b69 k271 x1 x2 x3 (1 : Int32) (mA σ 46 (Int32.toNatClampNeg x1)) σ
set_option maxHeartbeats 4000000 in
theorem w_advance_b54 {p : Program} {l : Launch} {e : Env} {s : State} {m : MethodId} {args : Array Value} {below : List Frame} {meth : Method} {c : Code} {G : MG} (hC : MCx G cX10_advance 4 p s m args meth c) (hr : meth.sig.returnType = some .int) {x : (Int32 × MS)} (k271 : Int32 → MS → Option (Int32 × MS)) (hk271 : ∀ (x1 : Int32) (σ : MS), k271 x1 σ = some x → MJ p l e rmM_advance s m args below meth c G 4 (some (.int x.1)) x.2 271 [(0, .ref (gM G)), (1, .int x1)] [] σ) :
    ∀ (x1 : Int32) (x2 : Int32) (x3 : Int32) (σ : MS), F_advance_b54 k271 x1 x2 x3 σ = some x → MJ p l e rmM_advance s m args below meth c G 4 (some (.int x.1)) x.2 54 [(0, .ref (gM G)), (1, .int x1), (2, .int x2), (3, .int x3)] [] σ := by
  have hx := hC.1
  have hb := hC.2.1
  intro x1 x2 x3 σ hF H locs ls hP hS hl
  rw [F_advance_b54] at hF
  refine lv_aload_n hx hb dX10_advance_54 rfl (lv_at hl 0 rfl) ?_
  refine gM46 hC hP dX10_advance_55 ?_
  refine lv_iload_n hx hb dX10_advance_58 rfl (lv_at hl 1 rfl) ?_
  obtain ⟨h_1, hF⟩ := gd_ok hF
  refine M_iald hC hP 46 (by decide) rfl rfl rfl h_1 dX10_advance_59 ?_
  refine lv_iload_n hx hb dX10_advance_60 rfl (lv_at hl 3 rfl) ?_
  refine lv_if_ne (tgt := 68) hx hb dX10_advance_61 (by decide) (fun c_2 => ?_) (fun c_2 => ?_)
  · replace hF := it_f hF c_2
    refine lv_iconst (v := 1) hx hb dX10_advance_68 (by decide) ?_
    exact w_advance_b69 hC hr k271 hk271 x1 x2 x3 (1 : Int32) (mA σ 46 (Int32.toNatClampNeg x1)) σ hF H locs ls hP hS (lv_sub hl [0, 1, 2, 3] rfl)
  · replace hF := it_t hF c_2
    refine lv_iconst (v := 2) hx hb dX10_advance_64 (by decide) ?_
    refine lv_goto (tgt := 69) hx hb dX10_advance_65 (by decide) ?_
    exact w_advance_b69 hC hr k271 hk271 x1 x2 x3 (2 : Int32) (mA σ 46 (Int32.toNatClampNeg x1)) σ hF H locs ls hP hS (lv_sub hl [0, 1, 2, 3] rfl)
def F_advance_L0 : Nat → Int32 → MS → Option (Int32 × MS)
  | 0, _, _ => none
  | fu + 1, x1, σ =>
    gd (inb x1 16) <|
    gd (inb (mI σ 35) 2) <|
    if (mA σ 13 (Int32.toNatClampNeg (mI σ 35))) ≤ (mA σ 45 (Int32.toNatClampNeg x1)) then
      some ((0 : Int32), σ)
    else
      gd (inb x1 16) <|
      lt ((((52 : Int32) * (mI σ 35)) + (mA σ 45 (Int32.toNatClampNeg x1)))) fun x2_5 =>
      gd (inb x2_5 104) <|
      lt ((mA σ 22 (Int32.toNatClampNeg x2_5))) fun x3_7 =>
      lt (wI σ 54 x2_5) fun σ_8 =>
      if x3_7 = 0 then
        F_advance_b54 (F_advance_b271 (F_advance_L0 fu)) x1 x2_5 x3_7 σ_8
      else
        if x3_7 = (1 : Int32) then
          F_advance_b54 (F_advance_b271 (F_advance_L0 fu)) x1 x2_5 x3_7 σ_8
        else
          if x3_7 < (2 : Int32) then
            F_advance_b191 (F_advance_b271 (F_advance_L0 fu)) x1 x2_5 x3_7 σ_8
          else
            if (8 : Int32) < x3_7 then
              F_advance_b191 (F_advance_b271 (F_advance_L0 fu)) x1 x2_5 x3_7 σ_8
            else
              gd (inb x1 16) <|
              bd (F_fits σ_8 x2_5 (mA σ_8 46 (Int32.toNatClampNeg x1))) fun r_15 =>
              if r_15 = 0 then
                some ((0 : Int32), σ_8)
              else
                if x3_7 = (8 : Int32) then
                  some ((3 : Int32), σ_8)
                else
                  bd (F_isSeen σ_8 x1 x2_5) fun r_19 =>
                  if r_19 = 0 then
                    bd (F_moveAll x1 x2_5 σ_8) fun σ_22 =>
                    gd (inb x1 16) <|
                    bd (F_ways σ_22 x2_5) fun r_25 =>
                    gd (inb x1 16) <|
                    lt (wL σ_22 44 (Int32.toNatClampNeg x1) ((mL σ_22 44 (Int32.toNatClampNeg x1)) * (Int32.toInt64 r_25))) fun σ_27 =>
                    gd (inb x1 16) <|
                    if (mA σ_27 47 (Int32.toNatClampNeg x1)) < 0 then
                      F_advance_b271 (F_advance_L0 fu) x1 σ_27
                    else
                      gd (inb x1 16) <|
                      bd (F_movedPlace σ_27 (mA σ_27 47 (Int32.toNatClampNeg x1))) fun r_32 =>
                      gd (inb x1 16) <|
                      lt (wA σ_27 47 (Int32.toNatClampNeg x1) r_32) fun σ_34 =>
                      F_advance_b271 (F_advance_L0 fu) x1 σ_34
                  else
                    some ((3 : Int32), σ_8)
set_option maxHeartbeats 4000000 in
theorem w_advance_L0 {p : Program} {l : Launch} {e : Env} {s : State} {m : MethodId} {args : Array Value} {below : List Frame} {meth : Method} {c : Code} {G : MG} (hC : MCx G cX10_advance 4 p s m args meth c) (hr : meth.sig.returnType = some .int) {x : (Int32 × MS)} :
    ∀ (fu : Nat) (x1 : Int32) (σ : MS), F_advance_L0 fu x1 σ = some x → MJ p l e rmM_advance s m args below meth c G 4 (some (.int x.1)) x.2 0 [(0, .ref (gM G)), (1, .int x1)] [] σ := by
  have hx := hC.1
  have hb := hC.2.1
  intro fu
  induction fu with
  | zero => intro x1 σ hF; exact nm_none hF
  | succ fu ih =>
    intro x1 σ hF H locs ls hP hS hl
    rw [F_advance_L0] at hF
    refine lv_aload_n hx hb dX10_advance_0 rfl (lv_at hl 0 rfl) ?_
    refine gM45 hC hP dX10_advance_1 ?_
    refine lv_iload_n hx hb dX10_advance_4 rfl (lv_at hl 1 rfl) ?_
    obtain ⟨h_1, hF⟩ := gd_ok hF
    refine M_iald hC hP 45 (by decide) rfl rfl rfl h_1 dX10_advance_5 ?_
    refine lv_aload_n hx hb dX10_advance_6 rfl (lv_at hl 0 rfl) ?_
    refine gM13 hC hP dX10_advance_7 ?_
    refine lv_aload_n hx hb dX10_advance_10 rfl (lv_at hl 0 rfl) ?_
    refine gM35 hC hP dX10_advance_11 ?_
    obtain ⟨h_2, hF⟩ := gd_ok hF
    refine M_iald hC hP 13 (by decide) rfl rfl rfl h_2 dX10_advance_14 ?_
    refine lv_icmp_ge (tgt := 284) hx hb dX10_advance_15 (by decide) (fun c_3 => ?_) (fun c_3 => ?_)
    · replace hF := it_t hF c_3
      refine lv_iconst (v := 0) hx hb dX10_advance_284 (by decide) ?_
      exact M_reti hC hP hS hr (rt1 hF) (rt2 hF) dX10_advance_285
    · replace hF := it_f hF c_3
      refine lv_bipush (v := 52) hx hb dX10_advance_18 (by decide) ?_
      refine lv_aload_n hx hb dX10_advance_20 rfl (lv_at hl 0 rfl) ?_
      refine gM35 hC hP dX10_advance_21 ?_
      refine lv_imul hx hb dX10_advance_24 ?_
      refine lv_aload_n hx hb dX10_advance_25 rfl (lv_at hl 0 rfl) ?_
      refine gM45 hC hP dX10_advance_26 ?_
      refine lv_iload_n hx hb dX10_advance_29 rfl (lv_at hl 1 rfl) ?_
      obtain ⟨h_4, hF⟩ := gd_ok hF
      refine M_iald hC hP 45 (by decide) rfl rfl rfl h_4 dX10_advance_30 ?_
      refine lv_iadd hx hb dX10_advance_31 ?_
      refine lv_topi (fun x2_5 ex2_5 => ?_)
      replace hF := lt_at hF ex2_5
      refine lv_istore_n (lv' := [(2, .int x2_5), (0, .ref (gM G)), (1, .int x1)]) hx hb dX10_advance_32 rfl hl (by decide) rfl (fun ls hl => ?_)
      refine lv_aload_n hx hb dX10_advance_33 rfl (lv_at hl 1 rfl) ?_
      refine gM22 hC hP dX10_advance_34 ?_
      refine lv_iload_n hx hb dX10_advance_37 rfl (lv_at hl 0 rfl) ?_
      obtain ⟨h_6, hF⟩ := gd_ok hF
      refine M_iald hC hP 22 (by decide) rfl rfl rfl h_6 dX10_advance_38 ?_
      refine lv_topi (fun x3_7 ex3_7 => ?_)
      replace hF := lt_at hF ex3_7
      refine lv_istore_n (lv' := [(3, .int x3_7), (2, .int x2_5), (0, .ref (gM G)), (1, .int x1)]) hx hb dX10_advance_39 rfl hl (by decide) rfl (fun ls hl => ?_)
      refine lv_aload_n hx hb dX10_advance_40 rfl (lv_at hl 2 rfl) ?_
      refine lv_iload_n hx hb dX10_advance_41 rfl (lv_at hl 1 rfl) ?_
      refine pM54 hC hP hS dX10_advance_42 (fun H locs hP hS => ?_)
      obtain ⟨σ_8, eσ_8, hF⟩ := lt_ok hF
      rw [← eσ_8] at hP
      refine lv_iload_n hx hb dX10_advance_45 rfl (lv_at hl 0 rfl) ?_
      refine lv_if_eq (tgt := 54) hx hb dX10_advance_46 (by decide) (fun c_9 => ?_) (fun c_9 => ?_)
      · replace hF := it_t hF c_9
        exact w_advance_b54 hC hr (F_advance_b271 (F_advance_L0 fu)) (w_advance_b271 hC hr (F_advance_L0 fu) ih) x1 x2_5 x3_7 σ_8 hF H locs ls hP hS (lv_sub hl [2, 3, 1, 0] rfl)
      · replace hF := it_f hF c_9
        refine lv_iload_n hx hb dX10_advance_49 rfl (lv_at hl 0 rfl) ?_
        refine lv_iconst (v := 1) hx hb dX10_advance_50 (by decide) ?_
        refine lv_icmp_ne (tgt := 98) hx hb dX10_advance_51 (by decide) (fun c_10 => ?_) (fun c_10 => ?_)
        · replace hF := it_f hF c_10
          refine lv_iload_n hx hb dX10_advance_98 rfl (lv_at hl 0 rfl) ?_
          refine lv_iconst (v := 2) hx hb dX10_advance_99 (by decide) ?_
          refine lv_icmp_lt (tgt := 191) hx hb dX10_advance_100 (by decide) (fun c_11 => ?_) (fun c_11 => ?_)
          · replace hF := it_t hF c_11
            exact w_advance_b191 hC hr (F_advance_b271 (F_advance_L0 fu)) (w_advance_b271 hC hr (F_advance_L0 fu) ih) x1 x2_5 x3_7 σ_8 hF H locs ls hP hS (lv_sub hl [2, 3, 1, 0] rfl)
          · replace hF := it_f hF c_11
            refine lv_iload_n hx hb dX10_advance_103 rfl (lv_at hl 0 rfl) ?_
            refine lv_bipush (v := 8) hx hb dX10_advance_104 (by decide) ?_
            refine lv_icmp_gt (tgt := 191) hx hb dX10_advance_106 (by decide) (fun c_12 => ?_) (fun c_12 => ?_)
            · replace hF := it_t hF c_12
              exact w_advance_b191 hC hr (F_advance_b271 (F_advance_L0 fu)) (w_advance_b271 hC hr (F_advance_L0 fu) ih) x1 x2_5 x3_7 σ_8 hF H locs ls hP hS (lv_sub hl [2, 3, 1, 0] rfl)
            · replace hF := it_f hF c_12
              refine lv_aload_n hx hb dX10_advance_109 rfl (lv_at hl 2 rfl) ?_
              refine lv_iload_n hx hb dX10_advance_110 rfl (lv_at hl 1 rfl) ?_
              refine lv_aload_n hx hb dX10_advance_111 rfl (lv_at hl 2 rfl) ?_
              refine gM46 hC hP dX10_advance_112 ?_
              refine lv_iload_n hx hb dX10_advance_115 rfl (lv_at hl 3 rfl) ?_
              obtain ⟨h_13, hF⟩ := gd_ok hF
              refine M_iald hC hP 46 (by decide) rfl rfl rfl h_13 dX10_advance_116 ?_
              obtain ⟨r_15, hc_14, hF⟩ := bd_ok hF
              refine iM_fits hC hP hS hc_14 hl.1 (Nat.le_of_ble_eq_true rfl) ⟨Nat.le_of_ble_eq_true rfl, Nat.le_of_ble_eq_true rfl⟩ ⟨Nat.zero_le _, Nat.zero_le _⟩ dX10_advance_117 (fun H locs hP hS => ?_)
              refine lv_if_ne (tgt := 125) hx hb dX10_advance_120 (by decide) (fun c_16 => ?_) (fun c_16 => ?_)
              · replace hF := it_f hF c_16
                refine lv_iload_n hx hb dX10_advance_125 rfl (lv_at hl 0 rfl) ?_
                refine lv_bipush (v := 8) hx hb dX10_advance_126 (by decide) ?_
                refine lv_icmp_eq (tgt := 140) hx hb dX10_advance_128 (by decide) (fun c_17 => ?_) (fun c_17 => ?_)
                · replace hF := it_t hF c_17
                  refine lv_iconst (v := 3) hx hb dX10_advance_140 (by decide) ?_
                  exact M_reti hC hP hS hr (rt1 hF) (rt2 hF) dX10_advance_141
                · replace hF := it_f hF c_17
                  refine lv_aload_n hx hb dX10_advance_131 rfl (lv_at hl 2 rfl) ?_
                  refine lv_iload_n hx hb dX10_advance_132 rfl (lv_at hl 3 rfl) ?_
                  refine lv_iload_n hx hb dX10_advance_133 rfl (lv_at hl 1 rfl) ?_
                  obtain ⟨r_19, hc_18, hF⟩ := bd_ok hF
                  refine iM_isSeen hC hP hS hc_18 hl.1 (Nat.le_of_ble_eq_true rfl) ⟨Nat.le_of_ble_eq_true rfl, Nat.le_of_ble_eq_true rfl⟩ ⟨Nat.zero_le _, Nat.zero_le _⟩ dX10_advance_134 (fun H locs hP hS => ?_)
                  refine lv_if_eq (tgt := 142) hx hb dX10_advance_137 (by decide) (fun c_20 => ?_) (fun c_20 => ?_)
                  · replace hF := it_t hF c_20
                    refine lv_aload_n hx hb dX10_advance_142 rfl (lv_at hl 2 rfl) ?_
                    refine lv_iload_n hx hb dX10_advance_143 rfl (lv_at hl 3 rfl) ?_
                    refine lv_iload_n hx hb dX10_advance_144 rfl (lv_at hl 1 rfl) ?_
                    obtain ⟨σ_22, hc_21, hF⟩ := bd_ok hF
                    refine iM_moveAll hC hP hS hc_21 hl.1 (Nat.le_of_ble_eq_true rfl) ⟨Nat.le_of_ble_eq_true rfl, Nat.le_of_ble_eq_true rfl⟩ ⟨Nat.zero_le _, Nat.zero_le _⟩ dX10_advance_145 (fun H locs hP hS => ?_)
                    refine lv_aload_n hx hb dX10_advance_148 rfl (lv_at hl 2 rfl) ?_
                    refine gM44 hC hP dX10_advance_149 ?_
                    refine lv_iload_n hx hb dX10_advance_152 rfl (lv_at hl 3 rfl) ?_
                    refine lv_dup2_11 hx hb dX10_advance_153 rfl rfl ?_
                    obtain ⟨h_23, hF⟩ := gd_ok hF
                    refine M_lald hC hP 44 (by decide) rfl rfl rfl h_23 dX10_advance_154 ?_
                    refine lv_aload_n hx hb dX10_advance_155 rfl (lv_at hl 2 rfl) ?_
                    refine lv_iload_n hx hb dX10_advance_156 rfl (lv_at hl 1 rfl) ?_
                    obtain ⟨r_25, hc_24, hF⟩ := bd_ok hF
                    refine iM_ways hC hP hS hc_24 hl.1 (Nat.le_of_ble_eq_true rfl) ⟨Nat.le_of_ble_eq_true rfl, Nat.le_of_ble_eq_true rfl⟩ ⟨Nat.zero_le _, Nat.zero_le _⟩ dX10_advance_157 (fun H locs hP hS => ?_)
                    refine lv_i2l hx hb dX10_advance_160 rfl ?_
                    refine lv_lmul hx hb dX10_advance_161 ?_
                    obtain ⟨h_26, hF⟩ := gd_ok hF
                    refine M_last hC hP hS 44 (by decide) rfl rfl rfl h_26 dX10_advance_162 (fun H locs hP hS => ?_)
                    obtain ⟨σ_27, eσ_27, hF⟩ := lt_ok hF
                    rw [← eσ_27] at hP
                    refine lv_aload_n hx hb dX10_advance_163 rfl (lv_at hl 2 rfl) ?_
                    refine gM47 hC hP dX10_advance_164 ?_
                    refine lv_iload_n hx hb dX10_advance_167 rfl (lv_at hl 3 rfl) ?_
                    obtain ⟨h_28, hF⟩ := gd_ok hF
                    refine M_iald hC hP 47 (by decide) rfl rfl rfl h_28 dX10_advance_168 ?_
                    refine lv_if_lt (tgt := 271) hx hb dX10_advance_169 (by decide) (fun c_29 => ?_) (fun c_29 => ?_)
                    · replace hF := it_t hF c_29
                      exact w_advance_b271 hC hr (F_advance_L0 fu) ih x1 σ_27 hF H locs ls hP hS (lv_sub hl [2, 3] rfl)
                    · replace hF := it_f hF c_29
                      refine lv_aload_n hx hb dX10_advance_172 rfl (lv_at hl 2 rfl) ?_
                      refine gM47 hC hP dX10_advance_173 ?_
                      refine lv_iload_n hx hb dX10_advance_176 rfl (lv_at hl 3 rfl) ?_
                      refine lv_aload_n hx hb dX10_advance_177 rfl (lv_at hl 2 rfl) ?_
                      refine lv_aload_n hx hb dX10_advance_178 rfl (lv_at hl 2 rfl) ?_
                      refine gM47 hC hP dX10_advance_179 ?_
                      refine lv_iload_n hx hb dX10_advance_182 rfl (lv_at hl 3 rfl) ?_
                      obtain ⟨h_30, hF⟩ := gd_ok hF
                      refine M_iald hC hP 47 (by decide) rfl rfl rfl h_30 dX10_advance_183 ?_
                      obtain ⟨r_32, hc_31, hF⟩ := bd_ok hF
                      refine iM_movedPlace hC hP hS hc_31 hl.1 (Nat.le_of_ble_eq_true rfl) ⟨Nat.le_of_ble_eq_true rfl, Nat.le_of_ble_eq_true rfl⟩ ⟨Nat.zero_le _, Nat.zero_le _⟩ dX10_advance_184 (fun H locs hP hS => ?_)
                      obtain ⟨h_33, hF⟩ := gd_ok hF
                      refine M_iast hC hP hS 47 (by decide) rfl rfl rfl h_33 dX10_advance_187 (fun H locs hP hS => ?_)
                      obtain ⟨σ_34, eσ_34, hF⟩ := lt_ok hF
                      rw [← eσ_34] at hP
                      refine lv_goto (tgt := 271) hx hb dX10_advance_188 (by decide) ?_
                      exact w_advance_b271 hC hr (F_advance_L0 fu) ih x1 σ_34 hF H locs ls hP hS (lv_sub hl [2, 3] rfl)
                  · replace hF := it_f hF c_20
                    refine lv_iconst (v := 3) hx hb dX10_advance_140 (by decide) ?_
                    exact M_reti hC hP hS hr (rt1 hF) (rt2 hF) dX10_advance_141
              · replace hF := it_t hF c_16
                refine lv_iconst (v := 0) hx hb dX10_advance_123 (by decide) ?_
                exact M_reti hC hP hS hr (rt1 hF) (rt2 hF) dX10_advance_124
        · replace hF := it_t hF c_10
          exact w_advance_b54 hC hr (F_advance_b271 (F_advance_L0 fu)) (w_advance_b271 hC hr (F_advance_L0 fu) ih) x1 x2_5 x3_7 σ_8 hF H locs ls hP hS (lv_sub hl [2, 3, 1, 0] rfl)
def F_advance (a0 : Int32) (σ : MS) : Option (Int32 × MS) :=
  F_advance_L0 MN a0 σ
set_option maxHeartbeats 4000000 in
theorem w_advance {p : Program} {l : Launch} {e : Env} {s : State} {m : MethodId} {args : Array Value} {below : List Frame} {meth : Method} {c : Code} {G : MG} (hC : MCx G cX10_advance 4 p s m args meth c) (hr : meth.sig.returnType = some .int) {x : (Int32 × MS)} :
    ∀ (a0 : Int32) (σ : MS), F_advance a0 σ = some x → MJ p l e rmM_advance s m args below meth c G 4 (some (.int x.1)) x.2 0 [(0, .ref (gM G)), (1, .int a0)] [] σ := by
  have hx := hC.1
  have hb := hC.2.1
  intro a0 σ hF H locs ls hP hS hl
  rw [F_advance] at hF
  exact w_advance_L0 hC hr MN a0 σ hF H locs ls hP hS (lv_sub hl [0, 1] rfl)
theorem m_advance (l : Launch) (G : MG) (a0 : Int32) (σ : MS) (x : (Int32 × MS)) (hF : F_advance a0 σ = some x) : Met l yX10_advance (ws_ yX10_advance cX10_advance 4 (some .int)) rmM_advance (mP G [.ref (gM G), .int a0] σ) (mQ G (some (.int x.1)) x.2) 0 0 (MA G) := by
  refine M_met rfl plM (Nat.le_of_ble_eq_true rfl) ?_
  intro p e s m below meth c hC hr ls hl hP
  exact w_advance hC hr a0 σ hF s.heap [] ls hP va_S.rf hl
theorem iM_advance {p : Program} {l : Launch} {e : Env} {R : Room} {s : State} {m : MethodId} {args : Array Value} {below : List Frame} {meth : Method} {c : Code} {H H0 : Heap} {locs : List Loc} {cells slots nL : Nat} {Q : State → Prop} {G : MG} {σ : MS} {cc : ByteArray} {pc : Nat} {ls : Array Slot} {rest : List Value} (hC : MCx G cc nL p s m args meth c) (hP : MRep G σ H) (hS : va_S (MA G) H0 H locs) {a0 : Int32} {x : Int32} {σ1 : MS} (hF : F_advance a0 σ = some (x, σ1)) (hl : ls.size = nL) (hW : (rest.map fun v => v.category).sum ≤ 8) (hR : rmM_advance.frames + 1 ≤ R.frames ∧ 8 + (4 + 11) + rmM_advance.locals ≤ R.locals) (hf : cells ≤ R.cells ∧ slots ≤ R.slots) (hdg : decode cc pc = .ok (.invokevirtual 506, 3))
    (kk : ∀ (H1 : Heap) (locs1 : List Loc), MRep G σ1 H1 → va_S (MA G) H0 H1 locs1 → W p l e R s m args below meth c H1 locs1 cells slots Q (F0 m (pc + 3) ls (.int x :: rest))) : W p l e R s m args below meth c H locs cells slots Q (F0 m pc ls (.int a0 :: .ref (gM G) :: rest)) :=
  M_inv hC hP hS [.int a0] (m_advance l G a0 σ _ hF) (cwV 1 hC.2.2.2.2.1 (lw_V q1855 q1857 qs55 q145 q1858) rfl rfl rfl (by decide +kernel) hR) rfl rfl hl hW hf hdg kk
end
