set_option maxRecDepth 100000
noncomputable section
/-! feed -/
abbrev rmM_feed : Room := { frames := 0, cells := 0, slots := 0, locals := 0 }
def F_feed_b105 (σ : MS) : Option (Int32 × MS) :=
  lt (wI σ 2 ((mI σ 2) + (20 : Int32))) fun σ_1 =>
  some ((mI σ_1 2), σ_1)
set_option maxHeartbeats 4000000 in
theorem w_feed_b105 {p : Program} {l : Launch} {e : Env} {s : State} {m : MethodId} {args : Array Value} {below : List Frame} {meth : Method} {c : Code} {G : MG} (hC : MCx G cX10_feed 8 p s m args meth c) (hr : meth.sig.returnType = some .int) {x : (Int32 × MS)} :
    ∀ (σ : MS), F_feed_b105 σ = some x → MJ p l e rmM_feed s m args below meth c G 8 (some (.int x.1)) x.2 105 [(0, .ref (gM G))] [] σ := by
  have hx := hC.1
  have hb := hC.2.1
  intro σ hF H locs ls hP hS hl
  rw [F_feed_b105] at hF
  refine lv_aload_n hx hb dX10_feed_105 rfl (lv_at hl 0 rfl) ?_
  refine lv_dup hx hb dX10_feed_106 rfl ?_
  refine gM2 hC hP dX10_feed_107 ?_
  refine lv_bipush (v := 20) hx hb dX10_feed_110 (by decide) ?_
  refine lv_iadd hx hb dX10_feed_112 ?_
  refine pM2 hC hP hS dX10_feed_113 (fun H locs hP hS => ?_)
  obtain ⟨σ_1, eσ_1, hF⟩ := lt_ok hF
  rw [← eσ_1] at hP
  refine lv_aload_n hx hb dX10_feed_116 rfl (lv_at hl 0 rfl) ?_
  refine gM2 hC hP dX10_feed_117 ?_
  exact M_reti hC hP hS hr (rt1 hF) (rt2 hF) dX10_feed_120
def F_feed_b71 (k18 : Int32 → Int32 → Int32 → Int32 → Int32 → Int32 → MS → Option (Int32 × MS)) (x1 : Int32) (x2 : Int32) (x3 : Int32) (x4 : Int32) (x5 : Int32) (x6 : Int32) (y0 : Int32) (σ : MS) : Option (Int32 × MS) :=
  gd (inb ((mI σ 2) + x6) 1620) <|
  lt (wA σ 0 (Int32.toNatClampNeg ((mI σ 2) + x6)) (Int8.toInt32 (Int32.toInt8 (Int8.toInt32 (Int32.toInt8 (y0 >>> (((24 : Int32) - ((8 : Int32) * (x6 &&& (3 : Int32)))) &&& 31))))))) fun σ_2 =>
  lt (x6 + (1 : Int32)) fun x6_3 =>
  k18 x1 x2 x3 x4 x5 x6_3 σ_2
set_option maxHeartbeats 4000000 in
theorem w_feed_b71 {p : Program} {l : Launch} {e : Env} {s : State} {m : MethodId} {args : Array Value} {below : List Frame} {meth : Method} {c : Code} {G : MG} (hC : MCx G cX10_feed 8 p s m args meth c) (hr : meth.sig.returnType = some .int) {x : (Int32 × MS)} (k18 : Int32 → Int32 → Int32 → Int32 → Int32 → Int32 → MS → Option (Int32 × MS)) (hk18 : ∀ (x1 : Int32) (x2 : Int32) (x3 : Int32) (x4 : Int32) (x5 : Int32) (x6 : Int32) (σ : MS), k18 x1 x2 x3 x4 x5 x6 σ = some x → MJ p l e rmM_feed s m args below meth c G 8 (some (.int x.1)) x.2 18 [(0, .ref (gM G)), (1, .int x1), (2, .int x2), (3, .int x3), (4, .int x4), (5, .int x5), (6, .int x6)] [] σ) :
    ∀ (x1 : Int32) (x2 : Int32) (x3 : Int32) (x4 : Int32) (x5 : Int32) (x6 : Int32) (y0 : Int32) (σ : MS), F_feed_b71 k18 x1 x2 x3 x4 x5 x6 y0 σ = some x → MJ p l e rmM_feed s m args below meth c G 8 (some (.int x.1)) x.2 71 [(0, .ref (gM G)), (1, .int x1), (2, .int x2), (3, .int x3), (4, .int x4), (5, .int x5), (6, .int x6)] [.int y0] σ := by
  have hx := hC.1
  have hb := hC.2.1
  intro x1 x2 x3 x4 x5 x6 y0 σ hF H locs ls hP hS hl
  rw [F_feed_b71] at hF
  refine lv_istore (lv' := [(7, .int y0), (0, .ref (gM G)), (1, .int x1), (2, .int x2), (3, .int x3), (4, .int x4), (5, .int x5), (6, .int x6)]) hx hb dX10_feed_71 hl (by decide) rfl (fun ls hl => ?_)
  refine lv_aload_n hx hb dX10_feed_73 rfl (lv_at hl 1 rfl) ?_
  refine gM0 hC hP dX10_feed_74 ?_
  refine lv_aload_n hx hb dX10_feed_77 rfl (lv_at hl 1 rfl) ?_
  refine gM2 hC hP dX10_feed_78 ?_
  refine lv_iload hx hb dX10_feed_81 (lv_at hl 7 rfl) ?_
  refine lv_iadd hx hb dX10_feed_83 ?_
  refine lv_iload hx hb dX10_feed_84 (lv_at hl 0 rfl) ?_
  refine lv_bipush (v := 24) hx hb dX10_feed_86 (by decide) ?_
  refine lv_bipush (v := 8) hx hb dX10_feed_88 (by decide) ?_
  refine lv_iload hx hb dX10_feed_90 (lv_at hl 7 rfl) ?_
  refine lv_iconst (v := 3) hx hb dX10_feed_92 (by decide) ?_
  refine lv_iand hx hb dX10_feed_93 ?_
  refine lv_imul hx hb dX10_feed_94 ?_
  refine lv_isub hx hb dX10_feed_95 ?_
  refine lv_ishr hx hb dX10_feed_96 ?_
  refine lv_i2b hx hb dX10_feed_97 rfl ?_
  obtain ⟨h_1, hF⟩ := gd_ok hF
  refine M_bast hC hP hS 0 (by decide) rfl rfl rfl h_1 dX10_feed_98 (fun H locs hP hS => ?_)
  obtain ⟨σ_2, eσ_2, hF⟩ := lt_ok hF
  rw [← eσ_2] at hP
  obtain ⟨x6_3, ex6_3, hF⟩ := lt_ok hF
  refine lv_iinc (v := x6_3) (lv' := [(6, .int x6_3), (7, .int y0), (0, .ref (gM G)), (1, .int x1), (2, .int x2), (3, .int x3), (4, .int x4), (5, .int x5)]) hx hb dX10_feed_99 hl (k := 7) rfl (by rw [ex6_3]; rfl) (by decide) rfl (fun ls hl => ?_)
  refine lv_goto (tgt := 18) hx hb dX10_feed_102 (by decide) ?_
  exact hk18 x1 x2 x3 x4 x5 x6_3 σ_2 hF H locs ls hP hS (lv_sub hl [2, 3, 4, 5, 6, 7, 0] rfl)
def F_feed_L18 : Nat → Int32 → Int32 → Int32 → Int32 → Int32 → Int32 → MS → Option (Int32 × MS)
  | 0, _, _, _, _, _, _, _ => none
  | fu + 1, x1, x2, x3, x4, x5, x6, σ =>
    if (20 : Int32) ≤ x6 then
      F_feed_b105 σ
    else
      if (4 : Int32) ≤ x6 then
        if (8 : Int32) ≤ x6 then
          if (12 : Int32) ≤ x6 then
            if (16 : Int32) ≤ x6 then
              F_feed_b71 (F_feed_L18 fu) x1 x2 x3 x4 x5 x6 x5 σ
            else
              F_feed_b71 (F_feed_L18 fu) x1 x2 x3 x4 x5 x6 x4 σ
          else
            F_feed_b71 (F_feed_L18 fu) x1 x2 x3 x4 x5 x6 x3 σ
        else
          F_feed_b71 (F_feed_L18 fu) x1 x2 x3 x4 x5 x6 x2 σ
      else
        F_feed_b71 (F_feed_L18 fu) x1 x2 x3 x4 x5 x6 x1 σ
set_option maxHeartbeats 4000000 in
theorem w_feed_L18 {p : Program} {l : Launch} {e : Env} {s : State} {m : MethodId} {args : Array Value} {below : List Frame} {meth : Method} {c : Code} {G : MG} (hC : MCx G cX10_feed 8 p s m args meth c) (hr : meth.sig.returnType = some .int) {x : (Int32 × MS)} :
    ∀ (fu : Nat) (x1 : Int32) (x2 : Int32) (x3 : Int32) (x4 : Int32) (x5 : Int32) (x6 : Int32) (σ : MS), F_feed_L18 fu x1 x2 x3 x4 x5 x6 σ = some x → MJ p l e rmM_feed s m args below meth c G 8 (some (.int x.1)) x.2 18 [(0, .ref (gM G)), (1, .int x1), (2, .int x2), (3, .int x3), (4, .int x4), (5, .int x5), (6, .int x6)] [] σ := by
  have hx := hC.1
  have hb := hC.2.1
  intro fu
  induction fu with
  | zero => intro x1 x2 x3 x4 x5 x6 σ hF; exact nm_none hF
  | succ fu ih =>
    intro x1 x2 x3 x4 x5 x6 σ hF H locs ls hP hS hl
    rw [F_feed_L18] at hF
    refine lv_iload hx hb dX10_feed_18 (lv_at hl 6 rfl) ?_
    refine lv_bipush (v := 20) hx hb dX10_feed_20 (by decide) ?_
    refine lv_icmp_ge (tgt := 105) hx hb dX10_feed_22 (by decide) (fun c_1 => ?_) (fun c_1 => ?_)
    · replace hF := it_t hF c_1
      exact w_feed_b105 hC hr σ hF H locs ls hP hS (lv_sub hl [0] rfl)
    · replace hF := it_f hF c_1
      refine lv_iload hx hb dX10_feed_25 (lv_at hl 6 rfl) ?_
      refine lv_iconst (v := 4) hx hb dX10_feed_27 (by decide) ?_
      refine lv_icmp_ge (tgt := 35) hx hb dX10_feed_28 (by decide) (fun c_2 => ?_) (fun c_2 => ?_)
      · replace hF := it_t hF c_2
        refine lv_iload hx hb dX10_feed_35 (lv_at hl 6 rfl) ?_
        refine lv_bipush (v := 8) hx hb dX10_feed_37 (by decide) ?_
        refine lv_icmp_ge (tgt := 46) hx hb dX10_feed_39 (by decide) (fun c_3 => ?_) (fun c_3 => ?_)
        · replace hF := it_t hF c_3
          refine lv_iload hx hb dX10_feed_46 (lv_at hl 6 rfl) ?_
          refine lv_bipush (v := 12) hx hb dX10_feed_48 (by decide) ?_
          refine lv_icmp_ge (tgt := 57) hx hb dX10_feed_50 (by decide) (fun c_4 => ?_) (fun c_4 => ?_)
          · replace hF := it_t hF c_4
            refine lv_iload hx hb dX10_feed_57 (lv_at hl 6 rfl) ?_
            refine lv_bipush (v := 16) hx hb dX10_feed_59 (by decide) ?_
            refine lv_icmp_ge (tgt := 69) hx hb dX10_feed_61 (by decide) (fun c_5 => ?_) (fun c_5 => ?_)
            · replace hF := it_t hF c_5
              refine lv_iload hx hb dX10_feed_69 (lv_at hl 5 rfl) ?_
              exact w_feed_b71 hC hr (F_feed_L18 fu) ih x1 x2 x3 x4 x5 x6 x5 σ hF H locs ls hP hS (lv_sub hl [0, 1, 2, 3, 4, 5, 6] rfl)
            · replace hF := it_f hF c_5
              refine lv_iload hx hb dX10_feed_64 (lv_at hl 4 rfl) ?_
              refine lv_goto (tgt := 71) hx hb dX10_feed_66 (by decide) ?_
              exact w_feed_b71 hC hr (F_feed_L18 fu) ih x1 x2 x3 x4 x5 x6 x4 σ hF H locs ls hP hS (lv_sub hl [0, 1, 2, 3, 4, 5, 6] rfl)
          · replace hF := it_f hF c_4
            refine lv_iload_n hx hb dX10_feed_53 rfl (lv_at hl 3 rfl) ?_
            refine lv_goto (tgt := 71) hx hb dX10_feed_54 (by decide) ?_
            exact w_feed_b71 hC hr (F_feed_L18 fu) ih x1 x2 x3 x4 x5 x6 x3 σ hF H locs ls hP hS (lv_sub hl [0, 1, 2, 3, 4, 5, 6] rfl)
        · replace hF := it_f hF c_3
          refine lv_iload_n hx hb dX10_feed_42 rfl (lv_at hl 2 rfl) ?_
          refine lv_goto (tgt := 71) hx hb dX10_feed_43 (by decide) ?_
          exact w_feed_b71 hC hr (F_feed_L18 fu) ih x1 x2 x3 x4 x5 x6 x2 σ hF H locs ls hP hS (lv_sub hl [0, 1, 2, 3, 4, 5, 6] rfl)
      · replace hF := it_f hF c_2
        refine lv_iload_n hx hb dX10_feed_31 rfl (lv_at hl 1 rfl) ?_
        refine lv_goto (tgt := 71) hx hb dX10_feed_32 (by decide) ?_
        exact w_feed_b71 hC hr (F_feed_L18 fu) ih x1 x2 x3 x4 x5 x6 x1 σ hF H locs ls hP hS (lv_sub hl [0, 1, 2, 3, 4, 5, 6] rfl)
def F_feed (a0 : Int32) (a1 : Int32) (a2 : Int32) (a3 : Int32) (a4 : Int32) (σ : MS) : Option (Int32 × MS) :=
  if ((mI σ 2) + (20 : Int32)) ≤ (1600 : Int32) then
    F_feed_L18 MN a0 a1 a2 a3 a4 (0 : Int32) σ
  else
    some ((-1 : Int32), σ)
set_option maxHeartbeats 4000000 in
theorem w_feed {p : Program} {l : Launch} {e : Env} {s : State} {m : MethodId} {args : Array Value} {below : List Frame} {meth : Method} {c : Code} {G : MG} (hC : MCx G cX10_feed 8 p s m args meth c) (hr : meth.sig.returnType = some .int) {x : (Int32 × MS)} :
    ∀ (a0 : Int32) (a1 : Int32) (a2 : Int32) (a3 : Int32) (a4 : Int32) (σ : MS), F_feed a0 a1 a2 a3 a4 σ = some x → MJ p l e rmM_feed s m args below meth c G 8 (some (.int x.1)) x.2 0 [(0, .ref (gM G)), (1, .int a0), (2, .int a1), (3, .int a2), (4, .int a3), (5, .int a4)] [] σ := by
  have hx := hC.1
  have hb := hC.2.1
  intro a0 a1 a2 a3 a4 σ hF H locs ls hP hS hl
  rw [F_feed] at hF
  refine lv_aload_n hx hb dX10_feed_0 rfl (lv_at hl 0 rfl) ?_
  refine gM2 hC hP dX10_feed_1 ?_
  refine lv_bipush (v := 20) hx hb dX10_feed_4 (by decide) ?_
  refine lv_iadd hx hb dX10_feed_6 ?_
  refine lv_sipush (v := 1600) hx hb dX10_feed_7 (by decide) ?_
  refine lv_icmp_le (tgt := 15) hx hb dX10_feed_10 (by decide) (fun c_1 => ?_) (fun c_1 => ?_)
  · replace hF := it_t hF c_1
    refine lv_iconst (v := 0) hx hb dX10_feed_15 (by decide) ?_
    refine lv_istore (lv' := [(6, .int (0 : Int32)), (0, .ref (gM G)), (1, .int a0), (2, .int a1), (3, .int a2), (4, .int a3), (5, .int a4)]) hx hb dX10_feed_16 hl (by decide) rfl (fun ls hl => ?_)
    exact w_feed_L18 hC hr MN a0 a1 a2 a3 a4 (0 : Int32) σ hF H locs ls hP hS (lv_sub hl [1, 2, 3, 4, 5, 6, 0] rfl)
  · replace hF := it_f hF c_1
    refine lv_iconst (v := -1) hx hb dX10_feed_13 (by decide) ?_
    exact M_reti hC hP hS hr (rt1 hF) (rt2 hF) dX10_feed_14
theorem m_feed (l : Launch) (G : MG) (a0 : Int32) (a1 : Int32) (a2 : Int32) (a3 : Int32) (a4 : Int32) (σ : MS) (x : (Int32 × MS)) (hF : F_feed a0 a1 a2 a3 a4 σ = some x) : Met l yX10_feed (ws_ yX10_feed cX10_feed 8 (some .int)) rmM_feed (mP G [.ref (gM G), .int a0, .int a1, .int a2, .int a3, .int a4] σ) (mQ G (some (.int x.1)) x.2) 0 0 (MA G) := by
  refine M_met rfl plM (Nat.le_of_ble_eq_true rfl) ?_
  intro p e s m below meth c hC hr ls hl hP
  exact w_feed hC hr a0 a1 a2 a3 a4 σ hF s.heap [] ls hP va_S.rf hl
/-! end -/
abbrev rmM_end : Room := { frames := 0, cells := 0, slots := 0, locals := 0 }
def F_end (a0 : Int32) (σ : MS) : Option (Int32 × MS) :=
  if a0 < 0 then
    some ((-1 : Int32), σ)
  else
    if a0 ≤ (mI σ 2) then
      lt (wI σ 2 a0) fun σ_3 =>
      some (a0, σ_3)
    else
      some ((-1 : Int32), σ)
set_option maxHeartbeats 4000000 in
theorem w_end {p : Program} {l : Launch} {e : Env} {s : State} {m : MethodId} {args : Array Value} {below : List Frame} {meth : Method} {c : Code} {G : MG} (hC : MCx G cX10_end 2 p s m args meth c) (hr : meth.sig.returnType = some .int) {x : (Int32 × MS)} :
    ∀ (a0 : Int32) (σ : MS), F_end a0 σ = some x → MJ p l e rmM_end s m args below meth c G 2 (some (.int x.1)) x.2 0 [(0, .ref (gM G)), (1, .int a0)] [] σ := by
  have hx := hC.1
  have hb := hC.2.1
  intro a0 σ hF H locs ls hP hS hl
  rw [F_end] at hF
  refine lv_iload_n hx hb dX10_end_0 rfl (lv_at hl 1 rfl) ?_
  refine lv_if_lt (tgt := 12) hx hb dX10_end_1 (by decide) (fun c_1 => ?_) (fun c_1 => ?_)
  · replace hF := it_t hF c_1
    refine lv_iconst (v := -1) hx hb dX10_end_12 (by decide) ?_
    exact M_reti hC hP hS hr (rt1 hF) (rt2 hF) dX10_end_13
  · replace hF := it_f hF c_1
    refine lv_iload_n hx hb dX10_end_4 rfl (lv_at hl 1 rfl) ?_
    refine lv_aload_n hx hb dX10_end_5 rfl (lv_at hl 0 rfl) ?_
    refine gM2 hC hP dX10_end_6 ?_
    refine lv_icmp_le (tgt := 14) hx hb dX10_end_9 (by decide) (fun c_2 => ?_) (fun c_2 => ?_)
    · replace hF := it_t hF c_2
      refine lv_aload_n hx hb dX10_end_14 rfl (lv_at hl 0 rfl) ?_
      refine lv_iload_n hx hb dX10_end_15 rfl (lv_at hl 1 rfl) ?_
      refine pM2 hC hP hS dX10_end_16 (fun H locs hP hS => ?_)
      obtain ⟨σ_3, eσ_3, hF⟩ := lt_ok hF
      rw [← eσ_3] at hP
      refine lv_iload_n hx hb dX10_end_19 rfl (lv_at hl 1 rfl) ?_
      exact M_reti hC hP hS hr (rt1 hF) (rt2 hF) dX10_end_20
    · replace hF := it_f hF c_2
      refine lv_iconst (v := -1) hx hb dX10_end_12 (by decide) ?_
      exact M_reti hC hP hS hr (rt1 hF) (rt2 hF) dX10_end_13
theorem m_end (l : Launch) (G : MG) (a0 : Int32) (σ : MS) (x : (Int32 × MS)) (hF : F_end a0 σ = some x) : Met l yX10_end (ws_ yX10_end cX10_end 2 (some .int)) rmM_end (mP G [.ref (gM G), .int a0] σ) (mQ G (some (.int x.1)) x.2) 0 0 (MA G) := by
  refine M_met rfl plM (Nat.le_of_ble_eq_true rfl) ?_
  intro p e s m below meth c hC hr ls hl hP
  exact w_end hC hr a0 σ hF s.heap [] ls hP va_S.rf hl
end
