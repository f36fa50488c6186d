set_option maxRecDepth 100000
noncomputable section
/-! bitsOf -/
abbrev rmM_bitsOf : Room := { frames := 0, cells := 0, slots := 0, locals := 0 }
def F_bitsOf_L4 : Nat → Int32 → Int32 → Int32 → Option Int32
  | 0, _, _, _ => none
  | fu + 1, x0, x1, x2 =>
    if (31 : Int32) ≤ x2 then
      some x1
    else
      lt ((x1 + ((x0 >>> (x2 &&& 31)) &&& (1 : Int32)))) fun x1_2 =>
      lt (x2 + (1 : Int32)) fun x2_3 =>
      F_bitsOf_L4 fu x0 x1_2 x2_3
set_option maxHeartbeats 4000000 in
theorem w_bitsOf_L4 {p : Program} {l : Launch} {e : Env} {s : State} {m : MethodId} {args : Array Value} {below : List Frame} {meth : Method} {c : Code} {G : MG} (hC : MCx G cX10_bitsOf 3 p s m args meth c) (hr : meth.sig.returnType = some .int) {x : Int32} {σ : MS} :
    ∀ (fu : Nat) (x0 : Int32) (x1 : Int32) (x2 : Int32), F_bitsOf_L4 fu x0 x1 x2 = some x → MJ p l e rmM_bitsOf s m args below meth c G 3 (some (.int x)) σ 4 [(0, .int x0), (1, .int x1), (2, .int x2)] [] σ := by
  have hx := hC.1
  have hb := hC.2.1
  intro fu
  induction fu with
  | zero => intro x0 x1 x2 hF; exact nm_none hF
  | succ fu ih =>
    intro x0 x1 x2 hF H locs ls hP hS hl
    rw [F_bitsOf_L4] at hF
    refine lv_iload_n hx hb dX10_bitsOf_4 rfl (lv_at hl 2 rfl) ?_
    refine lv_bipush (v := 31) hx hb dX10_bitsOf_5 (by decide) ?_
    refine lv_icmp_ge (tgt := 24) hx hb dX10_bitsOf_7 (by decide) (fun c_1 => ?_) (fun c_1 => ?_)
    · replace hF := it_t hF c_1
      refine lv_iload_n hx hb dX10_bitsOf_24 rfl (lv_at hl 1 rfl) ?_
      exact M_reti hC hP hS hr (Option.some.inj hF) rfl dX10_bitsOf_25
    · replace hF := it_f hF c_1
      refine lv_iload_n hx hb dX10_bitsOf_10 rfl (lv_at hl 1 rfl) ?_
      refine lv_iload_n hx hb dX10_bitsOf_11 rfl (lv_at hl 0 rfl) ?_
      refine lv_iload_n hx hb dX10_bitsOf_12 rfl (lv_at hl 2 rfl) ?_
      refine lv_ishr hx hb dX10_bitsOf_13 ?_
      refine lv_iconst (v := 1) hx hb dX10_bitsOf_14 (by decide) ?_
      refine lv_iand hx hb dX10_bitsOf_15 ?_
      refine lv_iadd hx hb dX10_bitsOf_16 ?_
      refine lv_topi (fun x1_2 ex1_2 => ?_)
      replace hF := lt_at hF ex1_2
      refine lv_istore_n (lv' := [(1, .int x1_2), (0, .int x0), (2, .int x2)]) hx hb dX10_bitsOf_17 rfl hl (by decide) rfl (fun ls hl => ?_)
      obtain ⟨x2_3, ex2_3, hF⟩ := lt_ok hF
      refine lv_iinc (v := x2_3) (lv' := [(2, .int x2_3), (1, .int x1_2), (0, .int x0)]) hx hb dX10_bitsOf_18 hl (k := 2) rfl (by rw [ex2_3]; rfl) (by decide) rfl (fun ls hl => ?_)
      refine lv_goto (tgt := 4) hx hb dX10_bitsOf_21 (by decide) ?_
      exact ih x0 x1_2 x2_3 hF H locs ls hP hS (lv_sub hl [2, 1, 0] rfl)
def F_bitsOf (a0 : Int32) : Option Int32 :=
  F_bitsOf_L4 MN a0 (0 : Int32) (0 : Int32)
set_option maxHeartbeats 4000000 in
theorem w_bitsOf {p : Program} {l : Launch} {e : Env} {s : State} {m : MethodId} {args : Array Value} {below : List Frame} {meth : Method} {c : Code} {G : MG} (hC : MCx G cX10_bitsOf 3 p s m args meth c) (hr : meth.sig.returnType = some .int) {x : Int32} {σ : MS} :
    ∀ (a0 : Int32), F_bitsOf a0 = some x → MJ p l e rmM_bitsOf s m args below meth c G 3 (some (.int x)) σ 0 [(0, .int a0)] [] σ := by
  have hx := hC.1
  have hb := hC.2.1
  intro a0 hF H locs ls hP hS hl
  rw [F_bitsOf] at hF
  refine lv_iconst (v := 0) hx hb dX10_bitsOf_0 (by decide) ?_
  refine lv_istore_n (lv' := [(1, .int (0 : Int32)), (0, .int a0)]) hx hb dX10_bitsOf_1 rfl hl (by decide) rfl (fun ls hl => ?_)
  refine lv_iconst (v := 0) hx hb dX10_bitsOf_2 (by decide) ?_
  refine lv_istore_n (lv' := [(2, .int (0 : Int32)), (1, .int (0 : Int32)), (0, .int a0)]) hx hb dX10_bitsOf_3 rfl hl (by decide) rfl (fun ls hl => ?_)
  exact w_bitsOf_L4 hC hr MN a0 (0 : Int32) (0 : Int32) hF H locs ls hP hS (lv_sub hl [2, 1, 0] rfl)
theorem m_bitsOf (l : Launch) (G : MG) (a0 : Int32) (σ : MS) (x : Int32) (hF : F_bitsOf a0 = some x) : Met l yX10_bitsOf (ws_ yX10_bitsOf cX10_bitsOf 3 (some .int)) rmM_bitsOf (mP G [.int a0] σ) (mQ G (some (.int x)) σ) 0 0 (MA G) := by
  refine M_met rfl plM (Nat.le_of_ble_eq_true rfl) ?_
  intro p e s m below meth c hC hr ls hl hP
  exact w_bitsOf hC hr a0 hF s.heap [] ls hP va_S.rf hl
theorem iM_bitsOf {p : Program} {l : Launch} {e : Env} {R : Room} {s : State} {m : MethodId} {args : Array Value} {below : List Frame} {meth : Method} {c : Code} {H H0 : Heap} {locs : List Loc} {cells slots nL : Nat} {Q : State → Prop} {G : MG} {σ : MS} {cc : ByteArray} {pc : Nat} {ls : Array Slot} {rest : List Value} (hC : MCx G cc nL p s m args meth c) (hP : MRep G σ H) (hS : va_S (MA G) H0 H locs) {a0 : Int32} {x : Int32} (hF : F_bitsOf a0 = some x) (hl : ls.size = nL) (hW : (rest.map fun v => v.category).sum ≤ 8) (hR : rmM_bitsOf.frames + 1 ≤ R.frames ∧ 8 + (3 + 11) + rmM_bitsOf.locals ≤ R.locals) (hf : cells ≤ R.cells ∧ slots ≤ R.slots) (hdg : decode cc pc = .ok (.invokestatic 410, 3))
    (kk : ∀ (H1 : Heap) (locs1 : List Loc), MRep G σ H1 → va_S (MA G) H0 H1 locs1 → W p l e R s m args below meth c H1 locs1 cells slots Q (F0 m (pc + 3) ls (.int x :: rest))) : W p l e R s m args below meth c H locs cells slots Q (F0 m pc ls (.int a0 :: rest)) :=
  M_invS hC hP hS [.int a0] (m_bitsOf l G a0 σ _ hF) (va_cwS 1 hC.2.2.2.2.1 (lw_S q1849 q1850 q145 q1851) rfl rfl rfl (by decide +kernel) hR) rfl rfl hl hW hf hdg kk
/-! come -/
abbrev rmM_come : Room := { frames := 0, cells := 0, slots := 0, locals := 0 }
def F_come (a0 : Int32) (a1 : Int32) (a2 : Int32) : Option Int32 :=
  if a0 = (38 : Int32) then
    if a1 = 0 then
      some (0 : Int32)
    else
      if a2 = 0 then
        some (0 : Int32)
      else
        some (1 : Int32)
  else
  if a0 = (42 : Int32) then
    some (a1 * a2)
  else
  if a0 = (43 : Int32) then
    some (a1 + a2)
  else
  if a0 = (45 : Int32) then
    some (a1 - a2)
  else
  if a0 = (60 : Int32) then
    if a2 ≤ a1 then
      some (0 : Int32)
    else
      some (1 : Int32)
  else
  if a0 = (61 : Int32) then
    if a1 = a2 then
      some (1 : Int32)
    else
      some (0 : Int32)
  else
  if a0 = (62 : Int32) then
    if a1 ≤ a2 then
      some (0 : Int32)
    else
      some (1 : Int32)
  else
    if a1 = 0 then
      if a2 = 0 then
        some (0 : Int32)
      else
        some (1 : Int32)
    else
      some (1 : Int32)
set_option maxHeartbeats 4000000 in
theorem w_come {p : Program} {l : Launch} {e : Env} {s : State} {m : MethodId} {args : Array Value} {below : List Frame} {meth : Method} {c : Code} {G : MG} (hC : MCx G cX10_come 3 p s m args meth c) (hr : meth.sig.returnType = some .int) {x : Int32} {σ : MS} :
    ∀ (a0 : Int32) (a1 : Int32) (a2 : Int32), F_come a0 a1 a2 = some x → MJ p l e rmM_come s m args below meth c G 3 (some (.int x)) σ 0 [(0, .int a0), (1, .int a1), (2, .int a2)] [] σ := by
  have hx := hC.1
  have hb := hC.2.1
  intro a0 a1 a2 hF H locs ls hP hS hl
  rw [F_come] at hF
  refine lv_iload_n hx hb dX10_come_0 rfl (lv_at hl 0 rfl) ?_
  by_cases c_1 : a0 = (38 : Int32)
  · replace hF := it_t hF c_1
    refine lv_tableIn (off := 160) (tgt := 161) hx hb dX10_come_1 (by rw [c_1]; decide) (by rw [c_1]; decide) (by rw [c_1]; rfl) (by decide) ?_
    refine lv_iload_n hx hb dX10_come_161 rfl (lv_at hl 1 rfl) ?_
    refine lv_if_eq (tgt := 173) hx hb dX10_come_162 (by decide) (fun c_2 => ?_) (fun c_2 => ?_)
    · replace hF := it_t hF c_2
      refine lv_iconst (v := 0) hx hb dX10_come_173 (by decide) ?_
      exact M_reti hC hP hS hr (Option.some.inj hF) rfl dX10_come_174
    · replace hF := it_f hF c_2
      refine lv_iload_n hx hb dX10_come_165 rfl (lv_at hl 2 rfl) ?_
      refine lv_if_eq (tgt := 173) hx hb dX10_come_166 (by decide) (fun c_3 => ?_) (fun c_3 => ?_)
      · replace hF := it_t hF c_3
        refine lv_iconst (v := 0) hx hb dX10_come_173 (by decide) ?_
        exact M_reti hC hP hS hr (Option.some.inj hF) rfl dX10_come_174
      · replace hF := it_f hF c_3
        refine lv_iconst (v := 1) hx hb dX10_come_169 (by decide) ?_
        refine lv_goto (tgt := 174) hx hb dX10_come_170 (by decide) ?_
        exact M_reti hC hP hS hr (Option.some.inj hF) rfl dX10_come_174
  replace hF := it_f hF c_1
  by_cases c_4 : a0 = (42 : Int32)
  · replace hF := it_t hF c_4
    refine lv_tableIn (off := 123) (tgt := 124) hx hb dX10_come_1 (by rw [c_4]; decide) (by rw [c_4]; decide) (by rw [c_4]; rfl) (by decide) ?_
    refine lv_iload_n hx hb dX10_come_124 rfl (lv_at hl 1 rfl) ?_
    refine lv_iload_n hx hb dX10_come_125 rfl (lv_at hl 2 rfl) ?_
    refine lv_imul hx hb dX10_come_126 ?_
    exact M_reti hC hP hS hr (Option.some.inj hF) rfl dX10_come_127
  replace hF := it_f hF c_4
  by_cases c_5 : a0 = (43 : Int32)
  · replace hF := it_t hF c_5
    refine lv_tableIn (off := 115) (tgt := 116) hx hb dX10_come_1 (by rw [c_5]; decide) (by rw [c_5]; decide) (by rw [c_5]; rfl) (by decide) ?_
    refine lv_iload_n hx hb dX10_come_116 rfl (lv_at hl 1 rfl) ?_
    refine lv_iload_n hx hb dX10_come_117 rfl (lv_at hl 2 rfl) ?_
    refine lv_iadd hx hb dX10_come_118 ?_
    exact M_reti hC hP hS hr (Option.some.inj hF) rfl dX10_come_119
  replace hF := it_f hF c_5
  by_cases c_6 : a0 = (45 : Int32)
  · replace hF := it_t hF c_6
    refine lv_tableIn (off := 119) (tgt := 120) hx hb dX10_come_1 (by rw [c_6]; decide) (by rw [c_6]; decide) (by rw [c_6]; rfl) (by decide) ?_
    refine lv_iload_n hx hb dX10_come_120 rfl (lv_at hl 1 rfl) ?_
    refine lv_iload_n hx hb dX10_come_121 rfl (lv_at hl 2 rfl) ?_
    refine lv_isub hx hb dX10_come_122 ?_
    exact M_reti hC hP hS hr (Option.some.inj hF) rfl dX10_come_123
  replace hF := it_f hF c_6
  by_cases c_7 : a0 = (60 : Int32)
  · replace hF := it_t hF c_7
    refine lv_tableIn (off := 127) (tgt := 128) hx hb dX10_come_1 (by rw [c_7]; decide) (by rw [c_7]; decide) (by rw [c_7]; rfl) (by decide) ?_
    refine lv_iload_n hx hb dX10_come_128 rfl (lv_at hl 1 rfl) ?_
    refine lv_iload_n hx hb dX10_come_129 rfl (lv_at hl 2 rfl) ?_
    refine lv_icmp_ge (tgt := 137) hx hb dX10_come_130 (by decide) (fun c_8 => ?_) (fun c_8 => ?_)
    · replace hF := it_t hF c_8
      refine lv_iconst (v := 0) hx hb dX10_come_137 (by decide) ?_
      exact M_reti hC hP hS hr (Option.some.inj hF) rfl dX10_come_138
    · replace hF := it_f hF c_8
      refine lv_iconst (v := 1) hx hb dX10_come_133 (by decide) ?_
      refine lv_goto (tgt := 138) hx hb dX10_come_134 (by decide) ?_
      exact M_reti hC hP hS hr (Option.some.inj hF) rfl dX10_come_138
  replace hF := it_f hF c_7
  by_cases c_9 : a0 = (61 : Int32)
  · replace hF := it_t hF c_9
    refine lv_tableIn (off := 149) (tgt := 150) hx hb dX10_come_1 (by rw [c_9]; decide) (by rw [c_9]; decide) (by rw [c_9]; rfl) (by decide) ?_
    refine lv_iload_n hx hb dX10_come_150 rfl (lv_at hl 1 rfl) ?_
    refine lv_iload_n hx hb dX10_come_151 rfl (lv_at hl 2 rfl) ?_
    refine lv_icmp_ne (tgt := 159) hx hb dX10_come_152 (by decide) (fun c_10 => ?_) (fun c_10 => ?_)
    · replace hF := it_f hF c_10
      refine lv_iconst (v := 0) hx hb dX10_come_159 (by decide) ?_
      exact M_reti hC hP hS hr (Option.some.inj hF) rfl dX10_come_160
    · replace hF := it_t hF c_10
      refine lv_iconst (v := 1) hx hb dX10_come_155 (by decide) ?_
      refine lv_goto (tgt := 160) hx hb dX10_come_156 (by decide) ?_
      exact M_reti hC hP hS hr (Option.some.inj hF) rfl dX10_come_160
  replace hF := it_f hF c_9
  by_cases c_11 : a0 = (62 : Int32)
  · replace hF := it_t hF c_11
    refine lv_tableIn (off := 138) (tgt := 139) hx hb dX10_come_1 (by rw [c_11]; decide) (by rw [c_11]; decide) (by rw [c_11]; rfl) (by decide) ?_
    refine lv_iload_n hx hb dX10_come_139 rfl (lv_at hl 1 rfl) ?_
    refine lv_iload_n hx hb dX10_come_140 rfl (lv_at hl 2 rfl) ?_
    refine lv_icmp_le (tgt := 148) hx hb dX10_come_141 (by decide) (fun c_12 => ?_) (fun c_12 => ?_)
    · replace hF := it_t hF c_12
      refine lv_iconst (v := 0) hx hb dX10_come_148 (by decide) ?_
      exact M_reti hC hP hS hr (Option.some.inj hF) rfl dX10_come_149
    · replace hF := it_f hF c_12
      refine lv_iconst (v := 1) hx hb dX10_come_144 (by decide) ?_
      refine lv_goto (tgt := 149) hx hb dX10_come_145 (by decide) ?_
      exact M_reti hC hP hS hr (Option.some.inj hF) rfl dX10_come_149
  replace hF := it_f hF c_11
  refine lv_tableD (keys := [38, 42, 43, 45, 60, 61, 62]) (tgt := 175) hx hb dX10_come_1 (List.forall_mem_cons.mpr ⟨ne_toInt c_1 rfl, (List.forall_mem_cons.mpr ⟨ne_toInt c_4 rfl, (List.forall_mem_cons.mpr ⟨ne_toInt c_5 rfl, (List.forall_mem_cons.mpr ⟨ne_toInt c_6 rfl, (List.forall_mem_cons.mpr ⟨ne_toInt c_7 rfl, (List.forall_mem_cons.mpr ⟨ne_toInt c_9 rfl, (List.forall_mem_cons.mpr ⟨ne_toInt c_11 rfl, (fun _ h => nomatch h)⟩)⟩)⟩)⟩)⟩)⟩)⟩) rfl rfl (by decide) ?_
  refine lv_iload_n hx hb dX10_come_175 rfl (lv_at hl 1 rfl) ?_
  refine lv_if_ne (tgt := 183) hx hb dX10_come_176 (by decide) (fun c_13 => ?_) (fun c_13 => ?_)
  · replace hF := it_f hF c_13
    refine lv_iconst (v := 1) hx hb dX10_come_183 (by decide) ?_
    refine lv_goto (tgt := 188) hx hb dX10_come_184 (by decide) ?_
    exact M_reti hC hP hS hr (Option.some.inj hF) rfl dX10_come_188
  · replace hF := it_t hF c_13
    refine lv_iload_n hx hb dX10_come_179 rfl (lv_at hl 2 rfl) ?_
    refine lv_if_eq (tgt := 187) hx hb dX10_come_180 (by decide) (fun c_14 => ?_) (fun c_14 => ?_)
    · replace hF := it_t hF c_14
      refine lv_iconst (v := 0) hx hb dX10_come_187 (by decide) ?_
      exact M_reti hC hP hS hr (Option.some.inj hF) rfl dX10_come_188
    · replace hF := it_f hF c_14
      refine lv_iconst (v := 1) hx hb dX10_come_183 (by decide) ?_
      refine lv_goto (tgt := 188) hx hb dX10_come_184 (by decide) ?_
      exact M_reti hC hP hS hr (Option.some.inj hF) rfl dX10_come_188
theorem m_come (l : Launch) (G : MG) (a0 : Int32) (a1 : Int32) (a2 : Int32) (σ : MS) (x : Int32) (hF : F_come a0 a1 a2 = some x) : Met l yX10_come (ws_ yX10_come cX10_come 3 (some .int)) rmM_come (mP G [.int a0, .int a1, .int a2] σ) (mQ G (some (.int x)) σ) 0 0 (MA G) := by
  refine M_met rfl plM (Nat.le_of_ble_eq_true rfl) ?_
  intro p e s m below meth c hC hr ls hl hP
  exact w_come hC hr a0 a1 a2 hF s.heap [] ls hP va_S.rf hl
theorem iM_come {p : Program} {l : Launch} {e : Env} {R : Room} {s : State} {m : MethodId} {args : Array Value} {below : List Frame} {meth : Method} {c : Code} {H H0 : Heap} {locs : List Loc} {cells slots nL : Nat} {Q : State → Prop} {G : MG} {σ : MS} {cc : ByteArray} {pc : Nat} {ls : Array Slot} {rest : List Value} (hC : MCx G cc nL p s m args meth c) (hP : MRep G σ H) (hS : va_S (MA G) H0 H locs) {a0 : Int32} {a1 : Int32} {a2 : Int32} {x : Int32} (hF : F_come a0 a1 a2 = some x) (hl : ls.size = nL) (hW : (rest.map fun v => v.category).sum ≤ 8) (hR : rmM_come.frames + 1 ≤ R.frames ∧ 8 + (3 + 11) + rmM_come.locals ≤ R.locals) (hf : cells ≤ R.cells ∧ slots ≤ R.slots) (hdg : decode cc pc = .ok (.invokestatic 413, 3))
    (kk : ∀ (H1 : Heap) (locs1 : List Loc), MRep G σ H1 → va_S (MA G) H0 H1 locs1 → W p l e R s m args below meth c H1 locs1 cells slots Q (F0 m (pc + 3) ls (.int x :: rest))) : W p l e R s m args below meth c H locs cells slots Q (F0 m pc ls (.int a2 :: .int a1 :: .int a0 :: rest)) :=
  M_invS hC hP hS [.int a0, .int a1, .int a2] (m_come l G a0 a1 a2 σ _ hF) (va_cwS 3 hC.2.2.2.2.1 (lw_S q1852 q1853 q145 q1854) rfl rfl rfl (by decide +kernel) hR) rfl rfl hl hW hf hdg kk
/-! isLetter -/
abbrev rmM_isLetter : Room := { frames := 0, cells := 0, slots := 0, locals := 0 }
def F_isLetter (a0 : Int32) : Option Int32 :=
  if a0 < (97 : Int32) then
    some (0 : Int32)
  else
    if (122 : Int32) < a0 then
      some (0 : Int32)
    else
      some (1 : Int32)
set_option maxHeartbeats 4000000 in
theorem w_isLetter {p : Program} {l : Launch} {e : Env} {s : State} {m : MethodId} {args : Array Value} {below : List Frame} {meth : Method} {c : Code} {G : MG} (hC : MCx G cX10_isLetter 1 p s m args meth c) (hr : meth.sig.returnType = some .boolean) {x : Int32} {σ : MS} :
    ∀ (a0 : Int32), F_isLetter a0 = some x → MJ p l e rmM_isLetter s m args below meth c G 1 (some (.int x)) σ 0 [(0, .int a0)] [] σ := by
  have hx := hC.1
  have hb := hC.2.1
  intro a0 hF H locs ls hP hS hl
  rw [F_isLetter] at hF
  refine lv_iload_n hx hb dX10_isLetter_0 rfl (lv_at hl 0 rfl) ?_
  refine lv_bipush (v := 97) hx hb dX10_isLetter_1 (by decide) ?_
  refine lv_icmp_lt (tgt := 16) hx hb dX10_isLetter_3 (by decide) (fun c_1 => ?_) (fun c_1 => ?_)
  · replace hF := it_t hF c_1
    refine lv_iconst (v := 0) hx hb dX10_isLetter_16 (by decide) ?_
    exact M_retz hC hP hS hr (Or.inl rfl) (Option.some.inj hF) rfl dX10_isLetter_17
  · replace hF := it_f hF c_1
    refine lv_iload_n hx hb dX10_isLetter_6 rfl (lv_at hl 0 rfl) ?_
    refine lv_bipush (v := 122) hx hb dX10_isLetter_7 (by decide) ?_
    refine lv_icmp_gt (tgt := 16) hx hb dX10_isLetter_9 (by decide) (fun c_2 => ?_) (fun c_2 => ?_)
    · replace hF := it_t hF c_2
      refine lv_iconst (v := 0) hx hb dX10_isLetter_16 (by decide) ?_
      exact M_retz hC hP hS hr (Or.inl rfl) (Option.some.inj hF) rfl dX10_isLetter_17
    · replace hF := it_f hF c_2
      refine lv_iconst (v := 1) hx hb dX10_isLetter_12 (by decide) ?_
      refine lv_goto (tgt := 17) hx hb dX10_isLetter_13 (by decide) ?_
      exact M_retz hC hP hS hr (Or.inr rfl) (Option.some.inj hF) rfl dX10_isLetter_17
theorem m_isLetter (l : Launch) (G : MG) (a0 : Int32) (σ : MS) (x : Int32) (hF : F_isLetter a0 = some x) : Met l yX10_isLetter (ws_ yX10_isLetter cX10_isLetter 1 (some .boolean)) rmM_isLetter (mP G [.int a0] σ) (mQ G (some (.int x)) σ) 0 0 (MA G) := by
  refine M_met rfl plM (Nat.le_of_ble_eq_true rfl) ?_
  intro p e s m below meth c hC hr ls hl hP
  exact w_isLetter hC hr a0 hF s.heap [] ls hP va_S.rf hl
theorem iM_isLetter {p : Program} {l : Launch} {e : Env} {R : Room} {s : State} {m : MethodId} {args : Array Value} {below : List Frame} {meth : Method} {c : Code} {H H0 : Heap} {locs : List Loc} {cells slots nL : Nat} {Q : State → Prop} {G : MG} {σ : MS} {cc : ByteArray} {pc : Nat} {ls : Array Slot} {rest : List Value} (hC : MCx G cc nL p s m args meth c) (hP : MRep G σ H) (hS : va_S (MA G) H0 H locs) {a0 : Int32} {x : Int32} (hF : F_isLetter a0 = some x) (hl : ls.size = nL) (hW : (rest.map fun v => v.category).sum ≤ 8) (hR : rmM_isLetter.frames + 1 ≤ R.frames ∧ 8 + (1 + 11) + rmM_isLetter.locals ≤ R.locals) (hf : cells ≤ R.cells ∧ slots ≤ R.slots) (hdg : decode cc pc = .ok (.invokestatic 258, 3))
    (kk : ∀ (H1 : Heap) (locs1 : List Loc), MRep G σ H1 → va_S (MA G) H0 H1 locs1 → W p l e R s m args below meth c H1 locs1 cells slots Q (F0 m (pc + 3) ls (.int x :: rest))) : W p l e R s m args below meth c H locs cells slots Q (F0 m pc ls (.int a0 :: rest)) :=
  M_invS hC hP hS [.int a0] (m_isLetter l G a0 σ _ hF) (va_cwS 1 hC.2.2.2.2.1 (lw_S q1846 q1847 q145 q1848) rfl rfl rfl (by decide +kernel) hR) rfl rfl hl hW hf hdg kk
/-! askedOf -/
abbrev rmM_askedOf : Room := { frames := 1, cells := 0, slots := 0, locals := 22 }
def F_askedOf_b162 (σ : MS) : Option (Int32 × MS) :=
  gd (inb (mI σ 35) 2) <|
  if (mA σ 21 (Int32.toNatClampNeg (mI σ 35))) = 0 then
    some ((0 : Int32), σ)
  else
    gd (inb (0 : Int32) 70) <|
    some ((mA σ 34 (Int32.toNatClampNeg (0 : Int32))), σ)
set_option maxHeartbeats 4000000 in
theorem w_askedOf_b162 {p : Program} {l : Launch} {e : Env} {s : State} {m : MethodId} {args : Array Value} {below : List Frame} {meth : Method} {c : Code} {G : MG} (hC : MCx G cX10_askedOf 5 p s m args meth c) (hr : meth.sig.returnType = some .int) {x : (Int32 × MS)} :
    ∀ (σ : MS), F_askedOf_b162 σ = some x → MJ p l e rmM_askedOf s m args below meth c G 5 (some (.int x.1)) x.2 162 [(0, .ref (gM G))] [] σ := by
  have hx := hC.1
  have hb := hC.2.1
  intro σ hF H locs ls hP hS hl
  rw [F_askedOf_b162] at hF
  refine lv_aload_n hx hb dX10_askedOf_162 rfl (lv_at hl 0 rfl) ?_
  refine gM21 hC hP dX10_askedOf_163 ?_
  refine lv_aload_n hx hb dX10_askedOf_166 rfl (lv_at hl 0 rfl) ?_
  refine gM35 hC hP dX10_askedOf_167 ?_
  obtain ⟨h_1, hF⟩ := gd_ok hF
  refine M_zald hC hP 21 (by decide) rfl rfl rfl h_1 dX10_askedOf_170 ?_
  refine lv_if_eq (tgt := 183) hx hb dX10_askedOf_171 (by decide) (fun c_2 => ?_) (fun c_2 => ?_)
  · replace hF := it_t hF c_2
    refine lv_iconst (v := 0) hx hb dX10_askedOf_183 (by decide) ?_
    exact M_reti hC hP hS hr (rt1 hF) (rt2 hF) dX10_askedOf_184
  · replace hF := it_f hF c_2
    refine lv_aload_n hx hb dX10_askedOf_174 rfl (lv_at hl 0 rfl) ?_
    refine gM34 hC hP dX10_askedOf_175 ?_
    refine lv_iconst (v := 0) hx hb dX10_askedOf_178 (by decide) ?_
    obtain ⟨h_3, hF⟩ := gd_ok hF
    refine M_iald hC hP 34 (by decide) rfl rfl rfl h_3 dX10_askedOf_179 ?_
    refine lv_goto (tgt := 184) hx hb dX10_askedOf_180 (by decide) ?_
    exact M_reti hC hP hS hr (rt1 hF) (rt2 hF) dX10_askedOf_184
def F_askedOf_b156 (k11 : Int32 → Int32 → Int32 → MS → Option (Int32 × MS)) (x1 : Int32) (x2 : Int32) (x3 : Int32) (σ : MS) : Option (Int32 × MS) :=
  lt (x3 + (1 : Int32)) fun x3_1 =>
  k11 x1 x2 x3_1 σ
set_option maxHeartbeats 4000000 in
theorem w_askedOf_b156 {p : Program} {l : Launch} {e : Env} {s : State} {m : MethodId} {args : Array Value} {below : List Frame} {meth : Method} {c : Code} {G : MG} (hC : MCx G cX10_askedOf 5 p s m args meth c) (hr : meth.sig.returnType = some .int) {x : (Int32 × MS)} (k11 : Int32 → Int32 → Int32 → MS → Option (Int32 × MS)) (hk11 : ∀ (x1 : Int32) (x2 : Int32) (x3 : Int32) (σ : MS), k11 x1 x2 x3 σ = some x → MJ p l e rmM_askedOf s m args below meth c G 5 (some (.int x.1)) x.2 11 [(0, .ref (gM G)), (1, .int x1), (2, .int x2), (3, .int x3)] [] σ) :
    ∀ (x1 : Int32) (x2 : Int32) (x3 : Int32) (σ : MS), F_askedOf_b156 k11 x1 x2 x3 σ = some x → MJ p l e rmM_askedOf s m args below meth c G 5 (some (.int x.1)) x.2 156 [(0, .ref (gM G)), (1, .int x1), (2, .int x2), (3, .int x3)] [] σ := by
  have hx := hC.1
  have hb := hC.2.1
  intro x1 x2 x3 σ hF H locs ls hP hS hl
  rw [F_askedOf_b156] at hF
  obtain ⟨x3_1, ex3_1, hF⟩ := lt_ok hF
  refine lv_iinc (v := x3_1) (lv' := [(3, .int x3_1), (0, .ref (gM G)), (1, .int x1), (2, .int x2)]) hx hb dX10_askedOf_156 hl (k := 3) rfl (by rw [ex3_1]; rfl) (by decide) rfl (fun ls hl => ?_)
  refine lv_goto (tgt := 11) hx hb dX10_askedOf_159 (by decide) ?_
  exact hk11 x1 x2 x3_1 σ hF H locs ls hP hS (lv_sub hl [1, 2, 3, 0] rfl)
def F_askedOf_b119 (k156 : Int32 → Int32 → Int32 → MS → Option (Int32 × MS)) (x1 : Int32) (x2 : Int32) (x3 : Int32) (y0 : Int32) (y1 : Int32) (σ : MS) : Option (Int32 × MS) :=
  gd (inb y1 70) <|
  lt (wA σ 34 (Int32.toNatClampNeg y1) y0) fun σ_2 =>
  lt (x2 + (1 : Int32)) fun x2_3 =>
  k156 x1 x2_3 x3 σ_2
set_option maxHeartbeats 4000000 in
theorem w_askedOf_b119 {p : Program} {l : Launch} {e : Env} {s : State} {m : MethodId} {args : Array Value} {below : List Frame} {meth : Method} {c : Code} {G : MG} (hC : MCx G cX10_askedOf 5 p s m args meth c) (hr : meth.sig.returnType = some .int) {x : (Int32 × MS)} (k156 : Int32 → Int32 → Int32 → MS → Option (Int32 × MS)) (hk156 : ∀ (x1 : Int32) (x2 : Int32) (x3 : Int32) (σ : MS), k156 x1 x2 x3 σ = some x → MJ p l e rmM_askedOf s m args below meth c G 5 (some (.int x.1)) x.2 156 [(0, .ref (gM G)), (1, .int x1), (2, .int x2), (3, .int x3)] [] σ) :
    ∀ (x1 : Int32) (x2 : Int32) (x3 : Int32) (y0 : Int32) (y1 : Int32) (σ : MS), F_askedOf_b119 k156 x1 x2 x3 y0 y1 σ = some x → MJ p l e rmM_askedOf s m args below meth c G 5 (some (.int x.1)) x.2 119 [(0, .ref (gM G)), (1, .int x1), (2, .int x2), (3, .int x3)] [.int y0, .int y1, .ref (gA G 34)] σ := by
  have hx := hC.1
  have hb := hC.2.1
  intro x1 x2 x3 y0 y1 σ hF H locs ls hP hS hl
  rw [F_askedOf_b119] at hF
  obtain ⟨h_1, hF⟩ := gd_ok hF
  refine M_iast hC hP hS 34 (by decide) rfl rfl rfl h_1 dX10_askedOf_119 (fun H locs hP hS => ?_)
  obtain ⟨σ_2, eσ_2, hF⟩ := lt_ok hF
  rw [← eσ_2] at hP
  obtain ⟨x2_3, ex2_3, hF⟩ := lt_ok hF
  refine lv_iinc (v := x2_3) (lv' := [(2, .int x2_3), (0, .ref (gM G)), (1, .int x1), (3, .int x3)]) hx hb dX10_askedOf_120 hl (k := 2) rfl (by rw [ex2_3]; rfl) (by decide) rfl (fun ls hl => ?_)
  refine lv_goto (tgt := 156) hx hb dX10_askedOf_123 (by decide) ?_
  exact hk156 x1 x2_3 x3 σ_2 hF H locs ls hP hS (lv_sub hl [1, 2, 0, 3] rfl)
def F_askedOf_b62 (k156 : Int32 → Int32 → Int32 → MS → Option (Int32 × MS)) (x1 : Int32) (x2 : Int32) (x3 : Int32) (y0 : Int32) (y1 : Int32) (σ : MS) : Option (Int32 × MS) :=
  gd (inb y1 70) <|
  lt (wA σ 34 (Int32.toNatClampNeg y1) y0) fun σ_2 =>
  k156 x1 x2 x3 σ_2
set_option maxHeartbeats 4000000 in
theorem w_askedOf_b62 {p : Program} {l : Launch} {e : Env} {s : State} {m : MethodId} {args : Array Value} {below : List Frame} {meth : Method} {c : Code} {G : MG} (hC : MCx G cX10_askedOf 5 p s m args meth c) (hr : meth.sig.returnType = some .int) {x : (Int32 × MS)} (k156 : Int32 → Int32 → Int32 → MS → Option (Int32 × MS)) (hk156 : ∀ (x1 : Int32) (x2 : Int32) (x3 : Int32) (σ : MS), k156 x1 x2 x3 σ = some x → MJ p l e rmM_askedOf s m args below meth c G 5 (some (.int x.1)) x.2 156 [(0, .ref (gM G)), (1, .int x1), (2, .int x2), (3, .int x3)] [] σ) :
    ∀ (x1 : Int32) (x2 : Int32) (x3 : Int32) (y0 : Int32) (y1 : Int32) (σ : MS), F_askedOf_b62 k156 x1 x2 x3 y0 y1 σ = some x → MJ p l e rmM_askedOf s m args below meth c G 5 (some (.int x.1)) x.2 62 [(0, .ref (gM G)), (1, .int x1), (2, .int x2), (3, .int x3)] [.int y0, .int y1, .ref (gA G 34)] σ := by
  have hx := hC.1
  have hb := hC.2.1
  intro x1 x2 x3 y0 y1 σ hF H locs ls hP hS hl
  rw [F_askedOf_b62] at hF
  obtain ⟨h_1, hF⟩ := gd_ok hF
  refine M_iast hC hP hS 34 (by decide) rfl rfl rfl h_1 dX10_askedOf_62 (fun H locs hP hS => ?_)
  obtain ⟨σ_2, eσ_2, hF⟩ := lt_ok hF
  rw [← eσ_2] at hP
  refine lv_goto (tgt := 156) hx hb dX10_askedOf_63 (by decide) ?_
  exact hk156 x1 x2 x3 σ_2 hF H locs ls hP hS (lv_sub hl [0, 1, 2, 3] rfl)
def F_askedOf_L11 : Nat → Int32 → Int32 → Int32 → MS → Option (Int32 × MS)
  | 0, _, _, _, _ => none
  | fu + 1, x1, x2, x3, σ =>
    gd (inb (mI σ 35) 2) <|
    if (mA σ 19 (Int32.toNatClampNeg (mI σ 35))) ≤ x3 then
      F_askedOf_b162 σ
    else
      gd (inb x3 800) <|
      lt ((mA σ 30 (Int32.toNatClampNeg x3))) fun x4_4 =>
      if x4_4 = (126 : Int32) then
        gd (inb (x2 - (1 : Int32)) 70) <|
        if (mA σ 34 (Int32.toNatClampNeg (x2 - (1 : Int32)))) = 0 then
          F_askedOf_b62 (F_askedOf_b156 (F_askedOf_L11 fu)) x1 x2 x3 (1 : Int32) (x2 - (1 : Int32)) σ
        else
          F_askedOf_b62 (F_askedOf_b156 (F_askedOf_L11 fu)) x1 x2 x3 (0 : Int32) (x2 - (1 : Int32)) σ
      else
        bd (F_isLetter x4_4) fun r_7 =>
        if r_7 = 0 then
          lt (x2 + (-1 : Int32)) fun x2_9 =>
          gd (inb (x2_9 - (1 : Int32)) 70) <|
          gd (inb x2_9 70) <|
          bd (F_come x4_4 (mA σ 34 (Int32.toNatClampNeg (x2_9 - (1 : Int32)))) (mA σ 34 (Int32.toNatClampNeg x2_9))) fun r_13 =>
          gd (inb (x2_9 - (1 : Int32)) 70) <|
          lt (wA σ 34 (Int32.toNatClampNeg (x2_9 - (1 : Int32))) r_13) fun σ_15 =>
          F_askedOf_b156 (F_askedOf_L11 fu) x1 x2_9 x3 σ_15
        else
          if x4_4 = (110 : Int32) then
            gd (inb x3 800) <|
            F_askedOf_b119 (F_askedOf_b156 (F_askedOf_L11 fu)) x1 x2 x3 (mA σ 31 (Int32.toNatClampNeg x3)) x2 σ
          else
            if x4_4 = (97 : Int32) then
              bd (F_bitsOf x1) fun r_20 =>
              F_askedOf_b119 (F_askedOf_b156 (F_askedOf_L11 fu)) x1 x2 x3 r_20 x2 σ
            else
              gd (inb x3 800) <|
              F_askedOf_b119 (F_askedOf_b156 (F_askedOf_L11 fu)) x1 x2 x3 ((x1 >>> ((mA σ 31 (Int32.toNatClampNeg x3)) &&& 31)) &&& (1 : Int32)) x2 σ
set_option maxHeartbeats 4000000 in
theorem w_askedOf_L11 {p : Program} {l : Launch} {e : Env} {s : State} {m : MethodId} {args : Array Value} {below : List Frame} {meth : Method} {c : Code} {G : MG} (hC : MCx G cX10_askedOf 5 p s m args meth c) (hr : meth.sig.returnType = some .int) {x : (Int32 × MS)} :
    ∀ (fu : Nat) (x1 : Int32) (x2 : Int32) (x3 : Int32) (σ : MS), F_askedOf_L11 fu x1 x2 x3 σ = some x → MJ p l e rmM_askedOf s m args below meth c G 5 (some (.int x.1)) x.2 11 [(0, .ref (gM G)), (1, .int x1), (2, .int x2), (3, .int x3)] [] σ := by
  have hx := hC.1
  have hb := hC.2.1
  intro fu
  induction fu with
  | zero => intro x1 x2 x3 σ hF; exact nm_none hF
  | succ fu ih =>
    intro x1 x2 x3 σ hF H locs ls hP hS hl
    rw [F_askedOf_L11] at hF
    refine lv_iload_n hx hb dX10_askedOf_11 rfl (lv_at hl 3 rfl) ?_
    refine lv_aload_n hx hb dX10_askedOf_12 rfl (lv_at hl 0 rfl) ?_
    refine gM19 hC hP dX10_askedOf_13 ?_
    refine lv_aload_n hx hb dX10_askedOf_16 rfl (lv_at hl 0 rfl) ?_
    refine gM35 hC hP dX10_askedOf_17 ?_
    obtain ⟨h_1, hF⟩ := gd_ok hF
    refine M_iald hC hP 19 (by decide) rfl rfl rfl h_1 dX10_askedOf_20 ?_
    refine lv_icmp_ge (tgt := 162) hx hb dX10_askedOf_21 (by decide) (fun c_2 => ?_) (fun c_2 => ?_)
    · replace hF := it_t hF c_2
      exact w_askedOf_b162 hC hr σ hF H locs ls hP hS (lv_sub hl [0] rfl)
    · replace hF := it_f hF c_2
      refine lv_aload_n hx hb dX10_askedOf_24 rfl (lv_at hl 0 rfl) ?_
      refine gM30 hC hP dX10_askedOf_25 ?_
      refine lv_iload_n hx hb dX10_askedOf_28 rfl (lv_at hl 3 rfl) ?_
      obtain ⟨h_3, hF⟩ := gd_ok hF
      refine M_iald hC hP 30 (by decide) rfl rfl rfl h_3 dX10_askedOf_29 ?_
      refine lv_topi (fun x4_4 ex4_4 => ?_)
      replace hF := lt_at hF ex4_4
      refine lv_istore (lv' := [(4, .int x4_4), (0, .ref (gM G)), (1, .int x1), (2, .int x2), (3, .int x3)]) hx hb dX10_askedOf_30 hl (by decide) rfl (fun ls hl => ?_)
      refine lv_iload hx hb dX10_askedOf_32 (lv_at hl 0 rfl) ?_
      refine lv_bipush (v := 126) hx hb dX10_askedOf_34 (by decide) ?_
      refine lv_icmp_ne (tgt := 66) hx hb dX10_askedOf_36 (by decide) (fun c_5 => ?_) (fun c_5 => ?_)
      · replace hF := it_f hF c_5
        refine lv_iload hx hb dX10_askedOf_66 (lv_at hl 0 rfl) ?_
        obtain ⟨r_7, hc_6, hF⟩ := bd_ok hF
        refine iM_isLetter hC hP hS hc_6 hl.1 (Nat.le_of_ble_eq_true rfl) ⟨Nat.le_of_ble_eq_true rfl, Nat.le_of_ble_eq_true rfl⟩ ⟨Nat.zero_le _, Nat.zero_le _⟩ dX10_askedOf_68 (fun H locs hP hS => ?_)
        refine lv_if_eq (tgt := 126) hx hb dX10_askedOf_71 (by decide) (fun c_8 => ?_) (fun c_8 => ?_)
        · replace hF := it_t hF c_8
          obtain ⟨x2_9, ex2_9, hF⟩ := lt_ok hF
          refine lv_iinc (v := x2_9) (lv' := [(2, .int x2_9), (4, .int x4_4), (0, .ref (gM G)), (1, .int x1), (3, .int x3)]) hx hb dX10_askedOf_126 hl (k := 3) rfl (by rw [ex2_9]; rfl) (by decide) rfl (fun ls hl => ?_)
          refine lv_aload_n hx hb dX10_askedOf_129 rfl (lv_at hl 2 rfl) ?_
          refine gM34 hC hP dX10_askedOf_130 ?_
          refine lv_iload_n hx hb dX10_askedOf_133 rfl (lv_at hl 0 rfl) ?_
          refine lv_iconst (v := 1) hx hb dX10_askedOf_134 (by decide) ?_
          refine lv_isub hx hb dX10_askedOf_135 ?_
          refine lv_iload hx hb dX10_askedOf_136 (lv_at hl 1 rfl) ?_
          refine lv_aload_n hx hb dX10_askedOf_138 rfl (lv_at hl 2 rfl) ?_
          refine gM34 hC hP dX10_askedOf_139 ?_
          refine lv_iload_n hx hb dX10_askedOf_142 rfl (lv_at hl 0 rfl) ?_
          refine lv_iconst (v := 1) hx hb dX10_askedOf_143 (by decide) ?_
          refine lv_isub hx hb dX10_askedOf_144 ?_
          obtain ⟨h_10, hF⟩ := gd_ok hF
          refine M_iald hC hP 34 (by decide) rfl rfl rfl h_10 dX10_askedOf_145 ?_
          refine lv_aload_n hx hb dX10_askedOf_146 rfl (lv_at hl 2 rfl) ?_
          refine gM34 hC hP dX10_askedOf_147 ?_
          refine lv_iload_n hx hb dX10_askedOf_150 rfl (lv_at hl 0 rfl) ?_
          obtain ⟨h_11, hF⟩ := gd_ok hF
          refine M_iald hC hP 34 (by decide) rfl rfl rfl h_11 dX10_askedOf_151 ?_
          obtain ⟨r_13, hc_12, hF⟩ := bd_ok hF
          refine iM_come hC hP hS hc_12 hl.1 (Nat.le_of_ble_eq_true rfl) ⟨Nat.le_of_ble_eq_true rfl, Nat.le_of_ble_eq_true rfl⟩ ⟨Nat.zero_le _, Nat.zero_le _⟩ dX10_askedOf_152 (fun H locs hP hS => ?_)
          obtain ⟨h_14, hF⟩ := gd_ok hF
          refine M_iast hC hP hS 34 (by decide) rfl rfl rfl h_14 dX10_askedOf_155 (fun H locs hP hS => ?_)
          obtain ⟨σ_15, eσ_15, hF⟩ := lt_ok hF
          rw [← eσ_15] at hP
          exact w_askedOf_b156 hC hr (F_askedOf_L11 fu) ih x1 x2_9 x3 σ_15 hF H locs ls hP hS (lv_sub hl [2, 3, 0, 4] rfl)
        · replace hF := it_f hF c_8
          refine lv_aload_n hx hb dX10_askedOf_74 rfl (lv_at hl 1 rfl) ?_
          refine gM34 hC hP dX10_askedOf_75 ?_
          refine lv_iload_n hx hb dX10_askedOf_78 rfl (lv_at hl 3 rfl) ?_
          refine lv_iload hx hb dX10_askedOf_79 (lv_at hl 0 rfl) ?_
          refine lv_bipush (v := 110) hx hb dX10_askedOf_81 (by decide) ?_
          refine lv_icmp_ne (tgt := 95) hx hb dX10_askedOf_83 (by decide) (fun c_16 => ?_) (fun c_16 => ?_)
          · replace hF := it_f hF c_16
            refine lv_iload hx hb dX10_askedOf_95 (lv_at hl 0 rfl) ?_
            refine lv_bipush (v := 97) hx hb dX10_askedOf_97 (by decide) ?_
            refine lv_icmp_ne (tgt := 109) hx hb dX10_askedOf_99 (by decide) (fun c_17 => ?_) (fun c_17 => ?_)
            · replace hF := it_f hF c_17
              refine lv_iload_n hx hb dX10_askedOf_109 rfl (lv_at hl 2 rfl) ?_
              refine lv_aload_n hx hb dX10_askedOf_110 rfl (lv_at hl 1 rfl) ?_
              refine gM31 hC hP dX10_askedOf_111 ?_
              refine lv_iload_n hx hb dX10_askedOf_114 rfl (lv_at hl 4 rfl) ?_
              obtain ⟨h_18, hF⟩ := gd_ok hF
              refine M_iald hC hP 31 (by decide) rfl rfl rfl h_18 dX10_askedOf_115 ?_
              refine lv_ishr hx hb dX10_askedOf_116 ?_
              refine lv_iconst (v := 1) hx hb dX10_askedOf_117 (by decide) ?_
              refine lv_iand hx hb dX10_askedOf_118 ?_
              exact w_askedOf_b119 hC hr (F_askedOf_b156 (F_askedOf_L11 fu)) (w_askedOf_b156 hC hr (F_askedOf_L11 fu) ih) x1 x2 x3 ((x1 >>> ((mA σ 31 (Int32.toNatClampNeg x3)) &&& 31)) &&& (1 : Int32)) x2 σ hF H locs ls hP hS (lv_sub hl [1, 2, 3, 4] rfl)
            · replace hF := it_t hF c_17
              refine lv_iload_n hx hb dX10_askedOf_102 rfl (lv_at hl 2 rfl) ?_
              obtain ⟨r_20, hc_19, hF⟩ := bd_ok hF
              refine iM_bitsOf hC hP hS hc_19 hl.1 (Nat.le_of_ble_eq_true rfl) ⟨Nat.le_of_ble_eq_true rfl, Nat.le_of_ble_eq_true rfl⟩ ⟨Nat.zero_le _, Nat.zero_le _⟩ dX10_askedOf_103 (fun H locs hP hS => ?_)
              refine lv_goto (tgt := 119) hx hb dX10_askedOf_106 (by decide) ?_
              exact w_askedOf_b119 hC hr (F_askedOf_b156 (F_askedOf_L11 fu)) (w_askedOf_b156 hC hr (F_askedOf_L11 fu) ih) x1 x2 x3 r_20 x2 σ hF H locs ls hP hS (lv_sub hl [1, 2, 3, 4] rfl)
          · replace hF := it_t hF c_16
            refine lv_aload_n hx hb dX10_askedOf_86 rfl (lv_at hl 1 rfl) ?_
            refine gM31 hC hP dX10_askedOf_87 ?_
            refine lv_iload_n hx hb dX10_askedOf_90 rfl (lv_at hl 4 rfl) ?_
            obtain ⟨h_21, hF⟩ := gd_ok hF
            refine M_iald hC hP 31 (by decide) rfl rfl rfl h_21 dX10_askedOf_91 ?_
            refine lv_goto (tgt := 119) hx hb dX10_askedOf_92 (by decide) ?_
            exact w_askedOf_b119 hC hr (F_askedOf_b156 (F_askedOf_L11 fu)) (w_askedOf_b156 hC hr (F_askedOf_L11 fu) ih) x1 x2 x3 (mA σ 31 (Int32.toNatClampNeg x3)) x2 σ hF H locs ls hP hS (lv_sub hl [1, 2, 3, 4] rfl)
      · replace hF := it_t hF c_5
        refine lv_aload_n hx hb dX10_askedOf_39 rfl (lv_at hl 1 rfl) ?_
        refine gM34 hC hP dX10_askedOf_40 ?_
        refine lv_iload_n hx hb dX10_askedOf_43 rfl (lv_at hl 3 rfl) ?_
        refine lv_iconst (v := 1) hx hb dX10_askedOf_44 (by decide) ?_
        refine lv_isub hx hb dX10_askedOf_45 ?_
        refine lv_aload_n hx hb dX10_askedOf_46 rfl (lv_at hl 1 rfl) ?_
        refine gM34 hC hP dX10_askedOf_47 ?_
        refine lv_iload_n hx hb dX10_askedOf_50 rfl (lv_at hl 3 rfl) ?_
        refine lv_iconst (v := 1) hx hb dX10_askedOf_51 (by decide) ?_
        refine lv_isub hx hb dX10_askedOf_52 ?_
        obtain ⟨h_22, hF⟩ := gd_ok hF
        refine M_iald hC hP 34 (by decide) rfl rfl rfl h_22 dX10_askedOf_53 ?_
        refine lv_if_ne (tgt := 61) hx hb dX10_askedOf_54 (by decide) (fun c_23 => ?_) (fun c_23 => ?_)
        · replace hF := it_f hF c_23
          refine lv_iconst (v := 0) hx hb dX10_askedOf_61 (by decide) ?_
          exact w_askedOf_b62 hC hr (F_askedOf_b156 (F_askedOf_L11 fu)) (w_askedOf_b156 hC hr (F_askedOf_L11 fu) ih) x1 x2 x3 (0 : Int32) (x2 - (1 : Int32)) σ hF H locs ls hP hS (lv_sub hl [1, 2, 3, 4] rfl)
        · replace hF := it_t hF c_23
          refine lv_iconst (v := 1) hx hb dX10_askedOf_57 (by decide) ?_
          refine lv_goto (tgt := 62) hx hb dX10_askedOf_58 (by decide) ?_
          exact w_askedOf_b62 hC hr (F_askedOf_b156 (F_askedOf_L11 fu)) (w_askedOf_b156 hC hr (F_askedOf_L11 fu) ih) x1 x2 x3 (1 : Int32) (x2 - (1 : Int32)) σ hF H locs ls hP hS (lv_sub hl [1, 2, 3, 4] rfl)
def F_askedOf (a0 : Int32) (σ : MS) : Option (Int32 × MS) :=
  lt (((400 : Int32) * (mI σ 35))) fun x3_1 =>
  F_askedOf_L11 MN a0 (0 : Int32) x3_1 σ
set_option maxHeartbeats 4000000 in
theorem w_askedOf {p : Program} {l : Launch} {e : Env} {s : State} {m : MethodId} {args : Array Value} {below : List Frame} {meth : Method} {c : Code} {G : MG} (hC : MCx G cX10_askedOf 5 p s m args meth c) (hr : meth.sig.returnType = some .int) {x : (Int32 × MS)} :
    ∀ (a0 : Int32) (σ : MS), F_askedOf a0 σ = some x → MJ p l e rmM_askedOf s m args below meth c G 5 (some (.int x.1)) x.2 0 [(0, .ref (gM G)), (1, .int a0)] [] σ := by
  have hx := hC.1
  have hb := hC.2.1
  intro a0 σ hF H locs ls hP hS hl
  rw [F_askedOf] at hF
  refine lv_iconst (v := 0) hx hb dX10_askedOf_0 (by decide) ?_
  refine lv_istore_n (lv' := [(2, .int (0 : Int32)), (0, .ref (gM G)), (1, .int a0)]) hx hb dX10_askedOf_1 rfl hl (by decide) rfl (fun ls hl => ?_)
  refine lv_sipush (v := 400) hx hb dX10_askedOf_2 (by decide) ?_
  refine lv_aload_n hx hb dX10_askedOf_5 rfl (lv_at hl 1 rfl) ?_
  refine gM35 hC hP dX10_askedOf_6 ?_
  refine lv_imul hx hb dX10_askedOf_9 ?_
  refine lv_topi (fun x3_1 ex3_1 => ?_)
  replace hF := lt_at hF ex3_1
  refine lv_istore_n (lv' := [(3, .int x3_1), (2, .int (0 : Int32)), (0, .ref (gM G)), (1, .int a0)]) hx hb dX10_askedOf_10 rfl hl (by decide) rfl (fun ls hl => ?_)
  exact w_askedOf_L11 hC hr MN a0 (0 : Int32) x3_1 σ hF H locs ls hP hS (lv_sub hl [2, 3, 1, 0] rfl)
theorem m_askedOf (l : Launch) (G : MG) (a0 : Int32) (σ : MS) (x : (Int32 × MS)) (hF : F_askedOf a0 σ = some x) : Met l yX10_askedOf (ws_ yX10_askedOf cX10_askedOf 5 (some .int)) rmM_askedOf (mP G [.ref (gM G), .int a0] σ) (mQ G (some (.int x.1)) x.2) 0 0 (MA G) := by
  refine M_met rfl plM (Nat.le_of_ble_eq_true rfl) ?_
  intro p e s m below meth c hC hr ls hl hP
  exact w_askedOf hC hr a0 σ hF s.heap [] ls hP va_S.rf hl
theorem iM_askedOf {p : Program} {l : Launch} {e : Env} {R : Room} {s : State} {m : MethodId} {args : Array Value} {below : List Frame} {meth : Method} {c : Code} {H H0 : Heap} {locs : List Loc} {cells slots nL : Nat} {Q : State → Prop} {G : MG} {σ : MS} {cc : ByteArray} {pc : Nat} {ls : Array Slot} {rest : List Value} (hC : MCx G cc nL p s m args meth c) (hP : MRep G σ H) (hS : va_S (MA G) H0 H locs) {a0 : Int32} {x : Int32} {σ1 : MS} (hF : F_askedOf a0 σ = some (x, σ1)) (hl : ls.size = nL) (hW : (rest.map fun v => v.category).sum ≤ 8) (hR : rmM_askedOf.frames + 1 ≤ R.frames ∧ 8 + (5 + 11) + rmM_askedOf.locals ≤ R.locals) (hf : cells ≤ R.cells ∧ slots ≤ R.slots) (hdg : decode cc pc = .ok (.invokevirtual 427, 3))
    (kk : ∀ (H1 : Heap) (locs1 : List Loc), MRep G σ1 H1 → va_S (MA G) H0 H1 locs1 → W p l e R s m args below meth c H1 locs1 cells slots Q (F0 m (pc + 3) ls (.int x :: rest))) : W p l e R s m args below meth c H locs cells slots Q (F0 m pc ls (.int a0 :: .ref (gM G) :: rest)) :=
  M_inv hC hP hS [.int a0] (m_askedOf l G a0 σ _ hF) (cwV 1 hC.2.2.2.2.1 (lw_V q1842 q1844 qs54 q145 q1845) rfl rfl rfl (by decide +kernel) hR) rfl rfl hl hW hf hdg kk
/-! begin -/
abbrev rmM_begin : Room := { frames := 2, cells := 0, slots := 0, locals := 46 }
def F_begin_b43 (σ : MS) : Option MS :=
  gd (inb (0 : Int32) 16) <|
  lt (wA σ 45 (Int32.toNatClampNeg (0 : Int32)) (0 : Int32)) fun σ_2 =>
  gd (inb (0 : Int32) 16) <|
  lt (wA σ_2 46 (Int32.toNatClampNeg (0 : Int32)) (0 : Int32)) fun σ_4 =>
  gd (inb (0 : Int32) 16) <|
  lt (wA σ_4 47 (Int32.toNatClampNeg (0 : Int32)) (-1 : Int32)) fun σ_6 =>
  gd (inb (0 : Int32) 16) <|
  lt (wA σ_6 48 (Int32.toNatClampNeg (0 : Int32)) (0 : Int32)) fun σ_8 =>
  gd (inb (0 : Int32) 16) <|
  lt (wL σ_8 44 (Int32.toNatClampNeg (0 : Int32)) (1 : Int64)) fun σ_10 =>
  some σ_10
set_option maxHeartbeats 4000000 in
theorem w_begin_b43 {p : Program} {l : Launch} {e : Env} {s : State} {m : MethodId} {args : Array Value} {below : List Frame} {meth : Method} {c : Code} {G : MG} (hC : MCx G cX10_begin 2 p s m args meth c) (hr : meth.sig.returnType = none) {x : MS} :
    ∀ (σ : MS), F_begin_b43 σ = some x → MJ p l e rmM_begin s m args below meth c G 2 none x 43 [(0, .ref (gM G))] [] σ := by
  have hx := hC.1
  have hb := hC.2.1
  intro σ hF H locs ls hP hS hl
  rw [F_begin_b43] at hF
  refine lv_aload_n hx hb dX10_begin_43 rfl (lv_at hl 0 rfl) ?_
  refine gM45 hC hP dX10_begin_44 ?_
  refine lv_iconst (v := 0) hx hb dX10_begin_47 (by decide) ?_
  refine lv_iconst (v := 0) hx hb dX10_begin_48 (by decide) ?_
  obtain ⟨h_1, hF⟩ := gd_ok hF
  refine M_iast hC hP hS 45 (by decide) rfl rfl rfl h_1 dX10_begin_49 (fun H locs hP hS => ?_)
  obtain ⟨σ_2, eσ_2, hF⟩ := lt_ok hF
  rw [← eσ_2] at hP
  refine lv_aload_n hx hb dX10_begin_50 rfl (lv_at hl 0 rfl) ?_
  refine gM46 hC hP dX10_begin_51 ?_
  refine lv_iconst (v := 0) hx hb dX10_begin_54 (by decide) ?_
  refine lv_iconst (v := 0) hx hb dX10_begin_55 (by decide) ?_
  obtain ⟨h_3, hF⟩ := gd_ok hF
  refine M_iast hC hP hS 46 (by decide) rfl rfl rfl h_3 dX10_begin_56 (fun H locs hP hS => ?_)
  obtain ⟨σ_4, eσ_4, hF⟩ := lt_ok hF
  rw [← eσ_4] at hP
  refine lv_aload_n hx hb dX10_begin_57 rfl (lv_at hl 0 rfl) ?_
  refine gM47 hC hP dX10_begin_58 ?_
  refine lv_iconst (v := 0) hx hb dX10_begin_61 (by decide) ?_
  refine lv_iconst (v := -1) hx hb dX10_begin_62 (by decide) ?_
  obtain ⟨h_5, hF⟩ := gd_ok hF
  refine M_iast hC hP hS 47 (by decide) rfl rfl rfl h_5 dX10_begin_63 (fun H locs hP hS => ?_)
  obtain ⟨σ_6, eσ_6, hF⟩ := lt_ok hF
  rw [← eσ_6] at hP
  refine lv_aload_n hx hb dX10_begin_64 rfl (lv_at hl 0 rfl) ?_
  refine gM48 hC hP dX10_begin_65 ?_
  refine lv_iconst (v := 0) hx hb dX10_begin_68 (by decide) ?_
  refine lv_iconst (v := 0) hx hb dX10_begin_69 (by decide) ?_
  obtain ⟨h_7, hF⟩ := gd_ok hF
  refine M_iast hC hP hS 48 (by decide) rfl rfl rfl h_7 dX10_begin_70 (fun H locs hP hS => ?_)
  obtain ⟨σ_8, eσ_8, hF⟩ := lt_ok hF
  rw [← eσ_8] at hP
  refine lv_aload_n hx hb dX10_begin_71 rfl (lv_at hl 0 rfl) ?_
  refine gM44 hC hP dX10_begin_72 ?_
  refine lv_iconst (v := 0) hx hb dX10_begin_75 (by decide) ?_
  refine lv_lconst (v := 1) hx hb dX10_begin_76 (by decide) ?_
  obtain ⟨h_9, hF⟩ := gd_ok hF
  refine M_last hC hP hS 44 (by decide) rfl rfl rfl h_9 dX10_begin_77 (fun H locs hP hS => ?_)
  obtain ⟨σ_10, eσ_10, hF⟩ := lt_ok hF
  rw [← eσ_10] at hP
  exact M_retv hC hP hS hr (Option.some.inj hF) dX10_begin_78
def F_begin_L7 : Nat → Int32 → MS → Option MS
  | 0, _, _ => none
  | fu + 1, x1, σ =>
    bd (F_inputs σ) fun r_2 =>
    if r_2 ≤ x1 then
      F_begin_b43 σ
    else
      gd (inb ((256 : Int32) * x1) 36864) <|
      lt (wL σ 43 (Int32.toNatClampNeg ((256 : Int32) * x1)) (1 : Int64)) fun σ_5 =>
      bd2 (F_askedOf x1 σ_5) fun r_8 σ_7 =>
      gd (inb x1 8) <|
      lt (wA σ_7 56 (Int32.toNatClampNeg x1) r_8) fun σ_10 =>
      lt (x1 + (1 : Int32)) fun x1_11 =>
      F_begin_L7 fu x1_11 σ_10
set_option maxHeartbeats 4000000 in
theorem w_begin_L7 {p : Program} {l : Launch} {e : Env} {s : State} {m : MethodId} {args : Array Value} {below : List Frame} {meth : Method} {c : Code} {G : MG} (hC : MCx G cX10_begin 2 p s m args meth c) (hr : meth.sig.returnType = none) {x : MS} :
    ∀ (fu : Nat) (x1 : Int32) (σ : MS), F_begin_L7 fu x1 σ = some x → MJ p l e rmM_begin s m args below meth c G 2 none x 7 [(0, .ref (gM G)), (1, .int x1)] [] σ := by
  have hx := hC.1
  have hb := hC.2.1
  intro fu
  induction fu with
  | zero => intro x1 σ hF; exact nm_none hF
  | succ fu ih =>
    intro x1 σ hF H locs ls hP hS hl
    rw [F_begin_L7] at hF
    refine lv_iload_n hx hb dX10_begin_7 rfl (lv_at hl 1 rfl) ?_
    refine lv_aload_n hx hb dX10_begin_8 rfl (lv_at hl 0 rfl) ?_
    obtain ⟨r_2, hc_1, hF⟩ := bd_ok hF
    refine iM_inputs hC hP hS hc_1 hl.1 (Nat.le_of_ble_eq_true rfl) ⟨Nat.le_of_ble_eq_true rfl, Nat.le_of_ble_eq_true rfl⟩ ⟨Nat.zero_le _, Nat.zero_le _⟩ dX10_begin_9 (fun H locs hP hS => ?_)
    refine lv_icmp_ge (tgt := 43) hx hb dX10_begin_12 (by decide) (fun c_3 => ?_) (fun c_3 => ?_)
    · replace hF := it_t hF c_3
      exact w_begin_b43 hC hr σ hF H locs ls hP hS (lv_sub hl [0] rfl)
    · replace hF := it_f hF c_3
      refine lv_aload_n hx hb dX10_begin_15 rfl (lv_at hl 0 rfl) ?_
      refine gM43 hC hP dX10_begin_16 ?_
      refine lv_sipush (v := 256) hx hb dX10_begin_19 (by decide) ?_
      refine lv_iload_n hx hb dX10_begin_22 rfl (lv_at hl 1 rfl) ?_
      refine lv_imul hx hb dX10_begin_23 ?_
      refine lv_lconst (v := 1) hx hb dX10_begin_24 (by decide) ?_
      obtain ⟨h_4, hF⟩ := gd_ok hF
      refine M_last hC hP hS 43 (by decide) rfl rfl rfl h_4 dX10_begin_25 (fun H locs hP hS => ?_)
      obtain ⟨σ_5, eσ_5, hF⟩ := lt_ok hF
      rw [← eσ_5] at hP
      refine lv_aload_n hx hb dX10_begin_26 rfl (lv_at hl 0 rfl) ?_
      refine gM56 hC hP dX10_begin_27 ?_
      refine lv_iload_n hx hb dX10_begin_30 rfl (lv_at hl 1 rfl) ?_
      refine lv_aload_n hx hb dX10_begin_31 rfl (lv_at hl 0 rfl) ?_
      refine lv_iload_n hx hb dX10_begin_32 rfl (lv_at hl 1 rfl) ?_
      obtain ⟨r_8, σ_7, hc_6, hF⟩ := bd2_ok hF
      refine iM_askedOf hC hP hS hc_6 hl.1 (Nat.le_of_ble_eq_true rfl) ⟨Nat.le_of_ble_eq_true rfl, Nat.le_of_ble_eq_true rfl⟩ ⟨Nat.zero_le _, Nat.zero_le _⟩ dX10_begin_33 (fun H locs hP hS => ?_)
      obtain ⟨h_9, hF⟩ := gd_ok hF
      refine M_iast hC hP hS 56 (by decide) rfl rfl rfl h_9 dX10_begin_36 (fun H locs hP hS => ?_)
      obtain ⟨σ_10, eσ_10, hF⟩ := lt_ok hF
      rw [← eσ_10] at hP
      obtain ⟨x1_11, ex1_11, hF⟩ := lt_ok hF
      refine lv_iinc (v := x1_11) (lv' := [(1, .int x1_11), (0, .ref (gM G))]) hx hb dX10_begin_37 hl (k := 1) rfl (by rw [ex1_11]; rfl) (by decide) rfl (fun ls hl => ?_)
      refine lv_goto (tgt := 7) hx hb dX10_begin_40 (by decide) ?_
      exact ih x1_11 σ_10 hF H locs ls hP hS (lv_sub hl [1, 0] rfl)
def F_begin (σ : MS) : Option MS :=
  bd (F_clearDist (0 : Int32) σ) fun σ_2 =>
  F_begin_L7 MN (0 : Int32) σ_2
set_option maxHeartbeats 4000000 in
theorem w_begin {p : Program} {l : Launch} {e : Env} {s : State} {m : MethodId} {args : Array Value} {below : List Frame} {meth : Method} {c : Code} {G : MG} (hC : MCx G cX10_begin 2 p s m args meth c) (hr : meth.sig.returnType = none) {x : MS} :
    ∀ (σ : MS), F_begin σ = some x → MJ p l e rmM_begin s m args below meth c G 2 none x 0 [(0, .ref (gM G))] [] σ := by
  have hx := hC.1
  have hb := hC.2.1
  intro σ hF H locs ls hP hS hl
  rw [F_begin] at hF
  refine lv_aload_n hx hb dX10_begin_0 rfl (lv_at hl 0 rfl) ?_
  refine lv_iconst (v := 0) hx hb dX10_begin_1 (by decide) ?_
  obtain ⟨σ_2, hc_1, hF⟩ := bd_ok hF
  refine iM_clearDist hC hP hS hc_1 hl.1 (Nat.le_of_ble_eq_true rfl) ⟨Nat.le_of_ble_eq_true rfl, Nat.le_of_ble_eq_true rfl⟩ ⟨Nat.zero_le _, Nat.zero_le _⟩ dX10_begin_2 (fun H locs hP hS => ?_)
  refine lv_iconst (v := 0) hx hb dX10_begin_5 (by decide) ?_
  refine lv_istore_n (lv' := [(1, .int (0 : Int32)), (0, .ref (gM G))]) hx hb dX10_begin_6 rfl hl (by decide) rfl (fun ls hl => ?_)
  exact w_begin_L7 hC hr MN (0 : Int32) σ_2 hF H locs ls hP hS (lv_sub hl [1, 0] rfl)
theorem m_begin (l : Launch) (G : MG) (σ : MS) (x : MS) (hF : F_begin σ = some x) : Met l yX10_begin (ws_ yX10_begin cX10_begin 2 none) rmM_begin (mP G [.ref (gM G)] σ) (mQ G none x) 0 0 (MA G) := by
  refine M_met rfl plM (Nat.le_of_ble_eq_true rfl) ?_
  intro p e s m below meth c hC hr ls hl hP
  exact w_begin hC hr σ hF s.heap [] ls hP va_S.rf hl
theorem iM_begin {p : Program} {l : Launch} {e : Env} {R : Room} {s : State} {m : MethodId} {args : Array Value} {below : List Frame} {meth : Method} {c : Code} {H H0 : Heap} {locs : List Loc} {cells slots nL : Nat} {Q : State → Prop} {G : MG} {σ : MS} {cc : ByteArray} {pc : Nat} {ls : Array Slot} {rest : List Value} (hC : MCx G cc nL p s m args meth c) (hP : MRep G σ H) (hS : va_S (MA G) H0 H locs) {x : MS} (hF : F_begin σ = some x) (hl : ls.size = nL) (hW : (rest.map fun v => v.category).sum ≤ 8) (hR : rmM_begin.frames + 1 ≤ R.frames ∧ 8 + (2 + 11) + rmM_begin.locals ≤ R.locals) (hf : cells ≤ R.cells ∧ slots ≤ R.slots) (hdg : decode cc pc = .ok (.invokevirtual 503, 3))
    (kk : ∀ (H1 : Heap) (locs1 : List Loc), MRep G x H1 → va_S (MA G) H0 H1 locs1 → W p l e R s m args below meth c H1 locs1 cells slots Q (F0 m (pc + 3) ls (rest))) : W p l e R s m args below meth c H locs cells slots Q (F0 m pc ls (.ref (gM G) :: rest)) :=
  M_inv hC hP hS [] (m_begin l G σ _ hF) (cwV 0 hC.2.2.2.2.1 (lw_V q1830 q1832 qs51 q145 q1833) rfl rfl rfl (by decide +kernel) hR) rfl rfl hl hW hf hdg kk
/-! children -/
abbrev rmM_children : Room := { frames := 1, cells := 0, slots := 0, locals := 22 }
def F_children (σ : MS) (a0 : Int32) : Option Int32 :=
  gd (inb a0 16) <|
  lt ((((52 : Int32) * (mI σ 35)) + (mA σ 45 (Int32.toNatClampNeg a0)))) fun x2_2 =>
  gd (inb x2_2 104) <|
  if (mA σ 22 (Int32.toNatClampNeg x2_2)) = (8 : Int32) then
    gd (inb x2_2 104) <|
    some ((1 : Int32) <<< ((mA σ 26 (Int32.toNatClampNeg x2_2)) &&& 31))
  else
    if (mI σ 51) = (2 : Int32) then
      bd (F_ways σ x2_2) fun r_7 =>
      some r_7
    else
      some (8 : Int32)
set_option maxHeartbeats 4000000 in
theorem w_children {p : Program} {l : Launch} {e : Env} {s : State} {m : MethodId} {args : Array Value} {below : List Frame} {meth : Method} {c : Code} {G : MG} (hC : MCx G cX10_children 3 p s m args meth c) (hr : meth.sig.returnType = some .int) {x : Int32} {σ : MS} :
    ∀ (a0 : Int32), F_children σ a0 = some x → MJ p l e rmM_children s m args below meth c G 3 (some (.int x)) σ 0 [(0, .ref (gM G)), (1, .int a0)] [] σ := by
  have hx := hC.1
  have hb := hC.2.1
  intro a0 hF H locs ls hP hS hl
  rw [F_children] at hF
  refine lv_bipush (v := 52) hx hb dX10_children_0 (by decide) ?_
  refine lv_aload_n hx hb dX10_children_2 rfl (lv_at hl 0 rfl) ?_
  refine gM35 hC hP dX10_children_3 ?_
  refine lv_imul hx hb dX10_children_6 ?_
  refine lv_aload_n hx hb dX10_children_7 rfl (lv_at hl 0 rfl) ?_
  refine gM45 hC hP dX10_children_8 ?_
  refine lv_iload_n hx hb dX10_children_11 rfl (lv_at hl 1 rfl) ?_
  obtain ⟨h_1, hF⟩ := gd_ok hF
  refine M_iald hC hP 45 (by decide) rfl rfl rfl h_1 dX10_children_12 ?_
  refine lv_iadd hx hb dX10_children_13 ?_
  refine lv_topi (fun x2_2 ex2_2 => ?_)
  replace hF := lt_at hF ex2_2
  refine lv_istore_n (lv' := [(2, .int x2_2), (0, .ref (gM G)), (1, .int a0)]) hx hb dX10_children_14 rfl hl (by decide) rfl (fun ls hl => ?_)
  refine lv_aload_n hx hb dX10_children_15 rfl (lv_at hl 1 rfl) ?_
  refine gM22 hC hP dX10_children_16 ?_
  refine lv_iload_n hx hb dX10_children_19 rfl (lv_at hl 0 rfl) ?_
  obtain ⟨h_3, hF⟩ := gd_ok hF
  refine M_iald hC hP 22 (by decide) rfl rfl rfl h_3 dX10_children_20 ?_
  refine lv_bipush (v := 8) hx hb dX10_children_21 (by decide) ?_
  refine lv_icmp_ne (tgt := 37) hx hb dX10_children_23 (by decide) (fun c_4 => ?_) (fun c_4 => ?_)
  · replace hF := it_f hF c_4
    refine lv_aload_n hx hb dX10_children_37 rfl (lv_at hl 1 rfl) ?_
    refine gM51 hC hP dX10_children_38 ?_
    refine lv_iconst (v := 2) hx hb dX10_children_41 (by decide) ?_
    refine lv_icmp_ne (tgt := 53) hx hb dX10_children_42 (by decide) (fun c_5 => ?_) (fun c_5 => ?_)
    · replace hF := it_f hF c_5
      refine lv_bipush (v := 8) hx hb dX10_children_53 (by decide) ?_
      exact M_reti hC hP hS hr (Option.some.inj hF) rfl dX10_children_55
    · replace hF := it_t hF c_5
      refine lv_aload_n hx hb dX10_children_45 rfl (lv_at hl 1 rfl) ?_
      refine lv_iload_n hx hb dX10_children_46 rfl (lv_at hl 0 rfl) ?_
      obtain ⟨r_7, hc_6, hF⟩ := bd_ok hF
      refine iM_ways hC hP hS hc_6 hl.1 (Nat.le_of_ble_eq_true rfl) ⟨Nat.le_of_ble_eq_true rfl, Nat.le_of_ble_eq_true rfl⟩ ⟨Nat.zero_le _, Nat.zero_le _⟩ dX10_children_47 (fun H locs hP hS => ?_)
      refine lv_goto (tgt := 55) hx hb dX10_children_50 (by decide) ?_
      exact M_reti hC hP hS hr (Option.some.inj hF) rfl dX10_children_55
  · replace hF := it_t hF c_4
    refine lv_iconst (v := 1) hx hb dX10_children_26 (by decide) ?_
    refine lv_aload_n hx hb dX10_children_27 rfl (lv_at hl 1 rfl) ?_
    refine gM26 hC hP dX10_children_28 ?_
    refine lv_iload_n hx hb dX10_children_31 rfl (lv_at hl 0 rfl) ?_
    obtain ⟨h_8, hF⟩ := gd_ok hF
    refine M_iald hC hP 26 (by decide) rfl rfl rfl h_8 dX10_children_32 ?_
    refine lv_ishl hx hb dX10_children_33 ?_
    refine lv_goto (tgt := 55) hx hb dX10_children_34 (by decide) ?_
    exact M_reti hC hP hS hr (Option.some.inj hF) rfl dX10_children_55
theorem m_children (l : Launch) (G : MG) (a0 : Int32) (σ : MS) (x : Int32) (hF : F_children σ a0 = some x) : Met l yX10_children (ws_ yX10_children cX10_children 3 (some .int)) rmM_children (mP G [.ref (gM G), .int a0] σ) (mQ G (some (.int x)) σ) 0 0 (MA G) := by
  refine M_met rfl plM (Nat.le_of_ble_eq_true rfl) ?_
  intro p e s m below meth c hC hr ls hl hP
  exact w_children hC hr a0 hF s.heap [] ls hP va_S.rf hl
theorem iM_children {p : Program} {l : Launch} {e : Env} {R : Room} {s : State} {m : MethodId} {args : Array Value} {below : List Frame} {meth : Method} {c : Code} {H H0 : Heap} {locs : List Loc} {cells slots nL : Nat} {Q : State → Prop} {G : MG} {σ : MS} {cc : ByteArray} {pc : Nat} {ls : Array Slot} {rest : List Value} (hC : MCx G cc nL p s m args meth c) (hP : MRep G σ H) (hS : va_S (MA G) H0 H locs) {a0 : Int32} {x : Int32} (hF : F_children σ a0 = some x) (hl : ls.size = nL) (hW : (rest.map fun v => v.category).sum ≤ 8) (hR : rmM_children.frames + 1 ≤ R.frames ∧ 8 + (3 + 11) + rmM_children.locals ≤ R.locals) (hf : cells ≤ R.cells ∧ slots ≤ R.slots) (hdg : decode cc pc = .ok (.invokevirtual 512, 3))
    (kk : ∀ (H1 : Heap) (locs1 : List Loc), MRep G σ H1 → va_S (MA G) H0 H1 locs1 → W p l e R s m args below meth c H1 locs1 cells slots Q (F0 m (pc + 3) ls (.int x :: rest))) : W p l e R s m args below meth c H locs cells slots Q (F0 m pc ls (.int a0 :: .ref (gM G) :: rest)) :=
  M_inv hC hP hS [.int a0] (m_children l G a0 σ _ hF) (cwV 1 hC.2.2.2.2.1 (lw_V q1932 q1934 qs74 q145 q1935) rfl rfl rfl (by decide +kernel) hR) rfl rfl hl hW hf hdg kk
/-! isAny -/
abbrev rmM_isAny : Room := { frames := 0, cells := 0, slots := 0, locals := 0 }
def F_isAny_L6 (σ : MS) : Nat → Int32 → Int32 → Option Int32
  | 0, _, _ => none
  | fu + 1, x1, x2 =>
    if (((2048 : Int32) * x1) + (2048 : Int32)) ≤ x2 then
      some (0 : Int32)
    else
      gd (inb x2 36864) <|
      if (lg_cmp (mL σ 43 (Int32.toNatClampNeg x2)) (0 : Int64)) = 0 then
        lt (x2 + (1 : Int32)) fun x2_4 =>
        F_isAny_L6 σ fu x1 x2_4
      else
        some (1 : Int32)
set_option maxHeartbeats 4000000 in
theorem w_isAny_L6 {p : Program} {l : Launch} {e : Env} {s : State} {m : MethodId} {args : Array Value} {below : List Frame} {meth : Method} {c : Code} {G : MG} (hC : MCx G cX10_isAny 3 p s m args meth c) (hr : meth.sig.returnType = some .boolean) {x : Int32} {σ : MS} :
    ∀ (fu : Nat) (x1 : Int32) (x2 : Int32), F_isAny_L6 σ fu x1 x2 = some x → MJ p l e rmM_isAny s m args below meth c G 3 (some (.int x)) σ 6 [(0, .ref (gM G)), (1, .int x1), (2, .int x2)] [] σ := by
  have hx := hC.1
  have hb := hC.2.1
  intro fu
  induction fu with
  | zero => intro x1 x2 hF; exact nm_none hF
  | succ fu ih =>
    intro x1 x2 hF H locs ls hP hS hl
    rw [F_isAny_L6] at hF
    refine lv_iload_n hx hb dX10_isAny_6 rfl (lv_at hl 2 rfl) ?_
    refine lv_sipush (v := 2048) hx hb dX10_isAny_7 (by decide) ?_
    refine lv_iload_n hx hb dX10_isAny_10 rfl (lv_at hl 1 rfl) ?_
    refine lv_imul hx hb dX10_isAny_11 ?_
    refine lv_sipush (v := 2048) hx hb dX10_isAny_12 (by decide) ?_
    refine lv_iadd hx hb dX10_isAny_15 ?_
    refine lv_icmp_ge (tgt := 38) hx hb dX10_isAny_16 (by decide) (fun c_1 => ?_) (fun c_1 => ?_)
    · replace hF := it_t hF c_1
      refine lv_iconst (v := 0) hx hb dX10_isAny_38 (by decide) ?_
      exact M_retz hC hP hS hr (Or.inl rfl) (Option.some.inj hF) rfl dX10_isAny_39
    · replace hF := it_f hF c_1
      refine lv_aload_n hx hb dX10_isAny_19 rfl (lv_at hl 0 rfl) ?_
      refine gM43 hC hP dX10_isAny_20 ?_
      refine lv_iload_n hx hb dX10_isAny_23 rfl (lv_at hl 2 rfl) ?_
      obtain ⟨h_2, hF⟩ := gd_ok hF
      refine M_lald hC hP 43 (by decide) rfl rfl rfl h_2 dX10_isAny_24 ?_
      refine lv_lconst (v := 0) hx hb dX10_isAny_25 (by decide) ?_
      refine W.lcmp hx hb dX10_isAny_26 ?_
      refine lv_if_eq (tgt := 32) hx hb dX10_isAny_27 (by decide) (fun c_3 => ?_) (fun c_3 => ?_)
      · replace hF := it_t hF c_3
        obtain ⟨x2_4, ex2_4, hF⟩ := lt_ok hF
        refine lv_iinc (v := x2_4) (lv' := [(2, .int x2_4), (0, .ref (gM G)), (1, .int x1)]) hx hb dX10_isAny_32 hl (k := 2) rfl (by rw [ex2_4]; rfl) (by decide) rfl (fun ls hl => ?_)
        refine lv_goto (tgt := 6) hx hb dX10_isAny_35 (by decide) ?_
        exact ih x1 x2_4 hF H locs ls hP hS (lv_sub hl [1, 2, 0] rfl)
      · replace hF := it_f hF c_3
        refine lv_iconst (v := 1) hx hb dX10_isAny_30 (by decide) ?_
        exact M_retz hC hP hS hr (Or.inr rfl) (Option.some.inj hF) rfl dX10_isAny_31
def F_isAny (σ : MS) (a0 : Int32) : Option Int32 :=
  lt (((2048 : Int32) * a0)) fun x2_1 =>
  F_isAny_L6 σ MN a0 x2_1
set_option maxHeartbeats 4000000 in
theorem w_isAny {p : Program} {l : Launch} {e : Env} {s : State} {m : MethodId} {args : Array Value} {below : List Frame} {meth : Method} {c : Code} {G : MG} (hC : MCx G cX10_isAny 3 p s m args meth c) (hr : meth.sig.returnType = some .boolean) {x : Int32} {σ : MS} :
    ∀ (a0 : Int32), F_isAny σ a0 = some x → MJ p l e rmM_isAny s m args below meth c G 3 (some (.int x)) σ 0 [(0, .ref (gM G)), (1, .int a0)] [] σ := by
  have hx := hC.1
  have hb := hC.2.1
  intro a0 hF H locs ls hP hS hl
  rw [F_isAny] at hF
  refine lv_sipush (v := 2048) hx hb dX10_isAny_0 (by decide) ?_
  refine lv_iload_n hx hb dX10_isAny_3 rfl (lv_at hl 1 rfl) ?_
  refine lv_imul hx hb dX10_isAny_4 ?_
  refine lv_topi (fun x2_1 ex2_1 => ?_)
  replace hF := lt_at hF ex2_1
  refine lv_istore_n (lv' := [(2, .int x2_1), (0, .ref (gM G)), (1, .int a0)]) hx hb dX10_isAny_5 rfl hl (by decide) rfl (fun ls hl => ?_)
  exact w_isAny_L6 hC hr MN a0 x2_1 hF H locs ls hP hS (lv_sub hl [1, 2, 0] rfl)
theorem m_isAny (l : Launch) (G : MG) (a0 : Int32) (σ : MS) (x : Int32) (hF : F_isAny σ a0 = some x) : Met l yX10_isAny (ws_ yX10_isAny cX10_isAny 3 (some .boolean)) rmM_isAny (mP G [.ref (gM G), .int a0] σ) (mQ G (some (.int x)) σ) 0 0 (MA G) := by
  refine M_met rfl plM (Nat.le_of_ble_eq_true rfl) ?_
  intro p e s m below meth c hC hr ls hl hP
  exact w_isAny hC hr a0 hF s.heap [] ls hP va_S.rf hl
theorem iM_isAny {p : Program} {l : Launch} {e : Env} {R : Room} {s : State} {m : MethodId} {args : Array Value} {below : List Frame} {meth : Method} {c : Code} {H H0 : Heap} {locs : List Loc} {cells slots nL : Nat} {Q : State → Prop} {G : MG} {σ : MS} {cc : ByteArray} {pc : Nat} {ls : Array Slot} {rest : List Value} (hC : MCx G cc nL p s m args meth c) (hP : MRep G σ H) (hS : va_S (MA G) H0 H locs) {a0 : Int32} {x : Int32} (hF : F_isAny σ a0 = some x) (hl : ls.size = nL) (hW : (rest.map fun v => v.category).sum ≤ 8) (hR : rmM_isAny.frames + 1 ≤ R.frames ∧ 8 + (3 + 11) + rmM_isAny.locals ≤ R.locals) (hf : cells ≤ R.cells ∧ slots ≤ R.slots) (hdg : decode cc pc = .ok (.invokevirtual 494, 3))
    (kk : ∀ (H1 : Heap) (locs1 : List Loc), MRep G σ H1 → va_S (MA G) H0 H1 locs1 → W p l e R s m args below meth c H1 locs1 cells slots Q (F0 m (pc + 3) ls (.int x :: rest))) : W p l e R s m args below meth c H locs cells slots Q (F0 m pc ls (.int a0 :: .ref (gM G) :: rest)) :=
  M_inv hC hP hS [.int a0] (m_isAny l G a0 σ _ hF) (cwV 1 hC.2.2.2.2.1 (lw_V q1948 q1950 qs78 q145 q1951) rfl rfl rfl (by decide +kernel) hR) rfl rfl hl hW hf hdg kk
/-! colours -/
abbrev rmM_colours : Room := { frames := 0, cells := 0, slots := 0, locals := 0 }
def F_colours_L5 (σ : MS) : Nat → Int32 → Int32 → Int32 → Int32 → Option Int32
  | 0, _, _, _, _ => none
  | fu + 1, x1, x2, x3, x4 =>
    gd (inb x1 104) <|
    if (mA σ 26 (Int32.toNatClampNeg x1)) ≤ x4 then
      some x3
    else
      gd (inb (((8 : Int32) * x1) + x4) 832) <|
      lt ((x3 ||| (((x2 >>> ((mA σ 27 (Int32.toNatClampNeg (((8 : Int32) * x1) + x4))) &&& 31)) &&& (1 : Int32)) <<< (x4 &&& 31)))) fun x3_4 =>
      lt (x4 + (1 : Int32)) fun x4_5 =>
      F_colours_L5 σ fu x1 x2 x3_4 x4_5
set_option maxHeartbeats 4000000 in
theorem w_colours_L5 {p : Program} {l : Launch} {e : Env} {s : State} {m : MethodId} {args : Array Value} {below : List Frame} {meth : Method} {c : Code} {G : MG} (hC : MCx G cX10_colours 5 p s m args meth c) (hr : meth.sig.returnType = some .int) {x : Int32} {σ : MS} :
    ∀ (fu : Nat) (x1 : Int32) (x2 : Int32) (x3 : Int32) (x4 : Int32), F_colours_L5 σ fu x1 x2 x3 x4 = some x → MJ p l e rmM_colours s m args below meth c G 5 (some (.int x)) σ 5 [(0, .ref (gM G)), (1, .int x1), (2, .int x2), (3, .int x3), (4, .int x4)] [] σ := by
  have hx := hC.1
  have hb := hC.2.1
  intro fu
  induction fu with
  | zero => intro x1 x2 x3 x4 hF; exact nm_none hF
  | succ fu ih =>
    intro x1 x2 x3 x4 hF H locs ls hP hS hl
    rw [F_colours_L5] at hF
    refine lv_iload hx hb dX10_colours_5 (lv_at hl 4 rfl) ?_
    refine lv_aload_n hx hb dX10_colours_7 rfl (lv_at hl 0 rfl) ?_
    refine gM26 hC hP dX10_colours_8 ?_
    refine lv_iload_n hx hb dX10_colours_11 rfl (lv_at hl 1 rfl) ?_
    obtain ⟨h_1, hF⟩ := gd_ok hF
    refine M_iald hC hP 26 (by decide) rfl rfl rfl h_1 dX10_colours_12 ?_
    refine lv_icmp_ge (tgt := 44) hx hb dX10_colours_13 (by decide) (fun c_2 => ?_) (fun c_2 => ?_)
    · replace hF := it_t hF c_2
      refine lv_iload_n hx hb dX10_colours_44 rfl (lv_at hl 3 rfl) ?_
      exact M_reti hC hP hS hr (Option.some.inj hF) rfl dX10_colours_45
    · replace hF := it_f hF c_2
      refine lv_iload_n hx hb dX10_colours_16 rfl (lv_at hl 3 rfl) ?_
      refine lv_iload_n hx hb dX10_colours_17 rfl (lv_at hl 2 rfl) ?_
      refine lv_aload_n hx hb dX10_colours_18 rfl (lv_at hl 0 rfl) ?_
      refine gM27 hC hP dX10_colours_19 ?_
      refine lv_bipush (v := 8) hx hb dX10_colours_22 (by decide) ?_
      refine lv_iload_n hx hb dX10_colours_24 rfl (lv_at hl 1 rfl) ?_
      refine lv_imul hx hb dX10_colours_25 ?_
      refine lv_iload hx hb dX10_colours_26 (lv_at hl 4 rfl) ?_
      refine lv_iadd hx hb dX10_colours_28 ?_
      obtain ⟨h_3, hF⟩ := gd_ok hF
      refine M_iald hC hP 27 (by decide) rfl rfl rfl h_3 dX10_colours_29 ?_
      refine lv_ishr hx hb dX10_colours_30 ?_
      refine lv_iconst (v := 1) hx hb dX10_colours_31 (by decide) ?_
      refine lv_iand hx hb dX10_colours_32 ?_
      refine lv_iload hx hb dX10_colours_33 (lv_at hl 4 rfl) ?_
      refine lv_ishl hx hb dX10_colours_35 ?_
      refine lv_ior hx hb dX10_colours_36 ?_
      refine lv_topi (fun x3_4 ex3_4 => ?_)
      replace hF := lt_at hF ex3_4
      refine lv_istore_n (lv' := [(3, .int x3_4), (0, .ref (gM G)), (1, .int x1), (2, .int x2), (4, .int x4)]) hx hb dX10_colours_37 rfl hl (by decide) rfl (fun ls hl => ?_)
      obtain ⟨x4_5, ex4_5, hF⟩ := lt_ok hF
      refine lv_iinc (v := x4_5) (lv' := [(4, .int x4_5), (3, .int x3_4), (0, .ref (gM G)), (1, .int x1), (2, .int x2)]) hx hb dX10_colours_38 hl (k := 4) rfl (by rw [ex4_5]; rfl) (by decide) rfl (fun ls hl => ?_)
      refine lv_goto (tgt := 5) hx hb dX10_colours_41 (by decide) ?_
      exact ih x1 x2 x3_4 x4_5 hF H locs ls hP hS (lv_sub hl [2, 3, 4, 1, 0] rfl)
def F_colours (σ : MS) (a0 : Int32) (a1 : Int32) : Option Int32 :=
  F_colours_L5 σ MN a0 a1 (0 : Int32) (0 : Int32)
set_option maxHeartbeats 4000000 in
theorem w_colours {p : Program} {l : Launch} {e : Env} {s : State} {m : MethodId} {args : Array Value} {below : List Frame} {meth : Method} {c : Code} {G : MG} (hC : MCx G cX10_colours 5 p s m args meth c) (hr : meth.sig.returnType = some .int) {x : Int32} {σ : MS} :
    ∀ (a0 : Int32) (a1 : Int32), F_colours σ a0 a1 = some x → MJ p l e rmM_colours s m args below meth c G 5 (some (.int x)) σ 0 [(0, .ref (gM G)), (1, .int a0), (2, .int a1)] [] σ := by
  have hx := hC.1
  have hb := hC.2.1
  intro a0 a1 hF H locs ls hP hS hl
  rw [F_colours] at hF
  refine lv_iconst (v := 0) hx hb dX10_colours_0 (by decide) ?_
  refine lv_istore_n (lv' := [(3, .int (0 : Int32)), (0, .ref (gM G)), (1, .int a0), (2, .int a1)]) hx hb dX10_colours_1 rfl hl (by decide) rfl (fun ls hl => ?_)
  refine lv_iconst (v := 0) hx hb dX10_colours_2 (by decide) ?_
  refine lv_istore (lv' := [(4, .int (0 : Int32)), (3, .int (0 : Int32)), (0, .ref (gM G)), (1, .int a0), (2, .int a1)]) hx hb dX10_colours_3 hl (by decide) rfl (fun ls hl => ?_)
  exact w_colours_L5 hC hr MN a0 a1 (0 : Int32) (0 : Int32) hF H locs ls hP hS (lv_sub hl [2, 3, 4, 1, 0] rfl)
theorem m_colours (l : Launch) (G : MG) (a0 : Int32) (a1 : Int32) (σ : MS) (x : Int32) (hF : F_colours σ a0 a1 = some x) : Met l yX10_colours (ws_ yX10_colours cX10_colours 5 (some .int)) rmM_colours (mP G [.ref (gM G), .int a0, .int a1] σ) (mQ G (some (.int x)) σ) 0 0 (MA G) := by
  refine M_met rfl plM (Nat.le_of_ble_eq_true rfl) ?_
  intro p e s m below meth c hC hr ls hl hP
  exact w_colours hC hr a0 a1 hF s.heap [] ls hP va_S.rf hl
theorem iM_colours {p : Program} {l : Launch} {e : Env} {R : Room} {s : State} {m : MethodId} {args : Array Value} {below : List Frame} {meth : Method} {c : Code} {H H0 : Heap} {locs : List Loc} {cells slots nL : Nat} {Q : State → Prop} {G : MG} {σ : MS} {cc : ByteArray} {pc : Nat} {ls : Array Slot} {rest : List Value} (hC : MCx G cc nL p s m args meth c) (hP : MRep G σ H) (hS : va_S (MA G) H0 H locs) {a0 : Int32} {a1 : Int32} {x : Int32} (hF : F_colours σ a0 a1 = some x) (hl : ls.size = nL) (hW : (rest.map fun v => v.category).sum ≤ 8) (hR : rmM_colours.frames + 1 ≤ R.frames ∧ 8 + (5 + 11) + rmM_colours.locals ≤ R.locals) (hf : cells ≤ R.cells ∧ slots ≤ R.slots) (hdg : decode cc pc = .ok (.invokevirtual 497, 3))
    (kk : ∀ (H1 : Heap) (locs1 : List Loc), MRep G σ H1 → va_S (MA G) H0 H1 locs1 → W p l e R s m args below meth c H1 locs1 cells slots Q (F0 m (pc + 3) ls (.int x :: rest))) : W p l e R s m args below meth c H locs cells slots Q (F0 m pc ls (.int a1 :: .int a0 :: .ref (gM G) :: rest)) :=
  M_inv hC hP hS [.int a0, .int a1] (m_colours l G a0 a1 σ _ hF) (cwV 2 hC.2.2.2.2.1 (lw_V q1944 q1946 qs77 q145 q1947) rfl rfl rfl (by decide +kernel) hR) rfl rfl hl hW hf hdg kk
/-! lookAt -/
abbrev rmM_lookAt : Room := { frames := 1, cells := 0, slots := 0, locals := 24 }
def F_lookAt_L91 : Nat → Int32 → Int32 → Int32 → Int32 → MS → Option MS
  | 0, _, _, _, _, _ => none
  | fu + 1, x1, x2, x3, x4, σ =>
    gd (inb x2 104) <|
    if (mA σ 26 (Int32.toNatClampNeg x2)) ≤ x4 then
      some σ
    else
      gd (inb (((8 : Int32) * x2) + x4) 832) <|
      lt ((mA σ 27 (Int32.toNatClampNeg (((8 : Int32) * x2) + x4)))) fun x5_4 =>
      gd (inb (x1 + (1 : Int32)) 16) <|
      gd (inb (x1 + (1 : Int32)) 16) <|
      lt (wA σ 48 (Int32.toNatClampNeg (x1 + (1 : Int32))) (((mA σ 48 (Int32.toNatClampNeg (x1 + (1 : Int32)))) &&& (((3 : Int32) <<< (((2 : Int32) * x5_4) &&& 31)) ^^^ (-1 : Int32))) ||| ((((x3 >>> (x4 &&& 31)) &&& (1 : Int32)) + (1 : Int32)) <<< (((2 : Int32) * x5_4) &&& 31)))) fun σ_7 =>
      lt (x4 + (1 : Int32)) fun x4_8 =>
      F_lookAt_L91 fu x1 x2 x3 x4_8 σ_7
set_option maxHeartbeats 4000000 in
theorem w_lookAt_L91 {p : Program} {l : Launch} {e : Env} {s : State} {m : MethodId} {args : Array Value} {below : List Frame} {meth : Method} {c : Code} {G : MG} (hC : MCx G cX10_lookAt 6 p s m args meth c) (hr : meth.sig.returnType = none) {x : MS} :
    ∀ (fu : Nat) (x1 : Int32) (x2 : Int32) (x3 : Int32) (x4 : Int32) (σ : MS), F_lookAt_L91 fu x1 x2 x3 x4 σ = some x → MJ p l e rmM_lookAt s m args below meth c G 6 none x 91 [(0, .ref (gM G)), (1, .int x1), (2, .int x2), (3, .int x3), (4, .int x4)] [] σ := by
  have hx := hC.1
  have hb := hC.2.1
  intro fu
  induction fu with
  | zero => intro x1 x2 x3 x4 σ hF; exact nm_none hF
  | succ fu ih =>
    intro x1 x2 x3 x4 σ hF H locs ls hP hS hl
    rw [F_lookAt_L91] at hF
    refine lv_iload hx hb dX10_lookAt_91 (lv_at hl 4 rfl) ?_
    refine lv_aload_n hx hb dX10_lookAt_93 rfl (lv_at hl 0 rfl) ?_
    refine gM26 hC hP dX10_lookAt_94 ?_
    refine lv_iload_n hx hb dX10_lookAt_97 rfl (lv_at hl 2 rfl) ?_
    obtain ⟨h_1, hF⟩ := gd_ok hF
    refine M_iald hC hP 26 (by decide) rfl rfl rfl h_1 dX10_lookAt_98 ?_
    refine lv_icmp_ge (tgt := 161) hx hb dX10_lookAt_99 (by decide) (fun c_2 => ?_) (fun c_2 => ?_)
    · replace hF := it_t hF c_2
      exact M_retv hC hP hS hr (Option.some.inj hF) dX10_lookAt_161
    · replace hF := it_f hF c_2
      refine lv_aload_n hx hb dX10_lookAt_102 rfl (lv_at hl 0 rfl) ?_
      refine gM27 hC hP dX10_lookAt_103 ?_
      refine lv_bipush (v := 8) hx hb dX10_lookAt_106 (by decide) ?_
      refine lv_iload_n hx hb dX10_lookAt_108 rfl (lv_at hl 2 rfl) ?_
      refine lv_imul hx hb dX10_lookAt_109 ?_
      refine lv_iload hx hb dX10_lookAt_110 (lv_at hl 4 rfl) ?_
      refine lv_iadd hx hb dX10_lookAt_112 ?_
      obtain ⟨h_3, hF⟩ := gd_ok hF
      refine M_iald hC hP 27 (by decide) rfl rfl rfl h_3 dX10_lookAt_113 ?_
      refine lv_topi (fun x5_4 ex5_4 => ?_)
      replace hF := lt_at hF ex5_4
      refine lv_istore (lv' := [(5, .int x5_4), (0, .ref (gM G)), (1, .int x1), (2, .int x2), (3, .int x3), (4, .int x4)]) hx hb dX10_lookAt_114 hl (by decide) rfl (fun ls hl => ?_)
      refine lv_aload_n hx hb dX10_lookAt_116 rfl (lv_at hl 1 rfl) ?_
      refine gM48 hC hP dX10_lookAt_117 ?_
      refine lv_iload_n hx hb dX10_lookAt_120 rfl (lv_at hl 2 rfl) ?_
      refine lv_iconst (v := 1) hx hb dX10_lookAt_121 (by decide) ?_
      refine lv_iadd hx hb dX10_lookAt_122 ?_
      refine lv_aload_n hx hb dX10_lookAt_123 rfl (lv_at hl 1 rfl) ?_
      refine gM48 hC hP dX10_lookAt_124 ?_
      refine lv_iload_n hx hb dX10_lookAt_127 rfl (lv_at hl 2 rfl) ?_
      refine lv_iconst (v := 1) hx hb dX10_lookAt_128 (by decide) ?_
      refine lv_iadd hx hb dX10_lookAt_129 ?_
      obtain ⟨h_5, hF⟩ := gd_ok hF
      refine M_iald hC hP 48 (by decide) rfl rfl rfl h_5 dX10_lookAt_130 ?_
      refine lv_iconst (v := 3) hx hb dX10_lookAt_131 (by decide) ?_
      refine lv_iconst (v := 2) hx hb dX10_lookAt_132 (by decide) ?_
      refine lv_iload hx hb dX10_lookAt_133 (lv_at hl 0 rfl) ?_
      refine lv_imul hx hb dX10_lookAt_135 ?_
      refine lv_ishl hx hb dX10_lookAt_136 ?_
      refine lv_iconst (v := -1) hx hb dX10_lookAt_137 (by decide) ?_
      refine lv_ixor hx hb dX10_lookAt_138 ?_
      refine lv_iand hx hb dX10_lookAt_139 ?_
      refine lv_iload_n hx hb dX10_lookAt_140 rfl (lv_at hl 4 rfl) ?_
      refine lv_iload hx hb dX10_lookAt_141 (lv_at hl 5 rfl) ?_
      refine lv_ishr hx hb dX10_lookAt_143 ?_
      refine lv_iconst (v := 1) hx hb dX10_lookAt_144 (by decide) ?_
      refine lv_iand hx hb dX10_lookAt_145 ?_
      refine lv_iconst (v := 1) hx hb dX10_lookAt_146 (by decide) ?_
      refine lv_iadd hx hb dX10_lookAt_147 ?_
      refine lv_iconst (v := 2) hx hb dX10_lookAt_148 (by decide) ?_
      refine lv_iload hx hb dX10_lookAt_149 (lv_at hl 0 rfl) ?_
      refine lv_imul hx hb dX10_lookAt_151 ?_
      refine lv_ishl hx hb dX10_lookAt_152 ?_
      refine lv_ior hx hb dX10_lookAt_153 ?_
      obtain ⟨h_6, hF⟩ := gd_ok hF
      refine M_iast hC hP hS 48 (by decide) rfl rfl rfl h_6 dX10_lookAt_154 (fun H locs hP hS => ?_)
      obtain ⟨σ_7, eσ_7, hF⟩ := lt_ok hF
      rw [← eσ_7] at hP
      obtain ⟨x4_8, ex4_8, hF⟩ := lt_ok hF
      refine lv_iinc (v := x4_8) (lv' := [(4, .int x4_8), (5, .int x5_4), (0, .ref (gM G)), (1, .int x1), (2, .int x2), (3, .int x3)]) hx hb dX10_lookAt_155 hl (k := 5) rfl (by rw [ex4_8]; rfl) (by decide) rfl (fun ls hl => ?_)
      refine lv_goto (tgt := 91) hx hb dX10_lookAt_158 (by decide) ?_
      exact ih x1 x2 x3 x4_8 σ_7 hF H locs ls hP hS (lv_sub hl [2, 3, 4, 5, 0] rfl)
def F_lookAt_b88 (x1 : Int32) (x2 : Int32) (x3 : Int32) (σ : MS) : Option MS :=
  F_lookAt_L91 MN x1 x2 x3 (0 : Int32) σ
set_option maxHeartbeats 4000000 in
theorem w_lookAt_b88 {p : Program} {l : Launch} {e : Env} {s : State} {m : MethodId} {args : Array Value} {below : List Frame} {meth : Method} {c : Code} {G : MG} (hC : MCx G cX10_lookAt 6 p s m args meth c) (hr : meth.sig.returnType = none) {x : MS} :
    ∀ (x1 : Int32) (x2 : Int32) (x3 : Int32) (σ : MS), F_lookAt_b88 x1 x2 x3 σ = some x → MJ p l e rmM_lookAt s m args below meth c G 6 none x 88 [(0, .ref (gM G)), (1, .int x1), (2, .int x2), (3, .int x3)] [] σ := by
  have hx := hC.1
  have hb := hC.2.1
  intro x1 x2 x3 σ hF H locs ls hP hS hl
  rw [F_lookAt_b88] at hF
  refine lv_iconst (v := 0) hx hb dX10_lookAt_88 (by decide) ?_
  refine lv_istore (lv' := [(4, .int (0 : Int32)), (0, .ref (gM G)), (1, .int x1), (2, .int x2), (3, .int x3)]) hx hb dX10_lookAt_89 hl (by decide) rfl (fun ls hl => ?_)
  exact w_lookAt_L91 hC hr MN x1 x2 x3 (0 : Int32) σ hF H locs ls hP hS (lv_sub hl [1, 2, 3, 4, 0] rfl)
def F_lookAt_b82 (k3 : Int32 → Int32 → Int32 → Int32 → MS → Option MS) (x1 : Int32) (x2 : Int32) (x3 : Int32) (x4 : Int32) (σ : MS) : Option MS :=
  lt (x4 + (1 : Int32)) fun x4_1 =>
  k3 x1 x2 x3 x4_1 σ
set_option maxHeartbeats 4000000 in
theorem w_lookAt_b82 {p : Program} {l : Launch} {e : Env} {s : State} {m : MethodId} {args : Array Value} {below : List Frame} {meth : Method} {c : Code} {G : MG} (hC : MCx G cX10_lookAt 6 p s m args meth c) (hr : meth.sig.returnType = none) {x : MS} (k3 : Int32 → Int32 → Int32 → Int32 → MS → Option MS) (hk3 : ∀ (x1 : Int32) (x2 : Int32) (x3 : Int32) (x4 : Int32) (σ : MS), k3 x1 x2 x3 x4 σ = some x → MJ p l e rmM_lookAt s m args below meth c G 6 none x 3 [(0, .ref (gM G)), (1, .int x1), (2, .int x2), (3, .int x3), (4, .int x4)] [] σ) :
    ∀ (x1 : Int32) (x2 : Int32) (x3 : Int32) (x4 : Int32) (σ : MS), F_lookAt_b82 k3 x1 x2 x3 x4 σ = some x → MJ p l e rmM_lookAt s m args below meth c G 6 none x 82 [(0, .ref (gM G)), (1, .int x1), (2, .int x2), (3, .int x3), (4, .int x4)] [] σ := by
  have hx := hC.1
  have hb := hC.2.1
  intro x1 x2 x3 x4 σ hF H locs ls hP hS hl
  rw [F_lookAt_b82] at hF
  obtain ⟨x4_1, ex4_1, hF⟩ := lt_ok hF
  refine lv_iinc (v := x4_1) (lv' := [(4, .int x4_1), (0, .ref (gM G)), (1, .int x1), (2, .int x2), (3, .int x3)]) hx hb dX10_lookAt_82 hl (k := 4) rfl (by rw [ex4_1]; rfl) (by decide) rfl (fun ls hl => ?_)
  refine lv_goto (tgt := 3) hx hb dX10_lookAt_85 (by decide) ?_
  exact hk3 x1 x2 x3 x4_1 σ hF H locs ls hP hS (lv_sub hl [1, 2, 3, 4, 0] rfl)
def F_lookAt_b76 (k15 : Int32 → Int32 → Int32 → Int32 → Int32 → MS → Option MS) (x1 : Int32) (x2 : Int32) (x3 : Int32) (x4 : Int32) (x5 : Int32) (σ : MS) : Option MS :=
  lt (x5 + (1 : Int32)) fun x5_1 =>
  k15 x1 x2 x3 x4 x5_1 σ
set_option maxHeartbeats 4000000 in
theorem w_lookAt_b76 {p : Program} {l : Launch} {e : Env} {s : State} {m : MethodId} {args : Array Value} {below : List Frame} {meth : Method} {c : Code} {G : MG} (hC : MCx G cX10_lookAt 6 p s m args meth c) (hr : meth.sig.returnType = none) {x : MS} (k15 : Int32 → Int32 → Int32 → Int32 → Int32 → MS → Option MS) (hk15 : ∀ (x1 : Int32) (x2 : Int32) (x3 : Int32) (x4 : Int32) (x5 : Int32) (σ : MS), k15 x1 x2 x3 x4 x5 σ = some x → MJ p l e rmM_lookAt s m args below meth c G 6 none x 15 [(0, .ref (gM G)), (1, .int x1), (2, .int x2), (3, .int x3), (4, .int x4), (5, .int x5)] [] σ) :
    ∀ (x1 : Int32) (x2 : Int32) (x3 : Int32) (x4 : Int32) (x5 : Int32) (σ : MS), F_lookAt_b76 k15 x1 x2 x3 x4 x5 σ = some x → MJ p l e rmM_lookAt s m args below meth c G 6 none x 76 [(0, .ref (gM G)), (1, .int x1), (2, .int x2), (3, .int x3), (4, .int x4), (5, .int x5)] [] σ := by
  have hx := hC.1
  have hb := hC.2.1
  intro x1 x2 x3 x4 x5 σ hF H locs ls hP hS hl
  rw [F_lookAt_b76] at hF
  obtain ⟨x5_1, ex5_1, hF⟩ := lt_ok hF
  refine lv_iinc (v := x5_1) (lv' := [(5, .int x5_1), (0, .ref (gM G)), (1, .int x1), (2, .int x2), (3, .int x3), (4, .int x4)]) hx hb dX10_lookAt_76 hl (k := 5) rfl (by rw [ex5_1]; rfl) (by decide) rfl (fun ls hl => ?_)
  refine lv_goto (tgt := 15) hx hb dX10_lookAt_79 (by decide) ?_
  exact hk15 x1 x2 x3 x4 x5_1 σ hF H locs ls hP hS (lv_sub hl [1, 2, 3, 4, 5, 0] rfl)
def F_lookAt_L15 (k3 : Int32 → Int32 → Int32 → Int32 → MS → Option MS) : Nat → Int32 → Int32 → Int32 → Int32 → Int32 → MS → Option MS
  | 0, _, _, _, _, _, _ => none
  | fu + 1, x1, x2, x3, x4, x5, σ =>
    if (256 : Int32) ≤ x5 then
      F_lookAt_b82 k3 x1 x2 x3 x4 σ
    else
      bd (F_colours σ x2 x5) fun r_3 =>
      if r_3 = x3 then
        gd (inb ((((2048 : Int32) * x1) + ((256 : Int32) * x4)) + x5) 36864) <|
        gd (inb ((((2048 : Int32) * (x1 + (1 : Int32))) + ((256 : Int32) * x4)) + x5) 36864) <|
        lt (wL σ 43 (Int32.toNatClampNeg ((((2048 : Int32) * (x1 + (1 : Int32))) + ((256 : Int32) * x4)) + x5)) (mL σ 43 (Int32.toNatClampNeg ((((2048 : Int32) * x1) + ((256 : Int32) * x4)) + x5)))) fun σ_7 =>
        F_lookAt_b76 (F_lookAt_L15 k3 fu) x1 x2 x3 x4 x5 σ_7
      else
        F_lookAt_b76 (F_lookAt_L15 k3 fu) x1 x2 x3 x4 x5 σ
set_option maxHeartbeats 4000000 in
theorem w_lookAt_L15 {p : Program} {l : Launch} {e : Env} {s : State} {m : MethodId} {args : Array Value} {below : List Frame} {meth : Method} {c : Code} {G : MG} (hC : MCx G cX10_lookAt 6 p s m args meth c) (hr : meth.sig.returnType = none) {x : MS} (k3 : Int32 → Int32 → Int32 → Int32 → MS → Option MS) (hk3 : ∀ (x1 : Int32) (x2 : Int32) (x3 : Int32) (x4 : Int32) (σ : MS), k3 x1 x2 x3 x4 σ = some x → MJ p l e rmM_lookAt s m args below meth c G 6 none x 3 [(0, .ref (gM G)), (1, .int x1), (2, .int x2), (3, .int x3), (4, .int x4)] [] σ) :
    ∀ (fu : Nat) (x1 : Int32) (x2 : Int32) (x3 : Int32) (x4 : Int32) (x5 : Int32) (σ : MS), F_lookAt_L15 k3 fu x1 x2 x3 x4 x5 σ = some x → MJ p l e rmM_lookAt s m args below meth c G 6 none x 15 [(0, .ref (gM G)), (1, .int x1), (2, .int x2), (3, .int x3), (4, .int x4), (5, .int x5)] [] σ := by
  have hx := hC.1
  have hb := hC.2.1
  intro fu
  induction fu with
  | zero => intro x1 x2 x3 x4 x5 σ hF; exact nm_none hF
  | succ fu ih =>
    intro x1 x2 x3 x4 x5 σ hF H locs ls hP hS hl
    rw [F_lookAt_L15] at hF
    refine lv_iload hx hb dX10_lookAt_15 (lv_at hl 5 rfl) ?_
    refine lv_sipush (v := 256) hx hb dX10_lookAt_17 (by decide) ?_
    refine lv_icmp_ge (tgt := 82) hx hb dX10_lookAt_20 (by decide) (fun c_1 => ?_) (fun c_1 => ?_)
    · replace hF := it_t hF c_1
      exact w_lookAt_b82 hC hr k3 hk3 x1 x2 x3 x4 σ hF H locs ls hP hS (lv_sub hl [0, 1, 2, 3, 4] rfl)
    · replace hF := it_f hF c_1
      refine lv_aload_n hx hb dX10_lookAt_23 rfl (lv_at hl 0 rfl) ?_
      refine lv_iload_n hx hb dX10_lookAt_24 rfl (lv_at hl 2 rfl) ?_
      refine lv_iload hx hb dX10_lookAt_25 (lv_at hl 5 rfl) ?_
      obtain ⟨r_3, hc_2, hF⟩ := bd_ok hF
      refine iM_colours hC hP hS hc_2 hl.1 (Nat.le_of_ble_eq_true rfl) ⟨Nat.le_of_ble_eq_true rfl, Nat.le_of_ble_eq_true rfl⟩ ⟨Nat.zero_le _, Nat.zero_le _⟩ dX10_lookAt_27 (fun H locs hP hS => ?_)
      refine lv_iload_n hx hb dX10_lookAt_30 rfl (lv_at hl 3 rfl) ?_
      refine lv_icmp_ne (tgt := 76) hx hb dX10_lookAt_31 (by decide) (fun c_4 => ?_) (fun c_4 => ?_)
      · replace hF := it_f hF c_4
        exact w_lookAt_b76 hC hr (F_lookAt_L15 k3 fu) ih x1 x2 x3 x4 x5 σ hF H locs ls hP hS (lv_sub hl [0, 1, 2, 3, 4, 5] rfl)
      · replace hF := it_t hF c_4
        refine lv_aload_n hx hb dX10_lookAt_34 rfl (lv_at hl 0 rfl) ?_
        refine gM43 hC hP dX10_lookAt_35 ?_
        refine lv_sipush (v := 2048) hx hb dX10_lookAt_38 (by decide) ?_
        refine lv_iload_n hx hb dX10_lookAt_41 rfl (lv_at hl 1 rfl) ?_
        refine lv_iconst (v := 1) hx hb dX10_lookAt_42 (by decide) ?_
        refine lv_iadd hx hb dX10_lookAt_43 ?_
        refine lv_imul hx hb dX10_lookAt_44 ?_
        refine lv_sipush (v := 256) hx hb dX10_lookAt_45 (by decide) ?_
        refine lv_iload hx hb dX10_lookAt_48 (lv_at hl 4 rfl) ?_
        refine lv_imul hx hb dX10_lookAt_50 ?_
        refine lv_iadd hx hb dX10_lookAt_51 ?_
        refine lv_iload hx hb dX10_lookAt_52 (lv_at hl 5 rfl) ?_
        refine lv_iadd hx hb dX10_lookAt_54 ?_
        refine lv_aload_n hx hb dX10_lookAt_55 rfl (lv_at hl 0 rfl) ?_
        refine gM43 hC hP dX10_lookAt_56 ?_
        refine lv_sipush (v := 2048) hx hb dX10_lookAt_59 (by decide) ?_
        refine lv_iload_n hx hb dX10_lookAt_62 rfl (lv_at hl 1 rfl) ?_
        refine lv_imul hx hb dX10_lookAt_63 ?_
        refine lv_sipush (v := 256) hx hb dX10_lookAt_64 (by decide) ?_
        refine lv_iload hx hb dX10_lookAt_67 (lv_at hl 4 rfl) ?_
        refine lv_imul hx hb dX10_lookAt_69 ?_
        refine lv_iadd hx hb dX10_lookAt_70 ?_
        refine lv_iload hx hb dX10_lookAt_71 (lv_at hl 5 rfl) ?_
        refine lv_iadd hx hb dX10_lookAt_73 ?_
        obtain ⟨h_5, hF⟩ := gd_ok hF
        refine M_lald hC hP 43 (by decide) rfl rfl rfl h_5 dX10_lookAt_74 ?_
        obtain ⟨h_6, hF⟩ := gd_ok hF
        refine M_last hC hP hS 43 (by decide) rfl rfl rfl h_6 dX10_lookAt_75 (fun H locs hP hS => ?_)
        obtain ⟨σ_7, eσ_7, hF⟩ := lt_ok hF
        rw [← eσ_7] at hP
        exact w_lookAt_b76 hC hr (F_lookAt_L15 k3 fu) ih x1 x2 x3 x4 x5 σ_7 hF H locs ls hP hS (lv_sub hl [0, 1, 2, 3, 4, 5] rfl)
def F_lookAt_L3 : Nat → Int32 → Int32 → Int32 → Int32 → MS → Option MS
  | 0, _, _, _, _, _ => none
  | fu + 1, x1, x2, x3, x4, σ =>
    bd (F_inputs σ) fun r_2 =>
    if r_2 ≤ x4 then
      F_lookAt_b88 x1 x2 x3 σ
    else
      F_lookAt_L15 (F_lookAt_L3 fu) MN x1 x2 x3 x4 (0 : Int32) σ
set_option maxHeartbeats 4000000 in
theorem w_lookAt_L3 {p : Program} {l : Launch} {e : Env} {s : State} {m : MethodId} {args : Array Value} {below : List Frame} {meth : Method} {c : Code} {G : MG} (hC : MCx G cX10_lookAt 6 p s m args meth c) (hr : meth.sig.returnType = none) {x : MS} :
    ∀ (fu : Nat) (x1 : Int32) (x2 : Int32) (x3 : Int32) (x4 : Int32) (σ : MS), F_lookAt_L3 fu x1 x2 x3 x4 σ = some x → MJ p l e rmM_lookAt s m args below meth c G 6 none x 3 [(0, .ref (gM G)), (1, .int x1), (2, .int x2), (3, .int x3), (4, .int x4)] [] σ := by
  have hx := hC.1
  have hb := hC.2.1
  intro fu
  induction fu with
  | zero => intro x1 x2 x3 x4 σ hF; exact nm_none hF
  | succ fu ih =>
    intro x1 x2 x3 x4 σ hF H locs ls hP hS hl
    rw [F_lookAt_L3] at hF
    refine lv_iload hx hb dX10_lookAt_3 (lv_at hl 4 rfl) ?_
    refine lv_aload_n hx hb dX10_lookAt_5 rfl (lv_at hl 0 rfl) ?_
    obtain ⟨r_2, hc_1, hF⟩ := bd_ok hF
    refine iM_inputs hC hP hS hc_1 hl.1 (Nat.le_of_ble_eq_true rfl) ⟨Nat.le_of_ble_eq_true rfl, Nat.le_of_ble_eq_true rfl⟩ ⟨Nat.zero_le _, Nat.zero_le _⟩ dX10_lookAt_6 (fun H locs hP hS => ?_)
    refine lv_icmp_ge (tgt := 88) hx hb dX10_lookAt_9 (by decide) (fun c_3 => ?_) (fun c_3 => ?_)
    · replace hF := it_t hF c_3
      exact w_lookAt_b88 hC hr x1 x2 x3 σ hF H locs ls hP hS (lv_sub hl [0, 1, 2, 3] rfl)
    · replace hF := it_f hF c_3
      refine lv_iconst (v := 0) hx hb dX10_lookAt_12 (by decide) ?_
      refine lv_istore (lv' := [(5, .int (0 : Int32)), (0, .ref (gM G)), (1, .int x1), (2, .int x2), (3, .int x3), (4, .int x4)]) hx hb dX10_lookAt_13 hl (by decide) rfl (fun ls hl => ?_)
      exact w_lookAt_L15 hC hr (F_lookAt_L3 fu) ih MN x1 x2 x3 x4 (0 : Int32) σ hF H locs ls hP hS (lv_sub hl [1, 2, 3, 4, 5, 0] rfl)
def F_lookAt (a0 : Int32) (a1 : Int32) (a2 : Int32) (σ : MS) : Option MS :=
  F_lookAt_L3 MN a0 a1 a2 (0 : Int32) σ
set_option maxHeartbeats 4000000 in
theorem w_lookAt {p : Program} {l : Launch} {e : Env} {s : State} {m : MethodId} {args : Array Value} {below : List Frame} {meth : Method} {c : Code} {G : MG} (hC : MCx G cX10_lookAt 6 p s m args meth c) (hr : meth.sig.returnType = none) {x : MS} :
    ∀ (a0 : Int32) (a1 : Int32) (a2 : Int32) (σ : MS), F_lookAt a0 a1 a2 σ = some x → MJ p l e rmM_lookAt s m args below meth c G 6 none x 0 [(0, .ref (gM G)), (1, .int a0), (2, .int a1), (3, .int a2)] [] σ := by
  have hx := hC.1
  have hb := hC.2.1
  intro a0 a1 a2 σ hF H locs ls hP hS hl
  rw [F_lookAt] at hF
  refine lv_iconst (v := 0) hx hb dX10_lookAt_0 (by decide) ?_
  refine lv_istore (lv' := [(4, .int (0 : Int32)), (0, .ref (gM G)), (1, .int a0), (2, .int a1), (3, .int a2)]) hx hb dX10_lookAt_1 hl (by decide) rfl (fun ls hl => ?_)
  exact w_lookAt_L3 hC hr MN a0 a1 a2 (0 : Int32) σ hF H locs ls hP hS (lv_sub hl [1, 2, 3, 4, 0] rfl)
theorem m_lookAt (l : Launch) (G : MG) (a0 : Int32) (a1 : Int32) (a2 : Int32) (σ : MS) (x : MS) (hF : F_lookAt a0 a1 a2 σ = some x) : Met l yX10_lookAt (ws_ yX10_lookAt cX10_lookAt 6 none) rmM_lookAt (mP G [.ref (gM G), .int a0, .int a1, .int a2] σ) (mQ G none x) 0 0 (MA G) := by
  refine M_met rfl plM (Nat.le_of_ble_eq_true rfl) ?_
  intro p e s m below meth c hC hr ls hl hP
  exact w_lookAt hC hr a0 a1 a2 σ hF s.heap [] ls hP va_S.rf hl
theorem iM_lookAt {p : Program} {l : Launch} {e : Env} {R : Room} {s : State} {m : MethodId} {args : Array Value} {below : List Frame} {meth : Method} {c : Code} {H H0 : Heap} {locs : List Loc} {cells slots nL : Nat} {Q : State → Prop} {G : MG} {σ : MS} {cc : ByteArray} {pc : Nat} {ls : Array Slot} {rest : List Value} (hC : MCx G cc nL p s m args meth c) (hP : MRep G σ H) (hS : va_S (MA G) H0 H locs) {a0 : Int32} {a1 : Int32} {a2 : Int32} {x : MS} (hF : F_lookAt a0 a1 a2 σ = some x) (hl : ls.size = nL) (hW : (rest.map fun v => v.category).sum ≤ 8) (hR : rmM_lookAt.frames + 1 ≤ R.frames ∧ 8 + (6 + 11) + rmM_lookAt.locals ≤ R.locals) (hf : cells ≤ R.cells ∧ slots ≤ R.slots) (hdg : decode cc pc = .ok (.invokevirtual 491, 3))
    (kk : ∀ (H1 : Heap) (locs1 : List Loc), MRep G x H1 → va_S (MA G) H0 H1 locs1 → W p l e R s m args below meth c H1 locs1 cells slots Q (F0 m (pc + 3) ls (rest))) : W p l e R s m args below meth c H locs cells slots Q (F0 m pc ls (.int a2 :: .int a1 :: .int a0 :: .ref (gM G) :: rest)) :=
  M_inv hC hP hS [.int a0, .int a1, .int a2] (m_lookAt l G a0 a1 a2 σ _ hF) (cwV 3 hC.2.2.2.2.1 (lw_V q1940 q1942 qs76 q145 q1943) rfl rfl rfl (by decide +kernel) hR) rfl rfl hl hW hf hdg kk
/-! descend -/
abbrev rmM_descend : Room := { frames := 2, cells := 0, slots := 0, locals := 54 }
def F_descend_b211 (x4 : Int32) (σ : MS) : Option (Int32 × MS) :=
  bd (F_isAny σ x4) fun r_2 =>
  gd (r_2 = 0 ∨ r_2 = 1) <|
  some (r_2, σ)
set_option maxHeartbeats 4000000 in
theorem w_descend_b211 {p : Program} {l : Launch} {e : Env} {s : State} {m : MethodId} {args : Array Value} {below : List Frame} {meth : Method} {c : Code} {G : MG} (hC : MCx G cX10_descend 6 p s m args meth c) (hr : meth.sig.returnType = some .boolean) {x : (Int32 × MS)} :
    ∀ (x4 : Int32) (σ : MS), F_descend_b211 x4 σ = some x → MJ p l e rmM_descend s m args below meth c G 6 (some (.int x.1)) x.2 211 [(0, .ref (gM G)), (4, .int x4)] [] σ := by
  have hx := hC.1
  have hb := hC.2.1
  intro x4 σ hF H locs ls hP hS hl
  rw [F_descend_b211] at hF
  refine lv_aload_n hx hb dX10_descend_211 rfl (lv_at hl 0 rfl) ?_
  refine lv_iload hx hb dX10_descend_212 (lv_at hl 1 rfl) ?_
  obtain ⟨r_2, hc_1, hF⟩ := bd_ok hF
  refine iM_isAny hC hP hS hc_1 hl.1 (Nat.le_of_ble_eq_true rfl) ⟨Nat.le_of_ble_eq_true rfl, Nat.le_of_ble_eq_true rfl⟩ ⟨Nat.zero_le _, Nat.zero_le _⟩ dX10_descend_214 (fun H locs hP hS => ?_)
  obtain ⟨h_3, hF⟩ := gd_ok hF
  exact M_retz hC hP hS hr h_3 (rt1 hF) (rt2 hF) dX10_descend_217
def F_descend_b205 (k131 : Int32 → Int32 → Int32 → Int32 → Int32 → MS → Option (Int32 × MS)) (x1 : Int32) (x2 : Int32) (x3 : Int32) (x4 : Int32) (x5 : Int32) (σ : MS) : Option (Int32 × MS) :=
  lt (x5 + (1 : Int32)) fun x5_1 =>
  k131 x1 x2 x3 x4 x5_1 σ
set_option maxHeartbeats 4000000 in
theorem w_descend_b205 {p : Program} {l : Launch} {e : Env} {s : State} {m : MethodId} {args : Array Value} {below : List Frame} {meth : Method} {c : Code} {G : MG} (hC : MCx G cX10_descend 6 p s m args meth c) (hr : meth.sig.returnType = some .boolean) {x : (Int32 × MS)} (k131 : Int32 → Int32 → Int32 → Int32 → Int32 → MS → Option (Int32 × MS)) (hk131 : ∀ (x1 : Int32) (x2 : Int32) (x3 : Int32) (x4 : Int32) (x5 : Int32) (σ : MS), k131 x1 x2 x3 x4 x5 σ = some x → MJ p l e rmM_descend s m args below meth c G 6 (some (.int x.1)) x.2 131 [(0, .ref (gM G)), (1, .int x1), (2, .int x2), (3, .int x3), (4, .int x4), (5, .int x5)] [] σ) :
    ∀ (x1 : Int32) (x2 : Int32) (x3 : Int32) (x4 : Int32) (x5 : Int32) (σ : MS), F_descend_b205 k131 x1 x2 x3 x4 x5 σ = some x → MJ p l e rmM_descend s m args below meth c G 6 (some (.int x.1)) x.2 205 [(0, .ref (gM G)), (1, .int x1), (2, .int x2), (3, .int x3), (4, .int x4), (5, .int x5)] [] σ := by
  have hx := hC.1
  have hb := hC.2.1
  intro x1 x2 x3 x4 x5 σ hF H locs ls hP hS hl
  rw [F_descend_b205] at hF
  obtain ⟨x5_1, ex5_1, hF⟩ := lt_ok hF
  refine lv_iinc (v := x5_1) (lv' := [(5, .int x5_1), (0, .ref (gM G)), (1, .int x1), (2, .int x2), (3, .int x3), (4, .int x4)]) hx hb dX10_descend_205 hl (k := 5) rfl (by rw [ex5_1]; rfl) (by decide) rfl (fun ls hl => ?_)
  refine lv_goto (tgt := 131) hx hb dX10_descend_208 (by decide) ?_
  exact hk131 x1 x2 x3 x4 x5_1 σ hF H locs ls hP hS (lv_sub hl [1, 2, 3, 4, 5, 0] rfl)
def F_descend_b182 (k205 : Int32 → Int32 → Int32 → Int32 → Int32 → MS → Option (Int32 × MS)) (x1 : Int32) (x2 : Int32) (x3 : Int32) (x4 : Int32) (x5 : Int32) (σ : MS) : Option (Int32 × MS) :=
  bd (F_sendAll x1 x4 σ) fun σ_2 =>
  if (mI σ_2 51) = (1 : Int32) then
    gd (inb x4 16) <|
    lt (wA σ_2 47 (Int32.toNatClampNeg x4) x3) fun σ_5 =>
    k205 x1 x2 x3 x4 x5 σ_5
  else
    k205 x1 x2 x3 x4 x5 σ_2
set_option maxHeartbeats 4000000 in
theorem w_descend_b182 {p : Program} {l : Launch} {e : Env} {s : State} {m : MethodId} {args : Array Value} {below : List Frame} {meth : Method} {c : Code} {G : MG} (hC : MCx G cX10_descend 6 p s m args meth c) (hr : meth.sig.returnType = some .boolean) {x : (Int32 × MS)} (k205 : Int32 → Int32 → Int32 → Int32 → Int32 → MS → Option (Int32 × MS)) (hk205 : ∀ (x1 : Int32) (x2 : Int32) (x3 : Int32) (x4 : Int32) (x5 : Int32) (σ : MS), k205 x1 x2 x3 x4 x5 σ = some x → MJ p l e rmM_descend s m args below meth c G 6 (some (.int x.1)) x.2 205 [(0, .ref (gM G)), (1, .int x1), (2, .int x2), (3, .int x3), (4, .int x4), (5, .int x5)] [] σ) :
    ∀ (x1 : Int32) (x2 : Int32) (x3 : Int32) (x4 : Int32) (x5 : Int32) (σ : MS), F_descend_b182 k205 x1 x2 x3 x4 x5 σ = some x → MJ p l e rmM_descend s m args below meth c G 6 (some (.int x.1)) x.2 182 [(0, .ref (gM G)), (1, .int x1), (2, .int x2), (3, .int x3), (4, .int x4), (5, .int x5)] [] σ := by
  have hx := hC.1
  have hb := hC.2.1
  intro x1 x2 x3 x4 x5 σ hF H locs ls hP hS hl
  rw [F_descend_b182] at hF
  refine lv_aload_n hx hb dX10_descend_182 rfl (lv_at hl 0 rfl) ?_
  refine lv_iload_n hx hb dX10_descend_183 rfl (lv_at hl 1 rfl) ?_
  refine lv_iload hx hb dX10_descend_184 (lv_at hl 4 rfl) ?_
  obtain ⟨σ_2, hc_1, hF⟩ := bd_ok hF
  refine iM_sendAll hC hP hS hc_1 hl.1 (Nat.le_of_ble_eq_true rfl) ⟨Nat.le_of_ble_eq_true rfl, Nat.le_of_ble_eq_true rfl⟩ ⟨Nat.zero_le _, Nat.zero_le _⟩ dX10_descend_186 (fun H locs hP hS => ?_)
  refine lv_aload_n hx hb dX10_descend_189 rfl (lv_at hl 0 rfl) ?_
  refine gM51 hC hP dX10_descend_190 ?_
  refine lv_iconst (v := 1) hx hb dX10_descend_193 (by decide) ?_
  refine lv_icmp_ne (tgt := 205) hx hb dX10_descend_194 (by decide) (fun c_3 => ?_) (fun c_3 => ?_)
  · replace hF := it_f hF c_3
    exact hk205 x1 x2 x3 x4 x5 σ_2 hF H locs ls hP hS (lv_sub hl [0, 1, 2, 3, 4, 5] rfl)
  · replace hF := it_t hF c_3
    refine lv_aload_n hx hb dX10_descend_197 rfl (lv_at hl 0 rfl) ?_
    refine gM47 hC hP dX10_descend_198 ?_
    refine lv_iload hx hb dX10_descend_201 (lv_at hl 4 rfl) ?_
    refine lv_iload_n hx hb dX10_descend_203 rfl (lv_at hl 3 rfl) ?_
    obtain ⟨h_4, hF⟩ := gd_ok hF
    refine M_iast hC hP hS 47 (by decide) rfl rfl rfl h_4 dX10_descend_204 (fun H locs hP hS => ?_)
    obtain ⟨σ_5, eσ_5, hF⟩ := lt_ok hF
    rw [← eσ_5] at hP
    exact hk205 x1 x2 x3 x4 x5 σ_5 hF H locs ls hP hS (lv_sub hl [0, 1, 2, 3, 4, 5] rfl)
def F_descend_L131 (k211 : Int32 → MS → Option (Int32 × MS)) : Nat → Int32 → Int32 → Int32 → Int32 → Int32 → MS → Option (Int32 × MS)
  | 0, _, _, _, _, _, _ => none
  | fu + 1, x1, x2, x3, x4, x5, σ =>
    bd (F_ways σ x2) fun r_2 =>
    if r_2 ≤ x5 then
      k211 x4 σ
    else
      bd (F_layMove x2 x5 σ) fun σ_5 =>
      if (mI σ_5 51) = (2 : Int32) then
        if x5 = x3 then
          F_descend_b182 (F_descend_b205 (F_descend_L131 k211 fu)) x1 x2 x3 x4 x5 σ_5
        else
          F_descend_b205 (F_descend_L131 k211 fu) x1 x2 x3 x4 x5 σ_5
      else
        gd (inb x1 16) <|
        bd (F_movedPlace σ_5 (mA σ_5 47 (Int32.toNatClampNeg x1))) fun r_9 =>
        if r_9 = x3 then
          F_descend_b182 (F_descend_b205 (F_descend_L131 k211 fu)) x1 x2 x3 x4 x5 σ_5
        else
          F_descend_b205 (F_descend_L131 k211 fu) x1 x2 x3 x4 x5 σ_5
set_option maxHeartbeats 4000000 in
theorem w_descend_L131 {p : Program} {l : Launch} {e : Env} {s : State} {m : MethodId} {args : Array Value} {below : List Frame} {meth : Method} {c : Code} {G : MG} (hC : MCx G cX10_descend 6 p s m args meth c) (hr : meth.sig.returnType = some .boolean) {x : (Int32 × MS)} (k211 : Int32 → MS → Option (Int32 × MS)) (hk211 : ∀ (x4 : Int32) (σ : MS), k211 x4 σ = some x → MJ p l e rmM_descend s m args below meth c G 6 (some (.int x.1)) x.2 211 [(0, .ref (gM G)), (4, .int x4)] [] σ) :
    ∀ (fu : Nat) (x1 : Int32) (x2 : Int32) (x3 : Int32) (x4 : Int32) (x5 : Int32) (σ : MS), F_descend_L131 k211 fu x1 x2 x3 x4 x5 σ = some x → MJ p l e rmM_descend s m args below meth c G 6 (some (.int x.1)) x.2 131 [(0, .ref (gM G)), (1, .int x1), (2, .int x2), (3, .int x3), (4, .int x4), (5, .int x5)] [] σ := by
  have hx := hC.1
  have hb := hC.2.1
  intro fu
  induction fu with
  | zero => intro x1 x2 x3 x4 x5 σ hF; exact nm_none hF
  | succ fu ih =>
    intro x1 x2 x3 x4 x5 σ hF H locs ls hP hS hl
    rw [F_descend_L131] at hF
    refine lv_iload hx hb dX10_descend_131 (lv_at hl 5 rfl) ?_
    refine lv_aload_n hx hb dX10_descend_133 rfl (lv_at hl 0 rfl) ?_
    refine lv_iload_n hx hb dX10_descend_134 rfl (lv_at hl 2 rfl) ?_
    obtain ⟨r_2, hc_1, hF⟩ := bd_ok hF
    refine iM_ways hC hP hS hc_1 hl.1 (Nat.le_of_ble_eq_true rfl) ⟨Nat.le_of_ble_eq_true rfl, Nat.le_of_ble_eq_true rfl⟩ ⟨Nat.zero_le _, Nat.zero_le _⟩ dX10_descend_135 (fun H locs hP hS => ?_)
    refine lv_icmp_ge (tgt := 211) hx hb dX10_descend_138 (by decide) (fun c_3 => ?_) (fun c_3 => ?_)
    · replace hF := it_t hF c_3
      exact hk211 x4 σ hF H locs ls hP hS (lv_sub hl [0, 4] rfl)
    · replace hF := it_f hF c_3
      refine lv_aload_n hx hb dX10_descend_141 rfl (lv_at hl 0 rfl) ?_
      refine lv_iload_n hx hb dX10_descend_142 rfl (lv_at hl 2 rfl) ?_
      refine lv_iload hx hb dX10_descend_143 (lv_at hl 5 rfl) ?_
      obtain ⟨σ_5, hc_4, hF⟩ := bd_ok hF
      refine iM_layMove hC hP hS hc_4 hl.1 (Nat.le_of_ble_eq_true rfl) ⟨Nat.le_of_ble_eq_true rfl, Nat.le_of_ble_eq_true rfl⟩ ⟨Nat.zero_le _, Nat.zero_le _⟩ dX10_descend_145 (fun H locs hP hS => ?_)
      refine lv_aload_n hx hb dX10_descend_148 rfl (lv_at hl 0 rfl) ?_
      refine gM51 hC hP dX10_descend_149 ?_
      refine lv_iconst (v := 2) hx hb dX10_descend_152 (by decide) ?_
      refine lv_icmp_ne (tgt := 165) hx hb dX10_descend_153 (by decide) (fun c_6 => ?_) (fun c_6 => ?_)
      · replace hF := it_f hF c_6
        refine lv_aload_n hx hb dX10_descend_165 rfl (lv_at hl 0 rfl) ?_
        refine lv_aload_n hx hb dX10_descend_166 rfl (lv_at hl 0 rfl) ?_
        refine gM47 hC hP dX10_descend_167 ?_
        refine lv_iload_n hx hb dX10_descend_170 rfl (lv_at hl 1 rfl) ?_
        obtain ⟨h_7, hF⟩ := gd_ok hF
        refine M_iald hC hP 47 (by decide) rfl rfl rfl h_7 dX10_descend_171 ?_
        obtain ⟨r_9, hc_8, hF⟩ := bd_ok hF
        refine iM_movedPlace hC hP hS hc_8 hl.1 (Nat.le_of_ble_eq_true rfl) ⟨Nat.le_of_ble_eq_true rfl, Nat.le_of_ble_eq_true rfl⟩ ⟨Nat.zero_le _, Nat.zero_le _⟩ dX10_descend_172 (fun H locs hP hS => ?_)
        refine lv_iload_n hx hb dX10_descend_175 rfl (lv_at hl 3 rfl) ?_
        refine lv_icmp_eq (tgt := 182) hx hb dX10_descend_176 (by decide) (fun c_10 => ?_) (fun c_10 => ?_)
        · replace hF := it_t hF c_10
          exact w_descend_b182 hC hr (F_descend_b205 (F_descend_L131 k211 fu)) (w_descend_b205 hC hr (F_descend_L131 k211 fu) ih) x1 x2 x3 x4 x5 σ_5 hF H locs ls hP hS (lv_sub hl [0, 1, 2, 3, 4, 5] rfl)
        · replace hF := it_f hF c_10
          refine lv_goto (tgt := 205) hx hb dX10_descend_179 (by decide) ?_
          exact w_descend_b205 hC hr (F_descend_L131 k211 fu) ih x1 x2 x3 x4 x5 σ_5 hF H locs ls hP hS (lv_sub hl [0, 1, 2, 3, 4, 5] rfl)
      · replace hF := it_t hF c_6
        refine lv_iload hx hb dX10_descend_156 (lv_at hl 5 rfl) ?_
        refine lv_iload_n hx hb dX10_descend_158 rfl (lv_at hl 3 rfl) ?_
        refine lv_icmp_eq (tgt := 182) hx hb dX10_descend_159 (by decide) (fun c_11 => ?_) (fun c_11 => ?_)
        · replace hF := it_t hF c_11
          exact w_descend_b182 hC hr (F_descend_b205 (F_descend_L131 k211 fu)) (w_descend_b205 hC hr (F_descend_L131 k211 fu) ih) x1 x2 x3 x4 x5 σ_5 hF H locs ls hP hS (lv_sub hl [0, 1, 2, 3, 4, 5] rfl)
        · replace hF := it_f hF c_11
          refine lv_goto (tgt := 205) hx hb dX10_descend_162 (by decide) ?_
          exact w_descend_b205 hC hr (F_descend_L131 k211 fu) ih x1 x2 x3 x4 x5 σ_5 hF H locs ls hP hS (lv_sub hl [0, 1, 2, 3, 4, 5] rfl)
def F_descend (a0 : Int32) (σ : MS) : Option (Int32 × MS) :=
  gd (inb a0 16) <|
  lt ((((52 : Int32) * (mI σ 35)) + (mA σ 45 (Int32.toNatClampNeg a0)))) fun x2_2 =>
  gd (inb a0 16) <|
  lt ((mA σ 50 (Int32.toNatClampNeg a0))) fun x3_4 =>
  lt ((a0 + (1 : Int32))) fun x4_5 =>
  bd (F_clearDist x4_5 σ) fun σ_7 =>
  gd (inb a0 16) <|
  gd (inb x4_5 16) <|
  lt (wA σ_7 45 (Int32.toNatClampNeg x4_5) ((mA σ_7 45 (Int32.toNatClampNeg a0)) + (1 : Int32))) fun σ_10 =>
  gd (inb a0 16) <|
  gd (inb x4_5 16) <|
  lt (wA σ_10 46 (Int32.toNatClampNeg x4_5) (mA σ_10 46 (Int32.toNatClampNeg a0))) fun σ_13 =>
  gd (inb a0 16) <|
  gd (inb x4_5 16) <|
  lt (wA σ_13 47 (Int32.toNatClampNeg x4_5) (mA σ_13 47 (Int32.toNatClampNeg a0))) fun σ_16 =>
  gd (inb a0 16) <|
  gd (inb x4_5 16) <|
  lt (wA σ_16 48 (Int32.toNatClampNeg x4_5) (mA σ_16 48 (Int32.toNatClampNeg a0))) fun σ_19 =>
  gd (inb a0 16) <|
  bd (F_ways σ_19 x2_2) fun r_22 =>
  gd (inb x4_5 16) <|
  lt (wL σ_19 44 (Int32.toNatClampNeg x4_5) ((mL σ_19 44 (Int32.toNatClampNeg a0)) * (Int32.toInt64 r_22))) fun σ_24 =>
  gd (inb x2_2 104) <|
  if (mA σ_24 22 (Int32.toNatClampNeg x2_2)) = (8 : Int32) then
    bd (F_lookAt a0 x2_2 x3_4 σ_24) fun σ_28 =>
    F_descend_b211 x4_5 σ_28
  else
    F_descend_L131 (F_descend_b211) MN a0 x2_2 x3_4 x4_5 (0 : Int32) σ_24
set_option maxHeartbeats 4000000 in
theorem w_descend {p : Program} {l : Launch} {e : Env} {s : State} {m : MethodId} {args : Array Value} {below : List Frame} {meth : Method} {c : Code} {G : MG} (hC : MCx G cX10_descend 6 p s m args meth c) (hr : meth.sig.returnType = some .boolean) {x : (Int32 × MS)} :
    ∀ (a0 : Int32) (σ : MS), F_descend a0 σ = some x → MJ p l e rmM_descend s m args below meth c G 6 (some (.int x.1)) x.2 0 [(0, .ref (gM G)), (1, .int a0)] [] σ := by
  have hx := hC.1
  have hb := hC.2.1
  intro a0 σ hF H locs ls hP hS hl
  rw [F_descend] at hF
  refine lv_bipush (v := 52) hx hb dX10_descend_0 (by decide) ?_
  refine lv_aload_n hx hb dX10_descend_2 rfl (lv_at hl 0 rfl) ?_
  refine gM35 hC hP dX10_descend_3 ?_
  refine lv_imul hx hb dX10_descend_6 ?_
  refine lv_aload_n hx hb dX10_descend_7 rfl (lv_at hl 0 rfl) ?_
  refine gM45 hC hP dX10_descend_8 ?_
  refine lv_iload_n hx hb dX10_descend_11 rfl (lv_at hl 1 rfl) ?_
  obtain ⟨h_1, hF⟩ := gd_ok hF
  refine M_iald hC hP 45 (by decide) rfl rfl rfl h_1 dX10_descend_12 ?_
  refine lv_iadd hx hb dX10_descend_13 ?_
  refine lv_topi (fun x2_2 ex2_2 => ?_)
  replace hF := lt_at hF ex2_2
  refine lv_istore_n (lv' := [(2, .int x2_2), (0, .ref (gM G)), (1, .int a0)]) hx hb dX10_descend_14 rfl hl (by decide) rfl (fun ls hl => ?_)
  refine lv_aload_n hx hb dX10_descend_15 rfl (lv_at hl 1 rfl) ?_
  refine gM50 hC hP dX10_descend_16 ?_
  refine lv_iload_n hx hb dX10_descend_19 rfl (lv_at hl 2 rfl) ?_
  obtain ⟨h_3, hF⟩ := gd_ok hF
  refine M_iald hC hP 50 (by decide) rfl rfl rfl h_3 dX10_descend_20 ?_
  refine lv_topi (fun x3_4 ex3_4 => ?_)
  replace hF := lt_at hF ex3_4
  refine lv_istore_n (lv' := [(3, .int x3_4), (2, .int x2_2), (0, .ref (gM G)), (1, .int a0)]) hx hb dX10_descend_21 rfl hl (by decide) rfl (fun ls hl => ?_)
  refine lv_iload_n hx hb dX10_descend_22 rfl (lv_at hl 3 rfl) ?_
  refine lv_iconst (v := 1) hx hb dX10_descend_23 (by decide) ?_
  refine lv_iadd hx hb dX10_descend_24 ?_
  refine lv_topi (fun x4_5 ex4_5 => ?_)
  replace hF := lt_at hF ex4_5
  refine lv_istore (lv' := [(4, .int x4_5), (3, .int x3_4), (2, .int x2_2), (0, .ref (gM G)), (1, .int a0)]) hx hb dX10_descend_25 hl (by decide) rfl (fun ls hl => ?_)
  refine lv_aload_n hx hb dX10_descend_27 rfl (lv_at hl 3 rfl) ?_
  refine lv_iload hx hb dX10_descend_28 (lv_at hl 0 rfl) ?_
  obtain ⟨σ_7, hc_6, hF⟩ := bd_ok hF
  refine iM_clearDist hC hP hS hc_6 hl.1 (Nat.le_of_ble_eq_true rfl) ⟨Nat.le_of_ble_eq_true rfl, Nat.le_of_ble_eq_true rfl⟩ ⟨Nat.zero_le _, Nat.zero_le _⟩ dX10_descend_30 (fun H locs hP hS => ?_)
  refine lv_aload_n hx hb dX10_descend_33 rfl (lv_at hl 3 rfl) ?_
  refine gM45 hC hP dX10_descend_34 ?_
  refine lv_iload hx hb dX10_descend_37 (lv_at hl 0 rfl) ?_
  refine lv_aload_n hx hb dX10_descend_39 rfl (lv_at hl 3 rfl) ?_
  refine gM45 hC hP dX10_descend_40 ?_
  refine lv_iload_n hx hb dX10_descend_43 rfl (lv_at hl 4 rfl) ?_
  obtain ⟨h_8, hF⟩ := gd_ok hF
  refine M_iald hC hP 45 (by decide) rfl rfl rfl h_8 dX10_descend_44 ?_
  refine lv_iconst (v := 1) hx hb dX10_descend_45 (by decide) ?_
  refine lv_iadd hx hb dX10_descend_46 ?_
  obtain ⟨h_9, hF⟩ := gd_ok hF
  refine M_iast hC hP hS 45 (by decide) rfl rfl rfl h_9 dX10_descend_47 (fun H locs hP hS => ?_)
  obtain ⟨σ_10, eσ_10, hF⟩ := lt_ok hF
  rw [← eσ_10] at hP
  refine lv_aload_n hx hb dX10_descend_48 rfl (lv_at hl 3 rfl) ?_
  refine gM46 hC hP dX10_descend_49 ?_
  refine lv_iload hx hb dX10_descend_52 (lv_at hl 0 rfl) ?_
  refine lv_aload_n hx hb dX10_descend_54 rfl (lv_at hl 3 rfl) ?_
  refine gM46 hC hP dX10_descend_55 ?_
  refine lv_iload_n hx hb dX10_descend_58 rfl (lv_at hl 4 rfl) ?_
  obtain ⟨h_11, hF⟩ := gd_ok hF
  refine M_iald hC hP 46 (by decide) rfl rfl rfl h_11 dX10_descend_59 ?_
  obtain ⟨h_12, hF⟩ := gd_ok hF
  refine M_iast hC hP hS 46 (by decide) rfl rfl rfl h_12 dX10_descend_60 (fun H locs hP hS => ?_)
  obtain ⟨σ_13, eσ_13, hF⟩ := lt_ok hF
  rw [← eσ_13] at hP
  refine lv_aload_n hx hb dX10_descend_61 rfl (lv_at hl 3 rfl) ?_
  refine gM47 hC hP dX10_descend_62 ?_
  refine lv_iload hx hb dX10_descend_65 (lv_at hl 0 rfl) ?_
  refine lv_aload_n hx hb dX10_descend_67 rfl (lv_at hl 3 rfl) ?_
  refine gM47 hC hP dX10_descend_68 ?_
  refine lv_iload_n hx hb dX10_descend_71 rfl (lv_at hl 4 rfl) ?_
  obtain ⟨h_14, hF⟩ := gd_ok hF
  refine M_iald hC hP 47 (by decide) rfl rfl rfl h_14 dX10_descend_72 ?_
  obtain ⟨h_15, hF⟩ := gd_ok hF
  refine M_iast hC hP hS 47 (by decide) rfl rfl rfl h_15 dX10_descend_73 (fun H locs hP hS => ?_)
  obtain ⟨σ_16, eσ_16, hF⟩ := lt_ok hF
  rw [← eσ_16] at hP
  refine lv_aload_n hx hb dX10_descend_74 rfl (lv_at hl 3 rfl) ?_
  refine gM48 hC hP dX10_descend_75 ?_
  refine lv_iload hx hb dX10_descend_78 (lv_at hl 0 rfl) ?_
  refine lv_aload_n hx hb dX10_descend_80 rfl (lv_at hl 3 rfl) ?_
  refine gM48 hC hP dX10_descend_81 ?_
  refine lv_iload_n hx hb dX10_descend_84 rfl (lv_at hl 4 rfl) ?_
  obtain ⟨h_17, hF⟩ := gd_ok hF
  refine M_iald hC hP 48 (by decide) rfl rfl rfl h_17 dX10_descend_85 ?_
  obtain ⟨h_18, hF⟩ := gd_ok hF
  refine M_iast hC hP hS 48 (by decide) rfl rfl rfl h_18 dX10_descend_86 (fun H locs hP hS => ?_)
  obtain ⟨σ_19, eσ_19, hF⟩ := lt_ok hF
  rw [← eσ_19] at hP
  refine lv_aload_n hx hb dX10_descend_87 rfl (lv_at hl 3 rfl) ?_
  refine gM44 hC hP dX10_descend_88 ?_
  refine lv_iload hx hb dX10_descend_91 (lv_at hl 0 rfl) ?_
  refine lv_aload_n hx hb dX10_descend_93 rfl (lv_at hl 3 rfl) ?_
  refine gM44 hC hP dX10_descend_94 ?_
  refine lv_iload_n hx hb dX10_descend_97 rfl (lv_at hl 4 rfl) ?_
  obtain ⟨h_20, hF⟩ := gd_ok hF
  refine M_lald hC hP 44 (by decide) rfl rfl rfl h_20 dX10_descend_98 ?_
  refine lv_aload_n hx hb dX10_descend_99 rfl (lv_at hl 3 rfl) ?_
  refine lv_iload_n hx hb dX10_descend_100 rfl (lv_at hl 2 rfl) ?_
  obtain ⟨r_22, hc_21, hF⟩ := bd_ok hF
  refine iM_ways hC hP hS hc_21 hl.1 (Nat.le_of_ble_eq_true rfl) ⟨Nat.le_of_ble_eq_true rfl, Nat.le_of_ble_eq_true rfl⟩ ⟨Nat.zero_le _, Nat.zero_le _⟩ dX10_descend_101 (fun H locs hP hS => ?_)
  refine lv_i2l hx hb dX10_descend_104 rfl ?_
  refine lv_lmul hx hb dX10_descend_105 ?_
  obtain ⟨h_23, hF⟩ := gd_ok hF
  refine M_last hC hP hS 44 (by decide) rfl rfl rfl h_23 dX10_descend_106 (fun H locs hP hS => ?_)
  obtain ⟨σ_24, eσ_24, hF⟩ := lt_ok hF
  rw [← eσ_24] at hP
  refine lv_aload_n hx hb dX10_descend_107 rfl (lv_at hl 3 rfl) ?_
  refine gM22 hC hP dX10_descend_108 ?_
  refine lv_iload_n hx hb dX10_descend_111 rfl (lv_at hl 2 rfl) ?_
  obtain ⟨h_25, hF⟩ := gd_ok hF
  refine M_iald hC hP 22 (by decide) rfl rfl rfl h_25 dX10_descend_112 ?_
  refine lv_bipush (v := 8) hx hb dX10_descend_113 (by decide) ?_
  refine lv_icmp_ne (tgt := 128) hx hb dX10_descend_115 (by decide) (fun c_26 => ?_) (fun c_26 => ?_)
  · replace hF := it_f hF c_26
    refine lv_iconst (v := 0) hx hb dX10_descend_128 (by decide) ?_
    refine lv_istore (lv' := [(5, .int (0 : Int32)), (4, .int x4_5), (3, .int x3_4), (2, .int x2_2), (0, .ref (gM G)), (1, .int a0)]) hx hb dX10_descend_129 hl (by decide) rfl (fun ls hl => ?_)
    exact w_descend_L131 hC hr (F_descend_b211) (w_descend_b211 hC hr) MN a0 x2_2 x3_4 x4_5 (0 : Int32) σ_24 hF H locs ls hP hS (lv_sub hl [4, 5, 3, 2, 1, 0] rfl)
  · replace hF := it_t hF c_26
    refine lv_aload_n hx hb dX10_descend_118 rfl (lv_at hl 3 rfl) ?_
    refine lv_iload_n hx hb dX10_descend_119 rfl (lv_at hl 4 rfl) ?_
    refine lv_iload_n hx hb dX10_descend_120 rfl (lv_at hl 2 rfl) ?_
    refine lv_iload_n hx hb dX10_descend_121 rfl (lv_at hl 1 rfl) ?_
    obtain ⟨σ_28, hc_27, hF⟩ := bd_ok hF
    refine iM_lookAt hC hP hS hc_27 hl.1 (Nat.le_of_ble_eq_true rfl) ⟨Nat.le_of_ble_eq_true rfl, Nat.le_of_ble_eq_true rfl⟩ ⟨Nat.zero_le _, Nat.zero_le _⟩ dX10_descend_122 (fun H locs hP hS => ?_)
    refine lv_goto (tgt := 211) hx hb dX10_descend_125 (by decide) ?_
    exact w_descend_b211 hC hr x4_5 σ_28 hF H locs ls hP hS (lv_sub hl [3, 0] rfl)
theorem m_descend (l : Launch) (G : MG) (a0 : Int32) (σ : MS) (x : (Int32 × MS)) (hF : F_descend a0 σ = some x) : Met l yX10_descend (ws_ yX10_descend cX10_descend 6 (some .boolean)) rmM_descend (mP G [.ref (gM G), .int a0] σ) (mQ G (some (.int x.1)) x.2) 0 0 (MA G) := by
  refine M_met rfl plM (Nat.le_of_ble_eq_true rfl) ?_
  intro p e s m below meth c hC hr ls hl hP
  exact w_descend hC hr a0 σ hF s.heap [] ls hP va_S.rf hl
theorem iM_descend {p : Program} {l : Launch} {e : Env} {R : Room} {s : State} {m : MethodId} {args : Array Value} {below : List Frame} {meth : Method} {c : Code} {H H0 : Heap} {locs : List Loc} {cells slots nL : Nat} {Q : State → Prop} {G : MG} {σ : MS} {cc : ByteArray} {pc : Nat} {ls : Array Slot} {rest : List Value} (hC : MCx G cc nL p s m args meth c) (hP : MRep G σ H) (hS : va_S (MA G) H0 H locs) {a0 : Int32} {x : Int32} {σ1 : MS} (hF : F_descend a0 σ = some (x, σ1)) (hl : ls.size = nL) (hW : (rest.map fun v => v.category).sum ≤ 8) (hR : rmM_descend.frames + 1 ≤ R.frames ∧ 8 + (6 + 11) + rmM_descend.locals ≤ R.locals) (hf : cells ≤ R.cells ∧ slots ≤ R.slots) (hdg : decode cc pc = .ok (.invokevirtual 515, 3))
    (kk : ∀ (H1 : Heap) (locs1 : List Loc), MRep G σ1 H1 → va_S (MA G) H0 H1 locs1 → W p l e R s m args below meth c H1 locs1 cells slots Q (F0 m (pc + 3) ls (.int x :: rest))) : W p l e R s m args below meth c H locs cells slots Q (F0 m pc ls (.int a0 :: .ref (gM G) :: rest)) :=
  M_inv hC hP hS [.int a0] (m_descend l G a0 σ _ hF) (cwV 1 hC.2.2.2.2.1 (lw_V q1936 q1938 qs75 q145 q1939) rfl rfl rfl (by decide +kernel) hR) rfl rfl hl hW hf hdg kk
/-! endsOf -/
abbrev rmM_endsOf : Room := { frames := 0, cells := 0, slots := 0, locals := 0 }
def F_endsOf_b157 (σ : MS) (k11 : Int32 → Int32 → Int32 → Int32 → Int32 → Option Int32) (x1 : Int32) (x2 : Int32) (x3 : Int32) (x4 : Int32) (x5 : Int32) : Option Int32 :=
  lt (x5 + (1 : Int32)) fun x5_1 =>
  k11 x1 x2 x3 x4 x5_1
set_option maxHeartbeats 4000000 in
theorem w_endsOf_b157 {p : Program} {l : Launch} {e : Env} {s : State} {m : MethodId} {args : Array Value} {below : List Frame} {meth : Method} {c : Code} {G : MG} (hC : MCx G cX10_endsOf 9 p s m args meth c) (hr : meth.sig.returnType = some .int) {x : Int32} {σ : MS} (k11 : Int32 → Int32 → Int32 → Int32 → Int32 → Option Int32) (hk11 : ∀ (x1 : Int32) (x2 : Int32) (x3 : Int32) (x4 : Int32) (x5 : Int32), k11 x1 x2 x3 x4 x5 = some x → MJ p l e rmM_endsOf s m args below meth c G 9 (some (.int x)) σ 11 [(0, .ref (gM G)), (1, .int x1), (2, .int x2), (3, .int x3), (4, .int x4), (5, .int x5)] [] σ) :
    ∀ (x1 : Int32) (x2 : Int32) (x3 : Int32) (x4 : Int32) (x5 : Int32), F_endsOf_b157 σ k11 x1 x2 x3 x4 x5 = some x → MJ p l e rmM_endsOf s m args below meth c G 9 (some (.int x)) σ 157 [(0, .ref (gM G)), (1, .int x1), (2, .int x2), (3, .int x3), (4, .int x4), (5, .int x5)] [] σ := by
  have hx := hC.1
  have hb := hC.2.1
  intro x1 x2 x3 x4 x5 hF H locs ls hP hS hl
  rw [F_endsOf_b157] at hF
  obtain ⟨x5_1, ex5_1, hF⟩ := lt_ok hF
  refine lv_iinc (v := x5_1) (lv' := [(5, .int x5_1), (0, .ref (gM G)), (1, .int x1), (2, .int x2), (3, .int x3), (4, .int x4)]) hx hb dX10_endsOf_157 hl (k := 5) rfl (by rw [ex5_1]; rfl) (by decide) rfl (fun ls hl => ?_)
  refine lv_goto (tgt := 11) hx hb dX10_endsOf_160 (by decide) ?_
  exact hk11 x1 x2 x3 x4 x5_1 hF H locs ls hP hS (lv_sub hl [1, 2, 3, 4, 5, 0] rfl)
def F_endsOf_b148 (σ : MS) (k157 : Int32 → Int32 → Int32 → Int32 → Int32 → Option Int32) (x1 : Int32) (x2 : Int32) (x3 : Int32) (x4 : Int32) (x5 : Int32) (y0 : Int32) : Option Int32 :=
  lt ((x3 ||| ((1 : Int32) <<< (y0 &&& 31)))) fun x3_1 =>
  k157 x1 x2 x3_1 x4 x5
set_option maxHeartbeats 4000000 in
theorem w_endsOf_b148 {p : Program} {l : Launch} {e : Env} {s : State} {m : MethodId} {args : Array Value} {below : List Frame} {meth : Method} {c : Code} {G : MG} (hC : MCx G cX10_endsOf 9 p s m args meth c) (hr : meth.sig.returnType = some .int) {x : Int32} {σ : MS} (k157 : Int32 → Int32 → Int32 → Int32 → Int32 → Option Int32) (hk157 : ∀ (x1 : Int32) (x2 : Int32) (x3 : Int32) (x4 : Int32) (x5 : Int32), k157 x1 x2 x3 x4 x5 = some x → MJ p l e rmM_endsOf s m args below meth c G 9 (some (.int x)) σ 157 [(0, .ref (gM G)), (1, .int x1), (2, .int x2), (3, .int x3), (4, .int x4), (5, .int x5)] [] σ) :
    ∀ (x1 : Int32) (x2 : Int32) (x3 : Int32) (x4 : Int32) (x5 : Int32) (y0 : Int32), F_endsOf_b148 σ k157 x1 x2 x3 x4 x5 y0 = some x → MJ p l e rmM_endsOf s m args below meth c G 9 (some (.int x)) σ 148 [(0, .ref (gM G)), (1, .int x1), (2, .int x2), (3, .int x3), (4, .int x4), (5, .int x5)] [.int y0] σ := by
  have hx := hC.1
  have hb := hC.2.1
  intro x1 x2 x3 x4 x5 y0 hF H locs ls hP hS hl
  rw [F_endsOf_b148] at hF
  refine lv_istore (lv' := [(8, .int y0), (0, .ref (gM G)), (1, .int x1), (2, .int x2), (3, .int x3), (4, .int x4), (5, .int x5)]) hx hb dX10_endsOf_148 hl (by decide) rfl (fun ls hl => ?_)
  refine lv_iload_n hx hb dX10_endsOf_150 rfl (lv_at hl 4 rfl) ?_
  refine lv_iconst (v := 1) hx hb dX10_endsOf_151 (by decide) ?_
  refine lv_iload hx hb dX10_endsOf_152 (lv_at hl 0 rfl) ?_
  refine lv_ishl hx hb dX10_endsOf_154 ?_
  refine lv_ior hx hb dX10_endsOf_155 ?_
  refine lv_topi (fun x3_1 ex3_1 => ?_)
  replace hF := lt_at hF ex3_1
  refine lv_istore_n (lv' := [(3, .int x3_1), (8, .int y0), (0, .ref (gM G)), (1, .int x1), (2, .int x2), (4, .int x4), (5, .int x5)]) hx hb dX10_endsOf_156 rfl hl (by decide) rfl (fun ls hl => ?_)
  exact hk157 x1 x2 x3_1 x4 x5 hF H locs ls hP hS (lv_sub hl [2, 3, 4, 0, 5, 6] rfl)
def F_endsOf_b141 (σ : MS) (k148 : Int32 → Int32 → Int32 → Int32 → Int32 → Int32 → Option Int32) (x1 : Int32) (x2 : Int32) (x3 : Int32) (x4 : Int32) (x5 : Int32) : Option Int32 :=
  k148 x1 x2 x3 x4 x5 (10 : Int32)
set_option maxHeartbeats 4000000 in
theorem w_endsOf_b141 {p : Program} {l : Launch} {e : Env} {s : State} {m : MethodId} {args : Array Value} {below : List Frame} {meth : Method} {c : Code} {G : MG} (hC : MCx G cX10_endsOf 9 p s m args meth c) (hr : meth.sig.returnType = some .int) {x : Int32} {σ : MS} (k148 : Int32 → Int32 → Int32 → Int32 → Int32 → Int32 → Option Int32) (hk148 : ∀ (x1 : Int32) (x2 : Int32) (x3 : Int32) (x4 : Int32) (x5 : Int32) (y0 : Int32), k148 x1 x2 x3 x4 x5 y0 = some x → MJ p l e rmM_endsOf s m args below meth c G 9 (some (.int x)) σ 148 [(0, .ref (gM G)), (1, .int x1), (2, .int x2), (3, .int x3), (4, .int x4), (5, .int x5)] [.int y0] σ) :
    ∀ (x1 : Int32) (x2 : Int32) (x3 : Int32) (x4 : Int32) (x5 : Int32), F_endsOf_b141 σ k148 x1 x2 x3 x4 x5 = some x → MJ p l e rmM_endsOf s m args below meth c G 9 (some (.int x)) σ 141 [(0, .ref (gM G)), (1, .int x1), (2, .int x2), (3, .int x3), (4, .int x4), (5, .int x5)] [] σ := by
  have hx := hC.1
  have hb := hC.2.1
  intro x1 x2 x3 x4 x5 hF H locs ls hP hS hl
  rw [F_endsOf_b141] at hF
  refine lv_bipush (v := 10) hx hb dX10_endsOf_141 (by decide) ?_
  refine lv_goto (tgt := 148) hx hb dX10_endsOf_143 (by decide) ?_
  exact hk148 x1 x2 x3 x4 x5 (10 : Int32) hF H locs ls hP hS (lv_sub hl [0, 1, 2, 3, 4, 5] rfl)
def F_endsOf_b86 (σ : MS) (k157 : Int32 → Int32 → Int32 → Int32 → Int32 → Option Int32) (x1 : Int32) (x2 : Int32) (x3 : Int32) (x4 : Int32) (x5 : Int32) (x6 : Int32) (y0 : Int32) : Option Int32 :=
  gd (inb x1 16) <|
  if (mA σ 49 (Int32.toNatClampNeg x1)) = (2 : Int32) then
    gd (inb x4 104) <|
    if (9 : Int32) < (mA σ 23 (Int32.toNatClampNeg x4)) then
      F_endsOf_b148 σ k157 x1 x2 x3 x4 x5 (11 : Int32)
    else
      gd (inb x4 104) <|
      F_endsOf_b148 σ k157 x1 x2 x3 x4 x5 (mA σ 23 (Int32.toNatClampNeg x4))
  else
    gd (inb x1 16) <|
    if (mA σ 49 (Int32.toNatClampNeg x1)) = 0 then
      F_endsOf_b141 σ (F_endsOf_b148 σ k157) x1 x2 x3 x4 x5
    else
      if x6 = y0 then
        F_endsOf_b141 σ (F_endsOf_b148 σ k157) x1 x2 x3 x4 x5
      else
        F_endsOf_b148 σ k157 x1 x2 x3 x4 x5 x6
set_option maxHeartbeats 4000000 in
theorem w_endsOf_b86 {p : Program} {l : Launch} {e : Env} {s : State} {m : MethodId} {args : Array Value} {below : List Frame} {meth : Method} {c : Code} {G : MG} (hC : MCx G cX10_endsOf 9 p s m args meth c) (hr : meth.sig.returnType = some .int) {x : Int32} {σ : MS} (k157 : Int32 → Int32 → Int32 → Int32 → Int32 → Option Int32) (hk157 : ∀ (x1 : Int32) (x2 : Int32) (x3 : Int32) (x4 : Int32) (x5 : Int32), k157 x1 x2 x3 x4 x5 = some x → MJ p l e rmM_endsOf s m args below meth c G 9 (some (.int x)) σ 157 [(0, .ref (gM G)), (1, .int x1), (2, .int x2), (3, .int x3), (4, .int x4), (5, .int x5)] [] σ) :
    ∀ (x1 : Int32) (x2 : Int32) (x3 : Int32) (x4 : Int32) (x5 : Int32) (x6 : Int32) (y0 : Int32), F_endsOf_b86 σ k157 x1 x2 x3 x4 x5 x6 y0 = some x → MJ p l e rmM_endsOf s m args below meth c G 9 (some (.int x)) σ 86 [(0, .ref (gM G)), (1, .int x1), (2, .int x2), (3, .int x3), (4, .int x4), (5, .int x5), (6, .int x6)] [.int y0] σ := by
  have hx := hC.1
  have hb := hC.2.1
  intro x1 x2 x3 x4 x5 x6 y0 hF H locs ls hP hS hl
  rw [F_endsOf_b86] at hF
  refine lv_istore (lv' := [(7, .int y0), (0, .ref (gM G)), (1, .int x1), (2, .int x2), (3, .int x3), (4, .int x4), (5, .int x5), (6, .int x6)]) hx hb dX10_endsOf_86 hl (by decide) rfl (fun ls hl => ?_)
  refine lv_aload_n hx hb dX10_endsOf_88 rfl (lv_at hl 1 rfl) ?_
  refine gM49 hC hP dX10_endsOf_89 ?_
  refine lv_iload_n hx hb dX10_endsOf_92 rfl (lv_at hl 2 rfl) ?_
  obtain ⟨h_1, hF⟩ := gd_ok hF
  refine M_iald hC hP 49 (by decide) rfl rfl rfl h_1 dX10_endsOf_93 ?_
  refine lv_iconst (v := 2) hx hb dX10_endsOf_94 (by decide) ?_
  refine lv_icmp_ne (tgt := 125) hx hb dX10_endsOf_95 (by decide) (fun c_2 => ?_) (fun c_2 => ?_)
  · replace hF := it_f hF c_2
    refine lv_aload_n hx hb dX10_endsOf_125 rfl (lv_at hl 1 rfl) ?_
    refine gM49 hC hP dX10_endsOf_126 ?_
    refine lv_iload_n hx hb dX10_endsOf_129 rfl (lv_at hl 2 rfl) ?_
    obtain ⟨h_3, hF⟩ := gd_ok hF
    refine M_iald hC hP 49 (by decide) rfl rfl rfl h_3 dX10_endsOf_130 ?_
    refine lv_if_eq (tgt := 141) hx hb dX10_endsOf_131 (by decide) (fun c_4 => ?_) (fun c_4 => ?_)
    · replace hF := it_t hF c_4
      exact w_endsOf_b141 hC hr (F_endsOf_b148 σ k157) (w_endsOf_b148 hC hr k157 hk157) x1 x2 x3 x4 x5 hF H locs ls hP hS (lv_sub hl [1, 2, 3, 4, 5, 6] rfl)
    · replace hF := it_f hF c_4
      refine lv_iload hx hb dX10_endsOf_134 (lv_at hl 7 rfl) ?_
      refine lv_iload hx hb dX10_endsOf_136 (lv_at hl 0 rfl) ?_
      refine lv_icmp_ne (tgt := 146) hx hb dX10_endsOf_138 (by decide) (fun c_5 => ?_) (fun c_5 => ?_)
      · replace hF := it_f hF c_5
        refine lv_iload hx hb dX10_endsOf_146 (lv_at hl 7 rfl) ?_
        exact w_endsOf_b148 hC hr k157 hk157 x1 x2 x3 x4 x5 x6 hF H locs ls hP hS (lv_sub hl [1, 2, 3, 4, 5, 6] rfl)
      · replace hF := it_t hF c_5
        exact w_endsOf_b141 hC hr (F_endsOf_b148 σ k157) (w_endsOf_b148 hC hr k157 hk157) x1 x2 x3 x4 x5 hF H locs ls hP hS (lv_sub hl [1, 2, 3, 4, 5, 6] rfl)
  · replace hF := it_t hF c_2
    refine lv_aload_n hx hb dX10_endsOf_98 rfl (lv_at hl 1 rfl) ?_
    refine gM23 hC hP dX10_endsOf_99 ?_
    refine lv_iload hx hb dX10_endsOf_102 (lv_at hl 5 rfl) ?_
    obtain ⟨h_6, hF⟩ := gd_ok hF
    refine M_iald hC hP 23 (by decide) rfl rfl rfl h_6 dX10_endsOf_104 ?_
    refine lv_bipush (v := 9) hx hb dX10_endsOf_105 (by decide) ?_
    refine lv_icmp_gt (tgt := 120) hx hb dX10_endsOf_107 (by decide) (fun c_7 => ?_) (fun c_7 => ?_)
    · replace hF := it_t hF c_7
      refine lv_bipush (v := 11) hx hb dX10_endsOf_120 (by decide) ?_
      refine lv_goto (tgt := 148) hx hb dX10_endsOf_122 (by decide) ?_
      exact w_endsOf_b148 hC hr k157 hk157 x1 x2 x3 x4 x5 (11 : Int32) hF H locs ls hP hS (lv_sub hl [1, 2, 3, 4, 5, 6] rfl)
    · replace hF := it_f hF c_7
      refine lv_aload_n hx hb dX10_endsOf_110 rfl (lv_at hl 1 rfl) ?_
      refine gM23 hC hP dX10_endsOf_111 ?_
      refine lv_iload hx hb dX10_endsOf_114 (lv_at hl 5 rfl) ?_
      obtain ⟨h_8, hF⟩ := gd_ok hF
      refine M_iald hC hP 23 (by decide) rfl rfl rfl h_8 dX10_endsOf_116 ?_
      refine lv_goto (tgt := 148) hx hb dX10_endsOf_117 (by decide) ?_
      exact w_endsOf_b148 hC hr k157 hk157 x1 x2 x3 x4 x5 (mA σ 23 (Int32.toNatClampNeg x4)) hF H locs ls hP hS (lv_sub hl [1, 2, 3, 4, 5, 6] rfl)
def F_endsOf_L11 (σ : MS) : Nat → Int32 → Int32 → Int32 → Int32 → Int32 → Option Int32
  | 0, _, _, _, _, _ => none
  | fu + 1, x1, x2, x3, x4, x5 =>
    if (256 : Int32) ≤ x5 then
      some x3
    else
      gd (inb ((((2048 : Int32) * x1) + ((256 : Int32) * x2)) + x5) 36864) <|
      if (lg_cmp (mL σ 43 (Int32.toNatClampNeg ((((2048 : Int32) * x1) + ((256 : Int32) * x2)) + x5))) (0 : Int64)) = 0 then
        F_endsOf_b157 σ (F_endsOf_L11 σ fu) x1 x2 x3 x4 x5
      else
        gd (inb x4 104) <|
        lt (((x5 >>> ((mA σ 23 (Int32.toNatClampNeg x4)) &&& 31)) &&& (1 : Int32))) fun x6_5 =>
        gd (inb x1 16) <|
        if (mA σ 49 (Int32.toNatClampNeg x1)) = (1 : Int32) then
          gd (inb x4 104) <|
          F_endsOf_b86 σ (F_endsOf_b157 σ (F_endsOf_L11 σ fu)) x1 x2 x3 x4 x5 x6_5 ((x5 >>> ((mA σ 24 (Int32.toNatClampNeg x4)) &&& 31)) &&& (1 : Int32))
        else
          F_endsOf_b86 σ (F_endsOf_b157 σ (F_endsOf_L11 σ fu)) x1 x2 x3 x4 x5 x6_5 (0 : Int32)
set_option maxHeartbeats 4000000 in
theorem w_endsOf_L11 {p : Program} {l : Launch} {e : Env} {s : State} {m : MethodId} {args : Array Value} {below : List Frame} {meth : Method} {c : Code} {G : MG} (hC : MCx G cX10_endsOf 9 p s m args meth c) (hr : meth.sig.returnType = some .int) {x : Int32} {σ : MS} :
    ∀ (fu : Nat) (x1 : Int32) (x2 : Int32) (x3 : Int32) (x4 : Int32) (x5 : Int32), F_endsOf_L11 σ fu x1 x2 x3 x4 x5 = some x → MJ p l e rmM_endsOf s m args below meth c G 9 (some (.int x)) σ 11 [(0, .ref (gM G)), (1, .int x1), (2, .int x2), (3, .int x3), (4, .int x4), (5, .int x5)] [] σ := by
  have hx := hC.1
  have hb := hC.2.1
  intro fu
  induction fu with
  | zero => intro x1 x2 x3 x4 x5 hF; exact nm_none hF
  | succ fu ih =>
    intro x1 x2 x3 x4 x5 hF H locs ls hP hS hl
    rw [F_endsOf_L11] at hF
    refine lv_iload hx hb dX10_endsOf_11 (lv_at hl 5 rfl) ?_
    refine lv_sipush (v := 256) hx hb dX10_endsOf_13 (by decide) ?_
    refine lv_icmp_ge (tgt := 163) hx hb dX10_endsOf_16 (by decide) (fun c_1 => ?_) (fun c_1 => ?_)
    · replace hF := it_t hF c_1
      refine lv_iload_n hx hb dX10_endsOf_163 rfl (lv_at hl 3 rfl) ?_
      exact M_reti hC hP hS hr (Option.some.inj hF) rfl dX10_endsOf_164
    · replace hF := it_f hF c_1
      refine lv_aload_n hx hb dX10_endsOf_19 rfl (lv_at hl 0 rfl) ?_
      refine gM43 hC hP dX10_endsOf_20 ?_
      refine lv_sipush (v := 2048) hx hb dX10_endsOf_23 (by decide) ?_
      refine lv_iload_n hx hb dX10_endsOf_26 rfl (lv_at hl 1 rfl) ?_
      refine lv_imul hx hb dX10_endsOf_27 ?_
      refine lv_sipush (v := 256) hx hb dX10_endsOf_28 (by decide) ?_
      refine lv_iload_n hx hb dX10_endsOf_31 rfl (lv_at hl 2 rfl) ?_
      refine lv_imul hx hb dX10_endsOf_32 ?_
      refine lv_iadd hx hb dX10_endsOf_33 ?_
      refine lv_iload hx hb dX10_endsOf_34 (lv_at hl 5 rfl) ?_
      refine lv_iadd hx hb dX10_endsOf_36 ?_
      obtain ⟨h_2, hF⟩ := gd_ok hF
      refine M_lald hC hP 43 (by decide) rfl rfl rfl h_2 dX10_endsOf_37 ?_
      refine lv_lconst (v := 0) hx hb dX10_endsOf_38 (by decide) ?_
      refine W.lcmp hx hb dX10_endsOf_39 ?_
      refine lv_if_ne (tgt := 46) hx hb dX10_endsOf_40 (by decide) (fun c_3 => ?_) (fun c_3 => ?_)
      · replace hF := it_f hF c_3
        refine lv_iload hx hb dX10_endsOf_46 (lv_at hl 5 rfl) ?_
        refine lv_aload_n hx hb dX10_endsOf_48 rfl (lv_at hl 0 rfl) ?_
        refine gM23 hC hP dX10_endsOf_49 ?_
        refine lv_iload hx hb dX10_endsOf_52 (lv_at hl 4 rfl) ?_
        obtain ⟨h_4, hF⟩ := gd_ok hF
        refine M_iald hC hP 23 (by decide) rfl rfl rfl h_4 dX10_endsOf_54 ?_
        refine lv_ishr hx hb dX10_endsOf_55 ?_
        refine lv_iconst (v := 1) hx hb dX10_endsOf_56 (by decide) ?_
        refine lv_iand hx hb dX10_endsOf_57 ?_
        refine lv_topi (fun x6_5 ex6_5 => ?_)
        replace hF := lt_at hF ex6_5
        refine lv_istore (lv' := [(6, .int x6_5), (0, .ref (gM G)), (1, .int x1), (2, .int x2), (3, .int x3), (4, .int x4), (5, .int x5)]) hx hb dX10_endsOf_58 hl (by decide) rfl (fun ls hl => ?_)
        refine lv_aload_n hx hb dX10_endsOf_60 rfl (lv_at hl 1 rfl) ?_
        refine gM49 hC hP dX10_endsOf_61 ?_
        refine lv_iload_n hx hb dX10_endsOf_64 rfl (lv_at hl 2 rfl) ?_
        obtain ⟨h_6, hF⟩ := gd_ok hF
        refine M_iald hC hP 49 (by decide) rfl rfl rfl h_6 dX10_endsOf_65 ?_
        refine lv_iconst (v := 1) hx hb dX10_endsOf_66 (by decide) ?_
        refine lv_icmp_ne (tgt := 85) hx hb dX10_endsOf_67 (by decide) (fun c_7 => ?_) (fun c_7 => ?_)
        · replace hF := it_f hF c_7
          refine lv_iconst (v := 0) hx hb dX10_endsOf_85 (by decide) ?_
          exact w_endsOf_b86 hC hr (F_endsOf_b157 σ (F_endsOf_L11 σ fu)) (w_endsOf_b157 hC hr (F_endsOf_L11 σ fu) ih) x1 x2 x3 x4 x5 x6_5 (0 : Int32) hF H locs ls hP hS (lv_sub hl [1, 2, 3, 4, 5, 6, 0] rfl)
        · replace hF := it_t hF c_7
          refine lv_iload hx hb dX10_endsOf_70 (lv_at hl 6 rfl) ?_
          refine lv_aload_n hx hb dX10_endsOf_72 rfl (lv_at hl 1 rfl) ?_
          refine gM24 hC hP dX10_endsOf_73 ?_
          refine lv_iload hx hb dX10_endsOf_76 (lv_at hl 5 rfl) ?_
          obtain ⟨h_8, hF⟩ := gd_ok hF
          refine M_iald hC hP 24 (by decide) rfl rfl rfl h_8 dX10_endsOf_78 ?_
          refine lv_ishr hx hb dX10_endsOf_79 ?_
          refine lv_iconst (v := 1) hx hb dX10_endsOf_80 (by decide) ?_
          refine lv_iand hx hb dX10_endsOf_81 ?_
          refine lv_goto (tgt := 86) hx hb dX10_endsOf_82 (by decide) ?_
          exact w_endsOf_b86 hC hr (F_endsOf_b157 σ (F_endsOf_L11 σ fu)) (w_endsOf_b157 hC hr (F_endsOf_L11 σ fu) ih) x1 x2 x3 x4 x5 x6_5 ((x5 >>> ((mA σ 24 (Int32.toNatClampNeg x4)) &&& 31)) &&& (1 : Int32)) hF H locs ls hP hS (lv_sub hl [1, 2, 3, 4, 5, 6, 0] rfl)
      · replace hF := it_t hF c_3
        refine lv_goto (tgt := 157) hx hb dX10_endsOf_43 (by decide) ?_
        exact w_endsOf_b157 hC hr (F_endsOf_L11 σ fu) ih x1 x2 x3 x4 x5 hF H locs ls hP hS (lv_sub hl [0, 1, 2, 3, 4, 5] rfl)
def F_endsOf (σ : MS) (a0 : Int32) (a1 : Int32) : Option Int32 :=
  lt ((mI σ 54)) fun x4_1 =>
  F_endsOf_L11 σ MN a0 a1 (0 : Int32) x4_1 (0 : Int32)
set_option maxHeartbeats 4000000 in
theorem w_endsOf {p : Program} {l : Launch} {e : Env} {s : State} {m : MethodId} {args : Array Value} {below : List Frame} {meth : Method} {c : Code} {G : MG} (hC : MCx G cX10_endsOf 9 p s m args meth c) (hr : meth.sig.returnType = some .int) {x : Int32} {σ : MS} :
    ∀ (a0 : Int32) (a1 : Int32), F_endsOf σ a0 a1 = some x → MJ p l e rmM_endsOf s m args below meth c G 9 (some (.int x)) σ 0 [(0, .ref (gM G)), (1, .int a0), (2, .int a1)] [] σ := by
  have hx := hC.1
  have hb := hC.2.1
  intro a0 a1 hF H locs ls hP hS hl
  rw [F_endsOf] at hF
  refine lv_iconst (v := 0) hx hb dX10_endsOf_0 (by decide) ?_
  refine lv_istore_n (lv' := [(3, .int (0 : Int32)), (0, .ref (gM G)), (1, .int a0), (2, .int a1)]) hx hb dX10_endsOf_1 rfl hl (by decide) rfl (fun ls hl => ?_)
  refine lv_aload_n hx hb dX10_endsOf_2 rfl (lv_at hl 1 rfl) ?_
  refine gM54 hC hP dX10_endsOf_3 ?_
  refine lv_topi (fun x4_1 ex4_1 => ?_)
  replace hF := lt_at hF ex4_1
  refine lv_istore (lv' := [(4, .int x4_1), (3, .int (0 : Int32)), (0, .ref (gM G)), (1, .int a0), (2, .int a1)]) hx hb dX10_endsOf_6 hl (by decide) rfl (fun ls hl => ?_)
  refine lv_iconst (v := 0) hx hb dX10_endsOf_8 (by decide) ?_
  refine lv_istore (lv' := [(5, .int (0 : Int32)), (4, .int x4_1), (3, .int (0 : Int32)), (0, .ref (gM G)), (1, .int a0), (2, .int a1)]) hx hb dX10_endsOf_9 hl (by decide) rfl (fun ls hl => ?_)
  exact w_endsOf_L11 hC hr MN a0 a1 (0 : Int32) x4_1 (0 : Int32) hF H locs ls hP hS (lv_sub hl [3, 4, 5, 2, 1, 0] rfl)
theorem m_endsOf (l : Launch) (G : MG) (a0 : Int32) (a1 : Int32) (σ : MS) (x : Int32) (hF : F_endsOf σ a0 a1 = some x) : Met l yX10_endsOf (ws_ yX10_endsOf cX10_endsOf 9 (some .int)) rmM_endsOf (mP G [.ref (gM G), .int a0, .int a1] σ) (mQ G (some (.int x)) σ) 0 0 (MA G) := by
  refine M_met rfl plM (Nat.le_of_ble_eq_true rfl) ?_
  intro p e s m below meth c hC hr ls hl hP
  exact w_endsOf hC hr a0 a1 hF s.heap [] ls hP va_S.rf hl
theorem iM_endsOf {p : Program} {l : Launch} {e : Env} {R : Room} {s : State} {m : MethodId} {args : Array Value} {below : List Frame} {meth : Method} {c : Code} {H H0 : Heap} {locs : List Loc} {cells slots nL : Nat} {Q : State → Prop} {G : MG} {σ : MS} {cc : ByteArray} {pc : Nat} {ls : Array Slot} {rest : List Value} (hC : MCx G cc nL p s m args meth c) (hP : MRep G σ H) (hS : va_S (MA G) H0 H locs) {a0 : Int32} {a1 : Int32} {x : Int32} (hF : F_endsOf σ a0 a1 = some x) (hl : ls.size = nL) (hW : (rest.map fun v => v.category).sum ≤ 8) (hR : rmM_endsOf.frames + 1 ≤ R.frames ∧ 8 + (9 + 11) + rmM_endsOf.locals ≤ R.locals) (hf : cells ≤ R.cells ∧ slots ≤ R.slots) (hdg : decode cc pc = .ok (.invokevirtual 521, 3))
    (kk : ∀ (H1 : Heap) (locs1 : List Loc), MRep G σ H1 → va_S (MA G) H0 H1 locs1 → W p l e R s m args below meth c H1 locs1 cells slots Q (F0 m (pc + 3) ls (.int x :: rest))) : W p l e R s m args below meth c H locs cells slots Q (F0 m pc ls (.int a1 :: .int a0 :: .ref (gM G) :: rest)) :=
  M_inv hC hP hS [.int a0, .int a1] (m_endsOf l G a0 a1 σ _ hF) (cwV 2 hC.2.2.2.2.1 (lw_V q1920 q1922 qs71 q145 q1923) rfl rfl rfl (by decide +kernel) hR) rfl rfl hl hW hf hdg kk
/-! total -/
abbrev rmM_total : Room := { frames := 0, cells := 0, slots := 0, locals := 0 }
def F_total_L5 (σ : MS) : Nat → Int32 → Int32 → Int64 → Int32 → Option Int64
  | 0, _, _, _, _ => none
  | fu + 1, x1, x2, x3, x5 =>
    if (256 : Int32) ≤ x5 then
      some x3
    else
      gd (inb ((((2048 : Int32) * x1) + ((256 : Int32) * x2)) + x5) 36864) <|
      lt ((x3 + (mL σ 43 (Int32.toNatClampNeg ((((2048 : Int32) * x1) + ((256 : Int32) * x2)) + x5))))) fun x3_3 =>
      lt (x5 + (1 : Int32)) fun x5_4 =>
      F_total_L5 σ fu x1 x2 x3_3 x5_4
set_option maxHeartbeats 4000000 in
theorem w_total_L5 {p : Program} {l : Launch} {e : Env} {s : State} {m : MethodId} {args : Array Value} {below : List Frame} {meth : Method} {c : Code} {G : MG} (hC : MCx G cX10_total 6 p s m args meth c) (hr : meth.sig.returnType = some .long) {x : Int64} {σ : MS} :
    ∀ (fu : Nat) (x1 : Int32) (x2 : Int32) (x3 : Int64) (x5 : Int32), F_total_L5 σ fu x1 x2 x3 x5 = some x → MJ p l e rmM_total s m args below meth c G 6 (some (.long x)) σ 5 [(0, .ref (gM G)), (1, .int x1), (2, .int x2), (3, .long x3), (5, .int x5)] [] σ := by
  have hx := hC.1
  have hb := hC.2.1
  intro fu
  induction fu with
  | zero => intro x1 x2 x3 x5 hF; exact nm_none hF
  | succ fu ih =>
    intro x1 x2 x3 x5 hF H locs ls hP hS hl
    rw [F_total_L5] at hF
    refine lv_iload hx hb dX10_total_5 (lv_at hl 4 rfl) ?_
    refine lv_sipush (v := 256) hx hb dX10_total_7 (by decide) ?_
    refine lv_icmp_ge (tgt := 41) hx hb dX10_total_10 (by decide) (fun c_1 => ?_) (fun c_1 => ?_)
    · replace hF := it_t hF c_1
      refine lv_lload_n hx hb dX10_total_41 rfl (lv_at hl 3 rfl) ?_
      exact M_retl hC hP hS hr (Option.some.inj hF) rfl dX10_total_42
    · replace hF := it_f hF c_1
      refine lv_lload_n hx hb dX10_total_13 rfl (lv_at hl 3 rfl) ?_
      refine lv_aload_n hx hb dX10_total_14 rfl (lv_at hl 0 rfl) ?_
      refine gM43 hC hP dX10_total_15 ?_
      refine lv_sipush (v := 2048) hx hb dX10_total_18 (by decide) ?_
      refine lv_iload_n hx hb dX10_total_21 rfl (lv_at hl 1 rfl) ?_
      refine lv_imul hx hb dX10_total_22 ?_
      refine lv_sipush (v := 256) hx hb dX10_total_23 (by decide) ?_
      refine lv_iload_n hx hb dX10_total_26 rfl (lv_at hl 2 rfl) ?_
      refine lv_imul hx hb dX10_total_27 ?_
      refine lv_iadd hx hb dX10_total_28 ?_
      refine lv_iload hx hb dX10_total_29 (lv_at hl 4 rfl) ?_
      refine lv_iadd hx hb dX10_total_31 ?_
      obtain ⟨h_2, hF⟩ := gd_ok hF
      refine M_lald hC hP 43 (by decide) rfl rfl rfl h_2 dX10_total_32 ?_
      refine lv_ladd hx hb dX10_total_33 ?_
      refine lv_topl (fun x3_3 ex3_3 => ?_)
      replace hF := lt_at hF ex3_3
      refine lv_lstore_n (lv' := [(3, .long x3_3), (0, .ref (gM G)), (1, .int x1), (2, .int x2), (5, .int x5)]) hx hb dX10_total_34 rfl hl (by decide) rfl (fun ls hl => ?_)
      obtain ⟨x5_4, ex5_4, hF⟩ := lt_ok hF
      refine lv_iinc (v := x5_4) (lv' := [(5, .int x5_4), (3, .long x3_3), (0, .ref (gM G)), (1, .int x1), (2, .int x2)]) hx hb dX10_total_35 hl (k := 4) rfl (by rw [ex5_4]; rfl) (by decide) rfl (fun ls hl => ?_)
      refine lv_goto (tgt := 5) hx hb dX10_total_38 (by decide) ?_
      exact ih x1 x2 x3_3 x5_4 hF H locs ls hP hS (lv_sub hl [2, 3, 4, 1, 0] rfl)
def F_total (σ : MS) (a0 : Int32) (a1 : Int32) : Option Int64 :=
  F_total_L5 σ MN a0 a1 (0 : Int64) (0 : Int32)
set_option maxHeartbeats 4000000 in
theorem w_total {p : Program} {l : Launch} {e : Env} {s : State} {m : MethodId} {args : Array Value} {below : List Frame} {meth : Method} {c : Code} {G : MG} (hC : MCx G cX10_total 6 p s m args meth c) (hr : meth.sig.returnType = some .long) {x : Int64} {σ : MS} :
    ∀ (a0 : Int32) (a1 : Int32), F_total σ a0 a1 = some x → MJ p l e rmM_total s m args below meth c G 6 (some (.long x)) σ 0 [(0, .ref (gM G)), (1, .int a0), (2, .int a1)] [] σ := by
  have hx := hC.1
  have hb := hC.2.1
  intro a0 a1 hF H locs ls hP hS hl
  rw [F_total] at hF
  refine lv_lconst (v := 0) hx hb dX10_total_0 (by decide) ?_
  refine lv_lstore_n (lv' := [(3, .long (0 : Int64)), (0, .ref (gM G)), (1, .int a0), (2, .int a1)]) hx hb dX10_total_1 rfl hl (by decide) rfl (fun ls hl => ?_)
  refine lv_iconst (v := 0) hx hb dX10_total_2 (by decide) ?_
  refine lv_istore (lv' := [(5, .int (0 : Int32)), (3, .long (0 : Int64)), (0, .ref (gM G)), (1, .int a0), (2, .int a1)]) hx hb dX10_total_3 hl (by decide) rfl (fun ls hl => ?_)
  exact w_total_L5 hC hr MN a0 a1 (0 : Int64) (0 : Int32) hF H locs ls hP hS (lv_sub hl [2, 3, 4, 1, 0] rfl)
theorem m_total (l : Launch) (G : MG) (a0 : Int32) (a1 : Int32) (σ : MS) (x : Int64) (hF : F_total σ a0 a1 = some x) : Met l yX10_total (ws_ yX10_total cX10_total 6 (some .long)) rmM_total (mP G [.ref (gM G), .int a0, .int a1] σ) (mQ G (some (.long x)) σ) 0 0 (MA G) := by
  refine M_met rfl plM (Nat.le_of_ble_eq_true rfl) ?_
  intro p e s m below meth c hC hr ls hl hP
  exact w_total hC hr a0 a1 hF s.heap [] ls hP va_S.rf hl
theorem iM_total {p : Program} {l : Launch} {e : Env} {R : Room} {s : State} {m : MethodId} {args : Array Value} {below : List Frame} {meth : Method} {c : Code} {H H0 : Heap} {locs : List Loc} {cells slots nL : Nat} {Q : State → Prop} {G : MG} {σ : MS} {cc : ByteArray} {pc : Nat} {ls : Array Slot} {rest : List Value} (hC : MCx G cc nL p s m args meth c) (hP : MRep G σ H) (hS : va_S (MA G) H0 H locs) {a0 : Int32} {a1 : Int32} {x : Int64} (hF : F_total σ a0 a1 = some x) (hl : ls.size = nL) (hW : (rest.map fun v => v.category).sum ≤ 8) (hR : rmM_total.frames + 1 ≤ R.frames ∧ 8 + (6 + 11) + rmM_total.locals ≤ R.locals) (hf : cells ≤ R.cells ∧ slots ≤ R.slots) (hdg : decode cc pc = .ok (.invokevirtual 530, 3))
    (kk : ∀ (H1 : Heap) (locs1 : List Loc), MRep G σ H1 → va_S (MA G) H0 H1 locs1 → W p l e R s m args below meth c H1 locs1 cells slots Q (F0 m (pc + 3) ls (.long x :: rest))) : W p l e R s m args below meth c H locs cells slots Q (F0 m pc ls (.int a1 :: .int a0 :: .ref (gM G) :: rest)) :=
  M_inv hC hP hS [.int a0, .int a1] (m_total l G a0 a1 σ _ hF) (cwV 2 hC.2.2.2.2.1 (lw_V q1928 q1930 qs73 q145 q1931) rfl rfl rfl (by decide +kernel) hR) rfl rfl hl hW hf hdg kk
/-! keepPath -/
abbrev rmM_keepPath : Room := { frames := 1, cells := 0, slots := 0, locals := 28 }
def F_keepPath_b201 (y0 : Int32) (y1 : Int32) (σ : MS) : Option MS :=
  gd (inb y1 200) <|
  lt (wA σ 60 (Int32.toNatClampNeg y1) y0) fun σ_2 =>
  some σ_2
set_option maxHeartbeats 4000000 in
theorem w_keepPath_b201 {p : Program} {l : Launch} {e : Env} {s : State} {m : MethodId} {args : Array Value} {below : List Frame} {meth : Method} {c : Code} {G : MG} (hC : MCx G cX10_keepPath 3 p s m args meth c) (hr : meth.sig.returnType = none) {x : MS} :
    ∀ (y0 : Int32) (y1 : Int32) (σ : MS), F_keepPath_b201 y0 y1 σ = some x → MJ p l e rmM_keepPath s m args below meth c G 3 none x 201 [] [.int y0, .int y1, .ref (gA G 60)] σ := by
  have hx := hC.1
  have hb := hC.2.1
  intro y0 y1 σ hF H locs ls hP hS hl
  rw [F_keepPath_b201] at hF
  obtain ⟨h_1, hF⟩ := gd_ok hF
  refine M_iast hC hP hS 60 (by decide) rfl rfl rfl h_1 dX10_keepPath_201 (fun H locs hP hS => ?_)
  obtain ⟨σ_2, eσ_2, hF⟩ := lt_ok hF
  rw [← eσ_2] at hP
  exact M_retv hC hP hS hr (Option.some.inj hF) dX10_keepPath_202
def F_keepPath_b155 (x1 : Int32) (σ : MS) : Option MS :=
  gd (inb x1 16) <|
  gd (inb (mI σ 55) 200) <|
  lt (wL σ 62 (Int32.toNatClampNeg (mI σ 55)) (mL σ 44 (Int32.toNatClampNeg x1))) fun σ_3 =>
  gd (inb x1 16) <|
  if (mA σ_3 49 (Int32.toNatClampNeg x1)) = (2 : Int32) then
    gd (inb (mI σ_3 54) 104) <|
    F_keepPath_b201 (mA σ_3 23 (Int32.toNatClampNeg (mI σ_3 54))) (mI σ_3 55) σ_3
  else
    F_keepPath_b201 (-1 : Int32) (mI σ_3 55) σ_3
set_option maxHeartbeats 4000000 in
theorem w_keepPath_b155 {p : Program} {l : Launch} {e : Env} {s : State} {m : MethodId} {args : Array Value} {below : List Frame} {meth : Method} {c : Code} {G : MG} (hC : MCx G cX10_keepPath 3 p s m args meth c) (hr : meth.sig.returnType = none) {x : MS} :
    ∀ (x1 : Int32) (σ : MS), F_keepPath_b155 x1 σ = some x → MJ p l e rmM_keepPath s m args below meth c G 3 none x 155 [(0, .ref (gM G)), (1, .int x1)] [] σ := by
  have hx := hC.1
  have hb := hC.2.1
  intro x1 σ hF H locs ls hP hS hl
  rw [F_keepPath_b155] at hF
  refine lv_aload_n hx hb dX10_keepPath_155 rfl (lv_at hl 0 rfl) ?_
  refine gM62 hC hP dX10_keepPath_156 ?_
  refine lv_aload_n hx hb dX10_keepPath_159 rfl (lv_at hl 0 rfl) ?_
  refine gM55 hC hP dX10_keepPath_160 ?_
  refine lv_aload_n hx hb dX10_keepPath_163 rfl (lv_at hl 0 rfl) ?_
  refine gM44 hC hP dX10_keepPath_164 ?_
  refine lv_iload_n hx hb dX10_keepPath_167 rfl (lv_at hl 1 rfl) ?_
  obtain ⟨h_1, hF⟩ := gd_ok hF
  refine M_lald hC hP 44 (by decide) rfl rfl rfl h_1 dX10_keepPath_168 ?_
  obtain ⟨h_2, hF⟩ := gd_ok hF
  refine M_last hC hP hS 62 (by decide) rfl rfl rfl h_2 dX10_keepPath_169 (fun H locs hP hS => ?_)
  obtain ⟨σ_3, eσ_3, hF⟩ := lt_ok hF
  rw [← eσ_3] at hP
  refine lv_aload_n hx hb dX10_keepPath_170 rfl (lv_at hl 0 rfl) ?_
  refine gM60 hC hP dX10_keepPath_171 ?_
  refine lv_aload_n hx hb dX10_keepPath_174 rfl (lv_at hl 0 rfl) ?_
  refine gM55 hC hP dX10_keepPath_175 ?_
  refine lv_aload_n hx hb dX10_keepPath_178 rfl (lv_at hl 0 rfl) ?_
  refine gM49 hC hP dX10_keepPath_179 ?_
  refine lv_iload_n hx hb dX10_keepPath_182 rfl (lv_at hl 1 rfl) ?_
  obtain ⟨h_4, hF⟩ := gd_ok hF
  refine M_iald hC hP 49 (by decide) rfl rfl rfl h_4 dX10_keepPath_183 ?_
  refine lv_iconst (v := 2) hx hb dX10_keepPath_184 (by decide) ?_
  refine lv_icmp_ne (tgt := 200) hx hb dX10_keepPath_185 (by decide) (fun c_5 => ?_) (fun c_5 => ?_)
  · replace hF := it_f hF c_5
    refine lv_iconst (v := -1) hx hb dX10_keepPath_200 (by decide) ?_
    exact w_keepPath_b201 hC hr (-1 : Int32) (mI σ_3 55) σ_3 hF H locs ls hP hS (lv_sub hl [] rfl)
  · replace hF := it_t hF c_5
    refine lv_aload_n hx hb dX10_keepPath_188 rfl (lv_at hl 0 rfl) ?_
    refine gM23 hC hP dX10_keepPath_189 ?_
    refine lv_aload_n hx hb dX10_keepPath_192 rfl (lv_at hl 0 rfl) ?_
    refine gM54 hC hP dX10_keepPath_193 ?_
    obtain ⟨h_6, hF⟩ := gd_ok hF
    refine M_iald hC hP 23 (by decide) rfl rfl rfl h_6 dX10_keepPath_196 ?_
    refine lv_goto (tgt := 201) hx hb dX10_keepPath_197 (by decide) ?_
    exact w_keepPath_b201 hC hr (mA σ_3 23 (Int32.toNatClampNeg (mI σ_3 54))) (mI σ_3 55) σ_3 hF H locs ls hP hS (lv_sub hl [] rfl)
def F_keepPath_b148 (k79 : Int32 → Int32 → MS → Option MS) (x1 : Int32) (x2 : Int32) (y0 : Int32) (y1 : Int32) (σ : MS) : Option MS :=
  gd (inb y1 1600) <|
  lt (wA σ 59 (Int32.toNatClampNeg y1) y0) fun σ_2 =>
  lt (x2 + (1 : Int32)) fun x2_3 =>
  k79 x1 x2_3 σ_2
set_option maxHeartbeats 4000000 in
theorem w_keepPath_b148 {p : Program} {l : Launch} {e : Env} {s : State} {m : MethodId} {args : Array Value} {below : List Frame} {meth : Method} {c : Code} {G : MG} (hC : MCx G cX10_keepPath 3 p s m args meth c) (hr : meth.sig.returnType = none) {x : MS} (k79 : Int32 → Int32 → MS → Option MS) (hk79 : ∀ (x1 : Int32) (x2 : Int32) (σ : MS), k79 x1 x2 σ = some x → MJ p l e rmM_keepPath s m args below meth c G 3 none x 79 [(0, .ref (gM G)), (1, .int x1), (2, .int x2)] [] σ) :
    ∀ (x1 : Int32) (x2 : Int32) (y0 : Int32) (y1 : Int32) (σ : MS), F_keepPath_b148 k79 x1 x2 y0 y1 σ = some x → MJ p l e rmM_keepPath s m args below meth c G 3 none x 148 [(0, .ref (gM G)), (1, .int x1), (2, .int x2)] [.int y0, .int y1, .ref (gA G 59)] σ := by
  have hx := hC.1
  have hb := hC.2.1
  intro x1 x2 y0 y1 σ hF H locs ls hP hS hl
  rw [F_keepPath_b148] at hF
  obtain ⟨h_1, hF⟩ := gd_ok hF
  refine M_iast hC hP hS 59 (by decide) rfl rfl rfl h_1 dX10_keepPath_148 (fun H locs hP hS => ?_)
  obtain ⟨σ_2, eσ_2, hF⟩ := lt_ok hF
  rw [← eσ_2] at hP
  obtain ⟨x2_3, ex2_3, hF⟩ := lt_ok hF
  refine lv_iinc (v := x2_3) (lv' := [(2, .int x2_3), (0, .ref (gM G)), (1, .int x1)]) hx hb dX10_keepPath_149 hl (k := 2) rfl (by rw [ex2_3]; rfl) (by decide) rfl (fun ls hl => ?_)
  refine lv_goto (tgt := 79) hx hb dX10_keepPath_152 (by decide) ?_
  exact hk79 x1 x2_3 σ_2 hF H locs ls hP hS (lv_sub hl [1, 2, 0] rfl)
def F_keepPath_b116 (k79 : Int32 → Int32 → MS → Option MS) (x1 : Int32) (x2 : Int32) (y0 : Int64) (y1 : Int32) (σ : MS) : Option MS :=
  gd (inb y1 1600) <|
  lt (wL σ 61 (Int32.toNatClampNeg y1) y0) fun σ_2 =>
  bd (F_inputs σ_2) fun r_4 =>
  if r_4 ≤ x2 then
    F_keepPath_b148 k79 x1 x2 (0 : Int32) (((8 : Int32) * (mI σ_2 55)) + x2) σ_2
  else
    bd (F_endsOf σ_2 x1 x2) fun r_7 =>
    F_keepPath_b148 k79 x1 x2 r_7 (((8 : Int32) * (mI σ_2 55)) + x2) σ_2
set_option maxHeartbeats 4000000 in
theorem w_keepPath_b116 {p : Program} {l : Launch} {e : Env} {s : State} {m : MethodId} {args : Array Value} {below : List Frame} {meth : Method} {c : Code} {G : MG} (hC : MCx G cX10_keepPath 3 p s m args meth c) (hr : meth.sig.returnType = none) {x : MS} (k79 : Int32 → Int32 → MS → Option MS) (hk79 : ∀ (x1 : Int32) (x2 : Int32) (σ : MS), k79 x1 x2 σ = some x → MJ p l e rmM_keepPath s m args below meth c G 3 none x 79 [(0, .ref (gM G)), (1, .int x1), (2, .int x2)] [] σ) :
    ∀ (x1 : Int32) (x2 : Int32) (y0 : Int64) (y1 : Int32) (σ : MS), F_keepPath_b116 k79 x1 x2 y0 y1 σ = some x → MJ p l e rmM_keepPath s m args below meth c G 3 none x 116 [(0, .ref (gM G)), (1, .int x1), (2, .int x2)] [.long y0, .int y1, .ref (gA G 61)] σ := by
  have hx := hC.1
  have hb := hC.2.1
  intro x1 x2 y0 y1 σ hF H locs ls hP hS hl
  rw [F_keepPath_b116] at hF
  obtain ⟨h_1, hF⟩ := gd_ok hF
  refine M_last hC hP hS 61 (by decide) rfl rfl rfl h_1 dX10_keepPath_116 (fun H locs hP hS => ?_)
  obtain ⟨σ_2, eσ_2, hF⟩ := lt_ok hF
  rw [← eσ_2] at hP
  refine lv_aload_n hx hb dX10_keepPath_117 rfl (lv_at hl 0 rfl) ?_
  refine gM59 hC hP dX10_keepPath_118 ?_
  refine lv_bipush (v := 8) hx hb dX10_keepPath_121 (by decide) ?_
  refine lv_aload_n hx hb dX10_keepPath_123 rfl (lv_at hl 0 rfl) ?_
  refine gM55 hC hP dX10_keepPath_124 ?_
  refine lv_imul hx hb dX10_keepPath_127 ?_
  refine lv_iload_n hx hb dX10_keepPath_128 rfl (lv_at hl 2 rfl) ?_
  refine lv_iadd hx hb dX10_keepPath_129 ?_
  refine lv_iload_n hx hb dX10_keepPath_130 rfl (lv_at hl 2 rfl) ?_
  refine lv_aload_n hx hb dX10_keepPath_131 rfl (lv_at hl 0 rfl) ?_
  obtain ⟨r_4, hc_3, hF⟩ := bd_ok hF
  refine iM_inputs hC hP hS hc_3 hl.1 (Nat.le_of_ble_eq_true rfl) ⟨Nat.le_of_ble_eq_true rfl, Nat.le_of_ble_eq_true rfl⟩ ⟨Nat.zero_le _, Nat.zero_le _⟩ dX10_keepPath_132 (fun H locs hP hS => ?_)
  refine lv_icmp_ge (tgt := 147) hx hb dX10_keepPath_135 (by decide) (fun c_5 => ?_) (fun c_5 => ?_)
  · replace hF := it_t hF c_5
    refine lv_iconst (v := 0) hx hb dX10_keepPath_147 (by decide) ?_
    exact w_keepPath_b148 hC hr k79 hk79 x1 x2 (0 : Int32) (((8 : Int32) * (mI σ_2 55)) + x2) σ_2 hF H locs ls hP hS (lv_sub hl [0, 1, 2] rfl)
  · replace hF := it_f hF c_5
    refine lv_aload_n hx hb dX10_keepPath_138 rfl (lv_at hl 0 rfl) ?_
    refine lv_iload_n hx hb dX10_keepPath_139 rfl (lv_at hl 1 rfl) ?_
    refine lv_iload_n hx hb dX10_keepPath_140 rfl (lv_at hl 2 rfl) ?_
    obtain ⟨r_7, hc_6, hF⟩ := bd_ok hF
    refine iM_endsOf hC hP hS hc_6 hl.1 (Nat.le_of_ble_eq_true rfl) ⟨Nat.le_of_ble_eq_true rfl, Nat.le_of_ble_eq_true rfl⟩ ⟨Nat.zero_le _, Nat.zero_le _⟩ dX10_keepPath_141 (fun H locs hP hS => ?_)
    refine lv_goto (tgt := 148) hx hb dX10_keepPath_144 (by decide) ?_
    exact w_keepPath_b148 hC hr k79 hk79 x1 x2 r_7 (((8 : Int32) * (mI σ_2 55)) + x2) σ_2 hF H locs ls hP hS (lv_sub hl [0, 1, 2] rfl)
def F_keepPath_L79 : Nat → Int32 → Int32 → MS → Option MS
  | 0, _, _, _ => none
  | fu + 1, x1, x2, σ =>
    if (8 : Int32) ≤ x2 then
      F_keepPath_b155 x1 σ
    else
      bd (F_inputs σ) fun r_3 =>
      if r_3 ≤ x2 then
        F_keepPath_b116 (F_keepPath_L79 fu) x1 x2 (0 : Int64) (((8 : Int32) * (mI σ 55)) + x2) σ
      else
        bd (F_total σ x1 x2) fun r_6 =>
        F_keepPath_b116 (F_keepPath_L79 fu) x1 x2 r_6 (((8 : Int32) * (mI σ 55)) + x2) σ
set_option maxHeartbeats 4000000 in
theorem w_keepPath_L79 {p : Program} {l : Launch} {e : Env} {s : State} {m : MethodId} {args : Array Value} {below : List Frame} {meth : Method} {c : Code} {G : MG} (hC : MCx G cX10_keepPath 3 p s m args meth c) (hr : meth.sig.returnType = none) {x : MS} :
    ∀ (fu : Nat) (x1 : Int32) (x2 : Int32) (σ : MS), F_keepPath_L79 fu x1 x2 σ = some x → MJ p l e rmM_keepPath s m args below meth c G 3 none x 79 [(0, .ref (gM G)), (1, .int x1), (2, .int x2)] [] σ := by
  have hx := hC.1
  have hb := hC.2.1
  intro fu
  induction fu with
  | zero => intro x1 x2 σ hF; exact nm_none hF
  | succ fu ih =>
    intro x1 x2 σ hF H locs ls hP hS hl
    rw [F_keepPath_L79] at hF
    refine lv_iload_n hx hb dX10_keepPath_79 rfl (lv_at hl 2 rfl) ?_
    refine lv_bipush (v := 8) hx hb dX10_keepPath_80 (by decide) ?_
    refine lv_icmp_ge (tgt := 155) hx hb dX10_keepPath_82 (by decide) (fun c_1 => ?_) (fun c_1 => ?_)
    · replace hF := it_t hF c_1
      exact w_keepPath_b155 hC hr x1 σ hF H locs ls hP hS (lv_sub hl [0, 1] rfl)
    · replace hF := it_f hF c_1
      refine lv_aload_n hx hb dX10_keepPath_85 rfl (lv_at hl 0 rfl) ?_
      refine gM61 hC hP dX10_keepPath_86 ?_
      refine lv_bipush (v := 8) hx hb dX10_keepPath_89 (by decide) ?_
      refine lv_aload_n hx hb dX10_keepPath_91 rfl (lv_at hl 0 rfl) ?_
      refine gM55 hC hP dX10_keepPath_92 ?_
      refine lv_imul hx hb dX10_keepPath_95 ?_
      refine lv_iload_n hx hb dX10_keepPath_96 rfl (lv_at hl 2 rfl) ?_
      refine lv_iadd hx hb dX10_keepPath_97 ?_
      refine lv_iload_n hx hb dX10_keepPath_98 rfl (lv_at hl 2 rfl) ?_
      refine lv_aload_n hx hb dX10_keepPath_99 rfl (lv_at hl 0 rfl) ?_
      obtain ⟨r_3, hc_2, hF⟩ := bd_ok hF
      refine iM_inputs hC hP hS hc_2 hl.1 (Nat.le_of_ble_eq_true rfl) ⟨Nat.le_of_ble_eq_true rfl, Nat.le_of_ble_eq_true rfl⟩ ⟨Nat.zero_le _, Nat.zero_le _⟩ dX10_keepPath_100 (fun H locs hP hS => ?_)
      refine lv_icmp_ge (tgt := 115) hx hb dX10_keepPath_103 (by decide) (fun c_4 => ?_) (fun c_4 => ?_)
      · replace hF := it_t hF c_4
        refine lv_lconst (v := 0) hx hb dX10_keepPath_115 (by decide) ?_
        exact w_keepPath_b116 hC hr (F_keepPath_L79 fu) ih x1 x2 (0 : Int64) (((8 : Int32) * (mI σ 55)) + x2) σ hF H locs ls hP hS (lv_sub hl [0, 1, 2] rfl)
      · replace hF := it_f hF c_4
        refine lv_aload_n hx hb dX10_keepPath_106 rfl (lv_at hl 0 rfl) ?_
        refine lv_iload_n hx hb dX10_keepPath_107 rfl (lv_at hl 1 rfl) ?_
        refine lv_iload_n hx hb dX10_keepPath_108 rfl (lv_at hl 2 rfl) ?_
        obtain ⟨r_6, hc_5, hF⟩ := bd_ok hF
        refine iM_total hC hP hS hc_5 hl.1 (Nat.le_of_ble_eq_true rfl) ⟨Nat.le_of_ble_eq_true rfl, Nat.le_of_ble_eq_true rfl⟩ ⟨Nat.zero_le _, Nat.zero_le _⟩ dX10_keepPath_109 (fun H locs hP hS => ?_)
        refine lv_goto (tgt := 116) hx hb dX10_keepPath_112 (by decide) ?_
        exact w_keepPath_b116 hC hr (F_keepPath_L79 fu) ih x1 x2 r_6 (((8 : Int32) * (mI σ 55)) + x2) σ hF H locs ls hP hS (lv_sub hl [0, 1, 2] rfl)
def F_keepPath_b77 (x1 : Int32) (σ : MS) : Option MS :=
  F_keepPath_L79 MN x1 (0 : Int32) σ
set_option maxHeartbeats 4000000 in
theorem w_keepPath_b77 {p : Program} {l : Launch} {e : Env} {s : State} {m : MethodId} {args : Array Value} {below : List Frame} {meth : Method} {c : Code} {G : MG} (hC : MCx G cX10_keepPath 3 p s m args meth c) (hr : meth.sig.returnType = none) {x : MS} :
    ∀ (x1 : Int32) (σ : MS), F_keepPath_b77 x1 σ = some x → MJ p l e rmM_keepPath s m args below meth c G 3 none x 77 [(0, .ref (gM G)), (1, .int x1)] [] σ := by
  have hx := hC.1
  have hb := hC.2.1
  intro x1 σ hF H locs ls hP hS hl
  rw [F_keepPath_b77] at hF
  refine lv_iconst (v := 0) hx hb dX10_keepPath_77 (by decide) ?_
  refine lv_istore_n (lv' := [(2, .int (0 : Int32)), (0, .ref (gM G)), (1, .int x1)]) hx hb dX10_keepPath_78 rfl hl (by decide) rfl (fun ls hl => ?_)
  exact w_keepPath_L79 hC hr MN x1 (0 : Int32) σ hF H locs ls hP hS (lv_sub hl [1, 2, 0] rfl)
def F_keepPath_L23 : Nat → Int32 → Int32 → MS → Option MS
  | 0, _, _, _ => none
  | fu + 1, x1, x2, σ =>
    if x1 ≤ x2 then
      F_keepPath_b77 x1 σ
    else
      gd (inb (mI σ 55) 200) <|
      gd (inb x2 16) <|
      gd (inb (((6 : Int32) * (mI σ 55)) + (mA σ 57 (Int32.toNatClampNeg (mI σ 55)))) 1200) <|
      lt (wA σ 58 (Int32.toNatClampNeg (((6 : Int32) * (mI σ 55)) + (mA σ 57 (Int32.toNatClampNeg (mI σ 55))))) ((mA σ 50 (Int32.toNatClampNeg x2)) - (1 : Int32))) fun σ_5 =>
      gd (inb (mI σ_5 55) 200) <|
      gd (inb (mI σ_5 55) 200) <|
      lt (wA σ_5 57 (Int32.toNatClampNeg (mI σ_5 55)) ((mA σ_5 57 (Int32.toNatClampNeg (mI σ_5 55))) + (1 : Int32))) fun σ_8 =>
      lt (x2 + (1 : Int32)) fun x2_9 =>
      F_keepPath_L23 fu x1 x2_9 σ_8
set_option maxHeartbeats 4000000 in
theorem w_keepPath_L23 {p : Program} {l : Launch} {e : Env} {s : State} {m : MethodId} {args : Array Value} {below : List Frame} {meth : Method} {c : Code} {G : MG} (hC : MCx G cX10_keepPath 3 p s m args meth c) (hr : meth.sig.returnType = none) {x : MS} :
    ∀ (fu : Nat) (x1 : Int32) (x2 : Int32) (σ : MS), F_keepPath_L23 fu x1 x2 σ = some x → MJ p l e rmM_keepPath s m args below meth c G 3 none x 23 [(0, .ref (gM G)), (1, .int x1), (2, .int x2)] [] σ := by
  have hx := hC.1
  have hb := hC.2.1
  intro fu
  induction fu with
  | zero => intro x1 x2 σ hF; exact nm_none hF
  | succ fu ih =>
    intro x1 x2 σ hF H locs ls hP hS hl
    rw [F_keepPath_L23] at hF
    refine lv_iload_n hx hb dX10_keepPath_23 rfl (lv_at hl 2 rfl) ?_
    refine lv_iload_n hx hb dX10_keepPath_24 rfl (lv_at hl 1 rfl) ?_
    refine lv_icmp_ge (tgt := 77) hx hb dX10_keepPath_25 (by decide) (fun c_1 => ?_) (fun c_1 => ?_)
    · replace hF := it_t hF c_1
      exact w_keepPath_b77 hC hr x1 σ hF H locs ls hP hS (lv_sub hl [0, 1] rfl)
    · replace hF := it_f hF c_1
      refine lv_aload_n hx hb dX10_keepPath_28 rfl (lv_at hl 0 rfl) ?_
      refine gM58 hC hP dX10_keepPath_29 ?_
      refine lv_bipush (v := 6) hx hb dX10_keepPath_32 (by decide) ?_
      refine lv_aload_n hx hb dX10_keepPath_34 rfl (lv_at hl 0 rfl) ?_
      refine gM55 hC hP dX10_keepPath_35 ?_
      refine lv_imul hx hb dX10_keepPath_38 ?_
      refine lv_aload_n hx hb dX10_keepPath_39 rfl (lv_at hl 0 rfl) ?_
      refine gM57 hC hP dX10_keepPath_40 ?_
      refine lv_aload_n hx hb dX10_keepPath_43 rfl (lv_at hl 0 rfl) ?_
      refine gM55 hC hP dX10_keepPath_44 ?_
      obtain ⟨h_2, hF⟩ := gd_ok hF
      refine M_iald hC hP 57 (by decide) rfl rfl rfl h_2 dX10_keepPath_47 ?_
      refine lv_iadd hx hb dX10_keepPath_48 ?_
      refine lv_aload_n hx hb dX10_keepPath_49 rfl (lv_at hl 0 rfl) ?_
      refine gM50 hC hP dX10_keepPath_50 ?_
      refine lv_iload_n hx hb dX10_keepPath_53 rfl (lv_at hl 2 rfl) ?_
      obtain ⟨h_3, hF⟩ := gd_ok hF
      refine M_iald hC hP 50 (by decide) rfl rfl rfl h_3 dX10_keepPath_54 ?_
      refine lv_iconst (v := 1) hx hb dX10_keepPath_55 (by decide) ?_
      refine lv_isub hx hb dX10_keepPath_56 ?_
      obtain ⟨h_4, hF⟩ := gd_ok hF
      refine M_iast hC hP hS 58 (by decide) rfl rfl rfl h_4 dX10_keepPath_57 (fun H locs hP hS => ?_)
      obtain ⟨σ_5, eσ_5, hF⟩ := lt_ok hF
      rw [← eσ_5] at hP
      refine lv_aload_n hx hb dX10_keepPath_58 rfl (lv_at hl 0 rfl) ?_
      refine gM57 hC hP dX10_keepPath_59 ?_
      refine lv_aload_n hx hb dX10_keepPath_62 rfl (lv_at hl 0 rfl) ?_
      refine gM55 hC hP dX10_keepPath_63 ?_
      refine lv_dup2_11 hx hb dX10_keepPath_66 rfl rfl ?_
      obtain ⟨h_6, hF⟩ := gd_ok hF
      refine M_iald hC hP 57 (by decide) rfl rfl rfl h_6 dX10_keepPath_67 ?_
      refine lv_iconst (v := 1) hx hb dX10_keepPath_68 (by decide) ?_
      refine lv_iadd hx hb dX10_keepPath_69 ?_
      obtain ⟨h_7, hF⟩ := gd_ok hF
      refine M_iast hC hP hS 57 (by decide) rfl rfl rfl h_7 dX10_keepPath_70 (fun H locs hP hS => ?_)
      obtain ⟨σ_8, eσ_8, hF⟩ := lt_ok hF
      rw [← eσ_8] at hP
      obtain ⟨x2_9, ex2_9, hF⟩ := lt_ok hF
      refine lv_iinc (v := x2_9) (lv' := [(2, .int x2_9), (0, .ref (gM G)), (1, .int x1)]) hx hb dX10_keepPath_71 hl (k := 2) rfl (by rw [ex2_9]; rfl) (by decide) rfl (fun ls hl => ?_)
      refine lv_goto (tgt := 23) hx hb dX10_keepPath_74 (by decide) ?_
      exact ih x1 x2_9 σ_8 hF H locs ls hP hS (lv_sub hl [1, 2, 0] rfl)
def F_keepPath (a0 : Int32) (σ : MS) : Option MS :=
  if (mI σ 55) < (200 : Int32) then
    gd (inb (mI σ 55) 200) <|
    lt (wA σ 57 (Int32.toNatClampNeg (mI σ 55)) (0 : Int32)) fun σ_3 =>
    F_keepPath_L23 MN a0 (0 : Int32) σ_3
  else
    some σ
set_option maxHeartbeats 4000000 in
theorem w_keepPath {p : Program} {l : Launch} {e : Env} {s : State} {m : MethodId} {args : Array Value} {below : List Frame} {meth : Method} {c : Code} {G : MG} (hC : MCx G cX10_keepPath 3 p s m args meth c) (hr : meth.sig.returnType = none) {x : MS} :
    ∀ (a0 : Int32) (σ : MS), F_keepPath a0 σ = some x → MJ p l e rmM_keepPath s m args below meth c G 3 none x 0 [(0, .ref (gM G)), (1, .int a0)] [] σ := by
  have hx := hC.1
  have hb := hC.2.1
  intro a0 σ hF H locs ls hP hS hl
  rw [F_keepPath] at hF
  refine lv_aload_n hx hb dX10_keepPath_0 rfl (lv_at hl 0 rfl) ?_
  refine gM55 hC hP dX10_keepPath_1 ?_
  refine lv_sipush (v := 200) hx hb dX10_keepPath_4 (by decide) ?_
  refine lv_icmp_lt (tgt := 11) hx hb dX10_keepPath_7 (by decide) (fun c_1 => ?_) (fun c_1 => ?_)
  · replace hF := it_t hF c_1
    refine lv_aload_n hx hb dX10_keepPath_11 rfl (lv_at hl 0 rfl) ?_
    refine gM57 hC hP dX10_keepPath_12 ?_
    refine lv_aload_n hx hb dX10_keepPath_15 rfl (lv_at hl 0 rfl) ?_
    refine gM55 hC hP dX10_keepPath_16 ?_
    refine lv_iconst (v := 0) hx hb dX10_keepPath_19 (by decide) ?_
    obtain ⟨h_2, hF⟩ := gd_ok hF
    refine M_iast hC hP hS 57 (by decide) rfl rfl rfl h_2 dX10_keepPath_20 (fun H locs hP hS => ?_)
    obtain ⟨σ_3, eσ_3, hF⟩ := lt_ok hF
    rw [← eσ_3] at hP
    refine lv_iconst (v := 0) hx hb dX10_keepPath_21 (by decide) ?_
    refine lv_istore_n (lv' := [(2, .int (0 : Int32)), (0, .ref (gM G)), (1, .int a0)]) hx hb dX10_keepPath_22 rfl hl (by decide) rfl (fun ls hl => ?_)
    exact w_keepPath_L23 hC hr MN a0 (0 : Int32) σ_3 hF H locs ls hP hS (lv_sub hl [1, 2, 0] rfl)
  · replace hF := it_f hF c_1
    exact M_retv hC hP hS hr (Option.some.inj hF) dX10_keepPath_10
theorem m_keepPath (l : Launch) (G : MG) (a0 : Int32) (σ : MS) (x : MS) (hF : F_keepPath a0 σ = some x) : Met l yX10_keepPath (ws_ yX10_keepPath cX10_keepPath 3 none) rmM_keepPath (mP G [.ref (gM G), .int a0] σ) (mQ G none x) 0 0 (MA G) := by
  refine M_met rfl plM (Nat.le_of_ble_eq_true rfl) ?_
  intro p e s m below meth c hC hr ls hl hP
  exact w_keepPath hC hr a0 σ hF s.heap [] ls hP va_S.rf hl
theorem iM_keepPath {p : Program} {l : Launch} {e : Env} {R : Room} {s : State} {m : MethodId} {args : Array Value} {below : List Frame} {meth : Method} {c : Code} {H H0 : Heap} {locs : List Loc} {cells slots nL : Nat} {Q : State → Prop} {G : MG} {σ : MS} {cc : ByteArray} {pc : Nat} {ls : Array Slot} {rest : List Value} (hC : MCx G cc nL p s m args meth c) (hP : MRep G σ H) (hS : va_S (MA G) H0 H locs) {a0 : Int32} {x : MS} (hF : F_keepPath a0 σ = some x) (hl : ls.size = nL) (hW : (rest.map fun v => v.category).sum ≤ 8) (hR : rmM_keepPath.frames + 1 ≤ R.frames ∧ 8 + (3 + 11) + rmM_keepPath.locals ≤ R.locals) (hf : cells ≤ R.cells ∧ slots ≤ R.slots) (hdg : decode cc pc = .ok (.invokevirtual 524, 3))
    (kk : ∀ (H1 : Heap) (locs1 : List Loc), MRep G x H1 → va_S (MA G) H0 H1 locs1 → W p l e R s m args below meth c H1 locs1 cells slots Q (F0 m (pc + 3) ls (rest))) : W p l e R s m args below meth c H locs cells slots Q (F0 m pc ls (.int a0 :: .ref (gM G) :: rest)) :=
  M_inv hC hP hS [.int a0] (m_keepPath l G a0 σ _ hF) (cwV 1 hC.2.2.2.2.1 (lw_V q1924 q1926 qs72 q145 q1927) rfl rfl rfl (by decide +kernel) hR) rfl rfl hl hW hf hdg kk
/-! leaf -/
abbrev rmM_leaf : Room := { frames := 2, cells := 0, slots := 0, locals := 50 }
def F_leaf_b109 (k45 : Int32 → Int32 → MS → Option MS) (x1 : Int32) (x2 : Int32) (σ : MS) : Option MS :=
  lt (x2 + (1 : Int32)) fun x2_1 =>
  k45 x1 x2_1 σ
set_option maxHeartbeats 4000000 in
theorem w_leaf_b109 {p : Program} {l : Launch} {e : Env} {s : State} {m : MethodId} {args : Array Value} {below : List Frame} {meth : Method} {c : Code} {G : MG} (hC : MCx G cX10_leaf 4 p s m args meth c) (hr : meth.sig.returnType = none) {x : MS} (k45 : Int32 → Int32 → MS → Option MS) (hk45 : ∀ (x1 : Int32) (x2 : Int32) (σ : MS), k45 x1 x2 σ = some x → MJ p l e rmM_leaf s m args below meth c G 4 none x 45 [(0, .ref (gM G)), (1, .int x1), (2, .int x2)] [] σ) :
    ∀ (x1 : Int32) (x2 : Int32) (σ : MS), F_leaf_b109 k45 x1 x2 σ = some x → MJ p l e rmM_leaf s m args below meth c G 4 none x 109 [(0, .ref (gM G)), (1, .int x1), (2, .int x2)] [] σ := by
  have hx := hC.1
  have hb := hC.2.1
  intro x1 x2 σ hF H locs ls hP hS hl
  rw [F_leaf_b109] at hF
  obtain ⟨x2_1, ex2_1, hF⟩ := lt_ok hF
  refine lv_iinc (v := x2_1) (lv' := [(2, .int x2_1), (0, .ref (gM G)), (1, .int x1)]) hx hb dX10_leaf_109 hl (k := 2) rfl (by rw [ex2_1]; rfl) (by decide) rfl (fun ls hl => ?_)
  refine lv_goto (tgt := 45) hx hb dX10_leaf_112 (by decide) ?_
  exact hk45 x1 x2_1 σ hF H locs ls hP hS (lv_sub hl [1, 2, 0] rfl)
def F_leaf_b103 (k55 : Int32 → Int32 → Int32 → MS → Option MS) (x1 : Int32) (x2 : Int32) (x3 : Int32) (σ : MS) : Option MS :=
  lt (x3 + (1 : Int32)) fun x3_1 =>
  k55 x1 x2 x3_1 σ
set_option maxHeartbeats 4000000 in
theorem w_leaf_b103 {p : Program} {l : Launch} {e : Env} {s : State} {m : MethodId} {args : Array Value} {below : List Frame} {meth : Method} {c : Code} {G : MG} (hC : MCx G cX10_leaf 4 p s m args meth c) (hr : meth.sig.returnType = none) {x : MS} (k55 : Int32 → Int32 → Int32 → MS → Option MS) (hk55 : ∀ (x1 : Int32) (x2 : Int32) (x3 : Int32) (σ : MS), k55 x1 x2 x3 σ = some x → MJ p l e rmM_leaf s m args below meth c G 4 none x 55 [(0, .ref (gM G)), (1, .int x1), (2, .int x2), (3, .int x3)] [] σ) :
    ∀ (x1 : Int32) (x2 : Int32) (x3 : Int32) (σ : MS), F_leaf_b103 k55 x1 x2 x3 σ = some x → MJ p l e rmM_leaf s m args below meth c G 4 none x 103 [(0, .ref (gM G)), (1, .int x1), (2, .int x2), (3, .int x3)] [] σ := by
  have hx := hC.1
  have hb := hC.2.1
  intro x1 x2 x3 σ hF H locs ls hP hS hl
  rw [F_leaf_b103] at hF
  obtain ⟨x3_1, ex3_1, hF⟩ := lt_ok hF
  refine lv_iinc (v := x3_1) (lv' := [(3, .int x3_1), (0, .ref (gM G)), (1, .int x1), (2, .int x2)]) hx hb dX10_leaf_103 hl (k := 3) rfl (by rw [ex3_1]; rfl) (by decide) rfl (fun ls hl => ?_)
  refine lv_goto (tgt := 55) hx hb dX10_leaf_106 (by decide) ?_
  exact hk55 x1 x2 x3_1 σ hF H locs ls hP hS (lv_sub hl [1, 2, 3, 0] rfl)
def F_leaf_b82 (k103 : Int32 → Int32 → Int32 → MS → Option MS) (x1 : Int32) (x2 : Int32) (x3 : Int32) (σ : MS) : Option MS :=
  bd (F_total σ x1 x2) fun r_2 =>
  bd (F_total σ x1 x3) fun r_4 =>
  if (lg_cmp r_2 r_4) = 0 then
    k103 x1 x2 x3 σ
  else
    lt (wI σ 66 (1 : Int32)) fun σ_6 =>
    k103 x1 x2 x3 σ_6
set_option maxHeartbeats 4000000 in
theorem w_leaf_b82 {p : Program} {l : Launch} {e : Env} {s : State} {m : MethodId} {args : Array Value} {below : List Frame} {meth : Method} {c : Code} {G : MG} (hC : MCx G cX10_leaf 4 p s m args meth c) (hr : meth.sig.returnType = none) {x : MS} (k103 : Int32 → Int32 → Int32 → MS → Option MS) (hk103 : ∀ (x1 : Int32) (x2 : Int32) (x3 : Int32) (σ : MS), k103 x1 x2 x3 σ = some x → MJ p l e rmM_leaf s m args below meth c G 4 none x 103 [(0, .ref (gM G)), (1, .int x1), (2, .int x2), (3, .int x3)] [] σ) :
    ∀ (x1 : Int32) (x2 : Int32) (x3 : Int32) (σ : MS), F_leaf_b82 k103 x1 x2 x3 σ = some x → MJ p l e rmM_leaf s m args below meth c G 4 none x 82 [(0, .ref (gM G)), (1, .int x1), (2, .int x2), (3, .int x3)] [] σ := by
  have hx := hC.1
  have hb := hC.2.1
  intro x1 x2 x3 σ hF H locs ls hP hS hl
  rw [F_leaf_b82] at hF
  refine lv_aload_n hx hb dX10_leaf_82 rfl (lv_at hl 0 rfl) ?_
  refine lv_iload_n hx hb dX10_leaf_83 rfl (lv_at hl 1 rfl) ?_
  refine lv_iload_n hx hb dX10_leaf_84 rfl (lv_at hl 2 rfl) ?_
  obtain ⟨r_2, hc_1, hF⟩ := bd_ok hF
  refine iM_total hC hP hS hc_1 hl.1 (Nat.le_of_ble_eq_true rfl) ⟨Nat.le_of_ble_eq_true rfl, Nat.le_of_ble_eq_true rfl⟩ ⟨Nat.zero_le _, Nat.zero_le _⟩ dX10_leaf_85 (fun H locs hP hS => ?_)
  refine lv_aload_n hx hb dX10_leaf_88 rfl (lv_at hl 0 rfl) ?_
  refine lv_iload_n hx hb dX10_leaf_89 rfl (lv_at hl 1 rfl) ?_
  refine lv_iload_n hx hb dX10_leaf_90 rfl (lv_at hl 3 rfl) ?_
  obtain ⟨r_4, hc_3, hF⟩ := bd_ok hF
  refine iM_total hC hP hS hc_3 hl.1 (Nat.le_of_ble_eq_true rfl) ⟨Nat.le_of_ble_eq_true rfl, Nat.le_of_ble_eq_true rfl⟩ ⟨Nat.zero_le _, Nat.zero_le _⟩ dX10_leaf_91 (fun H locs hP hS => ?_)
  refine W.lcmp hx hb dX10_leaf_94 ?_
  refine lv_if_eq (tgt := 103) hx hb dX10_leaf_95 (by decide) (fun c_5 => ?_) (fun c_5 => ?_)
  · replace hF := it_t hF c_5
    exact hk103 x1 x2 x3 σ hF H locs ls hP hS (lv_sub hl [0, 1, 2, 3] rfl)
  · replace hF := it_f hF c_5
    refine lv_aload_n hx hb dX10_leaf_98 rfl (lv_at hl 0 rfl) ?_
    refine lv_iconst (v := 1) hx hb dX10_leaf_99 (by decide) ?_
    refine pM66 hC hP hS (Or.inr rfl) dX10_leaf_100 (fun H locs hP hS => ?_)
    obtain ⟨σ_6, eσ_6, hF⟩ := lt_ok hF
    rw [← eσ_6] at hP
    exact hk103 x1 x2 x3 σ_6 hF H locs ls hP hS (lv_sub hl [0, 1, 2, 3] rfl)
def F_leaf_L55 (k45 : Int32 → Int32 → MS → Option MS) : Nat → Int32 → Int32 → Int32 → MS → Option MS
  | 0, _, _, _, _ => none
  | fu + 1, x1, x2, x3, σ =>
    if x2 ≤ x3 then
      F_leaf_b109 k45 x1 x2 σ
    else
      if (mI σ 67) = 0 then
        gd (inb x2 8) <|
        gd (inb x3 8) <|
        if (mA σ 56 (Int32.toNatClampNeg x2)) = (mA σ 56 (Int32.toNatClampNeg x3)) then
          F_leaf_b82 (F_leaf_b103 (F_leaf_L55 k45 fu)) x1 x2 x3 σ
        else
          F_leaf_b103 (F_leaf_L55 k45 fu) x1 x2 x3 σ
      else
        F_leaf_b82 (F_leaf_b103 (F_leaf_L55 k45 fu)) x1 x2 x3 σ
set_option maxHeartbeats 4000000 in
theorem w_leaf_L55 {p : Program} {l : Launch} {e : Env} {s : State} {m : MethodId} {args : Array Value} {below : List Frame} {meth : Method} {c : Code} {G : MG} (hC : MCx G cX10_leaf 4 p s m args meth c) (hr : meth.sig.returnType = none) {x : MS} (k45 : Int32 → Int32 → MS → Option MS) (hk45 : ∀ (x1 : Int32) (x2 : Int32) (σ : MS), k45 x1 x2 σ = some x → MJ p l e rmM_leaf s m args below meth c G 4 none x 45 [(0, .ref (gM G)), (1, .int x1), (2, .int x2)] [] σ) :
    ∀ (fu : Nat) (x1 : Int32) (x2 : Int32) (x3 : Int32) (σ : MS), F_leaf_L55 k45 fu x1 x2 x3 σ = some x → MJ p l e rmM_leaf s m args below meth c G 4 none x 55 [(0, .ref (gM G)), (1, .int x1), (2, .int x2), (3, .int x3)] [] σ := by
  have hx := hC.1
  have hb := hC.2.1
  intro fu
  induction fu with
  | zero => intro x1 x2 x3 σ hF; exact nm_none hF
  | succ fu ih =>
    intro x1 x2 x3 σ hF H locs ls hP hS hl
    rw [F_leaf_L55] at hF
    refine lv_iload_n hx hb dX10_leaf_55 rfl (lv_at hl 3 rfl) ?_
    refine lv_iload_n hx hb dX10_leaf_56 rfl (lv_at hl 2 rfl) ?_
    refine lv_icmp_ge (tgt := 109) hx hb dX10_leaf_57 (by decide) (fun c_1 => ?_) (fun c_1 => ?_)
    · replace hF := it_t hF c_1
      exact w_leaf_b109 hC hr k45 hk45 x1 x2 σ hF H locs ls hP hS (lv_sub hl [0, 1, 2] rfl)
    · replace hF := it_f hF c_1
      refine lv_aload_n hx hb dX10_leaf_60 rfl (lv_at hl 0 rfl) ?_
      refine gM67 hC hP dX10_leaf_61 ?_
      refine lv_if_ne (tgt := 82) hx hb dX10_leaf_64 (by decide) (fun c_2 => ?_) (fun c_2 => ?_)
      · replace hF := it_f hF c_2
        exact w_leaf_b82 hC hr (F_leaf_b103 (F_leaf_L55 k45 fu)) (w_leaf_b103 hC hr (F_leaf_L55 k45 fu) ih) x1 x2 x3 σ hF H locs ls hP hS (lv_sub hl [0, 1, 2, 3] rfl)
      · replace hF := it_t hF c_2
        refine lv_aload_n hx hb dX10_leaf_67 rfl (lv_at hl 0 rfl) ?_
        refine gM56 hC hP dX10_leaf_68 ?_
        refine lv_iload_n hx hb dX10_leaf_71 rfl (lv_at hl 2 rfl) ?_
        obtain ⟨h_3, hF⟩ := gd_ok hF
        refine M_iald hC hP 56 (by decide) rfl rfl rfl h_3 dX10_leaf_72 ?_
        refine lv_aload_n hx hb dX10_leaf_73 rfl (lv_at hl 0 rfl) ?_
        refine gM56 hC hP dX10_leaf_74 ?_
        refine lv_iload_n hx hb dX10_leaf_77 rfl (lv_at hl 3 rfl) ?_
        obtain ⟨h_4, hF⟩ := gd_ok hF
        refine M_iald hC hP 56 (by decide) rfl rfl rfl h_4 dX10_leaf_78 ?_
        refine lv_icmp_ne (tgt := 103) hx hb dX10_leaf_79 (by decide) (fun c_5 => ?_) (fun c_5 => ?_)
        · replace hF := it_f hF c_5
          exact w_leaf_b103 hC hr (F_leaf_L55 k45 fu) ih x1 x2 x3 σ hF H locs ls hP hS (lv_sub hl [0, 1, 2, 3] rfl)
        · replace hF := it_t hF c_5
          exact w_leaf_b82 hC hr (F_leaf_b103 (F_leaf_L55 k45 fu)) (w_leaf_b103 hC hr (F_leaf_L55 k45 fu) ih) x1 x2 x3 σ hF H locs ls hP hS (lv_sub hl [0, 1, 2, 3] rfl)
def F_leaf_L45 : Nat → Int32 → Int32 → MS → Option MS
  | 0, _, _, _ => none
  | fu + 1, x1, x2, σ =>
    bd (F_inputs σ) fun r_2 =>
    if r_2 ≤ x2 then
      some σ
    else
      F_leaf_L55 (F_leaf_L45 fu) MN x1 x2 (0 : Int32) σ
set_option maxHeartbeats 4000000 in
theorem w_leaf_L45 {p : Program} {l : Launch} {e : Env} {s : State} {m : MethodId} {args : Array Value} {below : List Frame} {meth : Method} {c : Code} {G : MG} (hC : MCx G cX10_leaf 4 p s m args meth c) (hr : meth.sig.returnType = none) {x : MS} :
    ∀ (fu : Nat) (x1 : Int32) (x2 : Int32) (σ : MS), F_leaf_L45 fu x1 x2 σ = some x → MJ p l e rmM_leaf s m args below meth c G 4 none x 45 [(0, .ref (gM G)), (1, .int x1), (2, .int x2)] [] σ := by
  have hx := hC.1
  have hb := hC.2.1
  intro fu
  induction fu with
  | zero => intro x1 x2 σ hF; exact nm_none hF
  | succ fu ih =>
    intro x1 x2 σ hF H locs ls hP hS hl
    rw [F_leaf_L45] at hF
    refine lv_iload_n hx hb dX10_leaf_45 rfl (lv_at hl 2 rfl) ?_
    refine lv_aload_n hx hb dX10_leaf_46 rfl (lv_at hl 0 rfl) ?_
    obtain ⟨r_2, hc_1, hF⟩ := bd_ok hF
    refine iM_inputs hC hP hS hc_1 hl.1 (Nat.le_of_ble_eq_true rfl) ⟨Nat.le_of_ble_eq_true rfl, Nat.le_of_ble_eq_true rfl⟩ ⟨Nat.zero_le _, Nat.zero_le _⟩ dX10_leaf_47 (fun H locs hP hS => ?_)
    refine lv_icmp_ge (tgt := 115) hx hb dX10_leaf_50 (by decide) (fun c_3 => ?_) (fun c_3 => ?_)
    · replace hF := it_t hF c_3
      exact M_retv hC hP hS hr (Option.some.inj hF) dX10_leaf_115
    · replace hF := it_f hF c_3
      refine lv_iconst (v := 0) hx hb dX10_leaf_53 (by decide) ?_
      refine lv_istore_n (lv' := [(3, .int (0 : Int32)), (0, .ref (gM G)), (1, .int x1), (2, .int x2)]) hx hb dX10_leaf_54 rfl hl (by decide) rfl (fun ls hl => ?_)
      exact w_leaf_L55 hC hr (F_leaf_L45 fu) ih MN x1 x2 (0 : Int32) σ hF H locs ls hP hS (lv_sub hl [1, 2, 3, 0] rfl)
def F_leaf_b43 (x1 : Int32) (σ : MS) : Option MS :=
  F_leaf_L45 MN x1 (0 : Int32) σ
set_option maxHeartbeats 4000000 in
theorem w_leaf_b43 {p : Program} {l : Launch} {e : Env} {s : State} {m : MethodId} {args : Array Value} {below : List Frame} {meth : Method} {c : Code} {G : MG} (hC : MCx G cX10_leaf 4 p s m args meth c) (hr : meth.sig.returnType = none) {x : MS} :
    ∀ (x1 : Int32) (σ : MS), F_leaf_b43 x1 σ = some x → MJ p l e rmM_leaf s m args below meth c G 4 none x 43 [(0, .ref (gM G)), (1, .int x1)] [] σ := by
  have hx := hC.1
  have hb := hC.2.1
  intro x1 σ hF H locs ls hP hS hl
  rw [F_leaf_b43] at hF
  refine lv_iconst (v := 0) hx hb dX10_leaf_43 (by decide) ?_
  refine lv_istore_n (lv' := [(2, .int (0 : Int32)), (0, .ref (gM G)), (1, .int x1)]) hx hb dX10_leaf_44 rfl hl (by decide) rfl (fun ls hl => ?_)
  exact w_leaf_L45 hC hr MN x1 (0 : Int32) σ hF H locs ls hP hS (lv_sub hl [1, 2, 0] rfl)
def F_leaf_b31 (x1 : Int32) (σ : MS) : Option MS :=
  if (mI σ 51) = 0 then
    bd (F_keepPath x1 σ) fun σ_3 =>
    F_leaf_b43 x1 σ_3
  else
    F_leaf_b43 x1 σ
set_option maxHeartbeats 4000000 in
theorem w_leaf_b31 {p : Program} {l : Launch} {e : Env} {s : State} {m : MethodId} {args : Array Value} {below : List Frame} {meth : Method} {c : Code} {G : MG} (hC : MCx G cX10_leaf 4 p s m args meth c) (hr : meth.sig.returnType = none) {x : MS} :
    ∀ (x1 : Int32) (σ : MS), F_leaf_b31 x1 σ = some x → MJ p l e rmM_leaf s m args below meth c G 4 none x 31 [(0, .ref (gM G)), (1, .int x1)] [] σ := by
  have hx := hC.1
  have hb := hC.2.1
  intro x1 σ hF H locs ls hP hS hl
  rw [F_leaf_b31] at hF
  refine lv_aload_n hx hb dX10_leaf_31 rfl (lv_at hl 0 rfl) ?_
  refine gM51 hC hP dX10_leaf_32 ?_
  refine lv_if_ne (tgt := 43) hx hb dX10_leaf_35 (by decide) (fun c_1 => ?_) (fun c_1 => ?_)
  · replace hF := it_f hF c_1
    exact w_leaf_b43 hC hr x1 σ hF H locs ls hP hS (lv_sub hl [0, 1] rfl)
  · replace hF := it_t hF c_1
    refine lv_aload_n hx hb dX10_leaf_38 rfl (lv_at hl 0 rfl) ?_
    refine lv_iload_n hx hb dX10_leaf_39 rfl (lv_at hl 1 rfl) ?_
    obtain ⟨σ_3, hc_2, hF⟩ := bd_ok hF
    refine iM_keepPath hC hP hS hc_2 hl.1 (Nat.le_of_ble_eq_true rfl) ⟨Nat.le_of_ble_eq_true rfl, Nat.le_of_ble_eq_true rfl⟩ ⟨Nat.zero_le _, Nat.zero_le _⟩ dX10_leaf_40 (fun H locs hP hS => ?_)
    exact w_leaf_b43 hC hr x1 σ_3 hF H locs ls hP hS (lv_sub hl [0, 1] rfl)
def F_leaf_L2 : Nat → Int32 → Int32 → MS → Option MS
  | 0, _, _, _ => none
  | fu + 1, x1, x2, σ =>
    bd (F_inputs σ) fun r_2 =>
    if r_2 ≤ x2 then
      F_leaf_b31 x1 σ
    else
      bd (F_endsOf σ x1 x2) fun r_5 =>
      lt (wI σ 64 ((mI σ 64) ||| r_5)) fun σ_6 =>
      lt (x2 + (1 : Int32)) fun x2_7 =>
      F_leaf_L2 fu x1 x2_7 σ_6
set_option maxHeartbeats 4000000 in
theorem w_leaf_L2 {p : Program} {l : Launch} {e : Env} {s : State} {m : MethodId} {args : Array Value} {below : List Frame} {meth : Method} {c : Code} {G : MG} (hC : MCx G cX10_leaf 4 p s m args meth c) (hr : meth.sig.returnType = none) {x : MS} :
    ∀ (fu : Nat) (x1 : Int32) (x2 : Int32) (σ : MS), F_leaf_L2 fu x1 x2 σ = some x → MJ p l e rmM_leaf s m args below meth c G 4 none x 2 [(0, .ref (gM G)), (1, .int x1), (2, .int x2)] [] σ := by
  have hx := hC.1
  have hb := hC.2.1
  intro fu
  induction fu with
  | zero => intro x1 x2 σ hF; exact nm_none hF
  | succ fu ih =>
    intro x1 x2 σ hF H locs ls hP hS hl
    rw [F_leaf_L2] at hF
    refine lv_iload_n hx hb dX10_leaf_2 rfl (lv_at hl 2 rfl) ?_
    refine lv_aload_n hx hb dX10_leaf_3 rfl (lv_at hl 0 rfl) ?_
    obtain ⟨r_2, hc_1, hF⟩ := bd_ok hF
    refine iM_inputs hC hP hS hc_1 hl.1 (Nat.le_of_ble_eq_true rfl) ⟨Nat.le_of_ble_eq_true rfl, Nat.le_of_ble_eq_true rfl⟩ ⟨Nat.zero_le _, Nat.zero_le _⟩ dX10_leaf_4 (fun H locs hP hS => ?_)
    refine lv_icmp_ge (tgt := 31) hx hb dX10_leaf_7 (by decide) (fun c_3 => ?_) (fun c_3 => ?_)
    · replace hF := it_t hF c_3
      exact w_leaf_b31 hC hr x1 σ hF H locs ls hP hS (lv_sub hl [0, 1] rfl)
    · replace hF := it_f hF c_3
      refine lv_aload_n hx hb dX10_leaf_10 rfl (lv_at hl 0 rfl) ?_
      refine lv_dup hx hb dX10_leaf_11 rfl ?_
      refine gM64 hC hP dX10_leaf_12 ?_
      refine lv_aload_n hx hb dX10_leaf_15 rfl (lv_at hl 0 rfl) ?_
      refine lv_iload_n hx hb dX10_leaf_16 rfl (lv_at hl 1 rfl) ?_
      refine lv_iload_n hx hb dX10_leaf_17 rfl (lv_at hl 2 rfl) ?_
      obtain ⟨r_5, hc_4, hF⟩ := bd_ok hF
      refine iM_endsOf hC hP hS hc_4 hl.1 (Nat.le_of_ble_eq_true rfl) ⟨Nat.le_of_ble_eq_true rfl, Nat.le_of_ble_eq_true rfl⟩ ⟨Nat.zero_le _, Nat.zero_le _⟩ dX10_leaf_18 (fun H locs hP hS => ?_)
      refine lv_ior hx hb dX10_leaf_21 ?_
      refine pM64 hC hP hS dX10_leaf_22 (fun H locs hP hS => ?_)
      obtain ⟨σ_6, eσ_6, hF⟩ := lt_ok hF
      rw [← eσ_6] at hP
      obtain ⟨x2_7, ex2_7, hF⟩ := lt_ok hF
      refine lv_iinc (v := x2_7) (lv' := [(2, .int x2_7), (0, .ref (gM G)), (1, .int x1)]) hx hb dX10_leaf_25 hl (k := 2) rfl (by rw [ex2_7]; rfl) (by decide) rfl (fun ls hl => ?_)
      refine lv_goto (tgt := 2) hx hb dX10_leaf_28 (by decide) ?_
      exact ih x1 x2_7 σ_6 hF H locs ls hP hS (lv_sub hl [1, 2, 0] rfl)
def F_leaf (a0 : Int32) (σ : MS) : Option MS :=
  F_leaf_L2 MN a0 (0 : Int32) σ
set_option maxHeartbeats 4000000 in
theorem w_leaf {p : Program} {l : Launch} {e : Env} {s : State} {m : MethodId} {args : Array Value} {below : List Frame} {meth : Method} {c : Code} {G : MG} (hC : MCx G cX10_leaf 4 p s m args meth c) (hr : meth.sig.returnType = none) {x : MS} :
    ∀ (a0 : Int32) (σ : MS), F_leaf a0 σ = some x → MJ p l e rmM_leaf s m args below meth c G 4 none x 0 [(0, .ref (gM G)), (1, .int a0)] [] σ := by
  have hx := hC.1
  have hb := hC.2.1
  intro a0 σ hF H locs ls hP hS hl
  rw [F_leaf] at hF
  refine lv_iconst (v := 0) hx hb dX10_leaf_0 (by decide) ?_
  refine lv_istore_n (lv' := [(2, .int (0 : Int32)), (0, .ref (gM G)), (1, .int a0)]) hx hb dX10_leaf_1 rfl hl (by decide) rfl (fun ls hl => ?_)
  exact w_leaf_L2 hC hr MN a0 (0 : Int32) σ hF H locs ls hP hS (lv_sub hl [1, 2, 0] rfl)
theorem m_leaf (l : Launch) (G : MG) (a0 : Int32) (σ : MS) (x : MS) (hF : F_leaf a0 σ = some x) : Met l yX10_leaf (ws_ yX10_leaf cX10_leaf 4 none) rmM_leaf (mP G [.ref (gM G), .int a0] σ) (mQ G none x) 0 0 (MA G) := by
  refine M_met rfl plM (Nat.le_of_ble_eq_true rfl) ?_
  intro p e s m below meth c hC hr ls hl hP
  exact w_leaf hC hr a0 σ hF s.heap [] ls hP va_S.rf hl
theorem iM_leaf {p : Program} {l : Launch} {e : Env} {R : Room} {s : State} {m : MethodId} {args : Array Value} {below : List Frame} {meth : Method} {c : Code} {H H0 : Heap} {locs : List Loc} {cells slots nL : Nat} {Q : State → Prop} {G : MG} {σ : MS} {cc : ByteArray} {pc : Nat} {ls : Array Slot} {rest : List Value} (hC : MCx G cc nL p s m args meth c) (hP : MRep G σ H) (hS : va_S (MA G) H0 H locs) {a0 : Int32} {x : MS} (hF : F_leaf a0 σ = some x) (hl : ls.size = nL) (hW : (rest.map fun v => v.category).sum ≤ 8) (hR : rmM_leaf.frames + 1 ≤ R.frames ∧ 8 + (4 + 11) + rmM_leaf.locals ≤ R.locals) (hf : cells ≤ R.cells ∧ slots ≤ R.slots) (hdg : decode cc pc = .ok (.invokevirtual 509, 3))
    (kk : ∀ (H1 : Heap) (locs1 : List Loc), MRep G x H1 → va_S (MA G) H0 H1 locs1 → W p l e R s m args below meth c H1 locs1 cells slots Q (F0 m (pc + 3) ls (rest))) : W p l e R s m args below meth c H locs cells slots Q (F0 m pc ls (.int a0 :: .ref (gM G) :: rest)) :=
  M_inv hC hP hS [.int a0] (m_leaf l G a0 σ _ hF) (cwV 1 hC.2.2.2.2.1 (lw_V q1916 q1918 qs70 q145 q1919) rfl rfl rfl (by decide +kernel) hR) rfl rfl hl hW hf hdg kk
/-! explore -/
abbrev rmM_explore : Room := { frames := 4, cells := 0, slots := 0, locals := 100 }
def F_explore_b160 (k25 : Int32 → Int32 → Int32 → MS → Option (Int32 × MS)) (x3 : Int32) (x5 : Int32) (y0 : Int32) (y1 : Int32) (σ : MS) : Option (Int32 × MS) :=
  lt ((y1 + y0)) fun x4_1 =>
  k25 x3 x4_1 x5 σ
set_option maxHeartbeats 4000000 in
theorem w_explore_b160 {p : Program} {l : Launch} {e : Env} {s : State} {m : MethodId} {args : Array Value} {below : List Frame} {meth : Method} {c : Code} {G : MG} (hC : MCx G cX10_explore 6 p s m args meth c) (hr : meth.sig.returnType = some .boolean) {x : (Int32 × MS)} (k25 : Int32 → Int32 → Int32 → MS → Option (Int32 × MS)) (hk25 : ∀ (x3 : Int32) (x4 : Int32) (x5 : Int32) (σ : MS), k25 x3 x4 x5 σ = some x → MJ p l e rmM_explore s m args below meth c G 6 (some (.int x.1)) x.2 25 [(0, .ref (gM G)), (3, .int x3), (4, .int x4), (5, .int x5)] [] σ) :
    ∀ (x3 : Int32) (x5 : Int32) (y0 : Int32) (y1 : Int32) (σ : MS), F_explore_b160 k25 x3 x5 y0 y1 σ = some x → MJ p l e rmM_explore s m args below meth c G 6 (some (.int x.1)) x.2 160 [(0, .ref (gM G)), (3, .int x3), (5, .int x5)] [.int y0, .int y1] σ := by
  have hx := hC.1
  have hb := hC.2.1
  intro x3 x5 y0 y1 σ hF H locs ls hP hS hl
  rw [F_explore_b160] at hF
  refine lv_iadd hx hb dX10_explore_160 ?_
  refine lv_topi (fun x4_1 ex4_1 => ?_)
  replace hF := lt_at hF ex4_1
  refine lv_istore (lv' := [(4, .int x4_1), (0, .ref (gM G)), (3, .int x3), (5, .int x5)]) hx hb dX10_explore_161 hl (by decide) rfl (fun ls hl => ?_)
  refine lv_goto (tgt := 25) hx hb dX10_explore_163 (by decide) ?_
  exact hk25 x3 x4_1 x5 σ hF H locs ls hP hS (lv_sub hl [1, 2, 0, 3] rfl)
def F_explore_b123 (k25 : Int32 → Int32 → Int32 → MS → Option (Int32 × MS)) (x3 : Int32) (x4 : Int32) (x5 : Int32) (σ : MS) : Option (Int32 × MS) :=
  lt (x4 + (-1 : Int32)) fun x4_1 =>
  k25 x3 x4_1 x5 σ
set_option maxHeartbeats 4000000 in
theorem w_explore_b123 {p : Program} {l : Launch} {e : Env} {s : State} {m : MethodId} {args : Array Value} {below : List Frame} {meth : Method} {c : Code} {G : MG} (hC : MCx G cX10_explore 6 p s m args meth c) (hr : meth.sig.returnType = some .boolean) {x : (Int32 × MS)} (k25 : Int32 → Int32 → Int32 → MS → Option (Int32 × MS)) (hk25 : ∀ (x3 : Int32) (x4 : Int32) (x5 : Int32) (σ : MS), k25 x3 x4 x5 σ = some x → MJ p l e rmM_explore s m args below meth c G 6 (some (.int x.1)) x.2 25 [(0, .ref (gM G)), (3, .int x3), (4, .int x4), (5, .int x5)] [] σ) :
    ∀ (x3 : Int32) (x4 : Int32) (x5 : Int32) (σ : MS), F_explore_b123 k25 x3 x4 x5 σ = some x → MJ p l e rmM_explore s m args below meth c G 6 (some (.int x.1)) x.2 123 [(0, .ref (gM G)), (3, .int x3), (4, .int x4), (5, .int x5)] [] σ := by
  have hx := hC.1
  have hb := hC.2.1
  intro x3 x4 x5 σ hF H locs ls hP hS hl
  rw [F_explore_b123] at hF
  obtain ⟨x4_1, ex4_1, hF⟩ := lt_ok hF
  refine lv_iinc (v := x4_1) (lv' := [(4, .int x4_1), (0, .ref (gM G)), (3, .int x3), (5, .int x5)]) hx hb dX10_explore_123 hl (k := 2) rfl (by rw [ex4_1]; rfl) (by decide) rfl (fun ls hl => ?_)
  refine lv_goto (tgt := 25) hx hb dX10_explore_126 (by decide) ?_
  exact hk25 x3 x4_1 x5 σ hF H locs ls hP hS (lv_sub hl [1, 2, 0, 3] rfl)
def F_explore_b93 (k25 : Int32 → Int32 → Int32 → MS → Option (Int32 × MS)) (x3 : Int32) (x4 : Int32) (σ : MS) : Option (Int32 × MS) :=
  gd (inb x4 16) <|
  if (mA σ 49 (Int32.toNatClampNeg x4)) = (3 : Int32) then
    gd (inb x4 16) <|
    bd (F_children σ x4) fun r_5 =>
    if (mA σ 50 (Int32.toNatClampNeg x4)) = r_5 then
      F_explore_b123 k25 x3 x4 (0 : Int32) σ
    else
      bd2 (F_descend x4 σ) fun r_9 σ_8 =>
      gd (inb x4 16) <|
      gd (inb x4 16) <|
      lt (wA σ_8 50 (Int32.toNatClampNeg x4) ((mA σ_8 50 (Int32.toNatClampNeg x4)) + (1 : Int32))) fun σ_12 =>
      if r_9 = 0 then
        F_explore_b160 k25 x3 r_9 (0 : Int32) x4 σ_12
      else
        F_explore_b160 k25 x3 r_9 (1 : Int32) x4 σ_12
  else
    F_explore_b123 k25 x3 x4 (0 : Int32) σ
set_option maxHeartbeats 4000000 in
theorem w_explore_b93 {p : Program} {l : Launch} {e : Env} {s : State} {m : MethodId} {args : Array Value} {below : List Frame} {meth : Method} {c : Code} {G : MG} (hC : MCx G cX10_explore 6 p s m args meth c) (hr : meth.sig.returnType = some .boolean) {x : (Int32 × MS)} (k25 : Int32 → Int32 → Int32 → MS → Option (Int32 × MS)) (hk25 : ∀ (x3 : Int32) (x4 : Int32) (x5 : Int32) (σ : MS), k25 x3 x4 x5 σ = some x → MJ p l e rmM_explore s m args below meth c G 6 (some (.int x.1)) x.2 25 [(0, .ref (gM G)), (3, .int x3), (4, .int x4), (5, .int x5)] [] σ) :
    ∀ (x3 : Int32) (x4 : Int32) (σ : MS), F_explore_b93 k25 x3 x4 σ = some x → MJ p l e rmM_explore s m args below meth c G 6 (some (.int x.1)) x.2 93 [(0, .ref (gM G)), (3, .int x3), (4, .int x4)] [] σ := by
  have hx := hC.1
  have hb := hC.2.1
  intro x3 x4 σ hF H locs ls hP hS hl
  rw [F_explore_b93] at hF
  refine lv_iconst (v := 0) hx hb dX10_explore_93 (by decide) ?_
  refine lv_istore (lv' := [(5, .int (0 : Int32)), (0, .ref (gM G)), (3, .int x3), (4, .int x4)]) hx hb dX10_explore_94 hl (by decide) rfl (fun ls hl => ?_)
  refine lv_aload_n hx hb dX10_explore_96 rfl (lv_at hl 1 rfl) ?_
  refine gM49 hC hP dX10_explore_97 ?_
  refine lv_iload hx hb dX10_explore_100 (lv_at hl 3 rfl) ?_
  obtain ⟨h_1, hF⟩ := gd_ok hF
  refine M_iald hC hP 49 (by decide) rfl rfl rfl h_1 dX10_explore_102 ?_
  refine lv_iconst (v := 3) hx hb dX10_explore_103 (by decide) ?_
  refine lv_icmp_ne (tgt := 123) hx hb dX10_explore_104 (by decide) (fun c_2 => ?_) (fun c_2 => ?_)
  · replace hF := it_f hF c_2
    exact w_explore_b123 hC hr k25 hk25 x3 x4 (0 : Int32) σ hF H locs ls hP hS (lv_sub hl [1, 2, 3, 0] rfl)
  · replace hF := it_t hF c_2
    refine lv_aload_n hx hb dX10_explore_107 rfl (lv_at hl 1 rfl) ?_
    refine gM50 hC hP dX10_explore_108 ?_
    refine lv_iload hx hb dX10_explore_111 (lv_at hl 3 rfl) ?_
    obtain ⟨h_3, hF⟩ := gd_ok hF
    refine M_iald hC hP 50 (by decide) rfl rfl rfl h_3 dX10_explore_113 ?_
    refine lv_aload_n hx hb dX10_explore_114 rfl (lv_at hl 1 rfl) ?_
    refine lv_iload hx hb dX10_explore_115 (lv_at hl 3 rfl) ?_
    obtain ⟨r_5, hc_4, hF⟩ := bd_ok hF
    refine iM_children hC hP hS hc_4 hl.1 (Nat.le_of_ble_eq_true rfl) ⟨Nat.le_of_ble_eq_true rfl, Nat.le_of_ble_eq_true rfl⟩ ⟨Nat.zero_le _, Nat.zero_le _⟩ dX10_explore_117 (fun H locs hP hS => ?_)
    refine lv_icmp_ne (tgt := 129) hx hb dX10_explore_120 (by decide) (fun c_6 => ?_) (fun c_6 => ?_)
    · replace hF := it_f hF c_6
      refine lv_aload_n hx hb dX10_explore_129 rfl (lv_at hl 1 rfl) ?_
      refine lv_iload hx hb dX10_explore_130 (lv_at hl 3 rfl) ?_
      obtain ⟨r_9, σ_8, hc_7, hF⟩ := bd2_ok hF
      refine iM_descend hC hP hS hc_7 hl.1 (Nat.le_of_ble_eq_true rfl) ⟨Nat.le_of_ble_eq_true rfl, Nat.le_of_ble_eq_true rfl⟩ ⟨Nat.zero_le _, Nat.zero_le _⟩ dX10_explore_132 (fun H locs hP hS => ?_)
      refine lv_istore (lv' := [(5, .int r_9), (0, .ref (gM G)), (3, .int x3), (4, .int x4)]) hx hb dX10_explore_135 hl (by decide) rfl (fun ls hl => ?_)
      refine lv_aload_n hx hb dX10_explore_137 rfl (lv_at hl 1 rfl) ?_
      refine gM50 hC hP dX10_explore_138 ?_
      refine lv_iload hx hb dX10_explore_141 (lv_at hl 3 rfl) ?_
      refine lv_dup2_11 hx hb dX10_explore_143 rfl rfl ?_
      obtain ⟨h_10, hF⟩ := gd_ok hF
      refine M_iald hC hP 50 (by decide) rfl rfl rfl h_10 dX10_explore_144 ?_
      refine lv_iconst (v := 1) hx hb dX10_explore_145 (by decide) ?_
      refine lv_iadd hx hb dX10_explore_146 ?_
      obtain ⟨h_11, hF⟩ := gd_ok hF
      refine M_iast hC hP hS 50 (by decide) rfl rfl rfl h_11 dX10_explore_147 (fun H locs hP hS => ?_)
      obtain ⟨σ_12, eσ_12, hF⟩ := lt_ok hF
      rw [← eσ_12] at hP
      refine lv_iload hx hb dX10_explore_148 (lv_at hl 3 rfl) ?_
      refine lv_iload hx hb dX10_explore_150 (lv_at hl 0 rfl) ?_
      refine lv_if_eq (tgt := 159) hx hb dX10_explore_152 (by decide) (fun c_13 => ?_) (fun c_13 => ?_)
      · replace hF := it_t hF c_13
        refine lv_iconst (v := 0) hx hb dX10_explore_159 (by decide) ?_
        exact w_explore_b160 hC hr k25 hk25 x3 r_9 (0 : Int32) x4 σ_12 hF H locs ls hP hS (lv_sub hl [1, 2, 0] rfl)
      · replace hF := it_f hF c_13
        refine lv_iconst (v := 1) hx hb dX10_explore_155 (by decide) ?_
        refine lv_goto (tgt := 160) hx hb dX10_explore_156 (by decide) ?_
        exact w_explore_b160 hC hr k25 hk25 x3 r_9 (1 : Int32) x4 σ_12 hF H locs ls hP hS (lv_sub hl [1, 2, 0] rfl)
    · replace hF := it_t hF c_6
      exact w_explore_b123 hC hr k25 hk25 x3 x4 (0 : Int32) σ hF H locs ls hP hS (lv_sub hl [1, 2, 3, 0] rfl)
def F_explore_L25 : Nat → Int32 → Int32 → Int32 → MS → Option (Int32 × MS)
  | 0, _, _, _, _ => none
  | fu + 1, x3, x4, x5, σ =>
    if x4 < 0 then
      some ((1 : Int32), σ)
    else
      if x5 = 0 then
        F_explore_b93 (F_explore_L25 fu) x3 x4 σ
      else
        bd2 (F_advance x4 σ) fun r_5 σ_4 =>
        gd (inb x4 16) <|
        lt (wA σ_4 49 (Int32.toNatClampNeg x4) r_5) fun σ_7 =>
        gd (inb x4 16) <|
        lt (wA σ_7 50 (Int32.toNatClampNeg x4) (0 : Int32)) fun σ_9 =>
        gd (inb x4 16) <|
        if (mA σ_9 49 (Int32.toNatClampNeg x4)) = (3 : Int32) then
          F_explore_b93 (F_explore_L25 fu) x3 x4 σ_9
        else
          if (mI σ_9 55) = x3 then
            some ((0 : Int32), σ_9)
          else
            bd (F_leaf x4 σ_9) fun σ_14 =>
            lt (wI σ_14 55 ((mI σ_14 55) + (1 : Int32))) fun σ_15 =>
            F_explore_b93 (F_explore_L25 fu) x3 x4 σ_15
set_option maxHeartbeats 4000000 in
theorem w_explore_L25 {p : Program} {l : Launch} {e : Env} {s : State} {m : MethodId} {args : Array Value} {below : List Frame} {meth : Method} {c : Code} {G : MG} (hC : MCx G cX10_explore 6 p s m args meth c) (hr : meth.sig.returnType = some .boolean) {x : (Int32 × MS)} :
    ∀ (fu : Nat) (x3 : Int32) (x4 : Int32) (x5 : Int32) (σ : MS), F_explore_L25 fu x3 x4 x5 σ = some x → MJ p l e rmM_explore s m args below meth c G 6 (some (.int x.1)) x.2 25 [(0, .ref (gM G)), (3, .int x3), (4, .int x4), (5, .int x5)] [] σ := by
  have hx := hC.1
  have hb := hC.2.1
  intro fu
  induction fu with
  | zero => intro x3 x4 x5 σ hF; exact nm_none hF
  | succ fu ih =>
    intro x3 x4 x5 σ hF H locs ls hP hS hl
    rw [F_explore_L25] at hF
    refine lv_iload hx hb dX10_explore_25 (lv_at hl 2 rfl) ?_
    refine lv_if_lt (tgt := 166) hx hb dX10_explore_27 (by decide) (fun c_1 => ?_) (fun c_1 => ?_)
    · replace hF := it_t hF c_1
      refine lv_iconst (v := 1) hx hb dX10_explore_166 (by decide) ?_
      exact M_retz hC hP hS hr (Or.inr rfl) (rt1 hF) (rt2 hF) dX10_explore_167
    · replace hF := it_f hF c_1
      refine lv_iload hx hb dX10_explore_30 (lv_at hl 3 rfl) ?_
      refine lv_if_eq (tgt := 93) hx hb dX10_explore_32 (by decide) (fun c_2 => ?_) (fun c_2 => ?_)
      · replace hF := it_t hF c_2
        exact w_explore_b93 hC hr (F_explore_L25 fu) ih x3 x4 σ hF H locs ls hP hS (lv_sub hl [0, 1, 2] rfl)
      · replace hF := it_f hF c_2
        refine lv_aload_n hx hb dX10_explore_35 rfl (lv_at hl 0 rfl) ?_
        refine gM49 hC hP dX10_explore_36 ?_
        refine lv_iload hx hb dX10_explore_39 (lv_at hl 2 rfl) ?_
        refine lv_aload_n hx hb dX10_explore_41 rfl (lv_at hl 0 rfl) ?_
        refine lv_iload hx hb dX10_explore_42 (lv_at hl 2 rfl) ?_
        obtain ⟨r_5, σ_4, hc_3, hF⟩ := bd2_ok hF
        refine iM_advance hC hP hS hc_3 hl.1 (Nat.le_of_ble_eq_true rfl) ⟨Nat.le_of_ble_eq_true rfl, Nat.le_of_ble_eq_true rfl⟩ ⟨Nat.zero_le _, Nat.zero_le _⟩ dX10_explore_44 (fun H locs hP hS => ?_)
        obtain ⟨h_6, hF⟩ := gd_ok hF
        refine M_iast hC hP hS 49 (by decide) rfl rfl rfl h_6 dX10_explore_47 (fun H locs hP hS => ?_)
        obtain ⟨σ_7, eσ_7, hF⟩ := lt_ok hF
        rw [← eσ_7] at hP
        refine lv_aload_n hx hb dX10_explore_48 rfl (lv_at hl 0 rfl) ?_
        refine gM50 hC hP dX10_explore_49 ?_
        refine lv_iload hx hb dX10_explore_52 (lv_at hl 2 rfl) ?_
        refine lv_iconst (v := 0) hx hb dX10_explore_54 (by decide) ?_
        obtain ⟨h_8, hF⟩ := gd_ok hF
        refine M_iast hC hP hS 50 (by decide) rfl rfl rfl h_8 dX10_explore_55 (fun H locs hP hS => ?_)
        obtain ⟨σ_9, eσ_9, hF⟩ := lt_ok hF
        rw [← eσ_9] at hP
        refine lv_aload_n hx hb dX10_explore_56 rfl (lv_at hl 0 rfl) ?_
        refine gM49 hC hP dX10_explore_57 ?_
        refine lv_iload hx hb dX10_explore_60 (lv_at hl 2 rfl) ?_
        obtain ⟨h_10, hF⟩ := gd_ok hF
        refine M_iald hC hP 49 (by decide) rfl rfl rfl h_10 dX10_explore_62 ?_
        refine lv_iconst (v := 3) hx hb dX10_explore_63 (by decide) ?_
        refine lv_icmp_eq (tgt := 93) hx hb dX10_explore_64 (by decide) (fun c_11 => ?_) (fun c_11 => ?_)
        · replace hF := it_t hF c_11
          exact w_explore_b93 hC hr (F_explore_L25 fu) ih x3 x4 σ_9 hF H locs ls hP hS (lv_sub hl [0, 1, 2] rfl)
        · replace hF := it_f hF c_11
          refine lv_aload_n hx hb dX10_explore_67 rfl (lv_at hl 0 rfl) ?_
          refine gM55 hC hP dX10_explore_68 ?_
          refine lv_iload_n hx hb dX10_explore_71 rfl (lv_at hl 1 rfl) ?_
          refine lv_icmp_ne (tgt := 77) hx hb dX10_explore_72 (by decide) (fun c_12 => ?_) (fun c_12 => ?_)
          · replace hF := it_f hF c_12
            refine lv_aload_n hx hb dX10_explore_77 rfl (lv_at hl 0 rfl) ?_
            refine lv_iload hx hb dX10_explore_78 (lv_at hl 2 rfl) ?_
            obtain ⟨σ_14, hc_13, hF⟩ := bd_ok hF
            refine iM_leaf hC hP hS hc_13 hl.1 (Nat.le_of_ble_eq_true rfl) ⟨Nat.le_of_ble_eq_true rfl, Nat.le_of_ble_eq_true rfl⟩ ⟨Nat.zero_le _, Nat.zero_le _⟩ dX10_explore_80 (fun H locs hP hS => ?_)
            refine lv_aload_n hx hb dX10_explore_83 rfl (lv_at hl 0 rfl) ?_
            refine lv_dup hx hb dX10_explore_84 rfl ?_
            refine gM55 hC hP dX10_explore_85 ?_
            refine lv_iconst (v := 1) hx hb dX10_explore_88 (by decide) ?_
            refine lv_iadd hx hb dX10_explore_89 ?_
            refine pM55 hC hP hS dX10_explore_90 (fun H locs hP hS => ?_)
            obtain ⟨σ_15, eσ_15, hF⟩ := lt_ok hF
            rw [← eσ_15] at hP
            exact w_explore_b93 hC hr (F_explore_L25 fu) ih x3 x4 σ_15 hF H locs ls hP hS (lv_sub hl [0, 1, 2] rfl)
          · replace hF := it_t hF c_12
            refine lv_iconst (v := 0) hx hb dX10_explore_75 (by decide) ?_
            exact M_retz hC hP hS hr (Or.inl rfl) (rt1 hF) (rt2 hF) dX10_explore_76
def F_explore (a0 : Int32) (a1 : Int32) (a2 : Int32) (σ : MS) : Option (Int32 × MS) :=
  lt (wI σ 51 a0) fun σ_1 =>
  lt (wI σ_1 52 a1) fun σ_2 =>
  lt (wI σ_2 55 (0 : Int32)) fun σ_3 =>
  bd (F_begin σ_3) fun σ_5 =>
  F_explore_L25 MN a2 (0 : Int32) (1 : Int32) σ_5
set_option maxHeartbeats 4000000 in
theorem w_explore {p : Program} {l : Launch} {e : Env} {s : State} {m : MethodId} {args : Array Value} {below : List Frame} {meth : Method} {c : Code} {G : MG} (hC : MCx G cX10_explore 6 p s m args meth c) (hr : meth.sig.returnType = some .boolean) {x : (Int32 × MS)} :
    ∀ (a0 : Int32) (a1 : Int32) (a2 : Int32) (σ : MS), F_explore a0 a1 a2 σ = some x → MJ p l e rmM_explore s m args below meth c G 6 (some (.int x.1)) x.2 0 [(0, .ref (gM G)), (1, .int a0), (2, .int a1), (3, .int a2)] [] σ := by
  have hx := hC.1
  have hb := hC.2.1
  intro a0 a1 a2 σ hF H locs ls hP hS hl
  rw [F_explore] at hF
  refine lv_aload_n hx hb dX10_explore_0 rfl (lv_at hl 0 rfl) ?_
  refine lv_iload_n hx hb dX10_explore_1 rfl (lv_at hl 1 rfl) ?_
  refine pM51 hC hP hS dX10_explore_2 (fun H locs hP hS => ?_)
  obtain ⟨σ_1, eσ_1, hF⟩ := lt_ok hF
  rw [← eσ_1] at hP
  refine lv_aload_n hx hb dX10_explore_5 rfl (lv_at hl 0 rfl) ?_
  refine lv_iload_n hx hb dX10_explore_6 rfl (lv_at hl 2 rfl) ?_
  refine pM52 hC hP hS dX10_explore_7 (fun H locs hP hS => ?_)
  obtain ⟨σ_2, eσ_2, hF⟩ := lt_ok hF
  rw [← eσ_2] at hP
  refine lv_aload_n hx hb dX10_explore_10 rfl (lv_at hl 0 rfl) ?_
  refine lv_iconst (v := 0) hx hb dX10_explore_11 (by decide) ?_
  refine pM55 hC hP hS dX10_explore_12 (fun H locs hP hS => ?_)
  obtain ⟨σ_3, eσ_3, hF⟩ := lt_ok hF
  rw [← eσ_3] at hP
  refine lv_aload_n hx hb dX10_explore_15 rfl (lv_at hl 0 rfl) ?_
  obtain ⟨σ_5, hc_4, hF⟩ := bd_ok hF
  refine iM_begin hC hP hS hc_4 hl.1 (Nat.le_of_ble_eq_true rfl) ⟨Nat.le_of_ble_eq_true rfl, Nat.le_of_ble_eq_true rfl⟩ ⟨Nat.zero_le _, Nat.zero_le _⟩ dX10_explore_16 (fun H locs hP hS => ?_)
  refine lv_iconst (v := 0) hx hb dX10_explore_19 (by decide) ?_
  refine lv_istore (lv' := [(4, .int (0 : Int32)), (0, .ref (gM G)), (1, .int a0), (2, .int a1), (3, .int a2)]) hx hb dX10_explore_20 hl (by decide) rfl (fun ls hl => ?_)
  refine lv_iconst (v := 1) hx hb dX10_explore_22 (by decide) ?_
  refine lv_istore (lv' := [(5, .int (1 : Int32)), (4, .int (0 : Int32)), (0, .ref (gM G)), (1, .int a0), (2, .int a1), (3, .int a2)]) hx hb dX10_explore_23 hl (by decide) rfl (fun ls hl => ?_)
  exact w_explore_L25 hC hr MN a2 (0 : Int32) (1 : Int32) σ_5 hF H locs ls hP hS (lv_sub hl [2, 5, 1, 0] rfl)
theorem m_explore (l : Launch) (G : MG) (a0 : Int32) (a1 : Int32) (a2 : Int32) (σ : MS) (x : (Int32 × MS)) (hF : F_explore a0 a1 a2 σ = some x) : Met l yX10_explore (ws_ yX10_explore cX10_explore 6 (some .boolean)) rmM_explore (mP G [.ref (gM G), .int a0, .int a1, .int a2] σ) (mQ G (some (.int x.1)) x.2) 0 0 (MA G) := by
  refine M_met rfl plM (Nat.le_of_ble_eq_true rfl) ?_
  intro p e s m below meth c hC hr ls hl hP
  exact w_explore hC hr a0 a1 a2 σ hF s.heap [] ls hP va_S.rf hl
theorem iM_explore {p : Program} {l : Launch} {e : Env} {R : Room} {s : State} {m : MethodId} {args : Array Value} {below : List Frame} {meth : Method} {c : Code} {H H0 : Heap} {locs : List Loc} {cells slots nL : Nat} {Q : State → Prop} {G : MG} {σ : MS} {cc : ByteArray} {pc : Nat} {ls : Array Slot} {rest : List Value} (hC : MCx G cc nL p s m args meth c) (hP : MRep G σ H) (hS : va_S (MA G) H0 H locs) {a0 : Int32} {a1 : Int32} {a2 : Int32} {x : Int32} {σ1 : MS} (hF : F_explore a0 a1 a2 σ = some (x, σ1)) (hl : ls.size = nL) (hW : (rest.map fun v => v.category).sum ≤ 8) (hR : rmM_explore.frames + 1 ≤ R.frames ∧ 8 + (6 + 11) + rmM_explore.locals ≤ R.locals) (hf : cells ≤ R.cells ∧ slots ≤ R.slots) (hdg : decode cc pc = .ok (.invokevirtual 537, 3))
    (kk : ∀ (H1 : Heap) (locs1 : List Loc), MRep G σ1 H1 → va_S (MA G) H0 H1 locs1 → W p l e R s m args below meth c H1 locs1 cells slots Q (F0 m (pc + 3) ls (.int x :: rest))) : W p l e R s m args below meth c H locs cells slots Q (F0 m pc ls (.int a2 :: .int a1 :: .int a0 :: .ref (gM G) :: rest)) :=
  M_inv hC hP hS [.int a0, .int a1, .int a2] (m_explore l G a0 a1 a2 σ _ hF) (cwV 3 hC.2.2.2.2.1 (lw_V q1826 q1828 qs50 q145 q1829) rfl rfl rfl (by decide +kernel) hR) rfl rfl hl hW hf hdg kk
end
