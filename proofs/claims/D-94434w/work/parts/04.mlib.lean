/-! THE REFERENCE's STATE: fields by number, no addresses; the rows of the kit turned to it -/
set_option maxRecDepth 100000
/-- 0 int or boolean, 1 long, 2 an array of ints (bytes, booleans), 3 an array of longs -/
def mKind (k : Nat) : Nat := ([2, 2, 0, 0, 0, 0, 0, 0, 0, 0, 1, 0, 2, 2, 2, 2, 2, 2, 2, 2, 2, 2, 2, 2, 2, 2, 2, 2, 2, 3, 2, 2, 2, 2, 2, 0, 0, 0, 0, 0, 0, 2, 2, 3, 3, 2, 2, 2, 2, 2, 2, 0, 0, 0, 0, 0, 2, 2, 2, 2, 2, 3, 3, 0, 0, 0, 0, 0, 0, 0, 0, 3, 0, 0, 0, 0, 0, 0, 2, 2, 2, 2, 0, 0, 2, 2, 2, 2, 2] : List Nat).getD k 9
def mLen (k : Nat) : Nat := ([1620, 1600, 0, 0, 0, 0, 0, 0, 0, 0, 0, 0, 2, 2, 2, 2, 2, 2, 2, 2, 2, 2, 104, 104, 104, 104, 104, 832, 104, 104, 800, 800, 90, 90, 70, 0, 0, 0, 0, 0, 0, 8, 8, 36864, 16, 16, 16, 16, 16, 16, 16, 0, 0, 0, 0, 0, 8, 200, 1200, 1600, 200, 1600, 200, 0, 0, 0, 0, 0, 0, 0, 0, 2048, 0, 0, 0, 0, 0, 0, 6, 20, 20, 20, 0, 0, 3, 3, 60, 60, 60] : List Nat).getD k 0
def mTy (k : Nat) : FieldType := ([.byte, .byte, .int, .int, .int, .int, .int, .int, .int, .int, .int, .int, .int, .int, .int, .int, .int, .int, .int, .int, .boolean, .boolean, .int, .int, .int, .int, .int, .int, .int, .long, .int, .int, .int, .int, .int, .int, .int, .int, .int, .int, .int, .int, .int, .long, .long, .int, .int, .int, .int, .int, .int, .int, .int, .int, .int, .int, .int, .int, .int, .int, .int, .long, .long, .int, .int, .int, .int, .int, .int, .int, .int, .long, .int, .int, .int, .int, .int, .int, .int, .int, .int, .int, .int, .int, .int, .int, .int, .int, .int] : List FieldType).getD k .int
abbrev MS : Type := (Nat → Int32) × (Nat → Nat → Int32) × (Nat → Nat → Int64)
def mI (σ : MS) (k : Nat) : Int32 := σ.1 k
def mA (σ : MS) (k i : Nat) : Int32 := σ.2.1 k i
def mL (σ : MS) (k i : Nat) : Int64 := σ.2.2 k i
def wI (σ : MS) (k : Nat) (v : Int32) : MS := (fun j => if j = k then v else σ.1 j, σ.2)
def wA (σ : MS) (k i : Nat) (v : Int32) : MS := (σ.1, fun a j => if a = k ∧ j = i then v else σ.2.1 a j, σ.2.2)
def wL (σ : MS) (k i : Nat) (v : Int64) : MS := (σ.1, σ.2.1, fun a j => if a = k ∧ j = i then v else σ.2.2 a j)
/-- class, slots, the object's address, the arrays' addresses, the arrays' classes -/
abbrev MG : Type := ClassId × (Nat → Nat) × Nat × (Nat → Nat) × (Nat → ClassId)
def gM (G : MG) : Nat := G.2.2.1
def gA (G : MG) (k : Nat) : Nat := G.2.2.2.1 k
def mV (G : MG) (σ : MS) (k : Nat) : Value := if mKind k = 0 then .int (mI σ k) else if mKind k = 1 then .long (mL σ k 0) else .ref (gA G k)
def mC (G : MG) (σ : MS) (k : Nat) : Cell := if mKind k = 2 then arrV (G.2.2.2.2 k) (mLen k) (fun j => .int (mA σ k j)) else arrV (G.2.2.2.2 k) (mLen k) (fun j => .long (mL σ k j))
def MRep (G : MG) (σ : MS) (H : Heap) : Prop := t_OB (gM G) G.1 89 G.2.1 H (mV G σ) ∧ ∀ k, k < 89 → 2 ≤ mKind k → H[gA G k]? = some (mC G σ k)
def MFix (G : MG) (s : State) : Prop := u_Kn s RX10 TX10 89 G.1 G.2.1 ∧ (∀ k, k < 89 → 2 ≤ mKind k → ArrOfT s (G.2.2.2.2 k) (mTy k)) ∧ (∀ k, k < 89 → 2 ≤ mKind k → gA G k ≠ gM G) ∧ ∀ k j, k < 89 → 2 ≤ mKind k → j < 89 → 2 ≤ mKind j → gA G k = gA G j → k = j
def MA (G : MG) : Nat → Prop := fun q => q = gM G ∨ ∃ k, k < 89 ∧ 2 ≤ mKind k ∧ q = gA G k
theorem MFix.moved {G : MG} {u U : State} (hvm : u.vm.Alike U.vm) (h : MFix G u) : MFix G U := ⟨u_Kn_moved hvm h.1, fun k hk h2 => arrOfT_moved hvm (h.2.1 k hk h2), h.2.2⟩
def mP (G : MG) (av : List Value) (σ : MS) : Array Value → State → Prop := va_Pc av (fun U => MRep G σ U.heap ∧ MFix G U)
def mQ (G : MG) (rv : Option Value) (σ : MS) : Array Value → State → Outcome → State → Prop := fun _ st oc t => oc = .returned rv ∧ MRep G σ t.heap ∧ va_F (MA G) st t
def MCx (G : MG) (cc : ByteArray) (nL : Nat) (p : Program) (s : State) (m : MethodId) (args : Array Value) (meth : Method) (c : Code) : Prop :=
  p.tables.exec = Jvm.exec ∧ c.code = cc ∧ c.maxLocals = nL ∧ s.vm.findClass RX10 = some m.cls ∧ (∀ w ∈ lw_all, w.before args s = true) ∧ meth.locks = false ∧ MFix G s
/-! what a decompiled text is made of -/
def gd {α : Type} (c : Prop) [Decidable c] (k : Option α) : Option α := if c then k else none
theorem gd_ok {α : Type} {c : Prop} [Decidable c] {k : Option α} {x : α} (h : gd c k = some x) : c ∧ k = some x := by
  unfold gd at h
  split at h
  · exact ⟨by assumption, h⟩
  · cases h
theorem gd_t {α : Type} {c : Prop} [Decidable c] {k : Option α} (h : c) : gd c k = k := if_pos h
def lt {α β : Type} (v : α) (k : α → β) : β := k v
theorem lt_ok {α β : Type} {v : α} {k : α → β} {x : β} (h : lt v k = x) : ∃ z, z = v ∧ k z = x := ⟨v, rfl, h⟩
def bd {α β : Type} (o : Option α) (k : α → Option β) : Option β := match o with
  | none => none
  | some a => k a
theorem bd_ok {α β : Type} {o : Option α} {k : α → Option β} {x : β} (h : bd o k = some x) : ∃ z, o = some z ∧ k z = some x := by
  cases o with
  | none => cases h
  | some a => exact ⟨a, rfl, h⟩
theorem bd_s {α β : Type} {a : α} {k : α → Option β} : bd (some a) k = k a := rfl
def bd2 {α γ β : Type} (o : Option (α × γ)) (k : α → γ → Option β) : Option β := match o with
  | none => none
  | some a => k a.1 a.2
theorem bd2_ok {α γ β : Type} {o : Option (α × γ)} {k : α → γ → Option β} {x : β} (h : bd2 o k = some x) : ∃ z w, o = some (z, w) ∧ k z w = some x := by
  cases o with
  | none => cases h
  | some a => exact ⟨a.1, a.2, rfl, h⟩
theorem bd2_s {α γ β : Type} {a : α} {w : γ} {k : α → γ → Option β} : bd2 (some (a, w)) k = k a w := rfl
theorem it_t {α : Type} {c : Prop} [Decidable c] {a b : Option α} {x : Option α} (h : (if c then a else b) = x) (hc : c) : a = x := by rw [if_pos hc] at h; exact h
theorem it_f {α : Type} {c : Prop} [Decidable c] {a b : Option α} {x : Option α} (h : (if c then a else b) = x) (hc : ¬ c) : b = x := by rw [if_neg hc] at h; exact h
theorem rt1 {α β : Type} {a : α} {b : β} {x : α × β} (h : some (a, b) = some x) : a = x.1 := by cases h; rfl
theorem rt2 {α β : Type} {a : α} {b : β} {x : α × β} (h : some (a, b) = some x) : b = x.2 := by cases h; rfl
def zb (v : Int32) : Prop := v = 0 ∨ v = 1
theorem zb_nar {v : Int32} (h : v = 0 ∨ v = 1) : narrow .boolean (.int v) = .int v ∧ fits .boolean (.int v) = true := by
  rcases h with rfl | rfl <;> decide
/-- fuel of every loop -/
noncomputable def MN : Nat := Classical.choose (⟨1000000000000000000000000000000000000000000000000000000000000, rfl⟩ : ∃ n : Nat, n = 1000000000000000000000000000000000000000000000000000000000000)
theorem MN_eq : MN = 1000000000000000000000000000000000000000000000000000000000000 := Classical.choose_spec (⟨1000000000000000000000000000000000000000000000000000000000000, rfl⟩ : ∃ n : Nat, n = 1000000000000000000000000000000000000000000000000000000000000)
section MRows
variable {p : Program} {l : Launch} {e : Env} {R : Room} {s : State} {m : MethodId} {args : Array Value} {below : List Frame} {meth : Method} {c : Code} {H H0 : Heap} {locs : List Loc} {cells slots nL : Nat} {Q : State → Prop} {G : MG} {σ : MS} {cc : ByteArray} {pc index : Nat} {ls : Array Slot} {rest : List Value}
theorem M_getV (hC : MCx G cc nL p s m args meth c) (hP : MRep G σ H) (k : Nat) (hk : k < 89) (hlink : Cond.fieldLink RX10 index (TX10 k).1 (TX10 k).2.1 (TX10 k).2.2.1 ∈ lw_all) {v : Value} (hv : mV G σ k = v) (hdg : decode cc pc = .ok (.getfield index, 3))
    (kk : W p l e R s m args below meth c H locs cells slots Q (F0 m (pc + 3) ls (v :: rest))) : W p l e R s m args below meth c H locs cells slots Q (F0 m pc ls (.ref (gM G) :: rest)) := by
  obtain ⟨hx, hb, -, hown, hts, -, hK, -⟩ := hC
  obtain ⟨cell, q1, q2, q3, q4⟩ := hP.1
  obtain ⟨hS, hfc, kC, hkC, hkind⟩ := hK
  obtain ⟨cf, kf, fi, f, hi, hsl⟩ := hS k hk
  refine W.getf hx hb hown (hts _ hlink) hi (u_facts hfc hkC (u_lays hts in_X10 hk) hi).1 q1 (by rw [q3]; exact fun h => by cases h) (v := v) ?_ rfl rfl hdg kk
  rw [hsl, q4 k hk, hv]
theorem M_geti (hC : MCx G cc nL p s m args meth c) (hP : MRep G σ H) (k : Nat) (hk : k < 89) (h0 : mKind k = 0) (hlink : Cond.fieldLink RX10 index (TX10 k).1 (TX10 k).2.1 (TX10 k).2.2.1 ∈ lw_all) (hdg : decode cc pc = .ok (.getfield index, 3))
    (kk : W p l e R s m args below meth c H locs cells slots Q (F0 m (pc + 3) ls (.int (mI σ k) :: rest))) : W p l e R s m args below meth c H locs cells slots Q (F0 m pc ls (.ref (gM G) :: rest)) :=
  M_getV hC hP k hk hlink (by simp [mV, h0]) hdg kk
theorem M_getl (hC : MCx G cc nL p s m args meth c) (hP : MRep G σ H) (k : Nat) (hk : k < 89) (h0 : mKind k = 1) (hlink : Cond.fieldLink RX10 index (TX10 k).1 (TX10 k).2.1 (TX10 k).2.2.1 ∈ lw_all) (hdg : decode cc pc = .ok (.getfield index, 3))
    (kk : W p l e R s m args below meth c H locs cells slots Q (F0 m (pc + 3) ls (.long (mL σ k 0) :: rest))) : W p l e R s m args below meth c H locs cells slots Q (F0 m pc ls (.ref (gM G) :: rest)) :=
  M_getV hC hP k hk hlink (by simp [mV, h0]) hdg kk
theorem M_geta (hC : MCx G cc nL p s m args meth c) (hP : MRep G σ H) (k : Nat) (hk : k < 89) (h0 : 2 ≤ mKind k) (hlink : Cond.fieldLink RX10 index (TX10 k).1 (TX10 k).2.1 (TX10 k).2.2.1 ∈ lw_all) (hdg : decode cc pc = .ok (.getfield index, 3))
    (kk : W p l e R s m args below meth c H locs cells slots Q (F0 m (pc + 3) ls (.ref (gA G k) :: rest))) : W p l e R s m args below meth c H locs cells slots Q (F0 m pc ls (.ref (gM G) :: rest)) :=
  M_getV hC hP k hk hlink (by rw [mV, if_neg (by omega), if_neg (by omega)]) hdg kk
theorem M_putV (hC : MCx G cc nL p s m args meth c) (hP : MRep G σ H) (hS0 : va_S (MA G) H0 H locs) (k : Nat) (hk : k < 89) (hlink : Cond.fieldLink RX10 index (TX10 k).1 (TX10 k).2.1 (TX10 k).2.2.1 ∈ lw_all) (hfin : (TX10 k).2.2.2 = false) {v : Value} (hn : narrow (tyX10 k) v = v) (hfit : fits (tyX10 k) v = true) (σ1 : MS) (h1 : ∀ j, j < 89 → updV (mV G σ) k v j = mV G σ1 j) (h2 : ∀ j, j < 89 → 2 ≤ mKind j → mC G σ j = mC G σ1 j) (hdg : decode cc pc = .ok (.putfield index, 3))
    (kk : ∀ (H1 : Heap) (locs1 : List Loc), MRep G σ1 H1 → va_S (MA G) H0 H1 locs1 → W p l e R s m args below meth c H1 locs1 cells slots Q (F0 m (pc + 3) ls rest)) : W p l e R s m args below meth c H locs cells slots Q (F0 m pc ls (v :: .ref (gM G) :: rest)) := by
  obtain ⟨hx, hb, -, hown, hts, -, ⟨hS, hfc, kC, hkC, hkind⟩, -, hne, -⟩ := hC
  have hap : ∀ x y, x < 89 → y < 89 → x ≠ y → G.2.1 x ≠ G.2.1 y := by
    intro x y hx hy hne
    obtain ⟨_, _, _, fa, hia, ea⟩ := hS x hx
    obtain ⟨_, _, _, fb, hib, eb⟩ := hS y hy
    rw [← ea, ← eb]
    refine u_apart (u_lays hts in_X10 hx) (u_lays hts in_X10 hy) hia hib ?_
    rw [(State.fieldFound?_type hia (tyX10_ok x hx)).1, (State.fieldFound?_type hib (tyX10_ok y hy)).1]
    exact nmX10 x hx y hy hne
  obtain ⟨⟨cell, q1, q2, q3, q4⟩, hA⟩ := hP
  obtain ⟨cf, kf, fi, f, hi, hsl⟩ := hS k hk
  have hlay := hts _ (in_X10 _ (u_in_lay hk))
  unfold u_lay at hlay
  rw [if_neg (by rw [hfin]; decide)] at hlay
  have hst := (u_facts hfc hkC (u_lays hts in_X10 hk) hi).1
  have h6 := u_store hfc hkC hkind hlay hi (tyX10_ok k hk) hn hfit
  refine W.putK hx hb (f := f) ⟨hown, hts _ hlink, ⟨_, _, _, hi⟩, hst⟩ (by rw [q2]; exact h6) q1 q3 (by rw [hsl]; exact k2_hasslot (q4 k hk)) rfl rfl hdg fun H' e1 e2 e3 => ?_
  rw [hsl] at e1 ⊢
  refine kk H' _ ⟨t_OB.to (V := updV (mV G σ) k v) ⟨_, e1, q2, q3, t_set q4 hap hk v⟩ h1, fun j hj hj2 => ?_⟩ (hS0.put e2 e3 (Or.inl rfl))
  rw [← h2 j hj hj2, e3 _ (hne j hj hj2)]
  exact hA j hj hj2
theorem mV_wI (k : Nat) (h0 : mKind k = 0) (v : Int32) : ∀ j, j < 89 → updV (mV G σ) k (.int v) j = mV G (wI σ k v) j := by
  intro j _
  by_cases h : j = k
  · subst h; simp [updV, mV, h0, mI, wI]
  · simp [updV, mV, mI, wI, h, mL]
theorem M_puti (hC : MCx G cc nL p s m args meth c) (hP : MRep G σ H) (hS0 : va_S (MA G) H0 H locs) (k : Nat) (hk : k < 89) (h0 : mKind k = 0) (ht : tyX10 k = .int) (hlink : Cond.fieldLink RX10 index (TX10 k).1 (TX10 k).2.1 (TX10 k).2.2.1 ∈ lw_all) (hfin : (TX10 k).2.2.2 = false) {v : Int32} (hdg : decode cc pc = .ok (.putfield index, 3))
    (kk : ∀ (H1 : Heap) (locs1 : List Loc), MRep G (wI σ k v) H1 → va_S (MA G) H0 H1 locs1 → W p l e R s m args below meth c H1 locs1 cells slots Q (F0 m (pc + 3) ls rest)) : W p l e R s m args below meth c H locs cells slots Q (F0 m pc ls (.int v :: .ref (gM G) :: rest)) :=
  M_putV hC hP hS0 k hk hlink hfin (by rw [ht]; rfl) (by rw [ht]; rfl) (wI σ k v) (mV_wI k h0 v) (fun j _ _ => rfl) hdg kk
theorem M_putz (hC : MCx G cc nL p s m args meth c) (hP : MRep G σ H) (hS0 : va_S (MA G) H0 H locs) (k : Nat) (hk : k < 89) (h0 : mKind k = 0) (ht : tyX10 k = .boolean) (hlink : Cond.fieldLink RX10 index (TX10 k).1 (TX10 k).2.1 (TX10 k).2.2.1 ∈ lw_all) (hfin : (TX10 k).2.2.2 = false) {v : Int32} (hz : v = 0 ∨ v = 1) (hdg : decode cc pc = .ok (.putfield index, 3))
    (kk : ∀ (H1 : Heap) (locs1 : List Loc), MRep G (wI σ k v) H1 → va_S (MA G) H0 H1 locs1 → W p l e R s m args below meth c H1 locs1 cells slots Q (F0 m (pc + 3) ls rest)) : W p l e R s m args below meth c H locs cells slots Q (F0 m pc ls (.int v :: .ref (gM G) :: rest)) :=
  M_putV hC hP hS0 k hk hlink hfin (by rw [ht]; exact (zb_nar hz).1) (by rw [ht]; exact (zb_nar hz).2) (wI σ k v) (mV_wI k h0 v) (fun j _ _ => rfl) hdg kk
theorem M_putl (hC : MCx G cc nL p s m args meth c) (hP : MRep G σ H) (hS0 : va_S (MA G) H0 H locs) (k : Nat) (hk : k < 89) (h0 : mKind k = 1) (ht : tyX10 k = .long) (hlink : Cond.fieldLink RX10 index (TX10 k).1 (TX10 k).2.1 (TX10 k).2.2.1 ∈ lw_all) (hfin : (TX10 k).2.2.2 = false) {v : Int64} (hdg : decode cc pc = .ok (.putfield index, 3))
    (kk : ∀ (H1 : Heap) (locs1 : List Loc), MRep G (wL σ k 0 v) H1 → va_S (MA G) H0 H1 locs1 → W p l e R s m args below meth c H1 locs1 cells slots Q (F0 m (pc + 3) ls rest)) : W p l e R s m args below meth c H locs cells slots Q (F0 m pc ls (.long v :: .ref (gM G) :: rest)) := by
  refine M_putV hC hP hS0 k hk hlink hfin (by rw [ht]; rfl) (by rw [ht]; rfl) (wL σ k 0 v) ?_ ?_ hdg kk
  · intro j _
    by_cases h : j = k
    · subst h; simp [updV, mV, h0, mL, wL]
    · simp [updV, mV, mI, wL, h, mL]
  · intro j _ hj
    have h : j ≠ k := fun h => by subst h; omega
    simp [mC, mA, mL, wL, h]
theorem M_iald (hC : MCx G cc nL p s m args meth c) (hP : MRep G σ H) (k : Nat) (hk : k < 89) (h0 : mKind k = 2) (ht : mTy k = .int) {n : Nat} (hn : mLen k = n) {i : Int32} (hin : vp_in i n) (hdg : decode cc pc = .ok (.iaload, 1))
    (kk : W p l e R s m args below meth c H locs cells slots Q (F0 m (pc + 1) ls (.int (mA σ k i.toNatClampNeg) :: rest))) : W p l e R s m args below meth c H locs cells slots Q (F0 m pc ls (.int i :: .ref (gA G k) :: rest)) := by
  subst hn
  have hlt : i.toNatClampNeg < mLen k := Nat.not_le.mp fun q => hin (Or.inr q)
  have hc := hP.2 k hk (by omega)
  rw [mC, if_pos h0] at hc
  have ha := hC.2.2.2.2.2.2.2.1 k hk (by omega)
  rw [ht] at ha
  exact W.iald (v := .int (mA σ k i.toNatClampNeg)) hC.1 hC.2.1 hc (ha _ _) (fun q => by cases q) (by rw [arrV_size]; exact hin) (by rw [arrV_read _ _ hlt]) rfl rfl hdg kk
theorem M_bald (hC : MCx G cc nL p s m args meth c) (hP : MRep G σ H) (k : Nat) (hk : k < 89) (h0 : mKind k = 2) (ht : mTy k = .byte) {n : Nat} (hn : mLen k = n) {i : Int32} (hin : vp_in i n) (hdg : decode cc pc = .ok (.baload, 1))
    (kk : W p l e R s m args below meth c H locs cells slots Q (F0 m (pc + 1) ls (.int (mA σ k i.toNatClampNeg) :: rest))) : W p l e R s m args below meth c H locs cells slots Q (F0 m pc ls (.int i :: .ref (gA G k) :: rest)) := by
  subst hn
  have hlt : i.toNatClampNeg < mLen k := Nat.not_le.mp fun q => hin (Or.inr q)
  have hc := hP.2 k hk (by omega)
  rw [mC, if_pos h0] at hc
  have ha := hC.2.2.2.2.2.2.2.1 k hk (by omega)
  rw [ht] at ha
  exact W.bald (v := .int (mA σ k i.toNatClampNeg)) hC.1 hC.2.1 hc (ha _ _) (fun q => by cases q) (by rw [arrV_size]; exact hin) (by rw [arrV_read _ _ hlt]) rfl rfl hdg kk
theorem M_zald (hC : MCx G cc nL p s m args meth c) (hP : MRep G σ H) (k : Nat) (hk : k < 89) (h0 : mKind k = 2) (ht : mTy k = .boolean) {n : Nat} (hn : mLen k = n) {i : Int32} (hin : vp_in i n) (hdg : decode cc pc = .ok (.baload, 1))
    (kk : W p l e R s m args below meth c H locs cells slots Q (F0 m (pc + 1) ls (.int (mA σ k i.toNatClampNeg) :: rest))) : W p l e R s m args below meth c H locs cells slots Q (F0 m pc ls (.int i :: .ref (gA G k) :: rest)) := by
  subst hn
  have hlt : i.toNatClampNeg < mLen k := Nat.not_le.mp fun q => hin (Or.inr q)
  have hc := hP.2 k hk (by omega)
  rw [mC, if_pos h0] at hc
  have ha := hC.2.2.2.2.2.2.2.1 k hk (by omega)
  rw [ht] at ha
  exact W.zald (v := .int (mA σ k i.toNatClampNeg)) hC.1 hC.2.1 hc (ha _ _) (fun q => by cases q) (by rw [arrV_size]; exact hin) (by rw [arrV_read _ _ hlt]) rfl rfl hdg kk
theorem M_lald (hC : MCx G cc nL p s m args meth c) (hP : MRep G σ H) (k : Nat) (hk : k < 89) (h0 : mKind k = 3) (ht : mTy k = .long) {n : Nat} (hn : mLen k = n) {i : Int32} (hin : vp_in i n) (hdg : decode cc pc = .ok (.laload, 1))
    (kk : W p l e R s m args below meth c H locs cells slots Q (F0 m (pc + 1) ls (.long (mL σ k i.toNatClampNeg) :: rest))) : W p l e R s m args below meth c H locs cells slots Q (F0 m pc ls (.int i :: .ref (gA G k) :: rest)) := by
  subst hn
  have hlt : i.toNatClampNeg < mLen k := Nat.not_le.mp fun q => hin (Or.inr q)
  have hc := hP.2 k hk (by omega)
  rw [mC, if_neg (by omega)] at hc
  have ha := hC.2.2.2.2.2.2.2.1 k hk (by omega)
  rw [ht] at ha
  exact W.lald (v := .long (mL σ k i.toNatClampNeg)) hC.1 hC.2.1 hc (ha _ _) (fun q => by cases q) (by rw [arrV_size]; exact hin) (by rw [arrV_read _ _ hlt]) rfl rfl hdg kk
theorem M_set2 (hC : MCx G cc nL p s m args meth c) (hP : MRep G σ H) (hS0 : va_S (MA G) H0 H locs) {k : Nat} (hk : k < 89) (h0 : 2 ≤ mKind k) {i : Nat} {H1 : Heap} {x : Value} (σ1 : MS) (e : H1[gA G k]? = some ((mC G σ k).setSlot i x)) (z : H1.size = H.size) (oq : ∀ q, q ≠ gA G k → H1[q]? = H[q]?) (h1 : ∀ j, mV G σ1 j = mV G σ j) (h2 : ∀ j, j ≠ k → mC G σ1 j = mC G σ j) (h3 : (mC G σ k).setSlot i x = mC G σ1 k) : MRep G σ1 H1 ∧ va_S (MA G) H0 H1 (locs ++ [⟨gA G k, i⟩]) := by
  have hd := hC.2.2.2.2.2.2.2.2
  refine ⟨⟨?_, ?_⟩, hS0.put z oq (Or.inr ⟨k, hk, h0, rfl⟩)⟩
  · exact (hP.1.kept (oq _ (fun q => hd.1 k hk h0 q.symm))).to (fun j _ => (h1 j).symm)
  · intro j hj hj2
    by_cases h : j = k
    · subst h; rw [e, h3]
    · rw [h2 j h, oq _ (fun q => h (hd.2 j k hj hj2 hk h0 q))]
      exact hP.2 j hj hj2
theorem M_iast (hC : MCx G cc nL p s m args meth c) (hP : MRep G σ H) (hS0 : va_S (MA G) H0 H locs) (k : Nat) (hk : k < 89) (h0 : mKind k = 2) (ht : mTy k = .int) {n : Nat} (hn : mLen k = n) {i x : Int32} (hin : vp_in i n) (hdg : decode cc pc = .ok (.iastore, 1))
    (kk : ∀ (H1 : Heap) (locs1 : List Loc), MRep G (wA σ k i.toNatClampNeg x) H1 → va_S (MA G) H0 H1 locs1 → W p l e R s m args below meth c H1 locs1 cells slots Q (F0 m (pc + 1) ls rest)) : W p l e R s m args below meth c H locs cells slots Q (F0 m pc ls (.int x :: .int i :: .ref (gA G k) :: rest)) := by
  subst hn
  have hc := hP.2 k hk (by omega)
  rw [mC, if_pos h0] at hc
  have ha := hC.2.2.2.2.2.2.2.1 k hk (by omega)
  rw [ht] at ha
  refine W.iast hC.1 hC.2.1 hc (ha _ _) (fun q => by cases q) (by rw [arrV_size]; exact hin) rfl rfl hdg fun H1 e z oq => ?_
  have h := M_set2 (i := i.toNatClampNeg) (x := .int x) hC hP hS0 hk (by omega) (wA σ k i.toNatClampNeg x) (by rw [mC, if_pos h0]; exact e) z oq (fun j => rfl) (fun j hj => by simp [mC, mA, wA, mL, hj]) (by
    rw [mC, mC, if_pos h0, if_pos h0, arrV_store]
    congr 1
    funext q
    by_cases hq : q = i.toNatClampNeg
    · subst hq; simp [updV, mA, wA]
    · simp [updV, mA, wA, hq])
  exact kk H1 _ h.1 h.2
theorem M_bast (hC : MCx G cc nL p s m args meth c) (hP : MRep G σ H) (hS0 : va_S (MA G) H0 H locs) (k : Nat) (hk : k < 89) (h0 : mKind k = 2) (ht : mTy k = .byte) {n : Nat} (hn : mLen k = n) {i x : Int32} (hin : vp_in i n) (hdg : decode cc pc = .ok (.bastore, 1))
    (kk : ∀ (H1 : Heap) (locs1 : List Loc), MRep G (wA σ k i.toNatClampNeg x.toInt8.toInt32) H1 → va_S (MA G) H0 H1 locs1 → W p l e R s m args below meth c H1 locs1 cells slots Q (F0 m (pc + 1) ls rest)) : W p l e R s m args below meth c H locs cells slots Q (F0 m pc ls (.int x :: .int i :: .ref (gA G k) :: rest)) := by
  subst hn
  have hc := hP.2 k hk (by omega)
  rw [mC, if_pos h0] at hc
  have ha := hC.2.2.2.2.2.2.2.1 k hk (by omega)
  rw [ht] at ha
  refine W.bast hC.1 hC.2.1 hc (ha _ _) (fun q => by cases q) (by rw [arrV_size]; exact hin) rfl rfl hdg fun H1 e z oq => ?_
  have h := M_set2 (i := i.toNatClampNeg) (x := narrow .byte (.int x)) hC hP hS0 hk (by omega) (wA σ k i.toNatClampNeg x.toInt8.toInt32) (by rw [mC, if_pos h0]; exact e) z oq (fun j => rfl) (fun j hj => by simp [mC, mA, wA, mL, hj]) (by
    rw [mC, mC, if_pos h0, if_pos h0, arrV_store]
    congr 1
    funext q
    by_cases hq : q = i.toNatClampNeg
    · subst hq; simp [updV, mA, wA, narrow]
    · simp [updV, mA, wA, hq])
  exact kk H1 _ h.1 h.2
theorem M_zast (hC : MCx G cc nL p s m args meth c) (hP : MRep G σ H) (hS0 : va_S (MA G) H0 H locs) (k : Nat) (hk : k < 89) (h0 : mKind k = 2) (ht : mTy k = .boolean) {n : Nat} (hn : mLen k = n) {i x : Int32} (hz : x = 0 ∨ x = 1) (hin : vp_in i n) (hdg : decode cc pc = .ok (.bastore, 1))
    (kk : ∀ (H1 : Heap) (locs1 : List Loc), MRep G (wA σ k i.toNatClampNeg x) H1 → va_S (MA G) H0 H1 locs1 → W p l e R s m args below meth c H1 locs1 cells slots Q (F0 m (pc + 1) ls rest)) : W p l e R s m args below meth c H locs cells slots Q (F0 m pc ls (.int x :: .int i :: .ref (gA G k) :: rest)) := by
  subst hn
  have hc := hP.2 k hk (by omega)
  rw [mC, if_pos h0] at hc
  have ha := hC.2.2.2.2.2.2.2.1 k hk (by omega)
  rw [ht] at ha
  refine W.zast hC.1 hC.2.1 hc (ha _ _) (fun q => by cases q) (by rw [arrV_size]; exact hin) rfl rfl hdg fun H1 e z oq => ?_
  have h := M_set2 (i := i.toNatClampNeg) (x := narrow .boolean (.int x)) hC hP hS0 hk (by omega) (wA σ k i.toNatClampNeg x) (by rw [mC, if_pos h0]; exact e) z oq (fun j => rfl) (fun j hj => by simp [mC, mA, wA, mL, hj]) (by
    rw [mC, mC, if_pos h0, if_pos h0, arrV_store, (zb_nar hz).1]
    congr 1
    funext q
    by_cases hq : q = i.toNatClampNeg
    · subst hq; simp [updV, mA, wA]
    · simp [updV, mA, wA, hq])
  exact kk H1 _ h.1 h.2
theorem M_last (hC : MCx G cc nL p s m args meth c) (hP : MRep G σ H) (hS0 : va_S (MA G) H0 H locs) (k : Nat) (hk : k < 89) (h0 : mKind k = 3) (ht : mTy k = .long) {n : Nat} (hn : mLen k = n) {i : Int32} {x : Int64} (hin : vp_in i n) (hdg : decode cc pc = .ok (.lastore, 1))
    (kk : ∀ (H1 : Heap) (locs1 : List Loc), MRep G (wL σ k i.toNatClampNeg x) H1 → va_S (MA G) H0 H1 locs1 → W p l e R s m args below meth c H1 locs1 cells slots Q (F0 m (pc + 1) ls rest)) : W p l e R s m args below meth c H locs cells slots Q (F0 m pc ls (.long x :: .int i :: .ref (gA G k) :: rest)) := by
  subst hn
  have hc := hP.2 k hk (by omega)
  rw [mC, if_neg (by omega)] at hc
  have ha := hC.2.2.2.2.2.2.2.1 k hk (by omega)
  rw [ht] at ha
  refine W.last hC.1 hC.2.1 hc (ha _ _) (fun q => by cases q) (by rw [arrV_size]; exact hin) rfl rfl hdg fun H1 e z oq => ?_
  have h := M_set2 (i := i.toNatClampNeg) (x := .long x) hC hP hS0 hk (by omega) (wL σ k i.toNatClampNeg x) (by rw [mC, if_neg (by omega)]; exact e) z oq (fun j => by
      by_cases hj : j = k
      · subst hj; simp [mV, h0]
      · simp [mV, mI, mL, wL, hj]) (fun j hj => by simp [mC, mA, wL, mL, hj]) (by
    rw [mC, mC, if_neg (by omega), if_neg (by omega), arrV_store]
    congr 1
    funext q
    by_cases hq : q = i.toNatClampNeg
    · subst hq; simp [updV, mL, wL]
    · simp [updV, mL, wL, hq])
  exact kk H1 _ h.1 h.2
theorem M_ret (hC : MCx G cc nL p s m args meth c) (hP : MRep G σ H) (hS : va_S (MA G) s.heap H locs) {rv : Option Value} {σ1 : MS} (hσ : σ = σ1) : (∀ t : State, t.heap = H → s.WarmedH t.vm → mQ G rv σ1 args s (.returned rv) t) := by
  subst hσ
  exact fun t ht hW => ⟨rfl, by rw [ht]; exact hP, hS.F ht⟩
theorem M_reti (hC : MCx G cc nL p s m args meth c) (hP : MRep G σ H) (hS : va_S (MA G) s.heap H locs) (hr : meth.sig.returnType = some .int) {v r : Int32} {σ1 : MS} (hv : v = r) (hσ : σ = σ1) (hdg : decode cc pc = .ok (.ireturn, 1)) :
    W p l e R s m args below meth c H locs 0 0 (MQ below (mQ G (some (.int r)) σ1) args s 0 0 (MA G)) (F0 m pc ls [.int v]) := by
  subst hv
  exact W.iret hC.1 hC.2.1 hr (M_ret hC hP hS hσ) hS.2.2 hdg hC.2.2.2.2.2.1
theorem M_retz (hC : MCx G cc nL p s m args meth c) (hP : MRep G σ H) (hS : va_S (MA G) s.heap H locs) (hr : meth.sig.returnType = some .boolean) {v r : Int32} (hz : v = 0 ∨ v = 1) {σ1 : MS} (hv : v = r) (hσ : σ = σ1) (hdg : decode cc pc = .ok (.ireturn, 1)) :
    W p l e R s m args below meth c H locs 0 0 (MQ below (mQ G (some (.int r)) σ1) args s 0 0 (MA G)) (F0 m pc ls [.int v]) := by
  subst hv
  exact W.zret hC.1 hC.2.1 hr (zb_nar hz).1 (M_ret hC hP hS hσ) hS.2.2 hdg hC.2.2.2.2.2.1
theorem M_retl (hC : MCx G cc nL p s m args meth c) (hP : MRep G σ H) (hS : va_S (MA G) s.heap H locs) (hr : meth.sig.returnType = some .long) {v r : Int64} {σ1 : MS} (hv : v = r) (hσ : σ = σ1) (hdg : decode cc pc = .ok (.lreturn, 1)) :
    W p l e R s m args below meth c H locs 0 0 (MQ below (mQ G (some (.long r)) σ1) args s 0 0 (MA G)) (F0 m pc ls [.long v]) := by
  subst hv
  exact W.lret hC.1 hC.2.1 hr (M_ret hC hP hS hσ) hS.2.2 hdg hC.2.2.2.2.2.1
theorem M_retv (hC : MCx G cc nL p s m args meth c) (hP : MRep G σ H) (hS : va_S (MA G) s.heap H locs) (hr : meth.sig.returnType = none) {σ1 : MS} (hσ : σ = σ1) (hdg : decode cc pc = .ok (.return_, 1)) :
    W p l e R s m args below meth c H locs 0 0 (MQ below (mQ G none σ1) args s 0 0 (MA G)) (F0 m pc ls []) :=
  W.vret hC.1 hC.2.1 hr (M_ret hC hP hS hσ) hS.2.2 hdg hC.2.2.2.2.2.1
theorem M_run {rv : Option Value} {σ1 : MS} {st0 : List Value} {a : Array Value} (hr : va_Run p l e R s m args below meth c H locs cells slots 0 0 (F0 m pc ls st0) rest (mQ G rv σ1 a) (MA G)) (hS : va_S (MA G) H0 H locs)
    (kk : ∀ (H1 : Heap) (locs1 : List Loc), MRep G σ1 H1 → va_S (MA G) H0 H1 locs1 → W p l e R s m args below meth c H1 locs1 cells slots Q (F0 m (pc + 3) ls (rv.toList ++ rest))) : W p l e R s m args below meth c H locs cells slots Q (F0 m pc ls st0) := by
  intro T hT X
  obtain ⟨v, st₀, t, T', L, h0, X', hL, e1, e2, ⟨hv, hp, hz, hk⟩, st⟩ := hr T hT X
  cases hv
  rw [h0] at hz hk
  obtain ⟨t2, a1, b1⟩ := kk T'.heap (locs ++ L) (by rw [e1]; exact hp)
    ⟨Nat.le_trans hS.1 (by rw [e1]; exact hz), fun q h1 h2 => by rw [e1, hk q (Nat.lt_of_lt_of_le h1 hS.1) h2]; exact hS.2.1 q h1 h2, fun q hq => by
      rcases List.mem_append.mp hq with h | h
      · exact hS.2.2 q h
      · exact hL q h⟩ T' rfl X'
  exact ⟨t2, st t2 a1, b1⟩
theorem mP_blind {av : List Value} : FrameBlind (mP G av σ) := fun a U g mk q => ⟨q.1, q.2.1, MFix.moved (u := U) (U := U.calling g mk a) (Vm.Alike.refl U.vm) q.2.2⟩
theorem M_inv (hC : MCx G cc nL p s m args meth c) (hP : MRep G σ H) (hS : va_S (MA G) H0 H locs) {y : MethodName} {bytes : ByteArray} {maxL n : Nat} {ret : Option FieldType} {rm : Room} {rv : Option Value} {σ1 : MS} (As : List Value) {st0 : List Value} (hM : Met l y (ws_ y bytes maxL ret) rm (mP G (.ref (gM G) :: As) σ) (mQ G rv σ1) 0 0 (MA G)) (cw : CallW R s args RX10 RX10 index y bytes maxL ret (ws_ y bytes maxL ret) rm 0 0 n)
    (hst : st0 = As.reverse ++ .ref (gM G) :: rest) (hn : As.length = n) (hl : ls.size = nL) (hW : (rest.map fun v => v.category).sum ≤ 8) (hf : cells ≤ R.cells ∧ slots ≤ R.slots) (hdg : decode cc pc = .ok (.invokevirtual index, 3))
    (kk : ∀ (H1 : Heap) (locs1 : List Loc), MRep G σ1 H1 → va_S (MA G) H0 H1 locs1 → W p l e R s m args below meth c H1 locs1 cells slots Q (F0 m (pc + 3) ls (rv.toList ++ rest))) : W p l e R s m args below meth c H locs cells slots Q (F0 m pc ls st0) := by
  obtain ⟨hx, hb, hml, hown, hts, -, hK⟩ := hC
  refine M_run (va_runV (As := As) (rest := rest) ⟨hx, hb, hml, hown, hts⟩ hM cw ⟨mP_blind, ?_, fun U hU hW => ⟨rfl, by rw [hU]; exact hP, MFix.moved hW.alike hK⟩⟩ rfl hn hl hst (lv_room hW) hdg hf) hS kk
  obtain ⟨cell, q1, q2, q3, -⟩ := hP.1
  exact ⟨cell, q1, by rw [q3]; rfl, by rw [q2]; exact hK.1.2.1⟩
theorem M_invS (hC : MCx G cc nL p s m args meth c) (hP : MRep G σ H) (hS : va_S (MA G) H0 H locs) {y : MethodName} {bytes : ByteArray} {maxL n : Nat} {ret : Option FieldType} {rm : Room} {rv : Option Value} {σ1 : MS} (As : List Value) {st0 : List Value} (hM : Met l y (ws_ y bytes maxL ret) rm (mP G As σ) (mQ G rv σ1) 0 0 (MA G)) (cw : CallB R s args RX10 index y bytes maxL ret (ws_ y bytes maxL ret) rm 0 0 n ∧ (Cond.static y).before args s = true)
    (hst : st0 = As.reverse ++ rest) (hn : As.length = n) (hl : ls.size = nL) (hW : (rest.map fun v => v.category).sum ≤ 8) (hf : cells ≤ R.cells ∧ slots ≤ R.slots) (hdg : decode cc pc = .ok (.invokestatic index, 3))
    (kk : ∀ (H1 : Heap) (locs1 : List Loc), MRep G σ1 H1 → va_S (MA G) H0 H1 locs1 → W p l e R s m args below meth c H1 locs1 cells slots Q (F0 m (pc + 3) ls (rv.toList ++ rest))) : W p l e R s m args below meth c H locs cells slots Q (F0 m pc ls st0) := by
  obtain ⟨hx, hb, hml, hown, hts, -, hK⟩ := hC
  exact M_run (va_runS (As := As) (rest := rest) ⟨hx, hb, hml, hown, hts⟩ hM cw ⟨mP_blind, fun U hU hW => ⟨rfl, by rw [hU]; exact hP, MFix.moved hW.alike hK⟩⟩ rfl hn hl hst (lv_room hW) hdg hf) hS kk
/-- from a contract's body to its walk -/
theorem M_met {y : MethodName} {bytes : ByteArray} {maxL : Nat} {ret : Option FieldType} {rm : Room} {av : List Value} {rv : Option Value} {σ1 : MS} (hcl : y.cls = RX10) (hpl : plainName y.cls = true) (hle : (lg_sl av).length ≤ maxL)
    (body : ∀ (p : Program) (e : Env) (s : State) (m : MethodId) (below : List Frame) (meth : Method) (c : Code), MCx G bytes maxL p s m av.toArray meth c → meth.sig.returnType = ret → ∀ (ls : Array Slot), lv_has ls maxL (lv_args 0 av) → MRep G σ s.heap →
      W p l e rm s m av.toArray below meth c s.heap [] 0 0 (MQ below (mQ G rv σ1) av.toArray s 0 0 (MA G)) (F0 m 0 ls [])) : Met l y (ws_ y bytes maxL ret) rm (mP G av σ) (mQ G rv σ1) 0 0 (MA G) := by
  refine Met.ofW (cc := bytes) (maxL := maxL) (ret := ret) hpl rfl ?_
  intro p e s m args below meth c s₁ B hml hv
  obtain ⟨rfl, hP, hK⟩ := hv
  have hts := atoms_spec (ws := ws_ y bytes maxL ret) B.pre
  have hts : ∀ w ∈ lw_all, w.before _ s = true := fun w h => hts w (List.mem_cons_of_mem _ h)
  have hown : s.vm.findClass y.cls = some m.cls := findClass_of_methodNamed B.named
  rw [hcl] at hown
  have hl := lv_entry av (n := maxL) hle
  rw [lg_entry_eq]
  exact body p e s m below meth c ⟨B.exec, B.bytes, hml, hown, hts, B.notSynchronized, hK⟩ B.returns _ hl hP
end MRows
