/-! what holds of the tables all through a run; a method's contract; its end -/
set_option maxRecDepth 100000
def xZv (D : XD) (q : Nat ⊕ Int32) : Value := match q with
  | .inl i => rv (D.2.2.2 i)
  | .inr v => .int v
def XF0 (D : XD) (U : State) : Prop :=
  (∀ t, (0 < t ∧ t ≤ 24) ∨ t = 41 → u_Kn U (tnm t) (tT t) (tfl t).length (D.1 t) (D.2.1 t)) ∧ (∀ k, k < 4 → ClassAt U (tnm (44 + k)) (D.1 (44 + k))) ∧
  (∀ t, t < 49 → 2 ≤ tkd t → ArrOfT U (D.1 t) (tel t) ∧ va_RA U (D.1 t) (tel t)) ∧
  (∀ q ∈ xFN, va_Nw (.fieldLinkNest q.1 q.2.1 q.2.2.1 q.2.2.2.1 q.2.2.2.2.1 q.2.2.2.2.2) U) ∧ (∀ q ∈ xMN, va_Nw (.methodLinkNest q.1 q.2.1 q.2.2.1 q.2.2.2) U) ∧
  (∀ q ∈ xCa, va_Nw (.castable q.1 q.2) U) ∧ ((∀ q ∈ xDe, va_Nw (.declares q) U) ∧ va_AO "java/lang/Object" U ∧ ∀ q ∈ xSe, va_Nw (.selects q.1 q.2 q.2) U) ∧ (∀ q ∈ xNc, va_Nc q.1 q.2 U) ∧ (∀ q ∈ xFa, va_Fw q.1 q.2.1 q.2.2 U) ∧
  (∀ q ∈ xSr, vk_R q.1 q.2.1 q.2.2.1 (D.2.2.2 q.2.2.2 - 1) U ∧ D.2.2.2 q.2.2.2 ≠ 0) ∧ (va_Mi "[Ljava/lang/Object;" (D.2.2.2 199 - 1) U ∧ D.2.2.2 199 ≠ 0) ∧ va_Dc U
def XStat (D : XD) (U : State) (H : Heap) : Prop := ∀ q ∈ xZs, va_Z q.1 q.2.1 q.2.2.1 (xZv D q.2.2.2) (dA D) U H
theorem xFa_ok : ∀ q ∈ xFa, q.2.1.cls ≠ "java/lang/invoke/MethodHandle" ∧ q.2.1.cls ≠ "java/lang/invoke/VarHandle" := by decide +kernel
theorem ClassAt.movedX {u U : State} {C : String} {cC : ClassId} (hvm : u.vm.Alike U.vm) (h : ClassAt u C cC) : ClassAt U C cC := by
  obtain ⟨h1, k, h2, h3⟩ := h
  obtain ⟨k', hk', he⟩ := hvm.2.2 _ _ h2
  exact ⟨by rw [hvm.findClass]; exact h1, k', hk', by rw [he]; exact h3⟩
theorem XF0.warm {D : XD} {s U : State} (hW : s.WarmedH U.vm) (h : XF0 D s) : XF0 D U := by
  obtain ⟨h1, h2, h3, h4, h5, h6, h7, h8, h9, h10, h11, h12⟩ := h
  have ha := hW.alike
  exact ⟨fun t ht => u_Kn_moved ha (h1 t ht), fun k hk => ClassAt.movedX ha (h2 k hk), fun t h0 ht => ⟨arrOfT_moved ha (h3 t h0 ht).1, (h3 t h0 ht).2.moved ha⟩,
    fun q hq => va_Nw.warmF hW (h4 q hq), fun q hq => va_Nw.warmM hW (h5 q hq), fun q hq => va_Nw.warmC hW (h6 q hq), ⟨fun q hq => va_Nw.warmD hW (h7.1 q hq), va_AO.moved ha h7.2.1, fun q hq => word_at hW (Or.inl rfl) (h7.2.2 q hq)⟩, fun q hq => va_Nc.moved ha (h8 q hq), fun q hq => va_Fw.moved (xFa_ok q hq) ha (h9 q hq), fun q hq => ⟨vk_R.warm hW (h10 q hq).1, (h10 q hq).2⟩, ⟨va_Mi.moved ha h11.1, h11.2⟩, va_Dc.moved ha h12⟩
theorem XF0.same {D : XD} {s U : State} (hv : s.vm = U.vm) (h : XF0 D s) : XF0 D U := by
  obtain ⟨h1, h2, h3, h4, h5, h6, h7, h8, h9, h10, h11, h12⟩ := h
  have ha : s.vm.Alike U.vm := by rw [hv]; exact Vm.Alike.refl _
  exact ⟨fun t ht => u_Kn_moved ha (h1 t ht), fun k hk => ClassAt.movedX ha (h2 k hk), fun t h0 ht => ⟨arrOfT_moved ha (h3 t h0 ht).1, (h3 t h0 ht).2.moved ha⟩,
    fun q hq => va_Nw.same rfl hv (h4 q hq), fun q hq => va_Nw.same rfl hv (h5 q hq), fun q hq => va_Nw.same rfl hv (h6 q hq), ⟨fun q hq => va_Nw.same rfl hv (h7.1 q hq), va_AO.moved ha h7.2.1, fun q hq => va_Nw.same rfl hv (h7.2.2 q hq)⟩, fun q hq => va_Nc.moved ha (h8 q hq), fun q hq => va_Fw.moved (xFa_ok q hq) ha (h9 q hq), fun q hq => ⟨vk_R.same hv.symm (h10 q hq).1, (h10 q hq).2⟩, ⟨va_Mi.moved ha h11.1, h11.2⟩, va_Dc.moved ha h12⟩
def xP (D : XD) (av : List Value) (h : TH) : Array Value → State → Prop := va_Pc av (fun U => XRep D h U.heap ∧ XF0 D U ∧ XStat D U U.heap)
def xQ (D : XD) (h0 h1 : TH) : State → State → Prop := fun st t => XRep D h1 t.heap ∧ va_F (dA D) st t ∧ hc h0 ≤ hc h1 ∧ hs h0 ≤ hs h1
abbrev xRm (fr lo : Nat) (h0 : TH) : Room := { frames := fr, cells := XC - hc h0, slots := XS - hs h0, locals := lo }
/-- the contract of a method of the class: from the typed heap h0 it comes, with outcome o, to h1 -/
def XMt (l : Launch) (y : MethodName) (ws : List Cond) (fr lo : Nat) (D : XD) (av : List Value) (h0 : TH) (o : Outcome) (h1 : TH) : Prop :=
  XMet l y ws (xRm fr lo h0) (xP D av h0) o (xQ D h0 h1) (hc h1 - hc h0) (hs h1 - hs h0) (dA D)
def XMQ (below : List Frame) (D : XD) (o : Outcome) (h0 h1 : TH) (s : State) : State → Prop := fun t =>
  t.status = .running ∧ Ended t below o ∧ xQ D h0 h1 s t ∧ ∃ L, XEnd s t L (hc h1 - hc h0) (hs h1 - hs h0) ∧ ∀ q ∈ L, dA D q.base
def XCx (D : XD) (cc : ByteArray) (nL : Nat) (own : String) (h0 : TH) (p : Program) (R : Room) (s : State) (m : MethodId) (args : Array Value) (meth : Method) (c : Code) : Prop :=
  p.tables.exec = Jvm.exec ∧ c.code = cc ∧ c.maxLocals = nL ∧ s.vm.findClass own = some m.cls ∧ (∀ w ∈ lw_all, w.before args s = true) ∧ meth.locks = false ∧ XF0 D s ∧ XStat D s s.heap ∧ R.cells = XC - hc h0 ∧ R.slots = XS - hs h0
theorem xP_blind {D : XD} {av : List Value} {h : TH} : FrameBlind (xP D av h) := fun a U g mk q =>
  ⟨q.1, q.2.1, XF0.same (s := U) (U := U.calling g mk a) rfl q.2.2.1, fun z hz => va_Z.moved (u := U) (U := U.calling g mk a) (Vm.Alike.refl U.vm) (q.2.2.2 z hz)⟩
section XEnds
variable {p : Program} {l : Launch} {e : Env} {R : Room} {s : State} {m : MethodId} {args : Array Value} {below : List Frame} {meth : Method} {c : Code} {H : Heap} {locs : List Loc} {cells slots nL : Nat} {Q : State → Prop} {D : XD} {h0 h h1 : TH} {cc : ByteArray} {own : String} {pc : Nat} {ls : Array Slot} {rest : List Value}
theorem x_pre (hC : XCx D cc nL own h0 p R s m args meth c) (hX : XSt D s h0 h H locs cells slots) (av : List Value) : ∀ U : State, U.heap = H → s.WarmedH U.vm → xP D av h av.toArray U := fun U hU hW =>
  ⟨rfl, by rw [hU]; exact hX.1, XF0.warm hW hC.2.2.2.2.2.2.1, fun z hz => va_Z.moved hW.alike (va_Z.kept (hC.2.2.2.2.2.2.2.1 z hz) (fun a h1 h2 => by rw [hU]; exact hX.2.1.2.1 a h1 h2))⟩
theorem x_leave (t : State) (hX : XSt D s h0 h H locs cells slots) (ht : t.heap = H) {o : Outcome} (h1 : t.status = .running) (h2 : Ended t below o) (h3 : s.WarmedH t.vm) (h4 : s.sameButNew ({ t with vm := s.vm } : State) locs cells slots) : XMQ below D o h0 h s t := by
  obtain ⟨hR, hS, hcc, hss⟩ := hX
  have e1 : hc h - hc h0 = cells := by omega
  have e2 : hs h - hs h0 = slots := by omega
  exact ⟨h1, h2, ⟨by rw [ht]; exact hR, hS.F ht, by omega, by omega⟩, locs, ⟨h3, by rw [e1, e2]; exact h4⟩, hS.2.2⟩
theorem x_reti (hC : XCx D cc nL own h0 p R s m args meth c) (hX : XSt D s h0 h H locs cells slots) {ty : FieldType} (hr : meth.sig.returnType = some ty) {v r : Int32} (hn : narrow ty (.int v) = .int v) (hv : v = r) (hh : h = h1) (hdg : decode cc pc = .ok (.ireturn, 1)) :
    W p l e R s m args below meth c H locs cells slots (XMQ below D (.returned (some (.int r))) h0 h1 s) (F0 m pc ls [.int v]) := by
  subst hv; subst hh
  intro T hT X
  have hlocks : meth.locks = false := hC.2.2.2.2.2.1
  obtain ⟨fs, hret, hrun, hended, hW, hframe⟩ := X.leave (v := some (.int v)) (fun h => by rw [hr] at h; cases h)
  have hmeth' : T.vm.method? m = some meth := X.method'
  refine ⟨T.setFrames fs, ?_, x_leave (T.setFrames fs) hX hT hrun hended hW hframe⟩
  jvm_step X.here [X.here.top, hC.1, hC.2.1, hdg, hmeth', hr, hn]
  (try refine ⟨rfl, ?_⟩); (try refine ⟨rfl, ?_⟩)
  first | (intro acts; rw [hret _ acts rfl rfl rfl]) | rw [hret _ _ rfl rfl rfl]
  exact Steps.refl _
theorem x_retl (hC : XCx D cc nL own h0 p R s m args meth c) (hX : XSt D s h0 h H locs cells slots) (hr : meth.sig.returnType = some .long) {v r : Int64} (hv : v = r) (hh : h = h1) (hdg : decode cc pc = .ok (.lreturn, 1)) :
    W p l e R s m args below meth c H locs cells slots (XMQ below D (.returned (some (.long r))) h0 h1 s) (F0 m pc ls [.long v]) := by
  subst hv; subst hh
  intro T hT X
  have hlocks : meth.locks = false := hC.2.2.2.2.2.1
  obtain ⟨fs, hret, hrun, hended, hW, hframe⟩ := X.leave (v := some (.long v)) (fun h => by rw [hr] at h; cases h)
  have hmeth' : T.vm.method? m = some meth := X.method'
  refine ⟨T.setFrames fs, ?_, x_leave (T.setFrames fs) hX hT hrun hended hW hframe⟩
  jvm_step X.here [X.here.top, hC.1, hC.2.1, hdg, hmeth', hr, narrow]
  (try refine ⟨rfl, ?_⟩); (try refine ⟨rfl, ?_⟩)
  first | (intro acts; rw [hret _ acts rfl rfl rfl]) | rw [hret _ _ rfl rfl rfl]
  exact Steps.refl _
theorem x_retv (hC : XCx D cc nL own h0 p R s m args meth c) (hX : XSt D s h0 h H locs cells slots) (hr : meth.sig.returnType = none) (hh : h = h1) (hdg : decode cc pc = .ok (.return_, 1)) :
    W p l e R s m args below meth c H locs cells slots (XMQ below D (.returned none) h0 h1 s) (F0 m pc ls []) := by
  subst hh
  intro T hT X
  have hlocks : meth.locks = false := hC.2.2.2.2.2.1
  obtain ⟨fs, hret, hrun, hended, hW, hframe⟩ := X.leave (v := none) (fun _ => rfl)
  have hmeth' : T.vm.method? m = some meth := X.method'
  refine ⟨T.setFrames fs, ?_, x_leave (T.setFrames fs) hX hT hrun hended hW hframe⟩
  jvm_step X.here [X.here.top, hC.1, hC.2.1, hdg, hmeth', hr]
  (try refine ⟨rfl, ?_⟩); (try refine ⟨rfl, ?_⟩)
  first | (intro acts; rw [hret _ acts rfl rfl rfl]) | rw [hret _ _ rfl rfl rfl]
  exact Steps.refl _
theorem x_reta (hC : XCx D cc nL own h0 p R s m args meth c) (hX : XSt D s h0 h H locs cells slots) {rt : FieldType} (hr : meth.sig.returnType = some rt) (hrt : (∃ n, rt = .object n) ∨ ∃ t, rt = .array t) {v r : Nat} (hv : v = r) (hh : h = h1) (hdg : decode cc pc = .ok (.areturn, 1)) :
    W p l e R s m args below meth c H locs cells slots (XMQ below D (.returned (some (rv r))) h0 h1 s) (F0 m pc ls [rv v]) := by
  subst hv; subst hh
  intro T hT X
  have hlocks : meth.locks = false := hC.2.2.2.2.2.1
  obtain ⟨fs, hret, hrun, hended, hW, hframe⟩ := X.leave (v := some (rv v)) (fun h => by rw [hr] at h; cases h)
  have hmeth' : T.vm.method? m = some meth := X.method'
  refine ⟨T.setFrames fs, ?_, x_leave (T.setFrames fs) hX hT hrun hended hW hframe⟩
  have hv : rv v = .null ∨ ∃ a, rv v = .ref a := by cases v with
    | zero => exact Or.inl rfl
    | succ n => exact Or.inr ⟨n, rfl⟩
  generalize rv v = w at hret hv ⊢
  rcases hrt with ⟨n, rfl⟩ | ⟨t, rfl⟩ <;> rcases hv with rfl | ⟨a, rfl⟩ <;>
    (jvm_step X.here [X.here.top, hC.1, hC.2.1, hdg, hmeth', hr]
     (try refine ⟨rfl, ?_⟩); (try refine ⟨rfl, ?_⟩)
     first | (intro acts; rw [hret _ acts rfl rfl rfl]) | rw [hret _ _ rfl rfl rfl]
     exact Steps.refl _)
/-- a throw that nothing here catches -/
theorem x_throw (hC : XCx D cc nL own h0 p R s m args meth c) (hX : XSt D s h0 h H locs cells slots) (hnh : c.exceptionTable.isEmpty = true) {a r : Nat} (ha : a ≠ 0) (hv : a = r) (hh : h = h1) (hdg : decode cc pc = .ok (.athrow, 1)) :
    W p l e R s m args below meth c H locs cells slots (XMQ below D (.threw (r - 1)) h0 h1 s) (F0 m pc ls (rv a :: rest)) := by
  subst hv; subst hh
  intro T hT X
  have hlocks : meth.locks = false := hC.2.2.2.2.2.1
  rw [rv_pos ha]
  obtain ⟨hst, hrun, hended, hW, hframe⟩ := X.athrowLeaves hC.1 (g := F0 m pc ls (.ref (a - 1) :: rest)) rfl rfl rfl (by
    intro x hx
    rw [Array.isEmpty_iff.mp hnh] at hx
    cases hx) rfl (by rw [hC.2.1]; exact hdg)
  exact ⟨_, hst, x_leave (T.setFrames (.throwing (a - 1) :: below)) hX hT hrun hended hW hframe⟩
/-- behind a call that returned -/
theorem x_ran {mc ms len : Nat} {st0 : List Value} {v : Option Value} (hr : XRun p l e R s m args below meth c H locs cells slots mc ms (F0 m pc ls st0) rest len v (xQ D h h1) (dA D)) (hX : XSt D s h0 h H locs cells slots) (hmc : mc = hc h1 - hc h) (hms : ms = hs h1 - hs h)
    (kk : ∀ (H1 : Heap) (locs1 : List Loc) (cells1 slots1 : Nat), XSt D s h0 h1 H1 locs1 cells1 slots1 → W p l e R s m args below meth c H1 locs1 cells1 slots1 Q (F0 m (pc + len) ls (v.toList ++ rest))) : W p l e R s m args below meth c H locs cells slots Q (F0 m pc ls st0) := by
  intro T hT X
  obtain ⟨st1, t, T', L, e0, X', hL, e1, e2, ⟨hq1, hq2, hq3, hq4⟩, st⟩ := hr T hT X
  obtain ⟨hR, hS, hcc, hss⟩ := hX
  obtain ⟨hz, hk⟩ := hq2
  rw [e0] at hz hk
  subst hmc; subst hms
  obtain ⟨t2, a1, b1⟩ := kk T'.heap (locs ++ L) _ _ ⟨by rw [e1]; exact hq1, ⟨Nat.le_trans hS.1 (by rw [e1]; exact hz), fun q h1 h2 => by rw [e1, hk q (Nat.lt_of_lt_of_le h1 hS.1) h2]; exact hS.2.1 q h1 h2, fun q hq => by
      rcases List.mem_append.mp hq with h | h
      · exact hS.2.2 q h
      · exact hL q h⟩, by omega, by omega⟩ T' rfl X'
  exact ⟨t2, st t2 a1, b1⟩
/-- behind a call that threw, where nothing here catches -/
theorem x_ranT {mc ms : Nat} {g : JFrame} (hC : XCx D cc nL own h0 p R s m args meth c) (hnh : c.exceptionTable.isEmpty = true) {z : Addr} {h2 : TH} (hg : g.method = m) (hgl : g.locked = none) (hge : g.entered = [])
    (hr : ∀ T : State, T.heap = H → Stand p l e R s m args below meth c T locs cells slots → ∃ (st t T' : State) (L : List Loc), st.heap = H ∧ Stand p l e R s m args below meth c T' (locs ++ L) (cells + mc) (slots + ms) ∧ (∀ q ∈ L, dA D q.base) ∧ T'.heap = t.heap ∧ T'.vm = t.vm ∧ xQ D h h1 st t ∧
      ∀ tg, Steps p.tables e below ((T'.setTop { g with stack := rest }).pushFrame (.throwing z)) tg → Steps p.tables e below (T.setTop g) tg) (hX : XSt D s h0 h H locs cells slots) (hmc : mc = hc h1 - hc h) (hms : ms = hs h1 - hs h) (hh : h1 = h2) : W p l e R s m args below meth c H locs cells slots (XMQ below D (.threw z) h0 h2 s) g := by
  subst hh
  intro T hT X
  have hlocks : meth.locks = false := hC.2.2.2.2.2.1
  obtain ⟨st1, t, T', L, e0, X', hL, e1, e2, ⟨hq1, hq2, hq3, hq4⟩, st⟩ := hr T hT X
  obtain ⟨hR, hS, hcc, hss⟩ := hX
  obtain ⟨hz, hk⟩ := hq2
  rw [e0] at hz hk
  subst hmc; subst hms
  have hX1 : XSt D s h0 h1 T'.heap (locs ++ L) (cells + (hc h1 - hc h)) (slots + (hs h1 - hs h)) := ⟨by rw [e1]; exact hq1, ⟨Nat.le_trans hS.1 (by rw [e1]; exact hz), fun q h1 h2 => by rw [e1, hk q (Nat.lt_of_lt_of_le h1 hS.1) h2]; exact hS.2.1 q h1 h2, fun q hq => by
      rcases List.mem_append.mp hq with h | h
      · exact hS.2.2 q h
      · exact hL q h⟩, by omega, by omega⟩
  obtain ⟨hwalk, hrun, hended, hW, hframe⟩ := X'.leaveThrown z (g := { g with stack := rest }) hg hgl hge (by
    intro x hx
    rw [Array.isEmpty_iff.mp hnh] at hx
    cases hx)
  exact ⟨_, st _ hwalk, x_leave (T'.setFrames (.throwing z :: below)) hX1 rfl hrun hended hW hframe⟩
/-- from a contract's body to its walk -/
theorem x_met {y : MethodName} {bytes : ByteArray} {maxL fr lo : Nat} {ret : Option FieldType} {av : List Value} {o : Outcome} (hpl : plainFor y = true) (hle : (lg_sl av).length ≤ maxL)
    (body : ∀ (p : Program) (e : Env) (s : State) (m : MethodId) (below : List Frame) (meth : Method) (c : Code), XCx D bytes maxL y.cls h0 p (xRm fr lo h0) s m av.toArray meth c → meth.sig.returnType = ret → c.exceptionTable.isEmpty = true → meth.name = y.name → ∀ (ls : Array Slot), lv_has ls maxL (lv_args 0 av) → XSt D s h0 h0 s.heap [] 0 0 →
      W p l e (xRm fr lo h0) s m av.toArray below meth c s.heap [] 0 0 (XMQ below D o h0 h1 s) (F0 m 0 ls [])) : XMt l y (ws_ y bytes maxL ret) fr lo D av h0 o h1 := by
  unfold XMt
  refine XMet.of_body (bytes := bytes) (maxL := maxL) (ret := ret) hpl List.mem_cons_self ?_
  intro p e s m args below meth c s₁ X hh0 hnm hts0 hex hby hml hre hlk hnh hP
  obtain ⟨rfl, hP, hF, hZ⟩ := hP
  have hts : ∀ w ∈ lw_all, w.before _ s = true := fun w h => hts0 w (List.mem_cons_of_mem _ h)
  have hown : s.vm.findClass y.cls = some m.cls := findClass_of_methodNamed hnm
  have hl := lv_entry av (n := maxL) hle
  have hb := body p e s m below meth c ⟨hex, hby, hml, hown, hts, hlk, hF, hZ, rfl, rfl⟩ hre hnh (name_of_methodNamed hnm X.method).1 _ hl ⟨hP, va_S.rf, by omega, by omega⟩
  rw [← lg_entry_eq] at hb
  obtain ⟨t, a1, b1, b2, b3, b4⟩ := hb s₁ hh0 X
  exact ⟨t, a1, b1, b2, b3, b4⟩
end XEnds
