/-! calls of every kind, over contracts with outcomes -/
set_option maxRecDepth 100000
theorem XBack.toBack {l : Launch} {R : Room} {p : Program} {e : Env} {below : List Frame} {s : State} {sargs : Array Value} {y : MethodName} {len W : Nat} {v : Option Value} {Pre : Pt → Array Value → Prop} {Post : Pt → Pt → Prop} (h : XBack l R p e below s sargs y len W (.returned v) Pre Post) :
    Back l R p e below s sargs y len W Pre (fun A _ v' B => v' = v ∧ Post A B) := fun m meth c A g ig mk a X h1 h2 h3 h4 h5 h6 => by
  obtain ⟨B, X', hp, hs⟩ := h m meth c A g ig mk a X h1 h2 h3 h4 h5 h6
  exact ⟨v, B, X', ⟨rfl, hp⟩, hs⟩
def XRun (p : Program) (l : Launch) (e : Env) (R : Room) (s : State) (m : MethodId) (args : Array Value) (below : List Frame) (meth : Method) (c : Code) (H : Heap) (locs : List Loc) (cells slots mc ms : Nat) (g : JFrame) (rest : List Value) (len : Nat) (v : Option Value) (Qa : State → State → Prop) (free : Addr → Prop) : Prop :=
  ∀ T : State, T.heap = H → Stand p l e R s m args below meth c T locs cells slots → ∃ (st t T' : State) (L : List Loc), st.heap = H ∧ Stand p l e R s m args below meth c T' (locs ++ L) (cells + mc) (slots + ms) ∧ (∀ q ∈ L, free q.base) ∧ T'.heap = t.heap ∧ T'.vm = t.vm ∧ Qa st t ∧
    Goes p e below T g T' { g with pc := g.pc + len, stack := v.toList ++ rest }
section XC
variable {p : Program} {l : Launch} {e : Env} {R : Room} {s : State} {m : MethodId} {args : Array Value} {below : List Frame} {meth : Method} {c : Code} {H : Heap} {locs : List Loc} {cells slots : Nat}
variable {x y : MethodName} {bytes cc : ByteArray} {maxL nL mc ms n index count : Nat} {ret : Option FieldType} {ws : List Cond} {rm : Room} {Pc : Array Value → State → Prop} {v : Option Value} {Qc : State → State → Prop} {free : Addr → Prop} {Ts : List Cond} {own C owner host : String} {cC : ClassId} {b : Addr} {As rest : List Value} {g : JFrame}
theorem x_ini (hini : (Cond.initialized y.cls).before args s = true) : ∀ a' U, s.WarmedH U.vm → (Cond.initialized y.cls).before a' U = true := fun a' U hW => word_at hW (Or.inl (by first | rfl | simp [Cond.onTables, Cond.keeps, Cond.steady])) hini
theorem x_runV (S : CallFix p m c cc nL s args Ts own) (hM : XMet l y ws rm Pc (.returned v) Qc mc ms free) (cw : CallW R s args own C index y bytes maxL ret ws rm rm.cells rm.slots n) (hp : PreV s H C b Pc As)
    (hg : g.method = m) (hn : As.length = n) (hsize : g.locals.size = nL) (hstack : g.stack = As.reverse ++ .ref b :: rest) (hW : 2 * g.monitorRoom + (rest.map fun v => v.category).sum ≤ 8) (hdg : decode cc g.pc = .ok (.invokevirtual index, 3)) (hf : cells + rm.cells ≤ R.cells ∧ slots + rm.slots ≤ R.slots) :
    XRun p l e R s m args below meth c H locs cells slots mc ms g rest 3 v Qc free := by
  obtain ⟨⟨-, -, hfr, hlo, hws, hcw, hcode, hini, hy, hlen, hl⟩, hin, hse⟩ := cw
  have hK := XBack.toBack (x_back (p := p) (e := e) (below := below) (sargs := args) (len := 3) (bytes := bytes) (maxL := maxL) (ret := ret) hM hp.1 hfr hlo hws hcw (x_ini hini))
  obtain ⟨hx, hb, hml, ho, -⟩ := S
  obtain ⟨-, ⟨cellB, hcB, hoB, hclB⟩, hPc⟩ := hp
  intro T hT X
  obtain ⟨v1, vm₁, ⟨U', l2, c2, s2⟩, hW₁, X', ⟨hv, st0, t, L, e0, e1, e2, hq, h1, hL, h2, h3⟩, st⟩ := callV X hx (C := C) (bytes := bytes) (maxL := maxL) (ret := ret) ho hl hin hse hcode hy hK (by rw [hT]; exact hcB) hoB hclB hg (hsize.trans hml.symm) (argsL := As) (rest := rest) (fun sig h => hn.trans (hlen sig h)) hstack hW (by rw [hb]; exact hdg)
    (fun vm₁ hW₁ => ⟨hf.1, hf.2, hPc (T.setVm vm₁) hT hW₁⟩)
  dsimp only [Pt.U, Pt.locs, Pt.cells, Pt.slots] at X' e0 e1 e2 h1 h2 h3 st
  subst h1; subst h2; subst h3; subst hv
  exact ⟨st0, t, U', L, e0.trans hT, X', hL, e1, e2, hq, st⟩
theorem x_runS (S : CallFix p m c cc nL s args Ts own) (hM : XMet l y ws rm Pc (.returned v) Qc mc ms free) (cw : CallB R s args own index y bytes maxL ret ws rm rm.cells rm.slots n ∧ (Cond.static y).before args s = true) (hp : PreS s H Pc As)
    (hg : g.method = m) (hn : As.length = n) (hsize : g.locals.size = nL) (hstack : g.stack = As.reverse ++ rest) (hW : 2 * g.monitorRoom + (rest.map fun v => v.category).sum ≤ 8) (hdg : decode cc g.pc = .ok (.invokestatic index, 3)) (hf : cells + rm.cells ≤ R.cells ∧ slots + rm.slots ≤ R.slots) :
    XRun p l e R s m args below meth c H locs cells slots mc ms g rest 3 v Qc free := by
  obtain ⟨⟨-, -, hfr, hlo, hws, hcw, hcode, hini, hy, hlen, hl⟩, hstt⟩ := cw
  have hK := XBack.toBack (x_back (p := p) (e := e) (below := below) (sargs := args) (len := 3) (bytes := bytes) (maxL := maxL) (ret := ret) hM hp.1 hfr hlo hws hcw (x_ini hini))
  obtain ⟨hx, hb, hml, ho, -⟩ := S
  intro T hT X
  obtain ⟨v1, vm₁, ⟨U', l2, c2, s2⟩, hW₁, X', ⟨hv, st0, t, L, e0, e1, e2, hq, h1, hL, h2, h3⟩, st⟩ := callS X hx (bytes := bytes) (maxL := maxL) (ret := ret) ho hl hstt hini hcode hy hK hg (hsize.trans hml.symm) (argsL := As) (rest := rest) (fun sig h => hn.trans (hlen sig h)) hstack hW (by rw [hb]; exact hdg)
    (fun vm₁ hW₁ => ⟨hf.1, hf.2, hp.2 (T.setVm vm₁) hT hW₁⟩)
  dsimp only [Pt.U, Pt.locs, Pt.cells, Pt.slots] at X' e0 e1 e2 h1 h2 h3 st
  subst h1; subst h2; subst h3; subst hv
  exact ⟨st0, t, U', L, e0.trans hT, X', hL, e1, e2, hq, st⟩
theorem x_runI (S : CallFix p m c cc nL s args Ts own) (hM : XMet l y ws rm Pc (.returned v) Qc mc ms free) (cw : CallB R s args own index y bytes maxL none ws rm rm.cells rm.slots n ∧ y.name = "<init>" ∧ (Cond.instanceMethod y).before args s = true) (hp : PreS s H Pc (.ref b :: As))
    (hg : g.method = m) (hn : As.length = n) (hsize : g.locals.size = nL) (hstack : g.stack = As.reverse ++ .ref b :: rest) (hW : 2 * g.monitorRoom + (rest.map fun v => v.category).sum ≤ 8) (hdg : decode cc g.pc = .ok (.invokespecial index, 3)) (hf : cells + rm.cells ≤ R.cells ∧ slots + rm.slots ≤ R.slots) :
    XRun p l e R s m args below meth c H locs cells slots mc ms g rest 3 v Qc free := by
  obtain ⟨⟨-, -, hfr, hlo, hws, hcw, hcode, hini, hy, hlen, hl⟩, hy1, hin⟩ := cw
  have hK := XBack.toBack (x_back (p := p) (e := e) (below := below) (sargs := args) (len := 3) (bytes := bytes) (maxL := maxL) (ret := none) hM hp.1 hfr hlo hws hcw (x_ini hini))
  obtain ⟨hx, hb, hml, ho, -⟩ := S
  intro T hT X
  obtain ⟨v1, vm₁, ⟨U', l2, c2, s2⟩, hW₁, X', ⟨hv, st0, t, L, e0, e1, e2, hq, h1, hL, h2, h3⟩, st⟩ := callI X hx (bytes := bytes) (maxL := maxL) ho hy1 hl hin hcode hy hK hg (hsize.trans hml.symm) (a := b) (argsL := As) (rest := rest) (fun sig h => hn.trans (hlen sig h)) hstack hW (by rw [hb]; exact hdg)
    (fun vm₁ hW₁ => ⟨hf.1, hf.2, hp.2 (T.setVm vm₁) hT hW₁⟩)
  dsimp only [Pt.U, Pt.locs, Pt.cells, Pt.slots] at X' e0 e1 e2 h1 h2 h3 st
  subst h1; subst h2; subst h3; subst hv
  exact ⟨st0, t, U', L, e0.trans hT, X', hL, e1, e2, hq, st⟩
theorem x_runVN (S : CallFix p m c cc nL s args Ts own) (hM : XMet l y ws rm Pc (.returned v) Qc mc ms free) (cw : va_CN R s args own index y host bytes maxL ret ws rm rm.cells rm.slots n ∧ (Cond.instanceMethod y).before args s = true ∧ (Cond.selects C y y).before args s = true) (hp : PreV s H C b Pc As)
    (hg : g.method = m) (hn : As.length = n) (hsize : g.locals.size = nL) (hstack : g.stack = As.reverse ++ .ref b :: rest) (hW : 2 * g.monitorRoom + (rest.map fun v => v.category).sum ≤ 8) (hdg : decode cc g.pc = .ok (.invokevirtual index, 3)) (hf : cells + rm.cells ≤ R.cells ∧ slots + rm.slots ≤ R.slots) :
    XRun p l e R s m args below meth c H locs cells slots mc ms g rest 3 v Qc free := by
  obtain ⟨⟨⟨-, -, hfr, hlo, hws, hcw⟩, hcode, hini, hy, hlen, hl⟩, hx1, hx2⟩ := cw
  have hK := XBack.toBack (x_back (p := p) (e := e) (below := below) (sargs := args) (len := 3) (bytes := bytes) (maxL := maxL) (ret := ret) hM hp.1 hfr hlo hws hcw (x_ini hini))
  obtain ⟨hx, hb, hml, ho, -⟩ := S
  obtain ⟨-, ⟨cellB, hcB, hoB, hclB⟩, hPc⟩ := hp
  intro T hT X
  obtain ⟨v1, vm₁, ⟨U', l2, c2, s2⟩, hW₁, X', ⟨hv, st0, t, L, e0, e1, e2, hq, h1, hL, h2, h3⟩, st⟩ := va_callVN X hx (C := C) (bytes := bytes) (maxL := maxL) (ret := ret) ho hl hx1 hx2 hcode hy hK (by rw [hT]; exact hcB) hoB hclB hg (hsize.trans hml.symm) (argsL := As) (rest := rest) (fun sig h => hn.trans (hlen sig h)) hstack hW (by rw [hb]; exact hdg)
    (fun vm₁ hW₁ => ⟨hf.1, hf.2, hPc (T.setVm vm₁) hT hW₁⟩)
  dsimp only [Pt.U, Pt.locs, Pt.cells, Pt.slots] at X' e0 e1 e2 h1 h2 h3 st
  subst h1; subst h2; subst h3; subst hv
  exact ⟨st0, t, U', L, e0.trans hT, X', hL, e1, e2, hq, st⟩
theorem x_runSN (S : CallFix p m c cc nL s args Ts own) (hM : XMet l y ws rm Pc (.returned v) Qc mc ms free) (cw : va_CN R s args own index y host bytes maxL ret ws rm rm.cells rm.slots n ∧ (Cond.static y).before args s = true ∧ True) (hp : PreS s H Pc As)
    (hg : g.method = m) (hn : As.length = n) (hsize : g.locals.size = nL) (hstack : g.stack = As.reverse ++ rest) (hW : 2 * g.monitorRoom + (rest.map fun v => v.category).sum ≤ 8) (hdg : decode cc g.pc = .ok (.invokestatic index, 3)) (hf : cells + rm.cells ≤ R.cells ∧ slots + rm.slots ≤ R.slots) :
    XRun p l e R s m args below meth c H locs cells slots mc ms g rest 3 v Qc free := by
  obtain ⟨⟨⟨-, -, hfr, hlo, hws, hcw⟩, hcode, hini, hy, hlen, hl⟩, hx1, hx2⟩ := cw
  have hK := XBack.toBack (x_back (p := p) (e := e) (below := below) (sargs := args) (len := 3) (bytes := bytes) (maxL := maxL) (ret := ret) hM hp.1 hfr hlo hws hcw (x_ini hini))
  obtain ⟨hx, hb, hml, ho, -⟩ := S
  intro T hT X
  obtain ⟨v1, vm₁, ⟨U', l2, c2, s2⟩, hW₁, X', ⟨hv, st0, t, L, e0, e1, e2, hq, h1, hL, h2, h3⟩, st⟩ := va_callSN X hx (bytes := bytes) (maxL := maxL) (ret := ret) ho hl hx1 hini hcode hy hK hg (hsize.trans hml.symm) (argsL := As) (rest := rest) (fun sig h => hn.trans (hlen sig h)) hstack hW (by rw [hb]; exact hdg)
    (fun vm₁ hW₁ => ⟨hf.1, hf.2, hp.2 (T.setVm vm₁) hT hW₁⟩)
  dsimp only [Pt.U, Pt.locs, Pt.cells, Pt.slots] at X' e0 e1 e2 h1 h2 h3 st
  subst h1; subst h2; subst h3; subst hv
  exact ⟨st0, t, U', L, e0.trans hT, X', hL, e1, e2, hq, st⟩
theorem x_runIN (S : CallFix p m c cc nL s args Ts own) (hM : XMet l y ws rm Pc (.returned v) Qc mc ms free) (cw : va_CN R s args own index y host bytes maxL none ws rm rm.cells rm.slots n ∧ y.name = "<init>" ∧ (Cond.instanceMethod y).before args s = true) (hp : PreS s H Pc (.ref b :: As))
    (hg : g.method = m) (hn : As.length = n) (hsize : g.locals.size = nL) (hstack : g.stack = As.reverse ++ .ref b :: rest) (hW : 2 * g.monitorRoom + (rest.map fun v => v.category).sum ≤ 8) (hdg : decode cc g.pc = .ok (.invokespecial index, 3)) (hf : cells + rm.cells ≤ R.cells ∧ slots + rm.slots ≤ R.slots) :
    XRun p l e R s m args below meth c H locs cells slots mc ms g rest 3 v Qc free := by
  obtain ⟨⟨⟨-, -, hfr, hlo, hws, hcw⟩, hcode, hini, hy, hlen, hl⟩, hx1, hx2⟩ := cw
  have hK := XBack.toBack (x_back (p := p) (e := e) (below := below) (sargs := args) (len := 3) (bytes := bytes) (maxL := maxL) (ret := none) hM hp.1 hfr hlo hws hcw (x_ini hini))
  obtain ⟨hx, hb, hml, ho, -⟩ := S
  intro T hT X
  obtain ⟨v1, vm₁, ⟨U', l2, c2, s2⟩, hW₁, X', ⟨hv, st0, t, L, e0, e1, e2, hq, h1, hL, h2, h3⟩, st⟩ := va_callIN X hx (bytes := bytes) (maxL := maxL) ho hx1 hl hx2 hcode hy hK hg (hsize.trans hml.symm) (a := b) (argsL := As) (rest := rest) (fun sig h => hn.trans (hlen sig h)) hstack hW (by rw [hb]; exact hdg)
    (fun vm₁ hW₁ => ⟨hf.1, hf.2, hp.2 (T.setVm vm₁) hT hW₁⟩)
  dsimp only [Pt.U, Pt.locs, Pt.cells, Pt.slots] at X' e0 e1 e2 h1 h2 h3 st
  subst h1; subst h2; subst h3; subst hv
  exact ⟨st0, t, U', L, e0.trans hT, X', hL, e1, e2, hq, st⟩
theorem x_runU (S : CallFix p m c cc nL s args Ts own) (hM : XMet l y ws rm Pc (.returned v) Qc mc ms free) (cw : va_CU R s args own C owner index x y bytes maxL ret ws rm rm.cells rm.slots n) (hp : PreV s H C b Pc As)
    (hg : g.method = m) (hn : As.length = n) (hsize : g.locals.size = nL) (hstack : g.stack = As.reverse ++ .ref b :: rest) (hW : 2 * g.monitorRoom + (rest.map fun v => v.category).sum ≤ 8) (hdg : decode cc g.pc = .ok (.invokevirtual index, 3)) (hf : cells + rm.cells ≤ R.cells ∧ slots + rm.slots ≤ R.slots) :
    XRun p l e R s m args below meth c H locs cells slots mc ms g rest 3 v Qc free := by
  obtain ⟨-, -, hfr, hlo, hws, hcw⟩ := cw.back
  have hini := cw.init
  have hK := XBack.toBack (x_back (p := p) (e := e) (below := below) (sargs := args) (len := 3) (bytes := bytes) (maxL := maxL) (ret := ret) hM hp.1 hfr hlo hws hcw (x_ini hini))
  obtain ⟨hx, hb, hml, ho, -⟩ := S
  obtain ⟨-, ⟨cellB, hcB, hoB, hclB⟩, hPc⟩ := hp
  intro T hT X
  obtain ⟨v1, vm₁, ⟨U', l2, c2, s2⟩, hW₁, X', ⟨hv, st0, t, L, e0, e1, e2, hq, h1, hL, h2, h3⟩, st⟩ := va_callVU X hx (C := C) (owner := owner) (bytes := bytes) (maxL := maxL) (ret := ret) ho cw.link cw.same cw.decl cw.notMH cw.sel cw.inst cw.code hK (by rw [hT]; exact hcB) hoB hclB hg (hsize.trans hml.symm) (argsL := As) (rest := rest) (fun sig h => hn.trans (cw.len sig h)) hstack hW (by rw [hb]; exact hdg)
    (fun vm₁ hW₁ => ⟨hf.1, hf.2, hPc (T.setVm vm₁) hT hW₁⟩)
  dsimp only [Pt.U, Pt.locs, Pt.cells, Pt.slots] at X' e0 e1 e2 h1 h2 h3 st
  subst h1; subst h2; subst h3; subst hv
  exact ⟨st0, t, U', L, e0.trans hT, X', hL, e1, e2, hq, st⟩
theorem x_runF (hat : ClassAt s C cC) (S : CallFix p m c cc nL s args Ts own) (hM : XMet l y ws rm Pc (.returned v) Qc mc ms free) (cw : va_CI R s args own C index x y bytes maxL ret ws rm rm.cells rm.slots n) (hp : PreV s H C b Pc As)
    (hg : g.method = m) (hn : As.length = n) (hsize : g.locals.size = nL) (hstack : g.stack = As.reverse ++ .ref b :: rest) (hW : 2 * g.monitorRoom + (rest.map fun v => v.category).sum ≤ 8) (hdg : decode cc g.pc = .ok (.invokeinterface index count, 5)) (hf : cells + rm.cells ≤ R.cells ∧ slots + rm.slots ≤ R.slots) :
    XRun p l e R s m args below meth c H locs cells slots mc ms g rest 5 v Qc free := by
  obtain ⟨-, -, hfr, hlo, hws, hcw⟩ := cw.back
  have hini := cw.init
  have hK := XBack.toBack (x_back (p := p) (e := e) (below := below) (sargs := args) (len := 5) (bytes := bytes) (maxL := maxL) (ret := ret) hM hp.1 hfr hlo hws hcw (x_ini hini))
  obtain ⟨hx, hb, hml, ho, -⟩ := S
  obtain ⟨-, ⟨cellB, hcB, hoB, hclB⟩, hPc⟩ := hp
  obtain ⟨hfc, kB, hkB, -⟩ := hat
  cases hfc.symm.trans hclB
  intro T hT X
  obtain ⟨v1, vm₁, ⟨U', l2, c2, s2⟩, hW₁, X', ⟨hv, st0, t, L, e0, e1, e2, hq, h1, hL, h2, h3⟩, st⟩ := va_callIF X hx (C := C) (bytes := bytes) (maxL := maxL) (ret := ret) ho cw.link cw.decl cw.face cw.sel cw.inst cw.pub cw.unh cw.cast cw.code cw.notMH hK (by rw [hT]; exact hcB) hoB hclB hkB hg (hsize.trans hml.symm) (argsL := As) (rest := rest) (fun sig h => hn.trans (cw.len sig h)) hstack hW (by rw [hb]; exact hdg)
    (fun vm₁ hW₁ => ⟨hf.1, hf.2, hPc (T.setVm vm₁) hT hW₁⟩)
  dsimp only [Pt.U, Pt.locs, Pt.cells, Pt.slots] at X' e0 e1 e2 h1 h2 h3 st
  subst h1; subst h2; subst h3; subst hv
  exact ⟨st0, t, U', L, e0.trans hT, X', hL, e1, e2, hq, st⟩
/-- a call through an object whose callee throws: the caller's frame is still there, the thrown one above it -/
theorem x_runVT {z : Addr} (S : CallFix p m c cc nL s args Ts own) (hM : XMet l y ws rm Pc (.threw z) Qc mc ms free) (cw : CallW R s args own C index y bytes maxL ret ws rm rm.cells rm.slots n) (hp : PreV s H C b Pc As)
    (hg : g.method = m) (hn : As.length = n) (hsize : g.locals.size = nL) (hstack : g.stack = As.reverse ++ .ref b :: rest) (hW : 2 * g.monitorRoom + (rest.map fun v => v.category).sum ≤ 8) (hdg : decode cc g.pc = .ok (.invokevirtual index, 3)) (hf : cells + rm.cells ≤ R.cells ∧ slots + rm.slots ≤ R.slots) :
    ∀ T : State, T.heap = H → Stand p l e R s m args below meth c T locs cells slots → ∃ (st t T' : State) (L : List Loc), st.heap = H ∧ Stand p l e R s m args below meth c T' (locs ++ L) (cells + mc) (slots + ms) ∧ (∀ q ∈ L, free q.base) ∧ T'.heap = t.heap ∧ T'.vm = t.vm ∧ Qc st t ∧
      ∀ tg, Steps p.tables e below ((T'.setTop { g with stack := rest }).pushFrame (.throwing z)) tg → Steps p.tables e below (T.setTop g) tg := by
  obtain ⟨⟨-, -, hfr, hlo, hws, hcw, hcode, hini, hy, hlen, hl⟩, hin, hse⟩ := cw
  have hK := x_back (p := p) (e := e) (below := below) (sargs := args) (len := 3) (bytes := bytes) (maxL := maxL) (ret := ret) hM hp.1 hfr hlo hws hcw (x_ini hini)
  obtain ⟨hx, hb, hml, hown, -⟩ := S
  obtain ⟨-, ⟨cellB, hcB, hobj, hcls⟩, hPc⟩ := hp
  intro T hT X
  obtain ⟨mk, methM, hnamed, hmethM, hstM, habM⟩ := Cond.instanceMethod_spec hin
  obtain ⟨methM', cM, hmethM', -, -, -, -, -, -, hsigM⟩ := Cond.code_spec hnamed hcode
  cases hmethM.symm.trans hmethM'
  obtain ⟨c2, r2, m2, q1, q2, q3, q4, kP, hkP, hkPi⟩ := Cond.selects_spec hse
  cases hcls.symm.trans q1
  cases (State.methodFound?_of_named hnamed hy).symm.trans q2
  cases hnamed.symm.trans q3
  have hselP : selectMethod e.platform s.vm cellB.cls mk = .method mk := by rw [Launch.admits_selectMethod X.admits]; exact q4
  obtain ⟨vm₁, X₁, hstep₁⟩ := X.invokevirtual hx hown hl hnamed hmethM hstM hkP hkPi hy (a := b) (cell := cellB) (by rw [hT]; exact hcB)
    (fun z h => by rw [h] at hobj; cases hobj) hselP hmethM habM hkP hkPi (g := g) hg (argsL := As) (rest := rest) (hn.trans (hlen _ hsigM)) hstack (by rw [hb]; exact hdg)
  obtain ⟨⟨U', l2, c2, s2⟩, X', ⟨st0, t, L, e0, e1, e2, hq, h1, hL, h2, h3⟩, hsteps⟩ := hK m meth c ⟨T.setVm vm₁, locs, cells, slots⟩ { g with stack := rest } (.invokevirtual index) mk (Value.ref b :: As).toArray X₁ hg (hsize.trans hml.symm) (by rw [hb]; exact hdg) hW (X₁.named hnamed) ⟨hf.1, hf.2, hPc (T.setVm vm₁) hT X₁.warmed⟩
  dsimp only [Pt.U, Pt.locs, Pt.cells, Pt.slots] at X' e0 e1 e2 h1 h2 h3 hsteps
  subst h1; subst h2; subst h3
  exact ⟨st0, t, U', L, e0.trans hT, X', hL, e1, e2, hq, fun tg h => hstep₁ _ fun acts => by rw [doInvoke_state]; exact hsteps.trans h⟩
end XC
