/-! THE CLASS's SIDE, CORE: contracts with any outcome (returned or threw), calls -/
set_option maxRecDepth 100000
/-- what is left when a method has ended, however -/
def XEnd (first t : State) (L : List Loc) (k n : Nat) : Prop := first.WarmedH t.vm ∧ first.sameButNew ({ t with vm := first.vm } : State) L k n
/-- a contract with a given outcome: at most mc cells of ms slots are new; rm is the room that it asks for -/
def xApp (y : MethodName) (S : Spec) (pl : Platform) (s : State) (m : MethodId) (args : Array Value) (below : List Frame) : Prop :=
  s.status = .running ∧ s.curStatus? = some .runnable ∧ s.alone = true ∧ s.methodNamed? y = some m ∧ s.hears m below = true ∧ s.hasRoom pl S.room = true ∧ S.pre.before args s = true
def XMet (l : Launch) (y : MethodName) (ws : List Cond) (rm : Room) (Pc : Array Value → State → Prop) (o : Outcome) (Qc : State → State → Prop) (mc ms : Nat) (free : Addr → Prop) : Prop :=
  ∀ (p : Program) (e : Env), l.admits e → FairCas e.choices → FairClock e.choices → ∀ (s : State) (m : MethodId) (args : Array Value) (below : List Frame), s.frames = .invoking m args :: below → xApp y (headSpec ws rm) e.platform s m args below → Pc args s →
    ∃ n, (∀ k, k < n → Within (stepsAlone p.tables e k s) below) ∧ (stepsAlone p.tables e n s).status = .running ∧ Ended (stepsAlone p.tables e n s) below o ∧
      Qc s (stepsAlone p.tables e n s) ∧ ∃ L, XEnd s (stepsAlone p.tables e n s) L mc ms ∧ ∀ q ∈ L, free q.base
/-- a contract from its body's walk: the class's own initialisation is not asked -/
theorem XMet.of_body {l : Launch} {y : MethodName} {ws : List Cond} {rm : Room} {Pc : Array Value → State → Prop} {o : Outcome} {Qc : State → State → Prop} {mc ms : Nat} {free : Addr → Prop} {bytes : ByteArray} {maxL : Nat} {ret : Option FieldType} (hx : plainFor y = true) (hcd : Cond.code y bytes maxL ret ∈ ws)
    (body : ∀ (p : Program) (e : Env) (s : State) (m : MethodId) (args : Array Value) (below : List Frame) (meth : Method) (c : Code) (s₁ : State), Stand p l e rm s m args below meth c s₁ [] 0 0 → s₁.heap = s.heap → s.methodNamed? y = some m → (∀ w ∈ ws, w.before args s = true) →
      p.tables.exec = Jvm.exec → c.code = bytes → c.maxLocals = maxL → meth.sig.returnType = ret → meth.locks = false → c.exceptionTable.isEmpty = true → Pc args s →
      ∃ s₂, Steps p.tables e below (s₁.setTop (entryFrame m args maxL)) s₂ ∧ s₂.status = .running ∧ Ended s₂ below o ∧ Qc s s₂ ∧ ∃ L, XEnd s s₂ L mc ms ∧ ∀ q ∈ L, free q.base) : XMet l y ws rm Pc o Qc mc ms free := by
  intro p e ha hc hk s m args below hf ⟨hrun, hable, halone, hname, hhears, hroom, hpre⟩ hP
  have hws := atoms_spec (ws := ws) hpre
  obtain ⟨meth, c, hmeth, hcode, hbytes, hlocals, hret, hlocks, hnh, -⟩ := Cond.code_spec hname (hws _ hcd)
  have hcur := State.cur_lt_of_frames hf
  obtain ⟨t, ht, -⟩ := State.frames_cons hf
  generalize hs1 : s.setFrames (.java (entryFrame m args maxL) :: below) = s₁
  have hf1 : s₁.frames = .java (entryFrame m args maxL) :: below := by rw [← hs1]; exact State.frames_setFrames _ hcur
  have ht1 := State.topJava?_of_frames hf1
  have hAt : At s₁ m c below := by
    refine ⟨by rw [ht1]; rfl, ⟨[], by rw [hf1]; rfl⟩, ?_, ?_, ?_, ?_, ?_⟩
    · rw [← hs1]; exact hrun
    · rw [← hs1]; simpa using hable
    · rw [← hs1]; simpa using halone
    · rw [← hs1, State.code?_eq]; simp [State.setFrames, hmeth, hcode]
    · rw [← hs1]; exact State.plainMethod.of_named (s := s) hx hname hmeth
  have X : Stand p l e rm s m args below meth c s₁ [] 0 0 := by
    refine ⟨ha, hc, hk, hf, hroom, hhears, hmeth, hcode, hAt, by rw [hf1]; rfl, by rw [← hs1]; exact State.WarmedH.refl s, by rw [← hs1, State.stackLimits_setFrames], by rw [← hs1, State.stackBytes_setFrames], ?_⟩
    rw [← hs1]
    exact (State.sameButNew.refl s ht).setFrames (.java (entryFrame m args maxL) :: below) hcur
  obtain ⟨s₂, hs, hr, he, hq⟩ := body p e s m args below meth c s₁ X (by rw [← hs1]; rfl) hname hws (by cases p <;> rfl) hbytes hlocals hret hlocks hnh hP
  have hfull : e.platform.stackFull (s.setFrames below).me (s.setFrames below).frames c.maxLocals = false := by
    obtain ⟨-, h1, -, h2⟩ := State.hasRoom_stack hroom
    rw [hf, List.length_cons] at h1
    rw [State.localsInUse_invoking hf hmeth hcode] at h2
    have hw := stackUse_le_stackWeight below
    rw [State.frames_setFrames _ hcur]
    exact Platform.stackFull_eq_false (by rw [State.stackLimits_setFrames]; omega) (by rw [State.stackLimits_setFrames]; omega)
  have hstep : (stepThread p.tables e s).1 = s₁.setTop (entryFrame m args maxL) := by
    rw [stepThread_invoking hf, (doInvoke_java (s := s.setFrames below) (e := e) (meth := meth) (code := c) hmeth hcode hlocks hfull).1, State.setTop_self ht1, ← hs1]
    simp only [State.pushFrame, State.frames_setFrames _ hcur, State.setFrames_setFrames, hlocals, entryFrame]
  obtain ⟨n, hn, hw⟩ := Steps.head (tb := p.tables) (e := e) ⟨hrun, hable, halone⟩ ⟨[.invoking m args], hf, by simp, by simp⟩ (hstep ▸ hs)
  exact ⟨n, hw, hn ▸ hr, hn ▸ he, hn ▸ hq⟩
/-- the call of a contract's method, from the caller's state -/
theorem XMet.call {l : Launch} {y : MethodName} {ws : List Cond} {rm : Room} {Pc : Array Value → State → Prop} {o : Outcome} {Qc : State → State → Prop} {mc ms : Nat} {free : Addr → Prop} {e : Env} (hM : XMet l y ws rm Pc o Qc mc ms free) (p : Program) (ha : l.admits e) (hc : FairCas e.choices) (hk : FairClock e.choices)
    {s : State} {m : MethodId} {args : Array Value} {acts : List Action} {mid below : List Frame} (hlt : s.cur < s.threads.size) (hfr : s.frames = mid ++ below) (happ : xApp y (headSpec ws rm) e.platform (s.pushFrame (.invoking m args)) m args s.frames) (hP : Pc args (s.pushFrame (.invoking m args))) :
    ∃ s₂, Steps p.tables e below (doInvoke e s acts m args).1 s₂ ∧ Ended s₂ s.frames o ∧ Qc (s.pushFrame (.invoking m args)) s₂ ∧ ∃ L, XEnd (s.pushFrame (.invoking m args)) s₂ L mc ms ∧ ∀ q ∈ L, free q.base := by
  have hf' : (s.pushFrame (.invoking m args)).frames = .invoking m args :: s.frames := State.frames_setFrames _ hlt
  have hgo : (s.pushFrame (.invoking m args)).goesOn := ⟨happ.1, happ.2.1, happ.2.2.1⟩
  obtain ⟨n, hw, -, he, hp⟩ := hM p e ha hc hk (s.pushFrame (.invoking m args)) m args s.frames hf' happ hP
  have hstep : (stepThread p.tables e (s.pushFrame (.invoking m args))).1 = (doInvoke e s acts m args).1 := by
    rw [stepThread_invoking hf', doInvoke_state e s acts, State.pushFrame, State.setFrames_setFrames, State.setFrames_self (Array.getElem?_eq_some_iff.mpr ⟨hlt, rfl⟩)]
  cases n with
  | zero => exact absurd ⟨[.invoking m args], hf', by simp, by simp⟩ he.not_within
  | succ k =>
    rw [stepsAlone_succ _ hgo, hstep] at he hp
    refine ⟨_, ⟨k, rfl, fun j hj => ?_⟩, he, hp⟩
    have h2 := hw (j + 1) (by omega)
    rw [stepsAlone_succ _ hgo, hstep, hfr] at h2
    exact h2.weaken
/-- where the caller stands when its callee has ended -/
def xAfter (o : Outcome) (U : State) (g : JFrame) (len : Nat) : State := match o with
  | .returned v => U.setTop { g with pc := g.pc + len, stack := v.toList ++ g.stack }
  | .threw x => (U.setTop g).pushFrame (.throwing x)
/-- the call of y comes back, with outcome o -/
def XBack (l : Launch) (R : Room) (p : Program) (e : Env) (below : List Frame) (s : State) (sargs : Array Value) (y : MethodName) (len W : Nat) (o : Outcome) (Pre : Pt → Array Value → Prop) (Post : Pt → Pt → Prop) : Prop :=
  ∀ (m : MethodId) (meth : Method) (c : Code) (A : Pt) (g : JFrame) (ig : Instr) (mk : MethodId) (a : Array Value),
    Stand p l e R s m sargs below meth c A.U A.locs A.cells A.slots → g.method = m → g.locals.size = c.maxLocals → decode c.code g.pc = .ok (ig, len) →
    2 * g.monitorRoom + (g.stack.map fun v => v.category).sum ≤ W → A.U.methodNamed? y = some mk → Pre A a →
    ∃ B : Pt, Stand p l e R s m sargs below meth c B.U B.locs B.cells B.slots ∧ Post A B ∧
      Steps p.tables e below (doInvoke e (A.U.setTop g) [] mk a).1 (xAfter o B.U g len)
def xPre (R rm : Room) (Pc : Array Value → State → Prop) : Pt → Array Value → Prop := fun A a => A.cells + rm.cells ≤ R.cells ∧ A.slots + rm.slots ≤ R.slots ∧ Pc a A.U
def xPost (Qc : State → State → Prop) (mc ms : Nat) (free : Addr → Prop) : Pt → Pt → Prop := fun A B =>
  ∃ (st t : State) (L : List Loc), st.heap = A.U.heap ∧ B.U.heap = t.heap ∧ B.U.vm = t.vm ∧ Qc st t ∧ B.locs = A.locs ++ L ∧ (∀ q ∈ L, free q.base) ∧ B.cells = A.cells + mc ∧ B.slots = A.slots + ms
section XLaws
variable {l : Launch} {R : Room} {p : Program} {e : Env} {below : List Frame} {s : State} {sargs : Array Value} {y : MethodName} {len W : Nat}
theorem x_back0 {ws : List Cond} {rm : Room} {Pc : Array Value → State → Prop} {o : Outcome} {Qc : State → State → Prop} {mc ms : Nat} {free : Addr → Prop} {bytes : ByteArray} {maxL : Nat} {ret : Option FieldType}
    (hM : XMet l y ws rm Pc o Qc mc ms free) (hblind : FrameBlind Pc) (hframes : rm.frames + 1 ≤ R.frames) (hlocals : W + (maxL + 11) + rm.locals ≤ R.locals)
    (hws : ∀ w ∈ ws, ∀ a' U, s.WarmedH U.vm → w.before a' U = true) (hcode : Cond.code y bytes maxL ret ∈ ws) :
    XBack l R p e below s sargs y len W o (xPre R rm Pc) (xPost Qc mc ms free) := by
  intro m meth c A g ig mk a X hg hsize hdg hW hn hp
  obtain ⟨h4, h5, hPc⟩ := hp
  obtain ⟨U, Ls, c0, s0⟩ := A
  dsimp only [Pt.U, Pt.locs, Pt.cells, Pt.slots] at h4 h5 X hn hPc ⊢
  have h1 : (headSpec ws rm).pre.before a U = true := atoms_intro fun w hw => hws w hw _ _ X.warmed
  have h2 := hws _ hcode a _ X.warmed
  obtain ⟨methY, cY, hmY, hcY, -, hlY, -, -, -, -⟩ := Cond.code_spec hn h2
  have h : At U g.method c below := by rw [hg]; exact X.here
  have hcode' : (U.calling g mk a).code? g.method = some c := by
    have := h.code
    rw [State.code?_eq] at this ⊢
    simpa [State.calling, State.pushFrame, State.setFrames] using this
  have happ : xApp y (headSpec ws rm) e.platform (U.calling g mk a) mk a (U.setTop g).frames := by
    refine ⟨h.running, ?_, ?_, hn, ?_, X.room_calling (g := g) (R' := (headSpec ws rm).room) hsize hmY hcY hframes (by rw [hlY]; show 2 * g.monitorRoom + (g.stack.map fun v => v.category).sum + (maxL + 11) + rm.locals ≤ R.locals; omega) h4 h5, ?_⟩
    · simpa [State.calling] using h.runnable
    · simpa [State.calling] using h.alone
    · rw [State.frames_setTop' g h.top]; simp [State.hears, hcode', hdg, Except.toOption]
    · rw [State.calling_eq h.top, Cond.before_setFrames]; exact h1
  obtain ⟨mid, hmid⟩ := h.above
  have hfr : (U.setTop g).frames = (.java g :: mid) ++ below := by rw [State.frames_setTop' g h.top, hmid]; rfl
  obtain ⟨s₂, hsteps, hend, hQ, L, hXE, hL⟩ := XMet.call hM p X.admits X.cas X.clock (acts := []) (State.cur_lt_of_frames (by rw [hfr]; rfl : (U.setTop g).frames = .java g :: (mid ++ below))) hfr happ (hblind _ _ _ _ hPc)
  replace hQ : Qc (U.calling g mk a) s₂ := hQ
  replace hXE : XEnd (U.calling g mk a) s₂ L mc ms := hXE
  obtain ⟨hW₂, hsm⟩ := hXE
  rw [State.frames_setTop' g h.top] at hend
  cases o with
  | threw x =>
    rw [X.tail] at hend
    obtain ⟨T', X', hw', hsame, ht⟩ := X.outOfThrown (g := g) hg hend hW₂ hsm
    refine ⟨⟨T', Ls ++ L, c0 + mc, s0 + ms⟩, X', ⟨U.calling g mk a, s₂, L, rfl, ?_, ?_, hQ, rfl, hL, rfl, rfl⟩, ?_⟩
    · rw [ht]; rfl
    · rw [ht]; rfl
    · show Steps p.tables e below _ ((T'.setTop g).pushFrame (.throwing x))
      rw [← ht]
      exact hsteps
  | returned v =>
    obtain ⟨e2, q2, q3, q4, q5, q6⟩ := hsm
    have e3 : s₂ = ({ (U.calling g mk a).setFrames s₂.frames with heap := s₂.heap, slotsUsed := s₂.slotsUsed } : State).setVm s₂.vm := by
      have : s₂ = ({ s₂ with vm := (U.calling g mk a).vm } : State).setVm s₂.vm := rfl
      rw [e2] at this
      exact this
    obtain ⟨c₂, i₂, len₂, hc₂, hd₂, hf₂⟩ := hend
    have hW' : U.WarmedH s₂.vm := hW₂
    have hcc : c₂ = c := by
      have h1 : s₂.code? g.method = U.code? g.method := by
        rw [State.code?_eq, State.code?_eq, hW'.alike.method?]
      exact Option.some.inj (hc₂.symm.trans (h1.trans h.code))
    subst hcc
    have hlen : len₂ = len := by rw [hdg] at hd₂; cases hd₂; rfl
    subst hlen
    obtain ⟨g₀, hg0⟩ := Option.isSome_iff_exists.mp h.top
    obtain ⟨r, hr⟩ := State.topJava?_eq_some.mp hg0
    have hs₂ : s₂ = (({ U with heap := s₂.heap, slotsUsed := s₂.slotsUsed } : State).setVm s₂.vm).setTop { g with pc := g.pc + len₂, stack := v.toList ++ g.stack } := by
      have hr' : (({ U with heap := s₂.heap, slotsUsed := s₂.slotsUsed } : State).setVm s₂.vm).frames = .java g₀ :: r := hr
      refine e3.trans ?_
      rw [hf₂, State.calling_eq h.top, State.setFrames_setFrames, State.setTop_of_frames _ hr', hr]
      rfl
    have hsame : U.sameButNew ({ U with heap := s₂.heap, slotsUsed := s₂.slotsUsed } : State) L mc ms := by
      refine ⟨?_, q2, q3, q4, q5, q6⟩
      obtain ⟨t, ht, -⟩ := State.frames_cons hr
      show ({ U with heap := s₂.heap, slotsUsed := s₂.slotsUsed } : State) = { U.setFrames U.frames with heap := s₂.heap, slotsUsed := s₂.slotsUsed }
      rw [State.setFrames_self ht]
    subst hg
    refine ⟨⟨(({ U with heap := s₂.heap, slotsUsed := s₂.slotsUsed } : State).setVm s₂.vm), Ls ++ L, c0 + mc, s0 + ms⟩,
      ⟨X.admits, X.cas, X.clock, X.frames, X.room, X.hears, X.method, X.code, (X.here.setHeapUsed s₂.heap s₂.slotsUsed).setVm hW'.alike, X.tail, State.WarmedH.trans X.warmed hW', X.limits, X.bytes, X.same.trans (hsame.setVm s.vm)⟩,
      ⟨U.calling g mk a, s₂, L, rfl, rfl, rfl, hQ, rfl, hL, rfl, rfl⟩, ?_⟩
    show Steps p.tables e below _ ((({ U with heap := s₂.heap, slotsUsed := s₂.slotsUsed } : State).setVm s₂.vm).setTop { g with pc := g.pc + len₂, stack := v.toList ++ g.stack })
    rw [← hs₂]
    exact hsteps
theorem x_back {ws : List Cond} {rm : Room} {Pc : Array Value → State → Prop} {o : Outcome} {Qc : State → State → Prop} {mc ms : Nat} {free : Addr → Prop} {bytes : ByteArray} {maxL : Nat} {ret : Option FieldType}
    (hM : XMet l y ws rm Pc o Qc mc ms free) (hblind : FrameBlind Pc) (hframes : rm.frames + 1 ≤ R.frames) (hlocals : W + (maxL + 11) + rm.locals ≤ R.locals)
    (hws : ∀ w ∈ ws, ∀ a' U, s.WarmedH U.vm → w.before a' U = true) (hcode : Cond.code y bytes maxL ret ∈ ws) (_hinit : ∀ a' U, s.WarmedH U.vm → (Cond.initialized y.cls).before a' U = true) :
    XBack l R p e below s sargs y len W o (xPre R rm Pc) (xPost Qc mc ms free) := x_back0 hM hblind hframes hlocals hws hcode
end XLaws
