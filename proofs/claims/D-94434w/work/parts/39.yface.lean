/-! an interface's method, the initialisation of whose class the tables do not name -/
set_option maxRecDepth 100000
def XCI (R : Room) (s : State) (args : Array Value) (own C : String) (index : Nat) (x y : MethodName) (bytes : ByteArray) (maxL : Nat) (ret : Option FieldType) (ws : List Cond) (rm : Room) (n : Nat) : Prop :=
  (rm.frames + 1 ≤ R.frames ∧ 8 + (maxL + 11) + rm.locals ≤ R.locals ∧ (∀ w ∈ ws, ∀ (a' : Array Value) (U : State), s.WarmedH U.vm → w.before a' U = true) ∧ Cond.code y bytes maxL ret ∈ ws) ∧
  (Cond.methodLink own index x).before args s = true ∧ va_Fw C x y s ∧ (Cond.selects C x y).before args s = true ∧ (Cond.instanceMethod y).before args s = true ∧ (Cond.code y bytes maxL ret).before args s = true ∧
  (x.cls ≠ "java/lang/invoke/MethodHandle" ∧ x.cls ≠ "java/lang/invoke/VarHandle") ∧ (∀ sig, parseMethodDescriptor x.desc = some sig → n = sig.parameters.length)
section XFc
variable {p : Program} {l : Launch} {e : Env} {R : Room} {s : State} {m : MethodId} {args : Array Value} {below : List Frame} {meth : Method} {c : Code} {H : Heap} {locs : List Loc} {cells slots : Nat}
theorem cwF0 {own C : String} {index maxL : Nat} {x y : MethodName} {bytes : ByteArray} {ret : Option FieldType} {rm : Room} (n : Nat) (ht : ∀ w ∈ lw_all, w.before args s = true) (h1 : Cond.methodLink own index x ∈ lw_all) (h3 : Cond.selects C x y ∈ lw_all) (h4 : Cond.instanceMethod y ∈ lw_all) (h6 : Cond.code y bytes maxL ret ∈ lw_all) (hF : va_Fw C x y s)
    (hd : x.cls ≠ "java/lang/invoke/MethodHandle" ∧ x.cls ≠ "java/lang/invoke/VarHandle" ∧ (parseMethodDescriptor x.desc).map (fun d => d.parameters.length) = some n) (hR : rm.frames + 1 ≤ R.frames ∧ 8 + (maxL + 11) + rm.locals ≤ R.locals) : XCI R s args own C index x y bytes maxL ret (ws_ y bytes maxL ret) rm n := by
  refine ⟨⟨hR.1, hR.2, pay_in ht (lw_meth h6), List.mem_cons_self⟩, ht _ h1, hF, ht _ h3, ht _ h4, ht _ h6, ⟨hd.1, hd.2.1⟩, fun sig h => ?_⟩
  have h2 := hd.2.2
  rw [h] at h2
  exact (Option.some.inj h2).symm
theorem x_runF0 {x y : MethodName} {bytes cc : ByteArray} {maxL nL mc ms n index count : Nat} {ret : Option FieldType} {ws : List Cond} {rm : Room} {Pc : Array Value → State → Prop} {v : Option Value} {Qc : State → State → Prop} {free : Addr → Prop} {Ts : List Cond} {own C : String} {cC : ClassId} {b : Addr} {As rest : List Value} {g : JFrame}
    (hat : ClassAt s C cC) (S : CallFix p m c cc nL s args Ts own) (hM : XMet l y ws rm Pc (.returned v) Qc mc ms free) (cw : XCI R s args own C index x y bytes maxL ret ws rm n) (hp : PreV s H C b Pc As)
    (hg : g.method = m) (hn : As.length = n) (hsize : g.locals.size = nL) (hstack : g.stack = As.reverse ++ .ref b :: rest) (hW : 2 * g.monitorRoom + (rest.map fun v => v.category).sum ≤ 8) (hdg : decode cc g.pc = .ok (.invokeinterface index count, 5)) (hf : cells + rm.cells ≤ R.cells ∧ slots + rm.slots ≤ R.slots) :
    XRun p l e R s m args below meth c H locs cells slots mc ms g rest 5 v Qc free := by
  obtain ⟨⟨hfr, hlo, hws, hcw⟩, hlk, hF, hse, hin, hcd, hno, hlen⟩ := cw
  have hK := XBack.toBack (x_back0 (p := p) (e := e) (below := below) (sargs := args) (len := 5) (bytes := bytes) (maxL := maxL) (ret := ret) hM hp.1 hfr hlo hws hcw)
  obtain ⟨hx, hb, hml, ho, -⟩ := S
  obtain ⟨-, ⟨cellB, hcB, hoB, hclB⟩, hPc⟩ := hp
  obtain ⟨hfc, kB, hkB, -⟩ := hat
  cases hfc.symm.trans hclB
  intro T hT X
  obtain ⟨v1, vm₁, ⟨U', l2, c2, s2⟩, hW₁, X', ⟨hv, st0, t, L, e0, e1, e2, hq, h1, hL, h2, h3⟩, st⟩ := va_callIF X hx (C := C) (bytes := bytes) (maxL := maxL) (ret := ret) ho hlk (va_any rfl hF.1) (va_any rfl hF.2.1) hse hin (va_any rfl hF.2.2.1) (va_any rfl hF.2.2.2.1) (va_any rfl hF.2.2.2.2) hcd hno hK (by rw [hT]; exact hcB) hoB hclB hkB hg (hsize.trans hml.symm) (argsL := As) (rest := rest) (fun sig h => hn.trans (hlen sig h)) hstack hW (by rw [hb]; exact hdg)
    (fun vm₁ hW₁ => ⟨hf.1, hf.2, hPc (T.setVm vm₁) hT hW₁⟩)
  dsimp only [Pt.U, Pt.locs, Pt.cells, Pt.slots] at X' e0 e1 e2 h1 h2 h3 st
  subst h1; subst h2; subst h3; subst hv
  exact ⟨st0, t, U', L, e0.trans hT, X', hL, e1, e2, hq, st⟩
theorem X_callF0 {nL : Nat} {Q : State → Prop} {D : XD} {h0 h h1 : TH} {cc : ByteArray} {own : String} {pc index : Nat} {ls : Array Slot} {rest : List Value} {y x : MethodName} {bytes : ByteArray} {maxL n fr lo count : Nat} {ret : Option FieldType} {As st0 : List Value} {v : Option Value} {a : Nat} {C : String}
    (hC : XCx D cc nL own h0 p R s m args meth c) (hX : XSt D s h0 h H locs cells slots) (hk : tkd (hT h a) = 1) (hnm : tnm (hT h a) = C) (hM : XMt l y (ws_ y bytes maxL ret) fr lo D (rv a :: As) h (.returned v) h1)
    (cw : XCI R s args own C index x y bytes maxL ret (ws_ y bytes maxL ret) (xRm fr lo h) n) (hst : st0 = As.reverse ++ rv a :: rest) (hn : As.length = n) (hl : ls.size = nL) (hW : (rest.map fun v => v.category).sum ≤ 8) (hdg : decode cc pc = .ok (.invokeinterface index count, 5))
    (kk : ∀ (H1 : Heap) (locs1 : List Loc) (cells1 slots1 : Nat), XSt D s h0 h1 H1 locs1 cells1 slots1 → W p l e R s m args below meth c H1 locs1 cells1 slots1 Q (F0 m (pc + 5) ls (v.toList ++ rest))) : W p l e R s m args below meth c H locs cells slots Q (F0 m pc ls st0) := by
  obtain ⟨ha, hcl, hr⟩ := x_recv hC hX hk
  subst hnm
  have hp := x_pre hC hX (rv a :: As)
  have hro := x_room hC hX fr lo
  rw [rv_pos ha] at hM hst hp
  exact x_ran (x_runF0 hcl (As := As) (rest := rest) ⟨hC.1, hC.2.1, hC.2.2.1, hC.2.2.2.1, hC.2.2.2.2.1⟩ hM cw ⟨xP_blind, hr, hp⟩ rfl hn hl hst (lv_room hW) hdg hro) hX rfl rfl kk
end XFc
