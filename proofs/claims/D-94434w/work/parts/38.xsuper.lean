/-! calls of a superclass's method by 'super' -/
set_option maxRecDepth 100000
theorem lw_SU {own : String} {idx : Nat} {y : MethodName} {b : ByteArray} {L : Nat} {r : Option FieldType} (h1 : Cond.methodLink own idx y ∈ lw_all) (h2 : Cond.sameMethod y.cls y.cls y.name y.desc ∈ lw_all) (h3 : Cond.superclass own y.cls ∈ lw_all) (h4 : Cond.instanceMethod y ∈ lw_all) (h5 : Cond.initialized y.cls ∈ lw_all) (h6 : Cond.code y b L r ∈ lw_all) : GoodIn lw_all (va_wsSU own idx y (ws_ y b L r)) := by
  refine lw_app ?_ (lw_meth h6)
  intro w hw
  simp only [List.mem_cons, List.not_mem_nil, or_false] at hw
  rcases hw with e | e | e | e | e
  · rw [e]; exact h1
  · rw [e]; exact h2
  · rw [e]; exact h3
  · rw [e]; exact h4
  · rw [e]; exact h5
section XC
variable {p : Program} {l : Launch} {e : Env} {R : Room} {s : State} {m : MethodId} {args : Array Value} {below : List Frame} {meth : Method} {c : Code} {H : Heap} {locs : List Loc} {cells slots : Nat}
theorem x_runSU {y : MethodName} {bytes cc : ByteArray} {maxL nL mc ms n index : Nat} {ret : Option FieldType} {ws : List Cond} {rm : Room} {Pc : Array Value → State → Prop} {v : Option Value} {Qc : State → State → Prop} {free : Addr → Prop} {Ts : List Cond} {own C : String} {cC : ClassId} {b : Addr} {As rest : List Value} {g : JFrame}
    (hat : ClassAt s C cC) (S : CallFix p m c cc nL s args Ts own) (hM : XMet l y ws rm Pc (.returned v) Qc mc ms free) (cw : va_CS R s args own index y bytes maxL ret ws rm rm.cells rm.slots n) (hp : PreV s H C b Pc As)
    (hg : g.method = m) (hn : As.length = n) (hsize : g.locals.size = nL) (hstack : g.stack = As.reverse ++ .ref b :: rest) (hW : 2 * g.monitorRoom + (rest.map fun v => v.category).sum ≤ 8) (hdg : decode cc g.pc = .ok (.invokespecial index, 3)) (hf : cells + rm.cells ≤ R.cells ∧ slots + rm.slots ≤ R.slots) :
    XRun p l e R s m args below meth c H locs cells slots mc ms g rest 3 v Qc free := by
  obtain ⟨⟨-, -, hfr, hlo, hws, hcw⟩, hl1, hl2, hl3, hl4, hini, hcode, hno, hlen⟩ := cw
  have hK := XBack.toBack (x_back (p := p) (e := e) (below := below) (sargs := args) (len := 3) (bytes := bytes) (maxL := maxL) (ret := ret) hM hp.1 hfr hlo hws hcw (x_ini hini))
  obtain ⟨hx, hb, hml, ho, -⟩ := S
  obtain ⟨-, ⟨cellB, hcB, hoB, hclB⟩, hPc⟩ := hp
  obtain ⟨hfc, kB, hkB, -⟩ := hat
  cases hfc.symm.trans hclB
  intro T hT X
  obtain ⟨v1, vm₁, ⟨U', l2, c2, s2⟩, hW₁, X', ⟨hv, st0, t, L, e0, e1, e2, hq, h1, hL, h2, h3⟩, st⟩ := va_callSU X hx (bytes := bytes) (maxL := maxL) (ret := ret) ho hl1 hl2 hl3 hl4 hcode hno hK (by rw [hT]; exact hcB) hoB hkB hg (hsize.trans hml.symm) (argsL := As) (rest := rest) (fun sig h => hn.trans (hlen sig h)) hstack hW (by rw [hb]; exact hdg)
    (fun vm₁ hW₁ => ⟨hf.1, hf.2, hPc (T.setVm vm₁) hT hW₁⟩)
  dsimp only [Pt.U, Pt.locs, Pt.cells, Pt.slots] at X' e0 e1 e2 h1 h2 h3 st
  subst h1; subst h2; subst h3; subst hv
  exact ⟨st0, t, U', L, e0.trans hT, X', hL, e1, e2, hq, st⟩
theorem X_callSU {nL : Nat} {Q : State → Prop} {D : XD} {h0 h h1 : TH} {cc : ByteArray} {own : String} {pc index : Nat} {ls : Array Slot} {rest : List Value} {y : MethodName} {bytes : ByteArray} {maxL n fr lo : Nat} {ret : Option FieldType} {As st0 : List Value} {v : Option Value} {a : Nat} {C : String} (hC : XCx D cc nL own h0 p R s m args meth c) (hX : XSt D s h0 h H locs cells slots) (hk : tkd (hT h a) = 1) (hnm : tnm (hT h a) = C) (hM : XMt l y (ws_ y bytes maxL ret) fr lo D (rv a :: As) h (.returned v) h1)
    (cw : va_CS R s args own index y bytes maxL ret (ws_ y bytes maxL ret) (xRm fr lo h) (xRm fr lo h).cells (xRm fr lo h).slots n) (hst : st0 = As.reverse ++ rv a :: rest) (hn : As.length = n) (hl : ls.size = nL) (hW : (rest.map fun v => v.category).sum ≤ 8) (hdg : decode cc pc = .ok (.invokespecial index, 3))
    (kk : ∀ (H1 : Heap) (locs1 : List Loc) (cells1 slots1 : Nat), XSt D s h0 h1 H1 locs1 cells1 slots1 → W p l e R s m args below meth c H1 locs1 cells1 slots1 Q (F0 m (pc + 3) ls (v.toList ++ rest))) : W p l e R s m args below meth c H locs cells slots Q (F0 m pc ls st0) := by
  obtain ⟨ha, hcl, hr⟩ := x_recv hC hX hk
  subst hnm
  have hp := x_pre hC hX (rv a :: As)
  have hro := x_room hC hX fr lo
  rw [rv_pos ha] at hM hst hp
  exact x_ran (x_runSU hcl (As := As) (rest := rest) ⟨hC.1, hC.2.1, hC.2.2.1, hC.2.2.2.1, hC.2.2.2.2.1⟩ hM cw ⟨xP_blind, hr, hp⟩ rfl hn hl hst (lv_room hW) hdg hro) hX rfl rfl kk
end XC
