/-! an array's clone, and its cast -/
set_option maxRecDepth 100000
def clA (h : TH) (a : Nat) : TH := (up1 h.1 (hz h + 1) 32, up1 h.2.1 (hz h + 1) (hN h a), h.2.2.1, h.2.2.2.1, fun b => if b = hz h + 1 then h.2.2.2.2.1 a else h.2.2.2.2.1 b, h.2.2.2.2.2.1, h.2.2.2.2.2.2.1, hz h + 1, hc h + 1, hs h + hN h a)
section XR
variable {p : Program} {l : Launch} {e : Env} {R : Room} {s : State} {m : MethodId} {args : Array Value} {below : List Frame} {meth : Method} {c : Code} {H : Heap} {locs : List Loc} {cells slots nL : Nat} {Q : State → Prop} {D : XD} {h0 h : TH} {cc : ByteArray} {own : String} {pc index : Nat} {ls : Array Slot} {rest : List Value}
theorem X_castB (hC : XCx D cc nL own h0 p R s m args meth c) (hX : XSt D s h0 h H locs cells slots) {a : Nat} (ht : hT h a = 32 ∨ hT h a = 42) (hlink : Cond.classLink own index "[B" ∈ lw_all) (hdg : decode cc pc = .ok (.checkcast index, 3))
    (kk : W p l e R s m args below meth c H locs cells slots Q (F0 m (pc + 3) ls (rv a :: rest))) : W p l e R s m args below meth c H locs cells slots Q (F0 m pc ls (rv a :: rest)) := by
  have key : ∀ t, hT h a = t → tkd t = 2 → t < 49 → tel t = .byte → W p l e R s m args below meth c H locs cells slots Q (F0 m pc ls (rv a :: rest)) := by
    intro t0 e0 hk h49 hty
    obtain ⟨ha, hcell, har⟩ := x_ar2 hC hX e0 hk h49
    have hra := (hC.2.2.2.2.2.2.1.2.2.1 t0 h49 (by omega)).2
    rw [hty] at hra
    have hra := va_nm_byte hra
    rw [rv_pos ha] at kk ⊢
    intro T hTT X
    obtain ⟨vm', X', st⟩ := X.checkcastYes hC.1 hC.2.2.2.1 (hC.2.2.2.2.1 _ hlink) (by rw [hTT]; exact hcell) rfl hra (va_asg _ _) (g := F0 m pc ls (.ref (a - 1) :: rest)) rfl rfl (by rw [hC.2.1]; exact hdg)
    obtain ⟨t, a1, b1⟩ := kk (T.setVm vm') hTT X'
    exact ⟨t, st t a1, b1⟩
  rcases ht with ht | ht
  · exact key 32 ht (by decide) (by decide) rfl
  · exact key 42 ht (by decide) (by decide) rfl
theorem X_clone (hC : XCx D cc nL own h0 p R s m args meth c) (hX : XSt D s h0 h H locs cells slots) {a : Nat} (ht : hT h a = 32) (hfit : ∀ i, i < hN h a → fits .byte (.int (hA h a i)) = true) (hroom : hc h + 1 ≤ XC ∧ hs h + hN h a ≤ XS)
    (hlink : Cond.methodLink own index ⟨"[B", "clone", "()Ljava/lang/Object;"⟩ ∈ lw_all) (hsame : Cond.sameMethod "[B" "java/lang/Object" "clone" "()Ljava/lang/Object;" ∈ lw_all) (hnat : Cond.native ⟨"java/lang/Object", "clone", "()Ljava/lang/Object;"⟩ ∈ lw_all) (hinst : Cond.instanceMethod ⟨"java/lang/Object", "clone", "()Ljava/lang/Object;"⟩ ∈ lw_all) (hsel : Cond.selects "[B" ⟨"[B", "clone", "()Ljava/lang/Object;"⟩ ⟨"java/lang/Object", "clone", "()Ljava/lang/Object;"⟩ ∈ lw_all) (hcl : ("[B", "java/lang/Cloneable") ∈ xCa)
    (hl : ls.size = nL) (hfr : 1 ≤ R.frames) (hlo : (rest.map fun v => v.category).sum + 14 ≤ R.locals) (hdg : decode cc pc = .ok (.invokevirtual index, 3))
    (kk : ∀ (H1 : Heap) (cells1 slots1 : Nat), XSt D s h0 (clA h a) H1 locs cells1 slots1 → W p l e R s m args below meth c H1 locs cells1 slots1 Q (F0 m (pc + 3) ls (rv (hz h + 1) :: rest))) : W p l e R s m args below meth c H locs cells slots Q (F0 m pc ls (rv a :: rest)) := by
  have hts := hC.2.2.2.2.1
  obtain ⟨ha, hcell, har⟩ := x_ar2 hC hX ht (by decide) (by decide)
  have hnm := va_nm_byte (hC.2.2.2.2.2.2.1.2.2.1 32 (by decide) (by decide)).2
  obtain ⟨-, -, -, -, -, -, -, -, hRc, hRs⟩ := id hC
  obtain ⟨hRp, hSp, hcc, hss⟩ := id hX
  have hzH : H.size = hz h := hRp.2.2.1
  obtain ⟨c0, t0', f1, f2, f3⟩ := Cond.castable_spec (va_Nw.use (A := args) rfl (hC.2.2.2.2.2.2.1.2.2.2.2.2.1 _ hcl))
  cases hnm.symm.trans f1
  rw [rv_pos ha]
  intro T hTT X
  have hcellT : T.heap[a - 1]? = some (arrV (D.1 32) (hN h a) (fun j => .int (hA h a j))) := by rw [hTT]; exact hcell
  obtain ⟨-, kA, hkA, comp, hkind⟩ := State.isArrayOf_alike X.warmed.alike (har 0 (fun _ => .null))
  obtain ⟨-, kS, hkS, compS, hkindS⟩ := har 0 (fun _ => .null)
  obtain ⟨vm', X', st⟩ := X.cloneArray hC.1 hC.2.2.2.1 (hts _ hlink) (hts _ hsame) (hts _ hnat) (hts _ hinst) (hts _ hsel) (a := a - 1) (cell := arrV (D.1 32) (hN h a) (fun j => .int (hA h a j))) hcellT (fun k h => by cases h) (fun h => by cases h) hnm f2 f3
    (fun i v hv => by
      have hk' : T.vm.classes[D.1 32]? = some kA := hkA
      have h9 := va_fit (cA := D.1 32) (n := hN h a) (F := fun j => .int (hA h a j)) (ty := .byte) hfit i v hv
      simpa [State.fitsSlot, State.slotType?, arrV, hk', hkind, tel] using h9)
    (g := F0 m pc ls (.ref (a - 1) :: rest)) rfl (by rw [hC.2.2.1]; exact hl) rfl (by rw [hC.2.1]; exact hdg) hfr (by show 2 * 0 + _ + 14 ≤ _; omega) (by rw [hRc]; omega) (by rw [arrV_size, hRs]; omega) (hloader := Vm.clonesLoader_of_array hkS hkindS)
  rw [arrV_size] at X'
  have hres := kk (H.push (arrV (D.1 32) (hN h a) (fun j => .int (hA h a j)))) (cells + 1) (slots + hN h a) (hX.born (h1 := clA h a) (n := hN h a) 32 (by decide) (by decide) (by decide) (fun b => rfl) rfl rfl rfl hroom (fun b hb => ⟨if_neg hb, fun _ => rfl, fun _ => rfl, fun i => by show (if b = hz h + 1 then _ else _ : Nat → Int32) i = _; rw [if_neg hb]; rfl, fun _ => rfl, fun _ => rfl⟩) (by simp) (fun q hq => by rw [Array.getElem?_push]; exact if_neg (by omega)) (by
      have hT1 : hT (clA h a) (hz h + 1) = 32 := if_pos rfl
      have hN1 : hN (clA h a) (hz h + 1) = hN h a := if_pos rfl
      unfold xAt
      rw [hT1, hN1]
      refine ⟨fun q => absurd q (by decide), fun _ => ?_, fun q => absurd q (by decide), fun q => absurd q (by decide)⟩
      rw [show hz h + 1 - 1 = H.size by omega]
      simp only [Array.getElem?_push_size]
      congr 2
      funext j
      show Value.int _ = Value.int ((if hz h + 1 = hz h + 1 then _ else _ : Nat → Int32) j)
      rw [if_pos rfl]
      rfl))
  obtain ⟨t, a1, b1⟩ := hres _ (by rw [← hTT]; rfl) X'
  refine ⟨t, st t ?_, b1⟩
  rw [← hzH, ← hTT] at a1
  exact a1
end XR
