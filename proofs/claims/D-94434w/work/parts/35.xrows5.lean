/-! rows over the typed heap: arrays of references, System.arraycopy -/
set_option maxRecDepth 100000
def cpA (h : TH) (src sp dst dp n : Nat) : TH := (h.1, h.2.1, h.2.2.1, h.2.2.2.1, fun a => if a = dst then va_cpy (h.2.2.2.2.1 src) (h.2.2.2.2.1 dst) sp dp n else h.2.2.2.2.1 a, h.2.2.2.2.2)
def cpL (h : TH) (src sp dst dp n : Nat) : TH := (h.1, h.2.1, h.2.2.1, h.2.2.2.1, h.2.2.2.2.1, fun a => if a = dst then va_cpy (h.2.2.2.2.2.1 src) (h.2.2.2.2.2.1 dst) sp dp n else h.2.2.2.2.2.1 a, h.2.2.2.2.2.2)
def cpY (h : TH) (src sp dst dp n : Nat) : TH := (h.1, h.2.1, h.2.2.1, h.2.2.2.1, h.2.2.2.2.1, h.2.2.2.2.2.1, fun a => if a = dst then va_cpy (h.2.2.2.2.2.2.1 src) (h.2.2.2.2.2.2.1 dst) sp dp n else h.2.2.2.2.2.2.1 a, h.2.2.2.2.2.2.2)
/-- what a copy asks of its places -/
def cpok (sp dp n : Int32) (n0 n1 : Nat) : Prop := ¬ sp < 0 ∧ ¬ dp < 0 ∧ ¬ n < 0 ∧ sp.toNatClampNeg + n.toNatClampNeg ≤ n0 ∧ dp.toNatClampNeg + n.toNatClampNeg ≤ n1
theorem nn32 (z : Int32) (hz : ¬ z < 0) : z.toInt = (z.toNatClampNeg : Int) := by
  have hz0 : (0 : Int) ≤ z.toInt := by
    have := Int32.not_lt.mp hz
    simpa using Int32.le_iff_toInt_le.mp this
  show z.toInt = ((z.toInt.toNat : Nat) : Int)
  omega
theorem va_cpy_map {α β : Type} (k : α → β) (f g : Nat → α) (sp dp n j : Nat) : k (va_cpy f g sp dp n j) = va_cpy (fun i => k (f i)) (fun i => k (g i)) sp dp n j := by
  unfold va_cpy
  split <;> rfl
theorem XSt.updL {D : XD} {s : State} {h0 h h1 : TH} {H H1 : Heap} {locs L : List Loc} {cells slots : Nat} (hP : XSt D s h0 h H locs cells slots) {a : Nat} (ha : hT h a ≠ 0) (hw : hT h a ≤ 37) (eT : ∀ b, hT h1 b = hT h b) (ez : hz h1 = hz h) (ec : hc h1 = hc h) (es : hs h1 = hs h)
    (hother : ∀ b, b ≠ a → hN h1 b = hN h b ∧ (∀ f, hI h1 f b = hI h f b) ∧ (∀ f, hR h1 f b = hR h f b) ∧ (∀ i, hA h1 b i = hA h b i) ∧ (∀ i, hL h1 b i = hL h b i) ∧ ∀ i, hY h1 b i = hY h b i)
    (z : H1.size = H.size) (oq : ∀ q, q ≠ a - 1 → H1[q]? = H[q]?) (hat : xAt D h1 a H1) (hL : ∀ q ∈ L, q.base = a - 1) : XSt D s h0 h1 H1 (locs ++ L) cells slots := by
  have h2 := hP.upd (k := 0) ha hw eT ez ec es hother z oq hat
  refine ⟨h2.1, ⟨h2.2.1.1, h2.2.1.2.1, fun q hq => ?_⟩, h2.2.2⟩
  rcases List.mem_append.mp hq with q1 | q1
  · exact hP.2.1.2.2 q q1
  · rw [hL q q1]
    exact hP.1.2.2.2.1 a ha hw
section XR
variable {p : Program} {l : Launch} {e : Env} {R : Room} {s : State} {m : MethodId} {args : Array Value} {below : List Frame} {meth : Method} {c : Code} {H : Heap} {locs : List Loc} {cells slots nL : Nat} {Q : State → Prop} {D : XD} {h0 h : TH} {cc : ByteArray} {own : String} {pc index : Nat} {ls : Array Slot} {rest : List Value}
theorem x_ar4 (hC : XCx D cc nL own h0 p R s m args meth c) (hX : XSt D s h0 h H locs cells slots) {a : Nat} (ht : hT h a = 37) : a ≠ 0 ∧ H[a - 1]? = some (arrV (D.1 37) (hN h a) (fun j => rv (hY h a j))) ∧ ArrOfT s (D.1 37) (.object "java/lang/Object") ∧ va_RA s (D.1 37) (.object "java/lang/Object") := by
  have hne : hT h a ≠ 0 := by omega
  have h1 := (hX.1.2.1 a hne).1.2.2.2 (by rw [ht]; decide)
  rw [ht] at h1
  have h2 := hC.2.2.2.2.2.2.1.2.2.1 37 (by decide) (by decide)
  exact ⟨hX.1.pos hne, h1, h2.1, h2.2⟩
theorem x_uX (hX : XSt D s h0 h H locs cells slots) {a i v : Nat} (ht : hT h a = 37) {H1 : Heap} (e1 : H1[a - 1]? = some ((arrV (D.1 37) (hN h a) (fun j => rv (hY h a j))).setSlot i (rv v))) (e2 : H1.size = H.size) (e3 : ∀ q, q ≠ a - 1 → H1[q]? = H[q]?) : XSt D s h0 (uX h a i v) H1 (locs ++ [⟨a - 1, i⟩]) cells slots := by
  have hne : hT h a ≠ 0 := by omega
  refine hX.upd (k := i) hne (by omega) (fun _ => rfl) rfl rfl rfl (fun b hb => ⟨rfl, fun _ => rfl, fun _ => rfl, fun _ => rfl, fun _ => rfl, fun j => up2_n _ _ (fun q => hb q.1)⟩) e2 e3 ?_
  have hk' : hT (uX h a i v) a = 37 := ht
  unfold xAt
  rw [hk']
  refine ⟨fun q => absurd q (by decide), fun q => absurd q (by decide), fun q => absurd q (by decide), fun _ => ?_⟩
  rw [e1, arrV_store]
  show some (arrV (D.1 37) (hN h a) _) = some (arrV (D.1 37) (hN h a) _)
  congr 2
  funext j
  by_cases hj : j = i
  · subst hj
    rw [show hY (uX h a j v) a j = v from up2_s _ _ _ _]
    simp [updV]
  · rw [show hY (uX h a i v) a j = hY h a j from up2_n _ _ (fun q => hj q.2)]
    simp [updV, hj]
theorem X_aast (hC : XCx D cc nL own h0 p R s m args meth c) (hX : XSt D s h0 h H locs cells slots) {a v : Nat} {i : Int32} (ht : hT h a = 37) (hin : inb i (hN h a)) (hv : v = 0 ∨ castB (hT h v) "java/lang/Object" = true) (hdg : decode cc pc = .ok (.aastore, 1))
    (kk : ∀ (H1 : Heap) (locs1 : List Loc), XSt D s h0 (uX h a i.toNatClampNeg v) H1 locs1 cells slots → W p l e R s m args below meth c H1 locs1 cells slots Q (F0 m (pc + 1) ls rest)) : W p l e R s m args below meth c H locs cells slots Q (F0 m pc ls (rv v :: .int i :: rv a :: rest)) := by
  have hlt : i.toNatClampNeg < hN h a := Nat.not_le.mp fun q => hin (Or.inr q)
  have hi0 : ¬ i < 0 := fun q => hin (Or.inl q)
  obtain ⟨ha, hc, har, kA, comp, k1, k2, k3, -⟩ := x_ar4 hC hX ht
  rw [rv_pos ha]
  rcases hv with rfl | hv
  · intro T hTT X
    have hT' : T.heap[a - 1]? = some (arrV (D.1 37) (hN h a) (fun j => rv (hY h a j))) := by rw [hTT]; exact hc
    obtain ⟨X', st⟩ := X.aastoreNullIn hC.1 hT' (fun q h => by cases h) (fun h => by cases h) k1 k2 rfl ⟨hi0, by rw [arrV_size]; exact hlt⟩ (g := F0 m pc ls (rv 0 :: .int i :: .ref (a - 1) :: rest)) rfl rfl (by rw [hC.2.1]; exact hdg)
    have hl : a - 1 < T.heap.size := (Array.getElem?_eq_some_iff.mp hT').1
    obtain ⟨t, a1, b1⟩ := kk _ _ (x_uX (v := 0) (i := i.toNatClampNeg) hX ht (H1 := (T.setCell (a - 1) ((arrV (D.1 37) (hN h a) (fun j => rv (hY h a j))).setSlot i.toNatClampNeg .null)).heap) (heapAt_setCell_self _ hl) (by rw [size_setCell, hTT]) (fun q hq => by rw [heapAt_setCell_ne _ (Ne.symm hq), hTT])) _ rfl X'
    exact ⟨t, st t a1, b1⟩
  · simp only [castB, Bool.and_eq_true, beq_iff_eq, Bool.or_eq_true, decide_eq_true_eq, List.contains_iff_mem] at hv
    obtain ⟨hva, hcl, cellV, g1, g2, g3⟩ := x_recv hC hX hv.1
    rw [rv_pos hva]
    obtain ⟨kcomp, hkcomp, -⟩ := Vm.findClass_spec k3
    obtain ⟨kv, hkv, -⟩ := Vm.findClass_spec g3
    have hasg : s.vm.assignable cellV.cls comp = true := by
      rcases hv.2 with ⟨q, q2⟩ | q
      · exfalso
        have hno : ∀ t, t < 49 → tnm t ≠ "java/lang/Object" := by decide +kernel
        exact hno _ (by omega) q
      · obtain ⟨c0, t0, f1, f2, f3⟩ := Cond.castable_spec (va_Nw.use (A := args) rfl (hC.2.2.2.2.2.2.1.2.2.2.2.2.1 _ q))
        cases g3.symm.trans f1
        cases k3.symm.trans f2
        exact f3
    refine W.aast hC.1 hC.2.1 hc (fun q h => by cases h) (fun h => by cases h) k1 k2 rfl hkcomp ⟨hi0, by rw [arrV_size]; exact hlt⟩ g1 (fun q h => by rw [h] at g2; cases g2) hkv hasg rfl rfl hdg fun H1 e z oq => ?_
    exact kk H1 _ (x_uX hX ht (by rw [rv_pos hva]; exact e) z oq)
theorem X_anew (hC : XCx D cc nL own h0 p R s m args meth c) (hX : XSt D s h0 h H locs cells slots) (hclink : Cond.classLink own index "java/lang/Object" ∈ lw_all) {n : Int32} (hn : ¬ n < 0) (hsm : n.toNatClampNeg ≤ 67108864) (hroom : hc h + 1 ≤ XC ∧ hs h + n.toNatClampNeg ≤ XS) (hdg : decode cc pc = .ok (.anewarray index, 3))
    (kk : ∀ (H1 : Heap) (cells1 slots1 : Nat), XSt D s h0 (nA h 37 n.toNatClampNeg) H1 locs cells1 slots1 → W p l e R s m args below meth c H1 locs cells1 slots1 Q (F0 m (pc + 3) ls (rv (hz h + 1) :: rest))) : W p l e R s m args below meth c H locs cells slots Q (F0 m pc ls (.int n :: rest)) := by
  have hts := hC.2.2.2.2.1
  have hra := (hC.2.2.2.2.2.2.1.2.2.1 37 (by decide) (by decide)).2
  obtain ⟨kA', comp', k1, k2, k3, k4⟩ := hra
  obtain ⟨-, -, -, -, -, -, -, -, hRc, hRs⟩ := id hC
  obtain ⟨hRp, hSp, hcc, hss⟩ := id hX
  have hzH : H.size = hz h := hRp.2.2.1
  refine W.anew hC.1 hC.2.1 hC.2.2.2.1 (hts _ hclink) (va_AO.use hC.2.2.2.2.2.2.1.2.2.2.2.2.2.1.2.1) rfl hdg rfl hn (by omega) (by rw [hRc]; omega) (by rw [hRs]; omega) fun cA kA comp h1 h2 h3 h4 => ?_
  have hcA : cA = D.1 37 := Option.some.inj (h1.symm.trans k4)
  subst hcA
  have hres := kk _ _ _ (x_nA (n := n.toNatClampNeg) (v := .null) hX 37 (by omega) (by decide) hroom (by decide) rfl)
  show W p l e R s m args below meth c _ locs (cells + 1) (slots + n.toNatClampNeg) Q (F0 m (pc + 3) ls (.ref H.size :: rest))
  rw [hzH]
  exact hres
theorem x_setc {T : State} {a : Nat} {x y : Cell} (hT : T.heap = H) (hc : H[a]? = some y) {vm' : Vm} : ((T.setVm vm').setCell a x).heap[a]? = some x ∧ ((T.setVm vm').setCell a x).heap.size = H.size ∧ ∀ q, q ≠ a → ((T.setVm vm').setCell a x).heap[q]? = H[q]? := by
  have hl : a < H.size := (Array.getElem?_eq_some_iff.mp hc).1
  have hh : ((T.setVm vm').setCell a x).heap = H.setIfInBounds a x := by rw [← hT]; rfl
  rw [hh]
  exact ⟨by simp [Array.getElem?_setIfInBounds, hl], by simp, fun q hq => by simp [Array.getElem?_setIfInBounds, Ne.symm hq]⟩
theorem X_copyA (hC : XCx D cc nL own h0 p R s m args meth c) (hX : XSt D s h0 h H locs cells slots) {src dst : Nat} {sp dp n : Int32} (ht : (hT h src = 31 ∧ hT h dst = 31) ∨ ((hT h src = 32 ∨ hT h src = 42) ∧ hT h dst = 32 ∧ ∀ i, i < n.toNatClampNeg → fits .byte (.int (hA h src (sp.toNatClampNeg + i))) = true)) (hok : cpok sp dp n (hN h src) (hN h dst))
    (hlink : Cond.methodLink own index arraycopyName ∈ lw_all) (hnat : Cond.native arraycopyName ∈ lw_all) (hstat : Cond.static arraycopyName ∈ lw_all) (hini : Cond.initialized "java/lang/System" ∈ lw_all) (hl : ls.size = nL) (hfr : 1 ≤ R.frames) (hlo : (rest.map fun v => v.category).sum + (nativeFrameWords "java/lang/System" "arraycopy" 5 + 11) ≤ R.locals) (hdg : decode cc pc = .ok (.invokestatic index, 3))
    (kk : ∀ (H1 : Heap) (locs1 : List Loc), XSt D s h0 (cpA h src sp.toNatClampNeg dst dp.toNatClampNeg n.toNatClampNeg) H1 locs1 cells slots → W p l e R s m args below meth c H1 locs1 cells slots Q (F0 m (pc + 3) ls rest)) : W p l e R s m args below meth c H locs cells slots Q (F0 m pc ls (.int n :: .int dp :: rv dst :: .int sp :: rv src :: rest)) := by
  obtain ⟨h1, h2, h3, h4, h5⟩ := hok
  have hts := hC.2.2.2.2.1
  obtain ⟨t0, t1, ty, e0, e1, hk0, hk1, hw, ht0, ht1, hty0, hty1, hpr, hfit⟩ : ∃ (t0 t1 : Nat) (ty : FieldType), hT h src = t0 ∧ hT h dst = t1 ∧ tkd t0 = 2 ∧ tkd t1 = 2 ∧ t1 ≤ 37 ∧ t0 < 49 ∧ t1 < 49 ∧ tel t0 = ty ∧ tel t1 = ty ∧ refKind ty = false ∧ ∀ i, i < n.toNatClampNeg → fits ty (.int (hA h src (sp.toNatClampNeg + i))) = true := by
    rcases ht with ⟨q1, q2⟩ | ⟨q1 | q1, q2, q3⟩
    · exact ⟨31, 31, .int, q1, q2, by decide, by decide, by decide, by decide, by decide, rfl, rfl, rfl, fun _ _ => rfl⟩
    · exact ⟨32, 32, .byte, q1, q2, by decide, by decide, by decide, by decide, by decide, rfl, rfl, rfl, q3⟩
    · exact ⟨42, 32, .byte, q1, q2, by decide, by decide, by decide, by decide, by decide, rfl, rfl, rfl, q3⟩
  obtain ⟨ha0, hc0, har0⟩ := x_ar2 hC hX e0 hk0 ht0
  obtain ⟨ha1, hc1, har1⟩ := x_ar2 hC hX e1 hk1 ht1
  rw [hty0] at har0
  rw [hty1] at har1
  rw [rv_pos ha0, rv_pos ha1]
  intro T hTT X
  obtain ⟨-, kk0, hkk0, cm0, hkd0⟩ := har0 (hN h src) (fun j => .int (hA h src j))
  obtain ⟨-, kk1, hkk1, cm1, hkd1⟩ := har1 (hN h dst) (fun j => .int (hA h dst j))
  obtain ⟨vm', X', step⟩ := X.arraycopy hC.1 hC.2.2.2.1 (hts _ hlink) (hts _ hnat) (hts _ hstat) (hts _ hini) (src := src - 1) (dst := dst - 1) (cs := arrV (D.1 t0) (hN h src) (fun j => .int (hA h src j))) (cd := arrV (D.1 t1) (hN h dst) (fun j => .int (hA h dst j))) (srcPos := sp) (destPos := dp) (n := n) (by rw [hTT]; exact hc0) (by rw [hTT]; exact hc1)
    (fun _ h => by cases h) (fun _ h => by cases h) (fun h => by cases h) (fun h => by cases h) hkk0 hkk1 hkd0 hkd1 (by simp [hpr]) h1 h2 h3
    (by rw [nn32 sp h1, nn32 n h3, arrV_size]; omega) (by rw [nn32 dp h2, nn32 n h3, arrV_size]; omega)
    (fun vm₁ _ i hi => by
      have e : (arrV (D.1 t0) (hN h src) (fun j => Value.int (hA h src j))).slots.getD (sp.toNatClampNeg + i) .null = .int (hA h src (sp.toNatClampNeg + i)) := by
        rw [Array.getD_eq_getD_getElem?, arrV_read _ _ (by omega)]
        rfl
      rw [e]
      exact ⟨hfit i hi, trivial⟩)
    (g := F0 m pc ls (.int n :: .int dp :: .ref (dst - 1) :: .int sp :: .ref (src - 1) :: rest)) rfl (by rw [hC.2.2.1]; exact hl) (rest := rest) rfl (by rw [hC.2.1]; exact hdg) hfr (by show 2 * 0 + _ + _ ≤ _; omega)
  have ec : copied (arrV (D.1 t0) (hN h src) (fun j => Value.int (hA h src j))) (arrV (D.1 t1) (hN h dst) (fun j => Value.int (hA h dst j))) sp dp n = arrV (D.1 t1) (hN h dst) (fun j => .int (va_cpy (hA h src) (hA h dst) sp.toNatClampNeg dp.toNatClampNeg n.toNatClampNeg j)) := va_copied (fun z => .int z) (D.1 t0) (D.1 t1) (hA h src) (hA h dst) h4
  rw [ec] at X' step
  obtain ⟨s1, s2, s3⟩ := x_setc (x := arrV (D.1 t1) (hN h dst) (fun j => .int (va_cpy (hA h src) (hA h dst) sp.toNatClampNeg dp.toNatClampNeg n.toNatClampNeg j))) hTT hc1 (vm' := vm')
  obtain ⟨t, a1, b1⟩ := kk _ _ (hX.updL (a := dst) (h1 := cpA h src sp.toNatClampNeg dst dp.toNatClampNeg n.toNatClampNeg) (fun q => ha1 (absurd q (by rw [e1]; exact fun z => by rw [z] at hk1; exact absurd hk1 (by decide)))) (by rw [e1]; exact hw) (fun _ => rfl) rfl rfl rfl (fun b hb => ⟨rfl, fun _ => rfl, fun _ => rfl, fun i => by show (if b = dst then _ else _ : Nat → Int32) i = _; rw [if_neg hb]; rfl, fun _ => rfl, fun _ => rfl⟩) s2 s3 (by
      have hT1 : hT (cpA h src sp.toNatClampNeg dst dp.toNatClampNeg n.toNatClampNeg) dst = t1 := e1
      unfold xAt
      rw [hT1]
      refine ⟨fun q => by omega, fun _ => ?_, fun q => by omega, fun q => by omega⟩
      rw [s1]
      congr 2
      funext j
      show Value.int _ = Value.int ((if dst = dst then _ else _ : Nat → Int32) j)
      rw [if_pos rfl]
      rfl) (fun q hq => by
      obtain ⟨z, -, hz⟩ := List.mem_map.mp hq
      rw [← hz])) _ rfl X'
  exact ⟨t, step t a1, b1⟩
theorem X_copyL (hC : XCx D cc nL own h0 p R s m args meth c) (hX : XSt D s h0 h H locs cells slots) {src dst : Nat} {sp dp n : Int32} (e0 : hT h src = 34) (e1 : hT h dst = 34) (hok : cpok sp dp n (hN h src) (hN h dst))
    (hlink : Cond.methodLink own index arraycopyName ∈ lw_all) (hnat : Cond.native arraycopyName ∈ lw_all) (hstat : Cond.static arraycopyName ∈ lw_all) (hini : Cond.initialized "java/lang/System" ∈ lw_all) (hl : ls.size = nL) (hfr : 1 ≤ R.frames) (hlo : (rest.map fun v => v.category).sum + (nativeFrameWords "java/lang/System" "arraycopy" 5 + 11) ≤ R.locals) (hdg : decode cc pc = .ok (.invokestatic index, 3))
    (kk : ∀ (H1 : Heap) (locs1 : List Loc), XSt D s h0 (cpL h src sp.toNatClampNeg dst dp.toNatClampNeg n.toNatClampNeg) H1 locs1 cells slots → W p l e R s m args below meth c H1 locs1 cells slots Q (F0 m (pc + 3) ls rest)) : W p l e R s m args below meth c H locs cells slots Q (F0 m pc ls (.int n :: .int dp :: rv dst :: .int sp :: rv src :: rest)) := by
  obtain ⟨h1, h2, h3, h4, h5⟩ := hok
  have hts := hC.2.2.2.2.1
  have hne0 : hT h src ≠ 0 := by omega
  have hne1 : hT h dst ≠ 0 := by omega
  have ha0 := hX.1.pos hne0
  have ha1 := hX.1.pos hne1
  have hc0 := (hX.1.2.1 src hne0).1.2.2.1 (by rw [e0]; decide)
  have hc1 := (hX.1.2.1 dst hne1).1.2.2.1 (by rw [e1]; decide)
  rw [e0] at hc0
  rw [e1] at hc1
  have har0 := (hC.2.2.2.2.2.2.1.2.2.1 34 (by decide) (by decide)).1
  have har1 := har0
  rw [rv_pos ha0, rv_pos ha1]
  intro T hTT X
  obtain ⟨-, kk0, hkk0, cm0, hkd0⟩ := har0 (hN h src) (fun j => .long (hL h src j))
  obtain ⟨-, kk1, hkk1, cm1, hkd1⟩ := har1 (hN h dst) (fun j => .long (hL h dst j))
  obtain ⟨vm', X', step⟩ := X.arraycopy hC.1 hC.2.2.2.1 (hts _ hlink) (hts _ hnat) (hts _ hstat) (hts _ hini) (src := src - 1) (dst := dst - 1) (cs := arrV (D.1 34) (hN h src) (fun j => .long (hL h src j))) (cd := arrV (D.1 34) (hN h dst) (fun j => .long (hL h dst j))) (srcPos := sp) (destPos := dp) (n := n) (by rw [hTT]; exact hc0) (by rw [hTT]; exact hc1)
    (fun _ h => by cases h) (fun _ h => by cases h) (fun h => by cases h) (fun h => by cases h) hkk0 hkk1 hkd0 hkd1 rfl h1 h2 h3
    (by rw [nn32 sp h1, nn32 n h3, arrV_size]; omega) (by rw [nn32 dp h2, nn32 n h3, arrV_size]; omega)
    (fun vm₁ _ i hi => by
      have e : (arrV (D.1 34) (hN h src) (fun j => Value.long (hL h src j))).slots.getD (sp.toNatClampNeg + i) .null = .long (hL h src (sp.toNatClampNeg + i)) := by
        rw [Array.getD_eq_getD_getElem?, arrV_read _ _ (by omega)]
        rfl
      rw [e]
      exact ⟨rfl, trivial⟩)
    (g := F0 m pc ls (.int n :: .int dp :: .ref (dst - 1) :: .int sp :: .ref (src - 1) :: rest)) rfl (by rw [hC.2.2.1]; exact hl) (rest := rest) rfl (by rw [hC.2.1]; exact hdg) hfr (by show 2 * 0 + _ + _ ≤ _; omega)
  have ec : copied (arrV (D.1 34) (hN h src) (fun j => Value.long (hL h src j))) (arrV (D.1 34) (hN h dst) (fun j => Value.long (hL h dst j))) sp dp n = arrV (D.1 34) (hN h dst) (fun j => .long (va_cpy (hL h src) (hL h dst) sp.toNatClampNeg dp.toNatClampNeg n.toNatClampNeg j)) := va_copied (fun z => .long z) (D.1 34) (D.1 34) (hL h src) (hL h dst) h4
  rw [ec] at X' step
  obtain ⟨s1, s2, s3⟩ := x_setc (x := arrV (D.1 34) (hN h dst) (fun j => .long (va_cpy (hL h src) (hL h dst) sp.toNatClampNeg dp.toNatClampNeg n.toNatClampNeg j))) hTT hc1 (vm' := vm')
  obtain ⟨t, a1, b1⟩ := kk _ _ (hX.updL (a := dst) (h1 := cpL h src sp.toNatClampNeg dst dp.toNatClampNeg n.toNatClampNeg) hne1 (by omega) (fun _ => rfl) rfl rfl rfl (fun b hb => ⟨rfl, fun _ => rfl, fun _ => rfl, fun _ => rfl, fun i => by show (if b = dst then _ else _ : Nat → Int64) i = _; rw [if_neg hb]; rfl, fun _ => rfl⟩) s2 s3 (by
      have hT1 : hT (cpL h src sp.toNatClampNeg dst dp.toNatClampNeg n.toNatClampNeg) dst = 34 := e1
      unfold xAt
      rw [hT1]
      refine ⟨fun q => absurd q (by decide), fun q => absurd q (by decide), fun _ => ?_, fun q => absurd q (by decide)⟩
      rw [s1]
      congr 2
      funext j
      show Value.long _ = Value.long ((if dst = dst then _ else _ : Nat → Int64) j)
      rw [if_pos rfl]
      rfl) (fun q hq => by
      obtain ⟨z, -, hz⟩ := List.mem_map.mp hq
      rw [← hz])) _ rfl X'
  exact ⟨t, step t a1, b1⟩
theorem X_copyY (hC : XCx D cc nL own h0 p R s m args meth c) (hX : XSt D s h0 h H locs cells slots) {src dst : Nat} {sp dp n : Int32} (e0 : hT h src = 37) (e1 : hT h dst = 37) (hel : ∀ i, i < n.toNatClampNeg → hY h src (sp.toNatClampNeg + i) = 0 ∨ castB (hT h (hY h src (sp.toNatClampNeg + i))) "java/lang/Object" = true) (hok : cpok sp dp n (hN h src) (hN h dst))
    (hlink : Cond.methodLink own index arraycopyName ∈ lw_all) (hnat : Cond.native arraycopyName ∈ lw_all) (hstat : Cond.static arraycopyName ∈ lw_all) (hini : Cond.initialized "java/lang/System" ∈ lw_all) (hl : ls.size = nL) (hfr : 1 ≤ R.frames) (hlo : (rest.map fun v => v.category).sum + (nativeFrameWords "java/lang/System" "arraycopy" 5 + 11) ≤ R.locals) (hdg : decode cc pc = .ok (.invokestatic index, 3))
    (kk : ∀ (H1 : Heap) (locs1 : List Loc), XSt D s h0 (cpY h src sp.toNatClampNeg dst dp.toNatClampNeg n.toNatClampNeg) H1 locs1 cells slots → W p l e R s m args below meth c H1 locs1 cells slots Q (F0 m (pc + 3) ls rest)) : W p l e R s m args below meth c H locs cells slots Q (F0 m pc ls (.int n :: .int dp :: rv dst :: .int sp :: rv src :: rest)) := by
  obtain ⟨h1, h2, h3, h4, h5⟩ := hok
  have hts := hC.2.2.2.2.1
  have hne1 : hT h dst ≠ 0 := by omega
  obtain ⟨ha0, hc0, har0, -⟩ := x_ar4 hC hX e0
  obtain ⟨ha1, hc1, har1, kA, comp, r1, r2, r3, -⟩ := x_ar4 hC hX e1
  rw [rv_pos ha0, rv_pos ha1]
  intro T hTT X
  obtain ⟨-, kk0, hkk0, cm0, hkd0⟩ := har0 (hN h src) (fun j => rv (hY h src j))
  obtain ⟨-, kk1, hkk1, cm1, hkd1⟩ := har1 (hN h dst) (fun j => rv (hY h dst j))
  obtain ⟨vm', X', step⟩ := X.arraycopy hC.1 hC.2.2.2.1 (hts _ hlink) (hts _ hnat) (hts _ hstat) (hts _ hini) (src := src - 1) (dst := dst - 1) (cs := arrV (D.1 37) (hN h src) (fun j => rv (hY h src j))) (cd := arrV (D.1 37) (hN h dst) (fun j => rv (hY h dst j))) (srcPos := sp) (destPos := dp) (n := n) (by rw [hTT]; exact hc0) (by rw [hTT]; exact hc1)
    (fun _ h => by cases h) (fun _ h => by cases h) (fun h => by cases h) (fun h => by cases h) hkk0 hkk1 hkd0 hkd1 rfl h1 h2 h3
    (by rw [nn32 sp h1, nn32 n h3, arrV_size]; omega) (by rw [nn32 dp h2, nn32 n h3, arrV_size]; omega)
    (fun vm₁ hal i hi => by
      have e : (arrV (D.1 37) (hN h src) (fun j => rv (hY h src j))).slots.getD (sp.toNatClampNeg + i) .null = rv (hY h src (sp.toNatClampNeg + i)) := by
        rw [Array.getD_eq_getD_getElem?, arrV_read _ _ (by omega)]
        rfl
      rw [e]
      rcases hel i hi with q | q
      · rw [q]
        exact ⟨rfl, trivial⟩
      · simp only [castB, Bool.and_eq_true, beq_iff_eq, Bool.or_eq_true, decide_eq_true_eq, List.contains_iff_mem] at q
        obtain ⟨hva, hcl, cellV, g1, g2, g3⟩ := x_recv hC hX q.1
        rw [rv_pos hva]
        cases hkk1.symm.trans r1
        cases hkd1.symm.trans r2
        have hasg : s.vm.assignable cellV.cls comp = true := by
          rcases q.2 with ⟨q, q2⟩ | q
          · exfalso
            have hno : ∀ t, t < 49 → tnm t ≠ "java/lang/Object" := by decide +kernel
            exact hno _ (by omega) q
          · obtain ⟨c0, t0, f1, f2, f3⟩ := Cond.castable_spec (va_Nw.use (A := args) rfl (hC.2.2.2.2.2.2.1.2.2.2.2.2.1 _ q))
            cases g3.symm.trans f1
            cases r3.symm.trans f2
            exact f3
        obtain ⟨kC, hkC, -⟩ := Vm.findClass_spec g3
        obtain ⟨kE, hkE, -⟩ := Vm.findClass_spec r3
        obtain ⟨kC', hkC', -⟩ := hal.2.2 _ _ hkC
        obtain ⟨kE', hkE', -⟩ := hal.2.2 _ _ hkE
        refine ⟨rfl, ?_⟩
        refine ⟨cellV, (show T.heap[_]? = some cellV by rw [hTT]; exact g1), (fun q h => by rw [h] at g2; cases g2), ⟨kC', hkC'⟩, ⟨kE', hkE'⟩, ?_⟩
        show vm₁.assignable _ _ = true
        rw [hal.assignable]
        exact hasg)
    (g := F0 m pc ls (.int n :: .int dp :: .ref (dst - 1) :: .int sp :: .ref (src - 1) :: rest)) rfl (by rw [hC.2.2.1]; exact hl) (rest := rest) rfl (by rw [hC.2.1]; exact hdg) hfr (by show 2 * 0 + _ + _ ≤ _; omega)
  have ec : copied (arrV (D.1 37) (hN h src) (fun j => rv (hY h src j))) (arrV (D.1 37) (hN h dst) (fun j => rv (hY h dst j))) sp dp n = arrV (D.1 37) (hN h dst) (fun j => rv (va_cpy (hY h src) (hY h dst) sp.toNatClampNeg dp.toNatClampNeg n.toNatClampNeg j)) := va_copied (fun z => rv z) (D.1 37) (D.1 37) (hY h src) (hY h dst) h4
  rw [ec] at X' step
  obtain ⟨s1, s2, s3⟩ := x_setc (x := arrV (D.1 37) (hN h dst) (fun j => rv (va_cpy (hY h src) (hY h dst) sp.toNatClampNeg dp.toNatClampNeg n.toNatClampNeg j))) hTT hc1 (vm' := vm')
  obtain ⟨t, a1, b1⟩ := kk _ _ (hX.updL (a := dst) (h1 := cpY h src sp.toNatClampNeg dst dp.toNatClampNeg n.toNatClampNeg) hne1 (by omega) (fun _ => rfl) rfl rfl rfl (fun b hb => ⟨rfl, fun _ => rfl, fun _ => rfl, fun _ => rfl, fun _ => rfl, fun i => by show (if b = dst then _ else _ : Nat → Nat) i = _; rw [if_neg hb]; rfl⟩) s2 s3 (by
      have hT1 : hT (cpY h src sp.toNatClampNeg dst dp.toNatClampNeg n.toNatClampNeg) dst = 37 := e1
      unfold xAt
      rw [hT1]
      refine ⟨fun q => absurd q (by decide), fun q => absurd q (by decide), fun q => absurd q (by decide), fun _ => ?_⟩
      rw [s1]
      congr 2
      funext j
      show rv _ = rv ((if dst = dst then _ else _ : Nat → Nat) j)
      rw [if_pos rfl]
      rfl) (fun q hq => by
      obtain ⟨z, -, hz⟩ := List.mem_map.mp hq
      rw [← hz])) _ rfl X'
  exact ⟨t, step t a1, b1⟩
end XR
