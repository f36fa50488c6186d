/-! rows over the typed heap: stores into arrays, new cells, constants, classes asked, calls -/
set_option maxRecDepth 100000
theorem tkd_lt {t : Nat} (h : tkd t ≠ 0) : t < 49 := by
  apply Classical.byContradiction
  intro h2
  apply h
  unfold tkd
  rw [if_neg (by omega), if_neg (by omega), if_neg (by omega), if_neg (by omega), if_neg (by omega), if_neg (by omega)]
theorem dflt_ok : ∀ f, f < 118 → defaultValue (gty f) = if gR f = true then .null else .int 0 := by decide +kernel
section XR
variable {p : Program} {l : Launch} {e : Env} {R : Room} {s : State} {m : MethodId} {args : Array Value} {below : List Frame} {meth : Method} {c : Code} {H : Heap} {locs : List Loc} {cells slots nL : Nat} {Q : State → Prop} {D : XD} {h0 h : TH} {cc : ByteArray} {own : String} {pc index : Nat} {ls : Array Slot} {rest : List Value}
theorem X_alen (hC : XCx D cc nL own h0 p R s m args meth c) (hX : XSt D s h0 h H locs cells slots) {a : Nat} (ht : 2 ≤ tkd (hT h a)) (hdg : decode cc pc = .ok (.arraylength, 1))
    (kk : W p l e R s m args below meth c H locs cells slots Q (F0 m (pc + 1) ls (.int (Int32.ofNat (hN h a)) :: rest))) : W p l e R s m args below meth c H locs cells slots Q (F0 m pc ls (rv a :: rest)) := by
  have hk0 : tkd (hT h a) ≠ 0 := by omega
  have hne : hT h a ≠ 0 := fun q => by rw [q] at ht; exact absurd ht (by decide)
  obtain ⟨-, k2, k3, k4⟩ := (hX.1.2.1 a hne).1
  have har := (hC.2.2.2.2.2.2.1.2.2.1 _ (tkd_lt hk0) ht).1
  rw [rv_pos (hX.1.pos hne)]
  have hk : tkd (hT h a) = 2 ∨ tkd (hT h a) = 3 ∨ tkd (hT h a) = 4 := by
    unfold tkd at ht ⊢
    repeat' split
    all_goals simp_all
  rcases hk with q | q | q
  · exact W.alen (ty := tel (hT h a)) hC.1 hC.2.1 (k2 q) (har _ _) (by rw [arrV_size]) rfl rfl hdg kk
  · exact W.alen (ty := tel (hT h a)) hC.1 hC.2.1 (k3 q) (har _ _) (by rw [arrV_size]) rfl rfl hdg kk
  · exact W.alen (ty := tel (hT h a)) hC.1 hC.2.1 (k4 q) (har _ _) (by rw [arrV_size]) rfl rfl hdg kk
theorem x_uA (hX : XSt D s h0 h H locs cells slots) {a t i : Nat} {v : Int32} (ht : hT h a = t) (hk : tkd t = 2) (hw : t ≤ 37) {H1 : Heap} (e1 : H1[a - 1]? = some ((arrV (D.1 t) (hN h a) (fun j => .int (hA h a j))).setSlot i (.int v))) (e2 : H1.size = H.size) (e3 : ∀ q, q ≠ a - 1 → H1[q]? = H[q]?) : XSt D s h0 (uA h a i v) H1 (locs ++ [⟨a - 1, i⟩]) cells slots := by
  subst ht
  have hne : hT h a ≠ 0 := fun q => by rw [q] at hk; cases hk
  refine hX.upd (k := i) hne hw (fun _ => rfl) rfl rfl rfl (fun b hb => ⟨rfl, fun _ => rfl, fun _ => rfl, fun j => up2_n _ _ (fun q => hb q.1), fun _ => rfl, fun _ => rfl⟩) e2 e3 ?_
  have hk' : tkd (hT (uA h a i v) a) = 2 := hk
  refine ⟨fun q => by omega, fun _ => ?_, fun q => by omega, fun q => by omega⟩
  rw [e1, arrV_store]
  show some (arrV (D.1 (hT h a)) (hN h a) _) = some (arrV (D.1 (hT h a)) (hN h a) _)
  congr 2
  funext j
  by_cases hj : j = i
  · subst hj
    rw [show hA (uA h a j v) a j = v from up2_s _ _ _ _]
    simp [updV]
  · rw [show hA (uA h a i v) a j = hA h a j from up2_n _ _ (fun q => hj q.2)]
    simp [updV, hj]
theorem X_iast (hC : XCx D cc nL own h0 p R s m args meth c) (hX : XSt D s h0 h H locs cells slots) {a : Nat} {i v : Int32} (ht : hT h a = 31) (hin : inb i (hN h a)) (hdg : decode cc pc = .ok (.iastore, 1))
    (kk : ∀ (H1 : Heap) (locs1 : List Loc), XSt D s h0 (uA h a i.toNatClampNeg v) H1 locs1 cells slots → W p l e R s m args below meth c H1 locs1 cells slots Q (F0 m (pc + 1) ls rest)) : W p l e R s m args below meth c H locs cells slots Q (F0 m pc ls (.int v :: .int i :: rv a :: rest)) := by
  obtain ⟨ha, hc, har⟩ := x_ar2 hC hX ht (by decide) (by decide)
  rw [rv_pos ha]
  refine W.iast hC.1 hC.2.1 hc (har _ _) (fun q => by cases q) (by rw [arrV_size]; exact hin) rfl rfl hdg fun H1 e z oq => ?_
  exact kk H1 _ (x_uA hX ht (by decide) (by decide) e z oq)
theorem X_bast (hC : XCx D cc nL own h0 p R s m args meth c) (hX : XSt D s h0 h H locs cells slots) {a : Nat} {i v : Int32} (ht : hT h a = 32) (hin : inb i (hN h a)) (hdg : decode cc pc = .ok (.bastore, 1))
    (kk : ∀ (H1 : Heap) (locs1 : List Loc), XSt D s h0 (uA h a i.toNatClampNeg (Int8.toInt32 (Int32.toInt8 v))) H1 locs1 cells slots → W p l e R s m args below meth c H1 locs1 cells slots Q (F0 m (pc + 1) ls rest)) : W p l e R s m args below meth c H locs cells slots Q (F0 m pc ls (.int v :: .int i :: rv a :: rest)) := by
  obtain ⟨ha, hc, har⟩ := x_ar2 hC hX ht (by decide) (by decide)
  rw [rv_pos ha]
  refine W.bast hC.1 hC.2.1 hc (har _ _) (fun q => by cases q) (by rw [arrV_size]; exact hin) rfl rfl hdg fun H1 e z oq => ?_
  exact kk H1 _ (x_uA hX ht (by decide) (by decide) e z oq)
theorem X_zast (hC : XCx D cc nL own h0 p R s m args meth c) (hX : XSt D s h0 h H locs cells slots) {a : Nat} {i v : Int32} (hz : v = 0 ∨ v = 1) (ht : hT h a = 33) (hin : inb i (hN h a)) (hdg : decode cc pc = .ok (.bastore, 1))
    (kk : ∀ (H1 : Heap) (locs1 : List Loc), XSt D s h0 (uA h a i.toNatClampNeg v) H1 locs1 cells slots → W p l e R s m args below meth c H1 locs1 cells slots Q (F0 m (pc + 1) ls rest)) : W p l e R s m args below meth c H locs cells slots Q (F0 m pc ls (.int v :: .int i :: rv a :: rest)) := by
  obtain ⟨ha, hc, har⟩ := x_ar2 hC hX ht (by decide) (by decide)
  rw [rv_pos ha]
  refine W.zast hC.1 hC.2.1 hc (har _ _) (fun q => by cases q) (by rw [arrV_size]; exact hin) rfl rfl hdg fun H1 e z oq => ?_
  rw [(zb_nar hz).1] at e
  exact kk H1 _ (x_uA hX ht (by decide) (by decide) e z oq)
theorem X_last (hC : XCx D cc nL own h0 p R s m args meth c) (hX : XSt D s h0 h H locs cells slots) {a : Nat} {i : Int32} {v : Int64} (ht : hT h a = 34) (hin : inb i (hN h a)) (hdg : decode cc pc = .ok (.lastore, 1))
    (kk : ∀ (H1 : Heap) (locs1 : List Loc), XSt D s h0 (uL h a i.toNatClampNeg v) H1 locs1 cells slots → W p l e R s m args below meth c H1 locs1 cells slots Q (F0 m (pc + 1) ls rest)) : W p l e R s m args below meth c H locs cells slots Q (F0 m pc ls (.long v :: .int i :: rv a :: rest)) := by
  have hne : hT h a ≠ 0 := by omega
  have hc := (hX.1.2.1 a hne).1.2.2.1 (by rw [ht]; decide)
  have har := (hC.2.2.2.2.2.2.1.2.2.1 34 (by decide) (by decide)).1
  rw [← ht] at har
  rw [rv_pos (hX.1.pos hne)]
  refine W.last hC.1 hC.2.1 hc (by have := har (hN h a) (fun j => .long (hL h a j)); rw [ht] at this ⊢; exact this) (fun q => by cases q) (by rw [arrV_size]; exact hin) rfl rfl hdg fun H1 e z oq => ?_
  refine kk H1 _ (hX.upd (k := i.toNatClampNeg) hne (by omega) (fun _ => rfl) rfl rfl rfl (fun b hb => ⟨rfl, fun _ => rfl, fun _ => rfl, fun _ => rfl, fun j => up2_n _ _ (fun q => hb q.1), fun _ => rfl⟩) z oq ?_)
  have hk' : tkd (hT (uL h a i.toNatClampNeg v) a) = 3 := by show tkd (hT h a) = 3; rw [ht]; decide
  refine ⟨fun q => by omega, fun q => by omega, fun _ => ?_, fun q => by omega⟩
  rw [e, arrV_store]
  show some (arrV (D.1 (hT h a)) (hN h a) _) = some (arrV (D.1 (hT h a)) (hN h a) _)
  congr 2
  funext j
  by_cases hj : j = i.toNatClampNeg
  · subst hj
    rw [show hL (uL h a i.toNatClampNeg v) a i.toNatClampNeg = v from up2_s _ _ _ _]
    simp [updV]
  · rw [show hL (uL h a i.toNatClampNeg v) a j = hL h a j from up2_n _ _ (fun q => hj q.2)]
    simp [updV, hj]
/-- a new object -/
theorem X_new (hC : XCx D cc nL own h0 p R s m args meth c) (hX : XSt D s h0 h H locs cells slots) (t : Nat) (ht : 0 < t ∧ t ≤ 24) {n : Nat} (hn : (tfl t).length = n) (hcl : Cond.classLink own index (tnm t) ∈ lw_all) (hinst : Cond.instantiable (tnm t) n ∈ lw_all) (hini : Cond.initialized (tnm t) ∈ lw_all) (hroom : hc h + 1 ≤ XC ∧ hs h + n ≤ XS) (hdg : decode cc pc = .ok (.new index, 3))
    (kk : ∀ (H1 : Heap) (cells1 slots1 : Nat), XSt D s h0 (nO h t n) H1 locs cells1 slots1 → W p l e R s m args below meth c H1 locs cells1 slots1 Q (F0 m (pc + 3) ls (rv (hz h + 1) :: rest))) : W p l e R s m args below meth c H locs cells slots Q (F0 m pc ls rest) := by
  have hts := hC.2.2.2.2.1
  have hKn := hC.2.2.2.2.2.2.1.1 t (Or.inl ht)
  obtain ⟨-, -, -, -, -, -, -, -, hRc, hRs⟩ := id hC
  obtain ⟨hRp, hSp, hcc, hss⟩ := id hX
  have hkd : tkd t = 1 := by
    have : ∀ t, t < 25 → 0 < t → tkd t = 1 := by decide +kernel
    exact this t (by omega) ht.1
  refine W.newcK hC.1 hC.2.1 hC.2.2.2.1 (hts _ hcl) (hts _ hinst) (hts _ hini) rfl hdg (by rw [hRc]; omega) (by rw [hRs]; omega) hKn.2.1 rfl fun H1 kC hkC e1 z1 o1 => ?_
  have hb := u_born (fun k => gty ((tfl t).getD k 0)) hts (xin t ht.1 ht.2) hKn hkC e1 (fun k hk => gty_ok _ (xfl_lt (Or.inl ht) hk))
  have hzH : H.size = hz h := hRp.2.2.1
  have hres := kk H1 _ _ (hX.born (h1 := nO h t n) (n := n) t ht.1 (by omega) (by omega) (fun b => rfl) rfl rfl rfl hroom (fun b hb => ⟨rfl, fun f => if_neg hb, fun f => if_neg hb, fun _ => rfl, fun _ => rfl, fun _ => rfl⟩) z1 o1 ?_)
  · show W p l e R s m args below meth c H1 locs (cells + 1) (slots + n) Q (F0 m (pc + 3) ls (.ref H.size :: rest))
    rw [hzH]
    exact hres
  · have hT1 : hT (nO h t n) (hz h + 1) = t := if_pos rfl
    unfold xAt
    rw [hT1]
    refine ⟨fun _ => ?_, fun q => by omega, fun q => by omega, fun q => by omega⟩
    obtain ⟨cell, g1, g2, g3, g4⟩ := hb
    refine ⟨cell, by rw [show hz h + 1 - 1 = H.size by omega]; exact g1, g2, g3, fun k hk => ⟨_, g4 k hk, Or.inr ?_⟩⟩
    show defaultValue (gty ((tfl t).getD k 0)) = _
    rw [dflt_ok _ (xfl_lt (Or.inl ht) hk)]
    simp only [xV]
    split
    · rw [show hR (nO h t n) ((tfl t).getD k 0) (hz h + 1) = 0 from if_pos rfl]
      rfl
    · rw [show hI (nO h t n) ((tfl t).getD k 0) (hz h + 1) = 0 from if_pos rfl]
/-- a new array -/
theorem x_nA (hX : XSt D s h0 h H locs cells slots) (t : Nat) (ht : 0 < t ∧ t ≤ 37) (hk2 : 2 ≤ tkd t) {n : Nat} (hroom : hc h + 1 ≤ XC ∧ hs h + n ≤ XS) {v : Value} (hv : v = if tkd t = 2 then .int 0 else if tkd t = 3 then .long 0 else .null) {H1 : Heap} (e : H1 = H.push { cls := D.1 t, slots := Array.replicate n v, vm := .none }) : XSt D s h0 (nA h t n) H1 locs (cells + 1) (slots + n) := by
  have hzH : H.size = hz h := hX.1.2.2.1
  subst e
  refine hX.born (h1 := nA h t n) (n := n) t ht.1 ht.2 (by omega) (fun b => rfl) rfl rfl rfl hroom (fun b hb => ⟨if_neg hb, fun _ => rfl, fun _ => rfl, fun i => if_neg hb, fun i => if_neg hb, fun i => if_neg hb⟩) (by simp) (fun q hq => by rw [Array.getElem?_push]; exact if_neg (by omega)) ?_
  have hT1 : hT (nA h t n) (hz h + 1) = t := if_pos rfl
  have hN1 : hN (nA h t n) (hz h + 1) = n := if_pos rfl
  have hat : (H.push { cls := D.1 t, slots := Array.replicate n v, vm := .none })[hz h + 1 - 1]? = some (arrV (D.1 t) n (fun _ => v)) := by
    rw [arrV_rep, show hz h + 1 - 1 = H.size by omega]
    simp
  unfold xAt
  rw [hT1, hN1]
  refine ⟨fun q => by omega, fun q => ?_, fun q => ?_, fun q => ?_⟩
  · rw [hat, hv, if_pos q]
    congr 2
    funext j
    rw [show hA (nA h t n) (hz h + 1) j = 0 from if_pos rfl]
  · rw [hat, hv, if_neg (by omega), if_pos q]
    congr 2
    funext j
    rw [show hL (nA h t n) (hz h + 1) j = 0 from if_pos rfl]
  · rw [hat, hv, if_neg (by omega), if_neg (by omega)]
    congr 2
    funext j
    rw [show hY (nA h t n) (hz h + 1) j = 0 from if_pos rfl]
    rfl
theorem X_newa (hC : XCx D cc nL own h0 p R s m args meth c) (hX : XSt D s h0 h H locs cells slots) {atype : ArrayType} (t : Nat) (ht : t = 31 ∨ t = 32 ∨ t = 33 ∨ t = 34) (hty : newarray.typeOf atype = tel t) (harr : Cond.arrayClass (newarray.typeOf atype) ∈ lw_all) {n : Int32} (hn : ¬ n < 0) (hsm : n.toNatClampNeg ≤ 67108864) (hroom : hc h + 1 ≤ XC ∧ hs h + n.toNatClampNeg ≤ XS) (hdg : decode cc pc = .ok (.newarray atype, 2))
    (kk : ∀ (H1 : Heap) (cells1 slots1 : Nat), XSt D s h0 (nA h t n.toNatClampNeg) H1 locs cells1 slots1 → W p l e R s m args below meth c H1 locs cells1 slots1 Q (F0 m (pc + 2) ls (rv (hz h + 1) :: rest))) : W p l e R s m args below meth c H locs cells slots Q (F0 m pc ls (.int n :: rest)) := by
  have hts := hC.2.2.2.2.1
  have hra := (hC.2.2.2.2.2.2.1.2.2.1 t (by omega) (by rcases ht with rfl | rfl | rfl | rfl <;> decide)).2
  obtain ⟨-, -, -, -, -, -, -, -, hRc, hRs⟩ := id hC
  obtain ⟨hRp, hSp, hcc, hss⟩ := id hX
  have hzH : H.size = hz h := hRp.2.2.1
  refine W.newa hC.1 hC.2.1 (hts _ harr) rfl hdg rfl hn (by
    have : componentBytes (newarray.typeOf atype) ≤ 8 := by rw [hty]; rcases ht with rfl | rfl | rfl | rfl <;> decide
    calc n.toNatClampNeg * componentBytes (newarray.typeOf atype) ≤ 67108864 * 8 := Nat.mul_le_mul hsm this
      _ = 536870912 := by decide) (by rw [hRc]; omega) (by rw [hRs]; omega) fun cA kA comp h1 h2 h3 => ?_
  have hcA : cA = D.1 t := by
    have : s.vm.findClass ("[" ++ (newarray.typeOf atype).toString) = some (D.1 t) := by
      rw [hty]
      rcases ht with rfl | rfl | rfl | rfl <;> exact hra
    exact Option.some.inj (h1.symm.trans this)
  subst hcA
  have hres := kk _ _ _ (x_nA (n := n.toNatClampNeg) (v := defaultValue (newarray.typeOf atype)) hX t (by omega) (by rcases ht with rfl | rfl | rfl | rfl <;> decide) hroom (by rw [hty]; rcases ht with rfl | rfl | rfl | rfl <;> decide) rfl)
  show W p l e R s m args below meth c _ locs (cells + 1) (slots + n.toNatClampNeg) Q (F0 m (pc + 2) ls (.ref H.size :: rest))
  rw [hzH]
  exact hres
end XR
