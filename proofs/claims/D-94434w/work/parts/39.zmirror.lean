/-! the class object of an array of objects -/
set_option maxRecDepth 100000
section XR
variable {p : Program} {l : Launch} {e : Env} {R : Room} {s : State} {m : MethodId} {args : Array Value} {below : List Frame} {meth : Method} {c : Code} {H : Heap} {locs : List Loc} {cells slots nL : Nat} {Q : State → Prop} {D : XD} {h0 h : TH} {cc : ByteArray} {own : String} {pc index : Nat} {ls : Array Slot} {rest : List Value}
theorem X_getC (hC : XCx D cc nL own h0 p R s m args meth c) (hX : XSt D s h0 h H locs cells slots) {a : Nat} (ht : hT h a = 37) (hlink : Cond.methodLink own index ⟨"java/lang/Object", "getClass", "()Ljava/lang/Class;"⟩ ∈ lw_all)
    (hl : ls.size = nL) (hfr : 1 ≤ R.frames) (hlo : (rest.map fun v => v.category).sum + 14 ≤ R.locals) (hdg : decode cc pc = .ok (.invokevirtual index, 3))
    (kk : W p l e R s m args below meth c H locs cells slots Q (F0 m (pc + 3) ls (rv (D.2.2.2 199) :: rest))) : W p l e R s m args below meth c H locs cells slots Q (F0 m pc ls (rv a :: rest)) := by
  have hts := hC.2.2.2.2.1
  have hF := hC.2.2.2.2.2.2.1
  have h11 := hF.2.2.2.2.2.2.2.2.2.2
  obtain ⟨ha, hcell, -, hra⟩ := x_ar4 hC hX ht
  rw [rv_pos ha]
  rw [rv_pos h11.1.2] at kk
  exact va_getC hC.1 hC.2.1 (by rw [hC.2.2.1]; exact hl.symm) hC.2.2.2.1 (hts _ hlink) (va_Dc.use h11.2) (hts _ q2615) (hts _ q424) (hts _ q456) h11.1.1 ⟨_, hcell, rfl, va_nmO hra rfl⟩ hfr hlo hdg kk
theorem X_ldcM (hC : XCx D cc nL own h0 p R s m args meth c) (hlink : Cond.classLink own index "[Ljava/lang/Object;" ∈ lw_all) (hdg : decode cc pc = .ok (.ldc index, 2))
    (kk : W p l e R s m args below meth c H locs cells slots Q (F0 m (pc + 2) ls (rv (D.2.2.2 199) :: rest))) : W p l e R s m args below meth c H locs cells slots Q (F0 m pc ls rest) := by
  have h11 := hC.2.2.2.2.2.2.1.2.2.2.2.2.2.2.2.2.2
  rw [rv_pos h11.1.2] at kk
  exact va_ldcM hC.1 hC.2.1 hC.2.2.2.1 (hC.2.2.2.2.1 _ hlink) h11.1.1 hdg kk
end XR
