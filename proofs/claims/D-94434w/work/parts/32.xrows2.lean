/-! rows over the typed heap: fields written, arrays, new cells -/
set_option maxRecDepth 100000
theorem up2_s {α : Type} (F : Nat → Nat → α) (i j : Nat) (v : α) : up2 F i j v i j = v := by simp [up2]
theorem up2_n {α : Type} (F : Nat → Nat → α) {i j a b : Nat} (v : α) (h : ¬ (a = i ∧ b = j)) : up2 F i j v a b = F a b := by simp [up2, h]
theorem fits_ref {ty : FieldType} (hty : (∃ n, ty = .object n) ∨ ∃ t, ty = .array t) (a : Nat) : narrow ty (rv a) = rv a ∧ fits ty (rv a) = true := by
  rcases hty with ⟨n, rfl⟩ | ⟨t, rfl⟩ <;> cases a <;> exact ⟨rfl, rfl⟩
theorem gR_ty : ∀ f, f < 118 → gR f = true → ((match gty f with | .object _ => true | .array _ => true | _ => false) = true) := by decide +kernel
theorem gR_ty' {f : Nat} (hf : f < 118) (h : gR f = true) : (∃ n, gty f = .object n) ∨ ∃ t, gty f = .array t := by
  have := gR_ty f hf h
  split at this
  · exact Or.inl ⟨_, by assumption⟩
  · exact Or.inr ⟨_, by assumption⟩
  · cases this
theorem arrV_rep (cI : ClassId) (n : Nat) (v : Value) : arrV cI n (fun _ => v) = { cls := cI, slots := Array.replicate n v, vm := .none } := by
  simp only [arrV]
  congr 1
  apply Array.ext
  · simp
  · intro i h1 h2
    simp
section XR
variable {p : Program} {l : Launch} {e : Env} {R : Room} {s : State} {m : MethodId} {args : Array Value} {below : List Frame} {meth : Method} {c : Code} {H : Heap} {locs : List Loc} {cells slots nL : Nat} {Q : State → Prop} {D : XD} {h0 h : TH} {cc : ByteArray} {own : String} {pc index : Nat} {ls : Array Slot} {rest : List Value}
theorem X_geti (hC : XCx D cc nL own h0 p R s m args meth c) (hX : XSt D s h0 h H locs cells slots) {a : Nat} (f : Nat) {ref : String} (hf : hasF (hT h a) f = true) (hg : gR f = false) (hlink : Cond.fieldLink own index ref (gnm f).2.1 (gnm f).2.2.1 ∈ lw_all) (hsame : ∀ x, s.fieldFound? (gnm f).1 (gnm f).2.1 (gnm f).2.2.1 = some x → s.fieldFound? ref (gnm f).2.1 (gnm f).2.2.1 = some x) (hdg : decode cc pc = .ok (.getfield index, 3))
    (kk : W p l e R s m args below meth c H locs cells slots Q (F0 m (pc + 3) ls (.int (hI h f a) :: rest))) : W p l e R s m args below meth c H locs cells slots Q (F0 m pc ls (rv a :: rest)) :=
  X_get hC hX f hf (fun q => by rw [q.1] at hg; exact absurd hg (by decide)) hlink hsame hdg (by rw [xV_i h a f hg]; exact kk)
theorem X_getr (hC : XCx D cc nL own h0 p R s m args meth c) (hX : XSt D s h0 h H locs cells slots) {a : Nat} (f : Nat) {ref : String} (hf : hasF (hT h a) f = true) (hg : gR f = true) (hsk : f = 49 → hR h f a ≠ 0) (hlink : Cond.fieldLink own index ref (gnm f).2.1 (gnm f).2.2.1 ∈ lw_all) (hsame : ∀ x, s.fieldFound? (gnm f).1 (gnm f).2.1 (gnm f).2.2.1 = some x → s.fieldFound? ref (gnm f).2.1 (gnm f).2.2.1 = some x) (hdg : decode cc pc = .ok (.getfield index, 3))
    (kk : W p l e R s m args below meth c H locs cells slots Q (F0 m (pc + 3) ls (rv (hR h f a) :: rest))) : W p l e R s m args below meth c H locs cells slots Q (F0 m pc ls (rv a :: rest)) :=
  X_get hC hX f hf (fun q => hsk q.1 (by rw [q.1]; exact q.2)) hlink hsame hdg (by rw [xV_r h a f hg]; exact kk)
theorem X_getiN (hC : XCx D cc nL own h0 p R s m args meth c) (hX : XSt D s h0 h H locs cells slots) {a : Nat} (f : Nat) {host : String} (hf : hasF (hT h a) f = true) (hg : gR f = false) (hlink : (own, index, (gnm f).1, (gnm f).2.1, (gnm f).2.2.1, host) ∈ xFN) (hdg : decode cc pc = .ok (.getfield index, 3))
    (kk : W p l e R s m args below meth c H locs cells slots Q (F0 m (pc + 3) ls (.int (hI h f a) :: rest))) : W p l e R s m args below meth c H locs cells slots Q (F0 m pc ls (rv a :: rest)) :=
  X_getN hC hX f hf (fun q => by rw [q.1] at hg; exact absurd hg (by decide)) hlink hdg (by rw [xV_i h a f hg]; exact kk)
theorem X_getrN (hC : XCx D cc nL own h0 p R s m args meth c) (hX : XSt D s h0 h H locs cells slots) {a : Nat} (f : Nat) {host : String} (hf : hasF (hT h a) f = true) (hg : gR f = true) (hsk : f = 49 → hR h f a ≠ 0) (hlink : (own, index, (gnm f).1, (gnm f).2.1, (gnm f).2.2.1, host) ∈ xFN) (hdg : decode cc pc = .ok (.getfield index, 3))
    (kk : W p l e R s m args below meth c H locs cells slots Q (F0 m (pc + 3) ls (rv (hR h f a) :: rest))) : W p l e R s m args below meth c H locs cells slots Q (F0 m pc ls (rv a :: rest)) :=
  X_getN hC hX f hf (fun q => hsk q.1 (by rw [q.1]; exact q.2)) hlink hdg (by rw [xV_r h a f hg]; exact kk)
theorem x_uI (hC : XCx D cc nL own h0 p R s m args meth c) (hX : XSt D s h0 h H locs cells slots) {a f : Nat} (hf : hasF (hT h a) f = true) (hw : hT h a ≤ 24) (hg : gR f = false) {cell : Cell} {fd : Field} {k : Nat} {v : Int32} (hk : k < (tfl (hT h a)).length) (hkf : (tfl (hT h a)).getD k 0 = f) (q1 : H[a - 1]? = some cell) (hsl : fd.slot = D.2.1 (hT h a) k) {H1 : Heap} (e1 : H1[a - 1]? = some (cell.setSlot fd.slot (.int v))) (e2 : H1.size = H.size) (e3 : ∀ q, q ≠ a - 1 → H1[q]? = H[q]?) : XSt D s h0 (uI h f a v) H1 (locs ++ [⟨a - 1, fd.slot⟩]) cells slots := by
  refine x_put hC hX hf hw hk hkf q1 hsl (v := .int v) ⟨fun q => ?_, fun q => ?_⟩ e1 e2 e3 (fun _ => rfl) rfl rfl rfl (fun b hb => ⟨rfl, fun g => ?_, fun _ => rfl, fun _ => rfl, fun _ => rfl, fun _ => rfl⟩) ?_ (fun g hg2 => ⟨?_, rfl⟩)
  · rcases q with rfl | rfl | rfl <;> exact absurd hg (by decide)
  · subst q; exact absurd hg (by decide)
  · show up2 h.2.2.1 f a v g b = h.2.2.1 g b
    exact up2_n _ _ (fun q => hb q.2)
  · rw [xV_i _ _ _ hg]
    show Value.int (up2 h.2.2.1 f a v f a) = _
    rw [up2_s]
  · simp only [xV]
    split
    · rfl
    · show Value.int (up2 h.2.2.1 f a v g a) = .int (h.2.2.1 g a)
      rw [up2_n _ _ (fun q => hg2 q.1)]
theorem x_uR (hC : XCx D cc nL own h0 p R s m args meth c) (hX : XSt D s h0 h H locs cells slots) {a f : Nat} (hf : hasF (hT h a) f = true) (hw : hT h a ≤ 24) (hg : gR f = true) {cell : Cell} {fd : Field} {k v : Nat} (hsep : (f = 58 ∨ f = 63 ∨ f = 66 → hR h 49 a = 0) ∧ (f = 49 → ∀ g, g = 58 ∨ g = 63 ∨ g = 66 → hasF (hT h a) g = true → hR h g a = v)) (hk : k < (tfl (hT h a)).length) (hkf : (tfl (hT h a)).getD k 0 = f) (q1 : H[a - 1]? = some cell) (hsl : fd.slot = D.2.1 (hT h a) k) {H1 : Heap} (e1 : H1[a - 1]? = some (cell.setSlot fd.slot (rv v))) (e2 : H1.size = H.size) (e3 : ∀ q, q ≠ a - 1 → H1[q]? = H[q]?) : XSt D s h0 (uR h f a v) H1 (locs ++ [⟨a - 1, fd.slot⟩]) cells slots := by
  have hr : ∀ g, g ≠ f → hR (uR h f a v) g a = hR h g a := fun g hg2 => up2_n _ _ (fun q => hg2 q.1)
  refine x_put hC hX hf hw hk hkf q1 hsl (v := rv v) ⟨fun q => ?_, fun q g hg3 hg4 => ?_⟩ e1 e2 e3 (fun _ => rfl) rfl rfl rfl (fun b hb => ⟨rfl, fun _ => rfl, fun g => up2_n _ _ (fun q => hb q.2), fun _ => rfl, fun _ => rfl, fun _ => rfl⟩) ?_ (fun g hg2 => ⟨?_, hr g hg2⟩)
  · rw [hr 49 (fun q2 => by omega)]
    exact hsep.1 q
  · rw [xV_r _ _ _ (by rcases hg3 with rfl | rfl | rfl <;> decide), hr g (fun q2 => by omega)]
    rw [hsep.2 q g hg3 hg4]
  · rw [xV_r _ _ _ hg]
    show rv (up2 h.2.2.2.1 f a v f a) = _
    rw [up2_s]
  · simp only [xV]
    split
    · rw [hr g hg2]
    · rfl
theorem x_lay (hC : XCx D cc nL own h0 p R s m args meth c) {t k f : Nat} (hcl : (0 < t ∧ t ≤ 24) ∨ t = 41) (hk : k < (tfl t).length) (hkf : (tfl t).getD k 0 = f) : (if (gnm f).2.2.2 = true then Cond.laysFinal (tnm t) (gnm f).1 (gnm f).2.1 (gnm f).2.2.1 else Cond.lays (tnm t) (gnm f).1 (gnm f).2.1 (gnm f).2.2.1).before args s = true := by
  have := hC.2.2.2.2.1 _ (xin' hcl _ (u_in_lay hk))
  unfold u_lay at this
  rw [show tT t k = gnm f from by rw [← hkf]; rfl] at this
  exact this
theorem X_puti (hC : XCx D cc nL own h0 p R s m args meth c) (hX : XSt D s h0 h H locs cells slots) {a : Nat} (f : Nat) {ref : String} (hf : hasF (hT h a) f = true) (hw : hT h a ≤ 24) (hg : gR f = false) (hfin : (gnm f).2.2.2 = false) (hlink : Cond.fieldLink own index ref (gnm f).2.1 (gnm f).2.2.1 ∈ lw_all) (hsame : ∀ x, s.fieldFound? (gnm f).1 (gnm f).2.1 (gnm f).2.2.1 = some x → s.fieldFound? ref (gnm f).2.1 (gnm f).2.2.1 = some x) {v : Int32} (hn : narrow (gty f) (.int v) = .int v ∧ fits (gty f) (.int v) = true) (hdg : decode cc pc = .ok (.putfield index, 3))
    (kk : ∀ (H1 : Heap) (locs1 : List Loc), XSt D s h0 (uI h f a v) H1 locs1 cells slots → W p l e R s m args below meth c H1 locs1 cells slots Q (F0 m (pc + 3) ls rest)) : W p l e R s m args below meth c H locs cells slots Q (F0 m pc ls (.int v :: rv a :: rest)) := by
  obtain ⟨k, cell, cf, kf, fi, fd, kC, w, hk, hkf, hlt, q1, q2, q3, hfc, hkC, hkind, hi, hst, hsl, hv, hv2, ha⟩ := x_field hC hX.1 hf
  have hlay := x_lay hC (tfl_kd hf).1 hk hkf
  rw [if_neg (by rw [hfin]; decide)] at hlay
  have h6 := u_store hfc hkC hkind hlay hi (gty_ok f hlt) hn.1 hn.2
  rw [rv_pos ha]
  refine W.putK hC.1 hC.2.1 (f := fd) ⟨hC.2.2.2.1, hC.2.2.2.2.1 _ hlink, ⟨_, _, _, hsame _ hi⟩, hst⟩ (by rw [q2]; exact h6) q1 q3 (k2_hasslot hv) rfl rfl hdg fun H1 e1 e2 e3 => ?_
  exact kk H1 _ (x_uI hC hX hf hw hg hk hkf q1 hsl e1 e2 e3)
theorem X_putr (hC : XCx D cc nL own h0 p R s m args meth c) (hX : XSt D s h0 h H locs cells slots) {a : Nat} (f : Nat) {ref : String} (hf : hasF (hT h a) f = true) (hw : hT h a ≤ 24) (hg : gR f = true) (hfin : (gnm f).2.2.2 = false) (hlink : Cond.fieldLink own index ref (gnm f).2.1 (gnm f).2.2.1 ∈ lw_all) (hsame : ∀ x, s.fieldFound? (gnm f).1 (gnm f).2.1 (gnm f).2.2.1 = some x → s.fieldFound? ref (gnm f).2.1 (gnm f).2.2.1 = some x) {v : Nat} (hdg : decode cc pc = .ok (.putfield index, 3))
    (kk : ∀ (H1 : Heap) (locs1 : List Loc), XSt D s h0 (uR h f a v) H1 locs1 cells slots → W p l e R s m args below meth c H1 locs1 cells slots Q (F0 m (pc + 3) ls rest)) : W p l e R s m args below meth c H locs cells slots Q (F0 m pc ls (rv v :: rv a :: rest)) := by
  obtain ⟨k, cell, cf, kf, fi, fd, kC, w, hk, hkf, hlt, q1, q2, q3, hfc, hkC, hkind, hi, hst, hsl, hv, hv2, ha⟩ := x_field hC hX.1 hf
  have hlay := x_lay hC (tfl_kd hf).1 hk hkf
  rw [if_neg (by rw [hfin]; decide)] at hlay
  have hn := fits_ref (gR_ty' hlt hg) v
  have h6 := u_store hfc hkC hkind hlay hi (gty_ok f hlt) hn.1 hn.2
  rw [rv_pos ha]
  refine W.putK hC.1 hC.2.1 (f := fd) ⟨hC.2.2.2.1, hC.2.2.2.2.1 _ hlink, ⟨_, _, _, hsame _ hi⟩, hst⟩ (by rw [q2]; exact h6) q1 q3 (k2_hasslot hv) rfl rfl hdg fun H1 e1 e2 e3 => ?_
  exact kk H1 _ (x_uR hC hX hf hw hg ⟨fun q => by rcases q with rfl | rfl | rfl <;> exact absurd hfin (by decide), fun q => by subst q; exact absurd hfin (by decide)⟩ hk hkf q1 hsl e1 e2 e3)
/-- final fields, in their class's constructor -/
theorem x_fin (hC : XCx D cc nL own h0 p R s m args meth c) {t k f : Nat} (hcl : (0 < t ∧ t ≤ 24) ∨ t = 41) (hk : k < (tfl t).length) (hkf : (tfl t).getD k 0 = f) (hfin : (gnm f).2.2.2 = true) (hdecl : (gnm f).1 = own) {cf : Nat} {kf : Class} {fi : Nat} {fd : Field} (hi : s.fieldFound? (gnm f).1 (gnm f).2.1 (gnm f).2.2.1 = some (cf, kf, fi, fd)) :
    (Cond.laysFinal (tnm t) (gnm f).1 (gnm f).2.1 (gnm f).2.2.1).before args s = true ∧ m.cls = cf := by
  have hlay := x_lay hC hcl hk hkf
  rw [if_pos hfin] at hlay
  refine ⟨hlay, ?_⟩
  obtain ⟨_, _, c', _, _, _, -, -, hf', -, -, -, hown2, -⟩ := Cond.laysFinal_spec hlay
  have e1 : c' = cf := by have := hi.symm.trans hf'; simp at this; exact this.1.symm
  rw [hdecl] at hown2
  rw [← e1]; exact Option.some.inj (hC.2.2.2.1.symm.trans hown2)
theorem X_putiF (hC : XCx D cc nL own h0 p R s m args meth c) (hX : XSt D s h0 h H locs cells slots) (hinit : meth.name = "<init>") {a : Nat} (f : Nat) (hf : hasF (hT h a) f = true) (hw : hT h a ≤ 24) (hg : gR f = false) (hfin : (gnm f).2.2.2 = true) (hdecl : (gnm f).1 = own) (hlink : Cond.fieldLink own index (gnm f).1 (gnm f).2.1 (gnm f).2.2.1 ∈ lw_all) {v : Int32} (hn : narrow (gty f) (.int v) = .int v ∧ fits (gty f) (.int v) = true) (hdg : decode cc pc = .ok (.putfield index, 3))
    (kk : ∀ (H1 : Heap) (locs1 : List Loc), XSt D s h0 (uI h f a v) H1 locs1 cells slots → W p l e R s m args below meth c H1 locs1 cells slots Q (F0 m (pc + 3) ls rest)) : W p l e R s m args below meth c H locs cells slots Q (F0 m pc ls (.int v :: rv a :: rest)) := by
  obtain ⟨k, cell, cf, kf, fi, fd, kC, w, hk, hkf, hlt, q1, q2, q3, hfc, hkC, hkind, hi, hst, hsl, hv, hv2, ha⟩ := x_field hC hX.1 hf
  obtain ⟨hlay, hcf⟩ := x_fin hC (tfl_kd hf).1 hk hkf hfin hdecl hi
  have h6 := u_fits hfc hkC hkind (Or.inr hlay) hi (gty_ok f hlt) hn.1 hn.2
  rw [rv_pos ha]
  refine W.putFinK hC.1 hC.2.1 hC.2.2.2.1 (hC.2.2.2.2.1 _ hlink) hi hst hcf hinit (by rw [q2]; exact h6) q1 q3 (k2_hasslot hv) rfl rfl hdg fun H1 e1 e2 e3 => ?_
  exact kk H1 _ (x_uI hC hX hf hw hg hk hkf q1 hsl e1 e2 e3)
theorem X_putrF (hC : XCx D cc nL own h0 p R s m args meth c) (hX : XSt D s h0 h H locs cells slots) (hinit : meth.name = "<init>") {a : Nat} (f : Nat) (hf : hasF (hT h a) f = true) (hw : hT h a ≤ 24) (hg : gR f = true) (hfin : (gnm f).2.2.2 = true) (hdecl : (gnm f).1 = own) (hlink : Cond.fieldLink own index (gnm f).1 (gnm f).2.1 (gnm f).2.2.1 ∈ lw_all) {v : Nat} (hsep : (f = 58 ∨ f = 63 ∨ f = 66 → hR h 49 a = 0) ∧ (f = 49 → ∀ g, g = 58 ∨ g = 63 ∨ g = 66 → hasF (hT h a) g = true → hR h g a = v)) (hdg : decode cc pc = .ok (.putfield index, 3))
    (kk : ∀ (H1 : Heap) (locs1 : List Loc), XSt D s h0 (uR h f a v) H1 locs1 cells slots → W p l e R s m args below meth c H1 locs1 cells slots Q (F0 m (pc + 3) ls rest)) : W p l e R s m args below meth c H locs cells slots Q (F0 m pc ls (rv v :: rv a :: rest)) := by
  obtain ⟨k, cell, cf, kf, fi, fd, kC, w, hk, hkf, hlt, q1, q2, q3, hfc, hkC, hkind, hi, hst, hsl, hv, hv2, ha⟩ := x_field hC hX.1 hf
  obtain ⟨hlay, hcf⟩ := x_fin hC (tfl_kd hf).1 hk hkf hfin hdecl hi
  have hn := fits_ref (gR_ty' hlt hg) v
  have h6 := u_fits hfc hkC hkind (Or.inr hlay) hi (gty_ok f hlt) hn.1 hn.2
  rw [rv_pos ha]
  refine W.putFinK hC.1 hC.2.1 hC.2.2.2.1 (hC.2.2.2.2.1 _ hlink) hi hst hcf hinit (by rw [q2]; exact h6) q1 q3 (k2_hasslot hv) rfl rfl hdg fun H1 e1 e2 e3 => ?_
  exact kk H1 _ (x_uR hC hX hf hw hg hsep hk hkf q1 hsl e1 e2 e3)
/-- arrays -/
theorem x_ar2 (hC : XCx D cc nL own h0 p R s m args meth c) (hX : XSt D s h0 h H locs cells slots) {a t : Nat} (ht : hT h a = t) (hk : tkd t = 2) (ht49 : t < 49) : a ≠ 0 ∧ H[a - 1]? = some (arrV (D.1 t) (hN h a) (fun j => .int (hA h a j))) ∧ ArrOfT s (D.1 t) (tel t) := by
  subst ht
  have hne : hT h a ≠ 0 := fun q => by rw [q] at hk; cases hk
  exact ⟨hX.1.pos hne, (hX.1.2.1 a hne).1.2.1 hk, (hC.2.2.2.2.2.2.1.2.2.1 _ ht49 (by omega)).1⟩
theorem X_iald (hC : XCx D cc nL own h0 p R s m args meth c) (hX : XSt D s h0 h H locs cells slots) {a : Nat} {i : Int32} (ht : hT h a = 31 ∨ hT h a = 43) (hin : inb i (hN h a)) (hdg : decode cc pc = .ok (.iaload, 1))
    (kk : W p l e R s m args below meth c H locs cells slots Q (F0 m (pc + 1) ls (.int (hA h a i.toNatClampNeg) :: rest))) : W p l e R s m args below meth c H locs cells slots Q (F0 m pc ls (.int i :: rv a :: rest)) := by
  have hlt : i.toNatClampNeg < hN h a := Nat.not_le.mp fun q => hin (Or.inr q)
  rcases ht with ht | ht
  all_goals
    obtain ⟨ha, hc, har⟩ := x_ar2 hC hX ht (by decide) (by decide)
    rw [rv_pos ha]
    exact W.iald (v := .int (hA h a i.toNatClampNeg)) hC.1 hC.2.1 hc (har _ _) (fun q => by cases q) (by rw [arrV_size]; exact hin) (by rw [arrV_read _ _ hlt]) rfl rfl hdg kk
theorem X_bald (hC : XCx D cc nL own h0 p R s m args meth c) (hX : XSt D s h0 h H locs cells slots) {a : Nat} {i : Int32} (ht : hT h a = 32 ∨ hT h a = 42) (hin : inb i (hN h a)) (hdg : decode cc pc = .ok (.baload, 1))
    (kk : W p l e R s m args below meth c H locs cells slots Q (F0 m (pc + 1) ls (.int (hA h a i.toNatClampNeg) :: rest))) : W p l e R s m args below meth c H locs cells slots Q (F0 m pc ls (.int i :: rv a :: rest)) := by
  have hlt : i.toNatClampNeg < hN h a := Nat.not_le.mp fun q => hin (Or.inr q)
  rcases ht with ht | ht
  all_goals
    obtain ⟨ha, hc, har⟩ := x_ar2 hC hX ht (by decide) (by decide)
    rw [rv_pos ha]
    exact W.bald (v := .int (hA h a i.toNatClampNeg)) hC.1 hC.2.1 hc (har _ _) (fun q => by cases q) (by rw [arrV_size]; exact hin) (by rw [arrV_read _ _ hlt]) rfl rfl hdg kk
theorem X_zald (hC : XCx D cc nL own h0 p R s m args meth c) (hX : XSt D s h0 h H locs cells slots) {a : Nat} {i : Int32} (ht : hT h a = 33) (hin : inb i (hN h a)) (hdg : decode cc pc = .ok (.baload, 1))
    (kk : W p l e R s m args below meth c H locs cells slots Q (F0 m (pc + 1) ls (.int (hA h a i.toNatClampNeg) :: rest))) : W p l e R s m args below meth c H locs cells slots Q (F0 m pc ls (.int i :: rv a :: rest)) := by
  have hlt : i.toNatClampNeg < hN h a := Nat.not_le.mp fun q => hin (Or.inr q)
  obtain ⟨ha, hc, har⟩ := x_ar2 hC hX ht (by decide) (by decide)
  rw [rv_pos ha]
  exact W.zald (v := .int (hA h a i.toNatClampNeg)) hC.1 hC.2.1 hc (har _ _) (fun q => by cases q) (by rw [arrV_size]; exact hin) (by rw [arrV_read _ _ hlt]) rfl rfl hdg kk
theorem X_lald (hC : XCx D cc nL own h0 p R s m args meth c) (hX : XSt D s h0 h H locs cells slots) {a : Nat} {i : Int32} (ht : hT h a = 34) (hin : inb i (hN h a)) (hdg : decode cc pc = .ok (.laload, 1))
    (kk : W p l e R s m args below meth c H locs cells slots Q (F0 m (pc + 1) ls (.long (hL h a i.toNatClampNeg) :: rest))) : W p l e R s m args below meth c H locs cells slots Q (F0 m pc ls (.int i :: rv a :: rest)) := by
  have hlt : i.toNatClampNeg < hN h a := Nat.not_le.mp fun q => hin (Or.inr q)
  have hne : hT h a ≠ 0 := by omega
  have hc := (hX.1.2.1 a hne).1.2.2.1 (by rw [ht]; decide)
  rw [ht] at hc
  have har := (hC.2.2.2.2.2.2.1.2.2.1 34 (by decide) (by decide)).1
  rw [rv_pos (hX.1.pos hne)]
  exact W.lald (v := .long (hL h a i.toNatClampNeg)) hC.1 hC.2.1 hc (har _ _) (fun q => by cases q) (by rw [arrV_size]; exact hin) (by rw [arrV_read _ _ hlt]) rfl rfl hdg kk
theorem X_aald (hC : XCx D cc nL own h0 p R s m args meth c) (hX : XSt D s h0 h H locs cells slots) {a : Nat} {i : Int32} (ht : hT h a = 35 ∨ hT h a = 36 ∨ hT h a = 37 ∨ hT h a = 48) (hin : inb i (hN h a)) (hdg : decode cc pc = .ok (.aaload, 1))
    (kk : W p l e R s m args below meth c H locs cells slots Q (F0 m (pc + 1) ls (rv (hY h a i.toNatClampNeg) :: rest))) : W p l e R s m args below meth c H locs cells slots Q (F0 m pc ls (.int i :: rv a :: rest)) := by
  have hlt : i.toNatClampNeg < hN h a := Nat.not_le.mp fun q => hin (Or.inr q)
  have hne : hT h a ≠ 0 := by omega
  have hc := (hX.1.2.1 a hne).1.2.2.2
  rw [rv_pos (hX.1.pos hne)]
  rcases ht with ht | ht | ht | ht
  all_goals
    rw [ht] at hc
    exact W.aald (v := rv (hY h a i.toNatClampNeg)) hC.1 hC.2.1 (hc (by decide)) ((hC.2.2.2.2.2.2.1.2.2.1 _ (by decide) (by decide)).1 _ _) rfl (fun q => by cases q) (by rw [arrV_size]; exact hin) (by rw [arrV_read _ _ hlt]) rfl rfl hdg kk
end XR
