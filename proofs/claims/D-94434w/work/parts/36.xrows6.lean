/-! rows over the typed heap: references on the stack; what a decompiled text of the class is made of -/
set_option maxRecDepth 100000
theorem rf_inj {a b : Nat} (h : rf a = rf b) : a = b := by
  cases a <;> cases b <;> simp_all [rf]
section XR
variable {p : Program} {l : Launch} {e : Env} {R : Room} {s : State} {m : MethodId} {args : Array Value} {below : List Frame} {meth : Method} {c : Code} {H : Heap} {locs : List Loc} {cells slots : Nat} {Q : State → Prop} {cc : ByteArray} {pc : Nat} {ls : Array Slot} {rest : List Value}
theorem X_null (hexec : p.tables.exec = Jvm.exec) (hb : c.code = cc) (hdg : decode cc pc = .ok (.aconst_null, 1)) (k : W p l e R s m args below meth c H locs cells slots Q (F0 m (pc + 1) ls (rv 0 :: rest))) : W p l e R s m args below meth c H locs cells slots Q (F0 m pc ls rest) := lv_null hexec hb hdg k
theorem X_ifnull (hexec : p.tables.exec = Jvm.exec) (hb : c.code = cc) {a : Nat} {off : Int} {tgt : Nat} (hdg : decode cc pc = .ok (.ifnull off, 3)) (ht : (pc : Int) + off = (tgt : Int)) (kt : a = 0 → W p l e R s m args below meth c H locs cells slots Q (F0 m tgt ls rest)) (kf : ¬ a = 0 → W p l e R s m args below meth c H locs cells slots Q (F0 m (pc + 3) ls rest)) : W p l e R s m args below meth c H locs cells slots Q (F0 m pc ls (rv a :: rest)) := by
  cases a with
  | zero => exact lv_ifnullN hexec hb hdg ht (kt rfl)
  | succ n => exact lv_ifnull hexec hb hdg (kf (by omega))
theorem X_ifnonnull (hexec : p.tables.exec = Jvm.exec) (hb : c.code = cc) {a : Nat} {off : Int} {tgt : Nat} (hdg : decode cc pc = .ok (.ifnonnull off, 3)) (ht : (pc : Int) + off = (tgt : Int)) (kt : ¬ a = 0 → W p l e R s m args below meth c H locs cells slots Q (F0 m tgt ls rest)) (kf : a = 0 → W p l e R s m args below meth c H locs cells slots Q (F0 m (pc + 3) ls rest)) : W p l e R s m args below meth c H locs cells slots Q (F0 m pc ls (rv a :: rest)) := by
  cases a with
  | zero => exact lv_ifnonnullN hexec hb hdg (kf rfl)
  | succ n => exact lv_ifnonnull hexec hb hdg ht (kt (by omega))
theorem X_aload_n (hexec : p.tables.exec = Jvm.exec) (hb : c.code = cc) {k : Fin 4} {i a : Nat} (hdg : decode cc pc = .ok (.aload_n k, 1)) (hi : (k : Nat) = i) (hl : ls[i]? = some (.val (rv a))) (kk : W p l e R s m args below meth c H locs cells slots Q (F0 m (pc + 1) ls (rv a :: rest))) : W p l e R s m args below meth c H locs cells slots Q (F0 m pc ls rest) := by
  cases a with
  | zero => exact lv_aload_nN hexec hb hdg hi hl kk
  | succ n => exact lv_aload_n hexec hb hdg hi hl kk
theorem X_aload (hexec : p.tables.exec = Jvm.exec) (hb : c.code = cc) {i a : Nat} (hdg : decode cc pc = .ok (.aload i, 2)) (hl : ls[i]? = some (.val (rv a))) (kk : W p l e R s m args below meth c H locs cells slots Q (F0 m (pc + 2) ls (rv a :: rest))) : W p l e R s m args below meth c H locs cells slots Q (F0 m pc ls rest) := by
  cases a with
  | zero => exact lv_aloadN hexec hb hdg hl kk
  | succ n => exact lv_aload hexec hb hdg hl kk
theorem X_astore_n (hexec : p.tables.exec = Jvm.exec) (hb : c.code = cc) {k : Fin 4} {i nL a : Nat} {lv lv' : List (Nat × Value)} (hdg : decode cc pc = .ok (.astore_n k, 1)) (hi : (k : Nat) = i) (h : lv_has ls nL lv) (hn : i < nL) (hl : (i, rv a) :: lv.filter (fun q => !(q.1 == i) && !(q.1 + 1 == i && q.2.category == 2)) = lv')
    (kk : ∀ ls' : Array Slot, lv_has ls' nL lv' → W p l e R s m args below meth c H locs cells slots Q (F0 m (pc + 1) ls' rest)) : W p l e R s m args below meth c H locs cells slots Q (F0 m pc ls (rv a :: rest)) := by
  cases a with
  | zero => exact lv_astore_nN hexec hb hdg hi h hn hl kk
  | succ n => exact lv_astore_n hexec hb hdg hi h hn hl kk
theorem X_astore (hexec : p.tables.exec = Jvm.exec) (hb : c.code = cc) {i nL a : Nat} {lv lv' : List (Nat × Value)} (hdg : decode cc pc = .ok (.astore i, 2)) (h : lv_has ls nL lv) (hn : i < nL) (hl : (i, rv a) :: lv.filter (fun q => !(q.1 == i) && !(q.1 + 1 == i && q.2.category == 2)) = lv')
    (kk : ∀ ls' : Array Slot, lv_has ls' nL lv' → W p l e R s m args below meth c H locs cells slots Q (F0 m (pc + 2) ls' rest)) : W p l e R s m args below meth c H locs cells slots Q (F0 m pc ls (rv a :: rest)) := by
  cases a with
  | zero => exact lv_astoreN hexec hb hdg h hn hl kk
  | succ n => exact lv_astore hexec hb hdg h hn hl kk
/-- behind a store: the list that is wanted -/
theorem lv_subS {nL i : Nat} {v : Value} {P : Nat × Value → Bool} {lv lv' : List (Nat × Value)} (h : lv_has ls nL ((i, v) :: lv.filter P)) (hs : ∀ q ∈ lv', q = (i, v) ∨ (q ∈ lv ∧ P q = true)) : lv_has ls nL lv' := by
  refine ⟨h.1, h.2.1, fun q hq => h.2.2 q ?_⟩
  rcases hs q hq with e | ⟨e1, e2⟩
  · rw [e]; exact List.mem_cons_self
  · exact List.mem_cons_of_mem _ (List.mem_filter.mpr ⟨e1, e2⟩)
theorem X_acmp_eq (hexec : p.tables.exec = Jvm.exec) (hb : c.code = cc) {x y : Nat} {off : Int} {tgt : Nat} (hdg : decode cc pc = .ok (.if_acmp .eq off, 3)) (ht : (pc : Int) + off = (tgt : Int)) (kt : x = y → W p l e R s m args below meth c H locs cells slots Q (F0 m tgt ls rest)) (kf : ¬ x = y → W p l e R s m args below meth c H locs cells slots Q (F0 m (pc + 3) ls rest)) : W p l e R s m args below meth c H locs cells slots Q (F0 m pc ls (rv y :: rv x :: rest)) :=
  lv_acmp_eq hexec hb hdg ht (fun q => kt (rf_inj q)) (fun q => kf (fun e => q (by rw [e])))
theorem X_acmp_ne (hexec : p.tables.exec = Jvm.exec) (hb : c.code = cc) {x y : Nat} {off : Int} {tgt : Nat} (hdg : decode cc pc = .ok (.if_acmp .ne off, 3)) (ht : (pc : Int) + off = (tgt : Int)) (kt : ¬ x = y → W p l e R s m args below meth c H locs cells slots Q (F0 m tgt ls rest)) (kf : x = y → W p l e R s m args below meth c H locs cells slots Q (F0 m (pc + 3) ls rest)) : W p l e R s m args below meth c H locs cells slots Q (F0 m pc ls (rv y :: rv x :: rest)) :=
  lv_acmp_ne hexec hb hdg ht (fun q => kt (fun e => q (by rw [e]))) (fun q => kf (rf_inj q))
theorem lv_topr {a : Nat} (k : ∀ y : Nat, y = a → W p l e R s m args below meth c H locs cells slots Q (F0 m pc ls (rv y :: rest))) : W p l e R s m args below meth c H locs cells slots Q (F0 m pc ls (rv a :: rest)) := k a rfl
end XR
theorem cat_le (v : Value) : v.category ≤ 2 := by cases v <;> simp [Value.category]
theorem cat4 {st : List Value} (h : st.length ≤ 4) : (st.map fun v => v.category).sum ≤ 8 := by
  have : ∀ st : List Value, (st.map fun v => v.category).sum ≤ 2 * st.length := by
    intro st
    induction st with
    | nil => simp
    | cons a l ih => simp only [List.map_cons, List.sum_cons, List.length_cons]; have := cat_le a; omega
  have := this st
  omega
/-- a call of a method that may throw -/
def bt {α β : Type} (o : Option ((α ⊕ Nat) × TH)) (k : α → TH → Option ((β ⊕ Nat) × TH)) : Option ((β ⊕ Nat) × TH) := match o with
  | none => none
  | some (.inl v, h) => k v h
  | some (.inr z, h) => some (.inr z, h)
theorem bt_ok {α β : Type} {o : Option ((α ⊕ Nat) × TH)} {k : α → TH → Option ((β ⊕ Nat) × TH)} {x : (β ⊕ Nat) × TH} (h : bt o k = some x) : (∃ v h1, o = some (.inl v, h1) ∧ k v h1 = some x) ∨ ∃ z h1, o = some (.inr z, h1) ∧ x = (.inr z, h1) := by
  cases o with
  | none => cases h
  | some q =>
    obtain ⟨q, h1⟩ := q
    cases q with
    | inl v => exact Or.inl ⟨v, h1, rfl, h⟩
    | inr z => exact Or.inr ⟨z, h1, rfl, (Option.some.inj h).symm⟩
def ocI (r : Int32 ⊕ Nat) : Outcome := match r with
  | .inl v => .returned (some (.int v))
  | .inr z => .threw (z - 1)
def ocR (r : Nat ⊕ Nat) : Outcome := match r with
  | .inl v => .returned (some (rv v))
  | .inr z => .threw (z - 1)
def ocV (r : Unit ⊕ Nat) : Outcome := match r with
  | .inl _ => .returned none
  | .inr z => .threw (z - 1)
/-- the machine is at pc with these locals and this stack, the typed heap h: it comes to the method's end -/
def XJ (p : Program) (l : Launch) (e : Env) (R : Room) (s : State) (m : MethodId) (args : Array Value) (below : List Frame) (meth : Method) (c : Code) (D : XD) (nL : Nat) (o : Outcome) (h0 h1 : TH) (pc : Nat) (lv : List (Nat × Value)) (st : List Value) (h : TH) : Prop :=
  ∀ (H : Heap) (locs : List Loc) (cells slots : Nat) (ls : Array Slot), XSt D s h0 h H locs cells slots → lv_has ls nL lv → W p l e R s m args below meth c H locs cells slots (XMQ below D o h0 h1 s) (F0 m pc ls st)
theorem lw_U {own : String} {idx : Nat} {C owner : String} {x y : MethodName} {b : ByteArray} {L : Nat} {r : Option FieldType} (h1 : Cond.methodLink own idx x ∈ lw_all) (h2 : Cond.sameMethod x.cls owner x.name x.desc ∈ lw_all) (h3 : Cond.selects C x y ∈ lw_all) (h4 : Cond.instanceMethod y ∈ lw_all) (h5 : Cond.initialized y.cls ∈ lw_all) (h6 : Cond.code y b L r ∈ lw_all) : GoodIn lw_all (va_wsU own idx C owner x y (ws_ y b L r)) := by
  refine lw_app ?_ (lw_meth h6)
  intro w hw
  simp only [List.mem_cons, List.not_mem_nil, or_false] at hw
  rcases hw with e | e | e | e | e
  · rw [e]; exact h1
  · rw [e]; exact h2
  · rw [e]; exact h3
  · rw [e]; exact h4
  · rw [e]; exact h5
theorem lw_O {own : String} {idx : Nat} {C owner : String} {x y : MethodName} {b : ByteArray} {L : Nat} {r : Option FieldType} (h1 : Cond.methodLink own idx x ∈ lw_all) (h2 : Cond.sameMethod x.cls owner x.name x.desc ∈ lw_all) (h2' : Cond.instanceMethod ⟨owner, x.name, x.desc⟩ ∈ lw_all) (h3 : Cond.selects C x y ∈ lw_all) (h4 : Cond.instanceMethod y ∈ lw_all) (h5 : Cond.initialized y.cls ∈ lw_all) (h6 : Cond.code y b L r ∈ lw_all) : GoodIn lw_all (va_wsO own idx C owner x y (ws_ y b L r)) := by
  refine lw_app ?_ (lw_meth h6)
  intro w hw
  simp only [List.mem_cons, List.not_mem_nil, or_false] at hw
  rcases hw with e | e | e | e | e | e
  · rw [e]; exact h1
  · rw [e]; exact h2
  · rw [e]; exact h2'
  · rw [e]; exact h3
  · rw [e]; exact h4
  · rw [e]; exact h5
theorem lw_F {own : String} {idx : Nat} {C : String} {x y : MethodName} {b : ByteArray} {L : Nat} {r : Option FieldType} (h1 : Cond.methodLink own idx x ∈ lw_all) (h3 : Cond.selects C x y ∈ lw_all) (h4 : Cond.instanceMethod y ∈ lw_all) (h5 : Cond.initialized y.cls ∈ lw_all) (h6 : Cond.code y b L r ∈ lw_all) : GoodIn lw_all (va_wsF own idx C x y (ws_ y b L r)) := by
  refine lw_app ?_ (lw_meth h6)
  intro w hw
  simp only [List.mem_cons, List.not_mem_nil, or_false] at hw
  rcases hw with e | e | e | e
  · rw [e]; exact h1
  · rw [e]; exact h3
  · rw [e]; exact h4
  · rw [e]; exact h5
theorem nb_nar {v : Int32} (h : Int8.toInt32 (Int32.toInt8 v) = v) : narrow .byte (.int v) = .int v ∧ fits .byte (.int v) = true := by
  rw [← h]
  exact ⟨pk_nb v, pk_fb v⟩
theorem nc_nar {v : Int32} (h : (Int32.toUInt32 v % 65536).toInt32 = v) : narrow .char (.int v) = .int v ∧ fits .char (.int v) = true := by
  rw [← h]
  exact ⟨pk_nc v, pk_fc v⟩
/-- a switch by keys whose keys are all missed -/
theorem look_miss (n : Int) (dflt : Int) : ∀ ps : List (Int × Int), (∀ k ∈ ps.map (·.1), n ≠ k) → Op.lookupswitch.offset ps dflt n = dflt
  | [], _ => rfl
  | q :: ps, h => by
    have h1 := h q.1 (by simp)
    have h2 := look_miss n dflt ps (fun k hk => h k (by simp at hk ⊢; exact Or.inr hk))
    obtain ⟨a, b⟩ := q
    simp only [Op.lookupswitch.offset]
    rw [if_neg (fun e => h1 (by first | exact e | exact e.symm | (simp at e; exact e) | (simp at e; exact e.symm)))]
    exact h2
theorem lv_lookupD {p : Program} {l : Launch} {e : Env} {R : Room} {s : State} {m : MethodId} {args : Array Value} {below : List Frame} {meth : Method} {c : Code} {H : Heap} {locs : List Loc} {cells slots : Nat} {Q : State → Prop} {cc : ByteArray} {pc : Nat} {ls : Array Slot} {rest : List Value} (hexec : p.tables.exec = Jvm.exec) (hb : c.code = cc) {dflt : Int} {ps : Array (Int × Int)} {len : Nat} {x : Int32} {tgt : Nat} (hdg : decode cc pc = .ok (.lookupswitch dflt ps, len)) (hp : (ps.toList.zip (ps.toList.drop 1)).all (fun (a, next) => a.1 < next.1) = true) (hne : ∀ k ∈ ps.toList.map (·.1), x.toInt ≠ k) (ht : (pc : Int) + dflt = (tgt : Int))
    (k : W p l e R s m args below meth c H locs cells slots Q (F0 m tgt ls rest)) : W p l e R s m args below meth c H locs cells slots Q (F0 m pc ls (.int x :: rest)) :=
  lv_lookup hexec hb hdg hp (look_miss _ _ _ hne) ht k
theorem cat_i (v : Int32) : (Value.int v).category = 1 := rfl
theorem cat_l (v : Int64) : (Value.long v).category = 2 := rfl
theorem objlo {n R : Nat} (h : n ≤ 8) (h2 : 20 ≤ R) : n + 12 ≤ R := by omega
theorem cplo {n k R : Nat} (h : n ≤ 8) (h2 : 8 + k ≤ R) : n + k ≤ R := by omega
