/-! THE CLASS's SIDE: the typed heap, what it is in the machine's heap, a method's start and end -/
set_option maxRecDepth 100000
/-- tags, lengths, int fields, reference fields, int arrays, long arrays, reference arrays; the heap's size, cells made, slots made. A reference: 0 null, a + 1 the cell a -/
abbrev TH : Type := (Nat → Nat) × (Nat → Nat) × (Nat → Nat → Int32) × (Nat → Nat → Nat) × (Nat → Nat → Int32) × (Nat → Nat → Int64) × (Nat → Nat → Nat) × Nat × Nat × Nat
def hT (h : TH) (a : Nat) : Nat := h.1 a
def hN (h : TH) (a : Nat) : Nat := h.2.1 a
def hI (h : TH) (f a : Nat) : Int32 := h.2.2.1 f a
def hR (h : TH) (f a : Nat) : Nat := h.2.2.2.1 f a
def hA (h : TH) (a i : Nat) : Int32 := h.2.2.2.2.1 a i
def hL (h : TH) (a i : Nat) : Int64 := h.2.2.2.2.2.1 a i
def hY (h : TH) (a i : Nat) : Nat := h.2.2.2.2.2.2.1 a i
def hz (h : TH) : Nat := h.2.2.2.2.2.2.2.1
def hc (h : TH) : Nat := h.2.2.2.2.2.2.2.2.1
def hs (h : TH) : Nat := h.2.2.2.2.2.2.2.2.2
def up2 {α : Type} (F : Nat → Nat → α) (i j : Nat) (v : α) : Nat → Nat → α := fun a b => if a = i ∧ b = j then v else F a b
def up1 {α : Type} (F : Nat → α) (i : Nat) (v : α) : Nat → α := fun a => if a = i then v else F a
def uI (h : TH) (f a : Nat) (v : Int32) : TH := (h.1, h.2.1, up2 h.2.2.1 f a v, h.2.2.2)
def uR (h : TH) (f a : Nat) (v : Nat) : TH := (h.1, h.2.1, h.2.2.1, up2 h.2.2.2.1 f a v, h.2.2.2.2)
def uA (h : TH) (a i : Nat) (v : Int32) : TH := (h.1, h.2.1, h.2.2.1, h.2.2.2.1, up2 h.2.2.2.2.1 a i v, h.2.2.2.2.2)
def uL (h : TH) (a i : Nat) (v : Int64) : TH := (h.1, h.2.1, h.2.2.1, h.2.2.2.1, h.2.2.2.2.1, up2 h.2.2.2.2.2.1 a i v, h.2.2.2.2.2.2)
def uX (h : TH) (a i : Nat) (v : Nat) : TH := (h.1, h.2.1, h.2.2.1, h.2.2.2.1, h.2.2.2.2.1, h.2.2.2.2.2.1, up2 h.2.2.2.2.2.2.1 a i v, h.2.2.2.2.2.2.2)
/-- a new object of a tag, of n slots; a new array of a tag, of length n -/
def nO (h : TH) (t n : Nat) : TH := (up1 h.1 (hz h + 1) t, h.2.1, fun f a => if a = hz h + 1 then 0 else h.2.2.1 f a, fun f a => if a = hz h + 1 then 0 else h.2.2.2.1 f a, h.2.2.2.2.1, h.2.2.2.2.2.1, h.2.2.2.2.2.2.1, hz h + 1, hc h + 1, hs h + n)
def nA (h : TH) (t n : Nat) : TH := (up1 h.1 (hz h + 1) t, up1 h.2.1 (hz h + 1) n, h.2.2.1, h.2.2.2.1, fun a i => if a = hz h + 1 then 0 else h.2.2.2.2.1 a i, fun a i => if a = hz h + 1 then 0 else h.2.2.2.2.2.1 a i, fun a i => if a = hz h + 1 then 0 else h.2.2.2.2.2.2.1 a i, hz h + 1, hc h + 1, hs h + n)
/-- the class's share of the claim's room -/
def XC : Nat := 600000
def XS : Nat := 7200000
def rf (n : Nat) : Option Nat := match n with
  | 0 => none
  | a + 1 => some a
abbrev rv (n : Nat) : Value := va_rf (rf n)
theorem rv_pos {a : Nat} (h : a ≠ 0) : rv a = .ref (a - 1) := by
  cases a with
  | zero => exact absurd rfl h
  | succ n => rfl
theorem rv_cat (a : Nat) : (rv a).category = 1 := by cases a <;> rfl
/-- classes and arrays' classes by tag, slots by tag and place, which cells may be written, the constants' references -/
abbrev XD : Type := (Nat → ClassId) × (Nat → Nat → Nat) × (Nat → Prop) × (Nat → Nat)
def dA (D : XD) : Nat → Prop := D.2.2.1
/-- the superclass's hidden field ahead of its constructor: not known -/
def hskip (h : TH) (a f : Nat) : Prop := f = 49 ∧ hR h 49 a = 0
def xV (h : TH) (a f : Nat) : Value := if gR f = true then rv (hR h f a) else .int (hI h f a)
def xOB (D : XD) (h : TH) (t a : Nat) (H : Heap) : Prop := ∃ cell : Cell, H[a - 1]? = some cell ∧ cell.cls = D.1 t ∧ cell.vm = .none ∧ ∀ k, k < (tfl t).length → ∃ v, cell.slots[D.2.1 t k]? = some v ∧ (hskip h a ((tfl t).getD k 0) ∨ v = xV h a ((tfl t).getD k 0))
def xAt (D : XD) (h : TH) (a : Nat) (H : Heap) : Prop :=
  (tkd (hT h a) = 1 → xOB D h (hT h a) a H) ∧ (tkd (hT h a) = 2 → H[a - 1]? = some (arrV (D.1 (hT h a)) (hN h a) (fun j => .int (hA h a j)))) ∧
  (tkd (hT h a) = 3 → H[a - 1]? = some (arrV (D.1 (hT h a)) (hN h a) (fun j => .long (hL h a j)))) ∧ (tkd (hT h a) = 4 → H[a - 1]? = some (arrV (D.1 (hT h a)) (hN h a) (fun j => rv (hY h a j))))
def XRep (D : XD) (h : TH) (H : Heap) : Prop :=
  hT h 0 = 0 ∧ (∀ a, hT h a ≠ 0 → xAt D h a H ∧ tkd (hT h a) ≠ 0) ∧ H.size = hz h ∧ (∀ a, hT h a ≠ 0 → hT h a ≤ 37 → dA D (a - 1)) ∧ (∀ q, hz h ≤ q → dA D q) ∧ hc h ≤ XC ∧ hs h ≤ XS
def XSt (D : XD) (s : State) (h0 h : TH) (H : Heap) (locs : List Loc) (cells slots : Nat) : Prop := XRep D h H ∧ va_S (dA D) s.heap H locs ∧ cells + hc h0 = hc h ∧ slots + hs h0 = hs h
theorem xAt_lt {D : XD} {h : TH} {a : Nat} {H : Heap} (h1 : xAt D h a H) (h2 : tkd (hT h a) ≠ 0) : a - 1 < H.size := by
  obtain ⟨k1, k2, k3, k4⟩ := h1
  have : tkd (hT h a) = 1 ∨ tkd (hT h a) = 2 ∨ tkd (hT h a) = 3 ∨ tkd (hT h a) = 4 := by
    unfold tkd at h2 ⊢
    repeat' split
    all_goals simp_all
  rcases this with q | q | q | q
  · obtain ⟨cell, hq, -⟩ := k1 q
    exact (Array.getElem?_eq_some_iff.mp hq).1
  · exact (Array.getElem?_eq_some_iff.mp (k2 q)).1
  · exact (Array.getElem?_eq_some_iff.mp (k3 q)).1
  · exact (Array.getElem?_eq_some_iff.mp (k4 q)).1
theorem XRep.pos {D : XD} {h : TH} {H : Heap} (hP : XRep D h H) {a : Nat} (ha : hT h a ≠ 0) : a ≠ 0 := fun q => by subst q; exact ha hP.1
theorem XRep.lt {D : XD} {h : TH} {H : Heap} (hP : XRep D h H) {a : Nat} (ha : hT h a ≠ 0) : a ≤ hz h := by
  have h1 := xAt_lt (hP.2.1 a ha).1 (hP.2.1 a ha).2
  have h2 := hP.2.2.1
  have h3 := hP.pos ha
  omega
/-- a cell is as it was -/
theorem xAt.kept {D : XD} {h : TH} {a : Nat} {H H1 : Heap} (hA : xAt D h a H) (hq : H1[a - 1]? = H[a - 1]?) : xAt D h a H1 := by
  obtain ⟨k1, k2, k3, k4⟩ := hA
  refine ⟨fun q => ?_, fun q => by rw [hq]; exact k2 q, fun q => by rw [hq]; exact k3 q, fun q => by rw [hq]; exact k4 q⟩
  obtain ⟨cell, h1, h2⟩ := k1 q
  exact ⟨cell, by rw [hq]; exact h1, h2⟩
/-- a cell's picture is the same in two typed heaps -/
theorem xAt.same {D : XD} {h h1 : TH} {a : Nat} {H : Heap} (hQ : xAt D h a H) (e1 : hT h1 a = hT h a) (e2 : hN h1 a = hN h a) (e3 : ∀ f, hI h1 f a = hI h f a) (e4 : ∀ f, hR h1 f a = hR h f a) (e5 : ∀ i, hA h1 a i = hA h a i) (e6 : ∀ i, hL h1 a i = hL h a i) (e7 : ∀ i, hY h1 a i = hY h a i) : xAt D h1 a H := by
  obtain ⟨k1, k2, k3, k4⟩ := hQ
  unfold xAt
  rw [e1, e2]
  refine ⟨fun q => ?_, fun q => ?_, fun q => ?_, fun q => ?_⟩
  · obtain ⟨cell, g1, g2, g3, g4⟩ := k1 q
    refine ⟨cell, g1, g2, g3, fun k hk => ?_⟩
    obtain ⟨v, g5, g6⟩ := g4 k hk
    refine ⟨v, g5, ?_⟩
    rcases g6 with g6 | g6
    · exact Or.inl ⟨g6.1, by rw [e4]; exact g6.2⟩
    · refine Or.inr (g6.trans ?_)
      simp only [xV, e3, e4]
  · rw [k2 q]; simp only [e5]
  · rw [k3 q]; simp only [e6]
  · rw [k4 q]; simp only [e7]
/-- one cell, not new, is written -/
theorem XSt.upd {D : XD} {s : State} {h0 h h1 : TH} {H H1 : Heap} {locs : List Loc} {cells slots : Nat} (hP : XSt D s h0 h H locs cells slots) {a k : Nat} (ha : hT h a ≠ 0) (hw : hT h a ≤ 37) (eT : ∀ b, hT h1 b = hT h b) (ez : hz h1 = hz h) (ec : hc h1 = hc h) (es : hs h1 = hs h)
    (hother : ∀ b, b ≠ a → hN h1 b = hN h b ∧ (∀ f, hI h1 f b = hI h f b) ∧ (∀ f, hR h1 f b = hR h f b) ∧ (∀ i, hA h1 b i = hA h b i) ∧ (∀ i, hL h1 b i = hL h b i) ∧ ∀ i, hY h1 b i = hY h b i)
    (z : H1.size = H.size) (oq : ∀ q, q ≠ a - 1 → H1[q]? = H[q]?) (hat : xAt D h1 a H1) : XSt D s h0 h1 H1 (locs ++ [⟨a - 1, k⟩]) cells slots := by
  obtain ⟨⟨p1, p2, p3, p4, p5, p6, p7⟩, hS, hc1, hs1⟩ := hP
  refine ⟨⟨by rw [eT]; exact p1, fun b hb => ?_, by rw [z, ez]; exact p3, fun b hb hb2 => ?_, fun q hq => p5 q (by rw [← ez]; exact hq), by rw [ec]; exact p6, by rw [es]; exact p7⟩, hS.put z oq (p4 a ha hw), by rw [ec]; exact hc1, by rw [es]; exact hs1⟩
  · rw [eT] at hb
    refine ⟨?_, by rw [eT]; exact (p2 b hb).2⟩
    by_cases hba : b = a
    · subst hba; exact hat
    · obtain ⟨o1, o2, o3, o4, o5, o6⟩ := hother b hba
      have hne : b - 1 ≠ a - 1 := by
        have q1 : b ≠ 0 := fun q => by subst q; exact hb p1
        have q2 : a ≠ 0 := fun q => by subst q; exact ha p1
        omega
      exact xAt.same (xAt.kept (p2 b hb).1 (oq _ hne)) (eT b) o1 o2 o3 o4 o5 o6
  · rw [eT] at hb hb2
    exact p4 b hb hb2
/-- one cell is made, at the heap's end -/
theorem XSt.born {D : XD} {s : State} {h0 h h1 : TH} {H H1 : Heap} {locs : List Loc} {cells slots : Nat} (hP : XSt D s h0 h H locs cells slots) {n : Nat} (t : Nat) (ht : 0 < t) (ht2 : t ≤ 37) (hk : tkd t ≠ 0) (eT : ∀ b, hT h1 b = if b = hz h + 1 then t else hT h b) (ez : hz h1 = hz h + 1) (ec : hc h1 = hc h + 1) (es : hs h1 = hs h + n) (hroom : hc h + 1 ≤ XC ∧ hs h + n ≤ XS)
    (hother : ∀ b, b ≠ hz h + 1 → hN h1 b = hN h b ∧ (∀ f, hI h1 f b = hI h f b) ∧ (∀ f, hR h1 f b = hR h f b) ∧ (∀ i, hA h1 b i = hA h b i) ∧ (∀ i, hL h1 b i = hL h b i) ∧ ∀ i, hY h1 b i = hY h b i)
    (z : H1.size = H.size + 1) (oq : ∀ q, q < H.size → H1[q]? = H[q]?) (hat : xAt D h1 (hz h + 1) H1) : XSt D s h0 h1 H1 locs (cells + 1) (slots + n) := by
  have hlt : ∀ b, hT h b ≠ 0 → b ≤ hz h := fun b hb => hP.1.lt hb
  obtain ⟨⟨p1, p2, p3, p4, p5, p6, p7⟩, hS, hc1, hs1⟩ := hP
  refine ⟨⟨by rw [eT, if_neg (by omega)]; exact p1, fun b hb => ?_, by omega, fun b hb hb2 => ?_, fun q hq => p5 q (by omega), by omega, by omega⟩, ⟨by have := hS.1; omega, fun q h1 h2 => (oq q (Nat.lt_of_lt_of_le h1 hS.1)).trans (hS.2.1 q h1 h2), hS.2.2⟩, by omega, by omega⟩
  · by_cases hba : b = hz h + 1
    · subst hba; exact ⟨hat, by rw [eT, if_pos rfl]; exact hk⟩
    · rw [eT, if_neg hba] at hb
      obtain ⟨o1, o2, o3, o4, o5, o6⟩ := hother b hba
      have := hlt b hb
      have hb0 : b ≠ 0 := fun q => by subst q; exact hb p1
      exact ⟨xAt.same (xAt.kept (p2 b hb).1 (oq _ (by omega))) (by rw [eT, if_neg hba]) o1 o2 o3 o4 o5 o6, by rw [eT, if_neg hba]; exact (p2 b hb).2⟩
  · by_cases hba : b = hz h + 1
    · subst hba; exact p5 _ (by simp)
    · rw [eT, if_neg hba] at hb hb2
      exact p4 b hb hb2
