set_option maxRecDepth 100000
/-! THE MACHINE's STATE and what is done with it -/
/-- a look that is told: path, time, when untold -/
abbrev Tl : Type := Nat × Nat × Option Nat
/-- a game: whether there is one, answer, steps, row, cards -/
abbrev Gm : Type := Bool × Int32 × Nat × Nat × Nat
/-- tape, fault's kind and place, recipe, looks told, time, the draw's number, game, boxes -/
abbrev St : Type := List Int32 × (Nat × Int32) × Rc × List Tl × Nat × Int32 × Gm × (Nat → Option (List Tl × Int32))
def zTp (S : St) : List Int32 := S.1
def zF (S : St) : Nat × Int32 := S.2.1
def zR (S : St) : Rc := S.2.2.1
def zL (S : St) : List Tl := S.2.2.2.1
def zT (S : St) : Nat := S.2.2.2.2.1
def zW (S : St) : Int32 := S.2.2.2.2.2.1
def zG (S : St) : Gm := S.2.2.2.2.2.2.1
def zB (S : St) : Nat → Option (List Tl × Int32) := S.2.2.2.2.2.2.2
def okT (R : Rc) (time : Nat) (t : Tl) : Prop := t.1 < (pths R).length ∧ t.2.1 ≤ time ∧ ∀ u, t.2.2 = some u → u ≤ time
def okSt (S : St) : Prop := (zTp S).length ≤ 1600 ∧ okQ (zR S) ∧ (zL S).length ≤ 20 ∧ (∀ t ∈ zL S, okT (zR S) (zT S) t) ∧ ((zL S).length ≠ 0 → (pths (zR S)).length ≤ 200) ∧ zT S ≤ 100000 ∧ (zG S).2.2.1 ≤ 40 ∧ (zG S).2.2.2.1 < 256 ∧ (zG S).2.2.2.2 ≤ 8 ∧
  ∀ j l w, zB S j = some (l, w) → l.length ≤ 20 ∧ (∀ t ∈ l, okT (zR S) (zT S) t) ∧ (l.length ≠ 0 → (pths (zR S)).length ≤ 200)
/-- a byte of a number -/
def tb (v : Int32) (k : Nat) : Int32 := (v >>> n32 k).toInt8.toInt32
def byts (v : Int32) : List Int32 := [tb v 24, tb v 16, tb v 8, tb v 0]
def o_feed (a b c d e : Int32) (S : St) : Int32 × St := if 1600 < (zTp S).length + 20 then (-1, S) else (n32 ((zTp S).length + 20), (zTp S ++ (byts a ++ byts b ++ byts c ++ byts d ++ byts e), S.2))
def o_end (n : Int32) (S : St) : Int32 × St := match ixo n ((zTp S).length + 1) with
  | none => (-1, S)
  | some k => (n, ((zTp S).take k, S.2))
def o_fault (w : Int32) (S : St) : Int32 := if w = 0 then n32 (zF S).1 else if w = 1 then (zF S).2 else -1
def o_tell (p : Int32) (S : St) : Int32 × St := if 200 < (pths (zR S)).length then (-1, S) else match ixo p (pths (zR S)).length with
  | none => (-1, S)
  | some k => if (zL S).length = 20 then (-1, S) else (n32 (zL S).length, (zTp S, zF S, zR S, zL S ++ [(k, zT S, none)], S.2.2.2.2))
def o_untell (n : Int32) (S : St) : Int32 × St := match ixo n (zL S).length with
  | none => (0, S)
  | some k => if ((zL S).getD k default).2.2 = none then (1, (zTp S, zF S, zR S, (zL S).set k (((zL S).getD k default).1, ((zL S).getD k default).2.1, some (zT S)), S.2.2.2.2)) else (0, S)
def o_later (y : Int32) (S : St) : Int32 × St := match ixo y 1001 with
  | none => (-1, S)
  | some k => if zT S + k ≤ 100000 then (n32 (zT S + k), (zTp S, zF S, zR S, zL S, zT S + k, S.2.2.2.2.2)) else (-1, S)
/-- whether a look is known at a time -/
def knwn (t : Tl) (k : Int32) : Bool := decide (n32 t.2.1 ≤ k) && (match t.2.2 with
  | none => true
  | some u => decide (k < n32 u))
def cst (i : Nat) (s : Int32) : Int32 := s &&& (((1 : Int32) <<< (n32 i &&& 31)) ^^^ (-1 : Int32))
def canI (R : Rc) (p : Nat) : Nat → Int32 → Int32
  | 0, s => s
  | i + 1, s => if wysS ((pths R).getD p default) i = 0 then cst i (canI R p i s) else canI R p i s
def canL (R : Rc) (k : Int32) : List Tl → Int32 → Int32
  | [], s => s
  | t :: l, s => canL R k l (if knwn t k then canI R t.1 (rN R) s else s)
def o_can (k : Int32) (S : St) : Int32 := canL (zR S) k (zL S) (((1 : Int32) <<< (n32 (rN (zR S)) &&& 31)) - 1)
def q_bent (c : Int32) (sec : Bool) (R : Rc) (r : Int32) : Prop := match ixo c 8 with
  | none => r = -1
  | some c => q_closed R (1, c, 0) sec r
def q_counted (i : Int32) (sec : Bool) (R : Rc) (r : Int32) : Prop := match ixo i (mixNo (rX R) (rX R).length) with
  | none => r = -1
  | some k => q_closed R (2, k, 0) sec r
def o_cheat (p : Int32) (red : Bool) (R : Rc) : Int32 := match ixo p (rP R) with
  | none => -1
  | some k => p_cheat R (3, k, if red then 1 else 0)
def o_seed (w : Int32) (S : St) : Int32 × St := (zW S, (zTp S, zF S, zR S, zL S, zT S, w, S.2.2.2.2.2.2))
def o_image (j : Int32) (S : St) : Int32 × St := match ixo j 3 with
  | none => (-1, S)
  | some k => (n32 (zL S).length, (zTp S, zF S, zR S, zL S, zT S, zW S, zG S, fun i => if i = k then some (zL S, zW S) else zB S i))
def o_back (j : Int32) (S : St) : Int32 × St := match ixo j 3 with
  | none => (-1, S)
  | some k => match zB S k with
    | none => (-1, S)
    | some (l, w) => (n32 l.length, (zTp S, zF S, zR S, l, zT S, w, S.2.2.2.2.2.2))
def o_played (w : Int32) (S : St) : Int32 := if (zG S).1 = false then -1 else if w = 0 then (zG S).2.1 else if w = 1 then n32 (zG S).2.2.1 else if w = 2 then n32 (zG S).2.2.2.1 else if w = 3 then n32 (zG S).2.2.2.2 else -1
/-! the reference's state -/
def MTl (σ : MS) (fp ft fu k : Nat) (t : Tl) : Prop := mA σ fp k = n32 t.1 ∧ mA σ ft k = n32 t.2.1 ∧ mA σ fu k = kn32 t.2.2
def MLk (σ : MS) (fp ft fu o : Nat) (l : List Tl) : Prop := ∀ k t, l[k]? = some t → MTl σ fp ft fu (o + k) t
def MBx (σ : MS) (j : Nat) (q : Option (List Tl × Int32)) : Prop := match q with
  | none => mA σ 84 j = -1
  | some (l, w) => mA σ 84 j = n32 l.length ∧ mA σ 85 j = w ∧ MLk σ 86 87 88 (20 * j) l
def E67 (σ : MS) : Prop := (∃ sec : Bool, mI σ 67 = if sec then 1 else 0) ∧ ∃ w, w < 100 ∧ mI σ 52 = n32 w
def MR (σ : MS) (S : St) : Prop :=
  (∃ b, MRc σ b (zR S)) ∧ MPt σ (zR S) ∧ E54 σ ∧ E67 σ ∧ (mI σ 2 = n32 (zTp S).length ∧ ∀ k v, (zTp S)[k]? = some v → mA σ 0 k = v) ∧ (mI σ 4 = n32 (zF S).1 ∧ mI σ 5 = (zF S).2) ∧
  (mI σ 82 = n32 (zL S).length ∧ MLk σ 79 80 81 0 (zL S)) ∧ mI σ 83 = n32 (zT S) ∧ mI σ 72 = zW S ∧ (mI σ 77 = (if (zG S).1 then 1 else 0) ∧ ((zG S).1 = true → mI σ 73 = (zG S).2.1 ∧ mI σ 74 = n32 (zG S).2.2.1 ∧ mI σ 75 = n32 (zG S).2.2.2.1 ∧ mI σ 76 = n32 (zG S).2.2.2.2)) ∧ ∀ j, j < 3 → MBx σ j (zB S j)
/-- what the tree and the work arrays do leaves the rest as it is -/
theorem MR.fr {is as ls : List Nat} {σ τ : MS} {S : St} (h : MR σ S) (f : Fr is as ls σ τ) (h1 : ∀ j ∈ is, j = 51 ∨ j = 52 ∨ j = 53 ∨ j = 54 ∨ j = 55 ∨ j = 64 ∨ j = 66 ∨ j = 67 ∨ j = 68 ∨ j = 69 ∨ j = 70) (h2 : ∀ j ∈ as, (32 ≤ j ∧ j ≤ 56) ∨ j = 78 ∨ j = 1) (h3 : ∀ j ∈ ls, j = 43 ∨ j = 44 ∨ j = 71) (h54 : E54 τ) (h67 : E67 τ) : MR τ S := by
  have gI : ∀ j, ¬ (j = 51 ∨ j = 52 ∨ j = 53 ∨ j = 54 ∨ j = 55 ∨ j = 64 ∨ j = 66 ∨ j = 67 ∨ j = 68 ∨ j = 69 ∨ j = 70) → mI τ j = mI σ j := fun j q => f.1 j fun z => q (h1 j z)
  have gA : ∀ j, ¬ ((32 ≤ j ∧ j ≤ 56) ∨ j = 78 ∨ j = 1) → mA τ j = mA σ j := fun j q => f.2.1 j fun z => q (h2 j z)
  obtain ⟨⟨b, a1⟩, a2, a3, a4, a5, a6, a7, a8, a9, a10, a11⟩ := h
  refine ⟨⟨b, a1.fr f (fun z => by have := h1 _ z; omega) (fun j x y z => by have := h2 _ z; omega)⟩, a2.fr f (fun z => by have := h1 _ z; omega) (fun z => by have := h1 _ z; omega) (fun j x y z => by have := h2 _ z; omega) (fun z => by have := h3 _ z; omega) (fun z => by have := h3 _ z; omega), h54, h67, ?_, ?_, ?_, ?_, ?_, ?_, ?_⟩
  · rw [gI 2 (by omega), gA 0 (by omega)]; exact a5
  · rw [gI 4 (by omega), gI 5 (by omega)]; exact a6
  · refine ⟨by rw [gI 82 (by omega)]; exact a7.1, fun k t hk => ?_⟩
    have := a7.2 k t hk
    unfold MTl at this ⊢
    rw [gA 79 (by omega), gA 80 (by omega), gA 81 (by omega)]; exact this
  · rw [gI 83 (by omega)]; exact a8
  · rw [gI 72 (by omega)]; exact a9
  · rw [gI 77 (by omega), gI 73 (by omega), gI 74 (by omega), gI 75 (by omega), gI 76 (by omega)]; exact a10
  · intro j hj
    have := a11 j hj
    unfold MBx at this ⊢
    split
    · rename_i e; rw [e] at this; rw [gA 84 (by omega)]; exact this
    · rename_i l w e
      rw [e] at this
      obtain ⟨x1, x2, x3⟩ := this
      refine ⟨by rw [gA 84 (by omega)]; exact x1, by rw [gA 85 (by omega)]; exact x2, fun k t hk => ?_⟩
      have := x3 k t hk
      unfold MTl at this ⊢
      rw [gA 86 (by omega), gA 87 (by omega), gA 88 (by omega)]; exact this
