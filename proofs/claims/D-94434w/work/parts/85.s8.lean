set_option maxRecDepth 100000
/-! THE MACHINE: rows of moves are sought -/
/-- the start: all lays till a ninth card -/
def strt (N : Nat) : List Stq → Lv → Lv
  | [], v => v
  | x :: l, v => if sT x ≤ 1 then (if vC v + layN x ≤ 8 then strt N l (layS N (0, 0, 0) x v) else v) else strt N l v
def strtR (R : Rc) : Lv := strt (rN R) (rX R) (lv0 (rN R))
def o_about (w : Int32) (S : St) : Int32 :=
  if w = 0 then n32 (rP (zR S)) else if w = 1 then n32 (rX (zR S)).length else if w = 2 then n32 (rY (zR S)).length else if w = 3 then n32 (rO (zR S)).length else if w = 4 then n32 (vC (strtR (zR S))) else if w = 5 then n32 (zL S).length else if w = 6 then n32 (zT S) else if w = 7 then n32 (zTp S).length else if w = 8 then zW S else if w = 9 then n32 (rU (zR S)) else -1
theorem redOf_0 (x : Stq) (first i a b : Nat) : redOf (0, a, b) x first i = redOf (0, 0, 0) x first i := by unfold redOf; simp
theorem lay1_0 (N : Nat) (x : Stq) (first a b : Nat) (v : Lv) : lay1 N (0, a, b) x first v = lay1 N (0, 0, 0) x first v := by
  unfold lay1
  simp only [redOf_0 x first _ a b]
  rfl
theorem layS_0 (N : Nat) (x : Stq) (a b : Nat) (v : Lv) : layS N (0, a, b) x v = layS N (0, 0, 0) x v := by
  unfold layS
  simp only [lay1_0 N x _ a b]
