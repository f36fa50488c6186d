set_option maxRecDepth 100000
/-! THE MACHINE: a game -/
/-- answer, steps, row, cards, what was seen, looks, the draw's number -/
abbrev Pl : Type := Int32 × Nat × Nat × Nat × (Nat → Nat) × List Nat × Int32
def yA (g : Pl) : Int32 := g.1
def yS (g : Pl) : Nat := g.2.1
def yR (g : Pl) : Nat := g.2.2.1
def yC (g : Pl) : Nat := g.2.2.2.1
def ySn (g : Pl) : Nat → Nat := g.2.2.2.2.1
def yLk (g : Pl) : List Nat := g.2.2.2.2.2.1
def yW (g : Pl) : Int32 := g.2.2.2.2.2.2
def drw (w : Int32) : Int32 := w * 1103515245 + 12345
def drv (w : Int32) (n : Nat) : Nat := (w.toUInt32.toNat >>> 16) % n
def tick (g : Pl) : Pl := (yA g, yS g + 1, yR g, yC g, ySn g, yLk g, yW g)
def card1 (red : Nat) (g : Pl) : Pl := (yA g, yS g, yR g ||| (red <<< yC g), yC g + 1, ySn g, yLk g, yW g)
def layG (x : Stq) (i : Nat) (g : Pl) : Pl := if sT x = 0 then card1 (redOf (0, 0, 0) x 0 i) (card1 (redOf (0, 0, 0) x 1 i) g) else card1 (redOf (0, 0, 0) x 1 i) g
def movG (x : Stq) (g : Pl) : Pl := if 4 ≤ sT x then (yA g, yS g, mvr (sfr x (drv (drw (yW g)) (wys x))) (yR g), yC g, ySn g, yLk g, drw (yW g)) else (yA g, yS g, mvr (sfr x 0) (yR g), yC g, ySn g, yLk g, yW g)
def seeG (x : Stq) (g : Pl) : Pl := (yA g, yS g, yR g, yC g, seeS x (colS x (yR g)) (ySn g), yLk g ++ [colS x (yR g)], yW g)
def ansG (a : Int32) (g : Pl) : Pl := (a, yS g, yR g, yC g, ySn g, yLk g, yW g)
def plG (xs : List Stq) (i : Nat) : Nat → Nat → Pl → Pl
  | 0, _, g => g
  | f + 1, pc, g => match xs[pc]? with
    | none => g
    | some x =>
      if sT x ≤ 1 then (if yC g + layN x ≤ 8 then plG xs i f (pc + 1) (layG x i (tick g)) else tick g)
      else if sT x ≤ 7 then (if need x ≤ yC g then plG xs i f (pc + 1) (movG x (tick g)) else tick g)
      else if sT x = 8 then (if need x ≤ yC g then plG xs i f (pc + 1) (seeG x (tick g)) else tick g)
      else if sT x = 9 then (if ySn g (s1 x) = s2 x + 1 then plG xs i f (s3 x + 1) (tick g) else plG xs i f (pc + 1) (tick g))
      else if sT x = 11 then ansG (if need x ≤ yC g then ansS 1 x (yR g) else -1) (tick g)
      else if sT x = 12 then ansG (n32 (s1 x)) (tick g)
      else plG xs i f (pc + 1) (tick g)
def pl0 (w : Int32) : Pl := (-1, 0, 0, 0, fun _ => 0, [], w)
def playS (S : St) (i : Nat) : Pl := plG (rX (zR S)) i ((rX (zR S)).length + 1) 0 (pl0 (zW S))
def o_playS (S : St) (g : Pl) : St := (zTp S, zF S, zR S, zL S, zT S, yW g, (true, yA g, yS g, yR g, yC g), zB S)
/-- what a game answers: the path that was gone -/
def q_play (i : Int32) (S : St) (r : Int32) (S' : St) : Prop := match ixo i (rN (zR S)) with
  | none => r = -1 ∧ S' = S
  | some i => if 200 < (pths (zR S)).length then r = -2 ∧ S' = S else fstS (pths (zR S)).length (fun p => lfK ((pths (zR S)).getD p default) = yLk (playS S i)) r ∧ S' = o_playS S (playS S i)
