set_option maxRecDepth 100000
/-! THE MACHINE: rows of moves are sought -/
/-- ways of an input to rows that are seen as so -/
def clS (x : Stq) (D : Dst) (i c : Nat) : Nat := sm 256 fun r => if colS x r = c then D i r else 0
/-- what is seen tells the answer, and nothing else -/
def telS (N : Nat) (ak : Nat → Int32) (x : Stq) (D : Dst) : Prop := ∀ c i j, c < 2 ^ (sl x).length → i < N → j < i → (ak i = ak j → clS x D i c = clS x D j c) ∧ (ak i ≠ ak j → clS x D i c = 0 ∨ clS x D j c = 0)
/-- the digits of a row of moves, the first one highest -/
def digs (m : Nat) : Nat → Nat → List Nat
  | 0, _ => []
  | n + 1, r => (r / m ^ n) :: digs m n (r % m ^ n)
def movs (R : Rc) : List Nat → Dst → Dst
  | [], D => D
  | d :: l, D => movs R l (mvA ((rY R).getD d (0, 0, 0, 0, [], 0, 0)) D)
def fitAll (R : Rc) (c : Nat) (l : List Nat) : Prop := ∀ d ∈ l, need ((rY R).getD d (0, 0, 0, 0, [], 0, 0)) ≤ c
/-- a look tells after a row of moves -/
def skG (R : Rc) (n r o : Nat) : Prop := fitAll R (vC (strtR R)) (digs (rY R).length n r) ∧ o < (rO R).length ∧ need ((rO R).getD o (0, 0, 0, 0, [], 0, 0)) ≤ vC (strtR R) ∧ telS (rN R) (askS (rA R)) ((rO R).getD o (0, 0, 0, 0, [], 0, 0)) (movs R (digs (rY R).length n r) (vD (strtR R)))
/-- the first row of so many moves, and its first look -/
def skF (R : Rc) (n r o : Nat) : Prop := r < (rY R).length ^ n ∧ skG R n r o ∧ (∀ o', o' < o → ¬ skG R n r o') ∧ ∀ r', r' < r → ∀ o', ¬ skG R n r' o'
def skN (R : Rc) (n : Nat) : Prop := ∀ r o, r < (rY R).length ^ n → ¬ skG R n r o
def wrtS (l : List Nat) : Nat := l.foldl (fun v d => 10 * v + (d + 1)) 0
def q_seek (n w : Int32) (R : Rc) (r : Int32) : Prop := match ixo n 4, ixo w 3 with
  | some n, some w => (∃ m row o, m ≤ n ∧ (∀ m', m' < m → skN R m') ∧ skF R m row o ∧ r = if w = 0 then n32 m else if w = 1 then n32 (wrtS (digs (rY R).length m row)) else n32 o) ∨ ((∀ m, m ≤ n → skN R m) ∧ r = -1)
  | _, _ => r = -1
