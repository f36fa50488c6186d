set_option maxRecDepth 100000
/-! THE MACHINE: texts and what they tell -/
/-- a token: its sort (0 over, 1 bad, 2 name, 3 word, 4 number, 5 sign), its place, its value -/
abbrev Tk : Type := Nat × Nat × Nat
def kS (k : Tk) : Nat := k.1
def kP (k : Tk) : Nat := k.2.1
def kV (k : Tk) : Nat := k.2.2
def isL (c : Nat) : Bool := decide (97 ≤ c ∧ c ≤ 122)
def isDg (c : Nat) : Bool := decide (48 ≤ c ∧ c ≤ 57)
def isBl (c : Nat) : Bool := decide (c = 32 ∨ c = 10)
def isSg (c : Nat) : Bool := decide (c = 59 ∨ c = 40 ∨ c = 41 ∨ c = 60 ∨ c = 62 ∨ c = 61 ∨ c = 43 ∨ c = 45 ∨ c = 42)
def pck (w : List Nat) : Nat := w.foldl (fun a c => 256 * a + c) 0
def dgv (w : List Nat) : Nat := w.foldl (fun a c => 10 * a + (c - 48)) 0
def kept : List Nat := [123580963646565, 1634954099, 7168377, 7102841, 7370100, 1869636974, 26982, 26479, 1835102827, 6647396, 1935767923, 6385262, 6451042, 6519140, 7497060, 422725116779, 1937203568, 7499639, 6518132, 29807, 114767640814963, 482805048691, 28518, 7170424, 6384748, 6385252, 28530, 7237492]
def lex1 (p : Nat) (u : List Nat) : Tk := match u with
  | [] => (0, p, 0)
  | c :: u' => if isL c = true then (if 8 < ((c :: u').takeWhile isL).length then (1, p, 0) else (if pck ((c :: u').takeWhile isL) ∈ kept then 3 else 2, p, pck ((c :: u').takeWhile isL)))
    else if isDg c = true then (if 4 < ((c :: u').takeWhile isDg).length ∨ (((c :: u').dropWhile isDg).headD 0 |> isL) = true then (1, p, 0) else (4, p, dgv ((c :: u').takeWhile isDg)))
    else if isSg c = true then (5, p, c) else (1, p, 0)
def lexN (u : List Nat) : Nat := match u with
  | [] => 0
  | c :: u' => if isL c = true then ((c :: u').takeWhile isL).length else if isDg c = true then ((c :: u').takeWhile isDg).length else 1
/-- the tokens from a place on, till the first that is bad or the end -/
def tks : Nat → Nat → List Nat → List Tk
  | 0, _, _ => []
  | f + 1, p, u => if kS (lex1 (p + (u.takeWhile isBl).length) (u.dropWhile isBl)) ≤ 1 then [lex1 (p + (u.takeWhile isBl).length) (u.dropWhile isBl)]
    else lex1 (p + (u.takeWhile isBl).length) (u.dropWhile isBl) :: tks f (p + (u.takeWhile isBl).length + lexN (u.dropWhile isBl)) ((u.dropWhile isBl).drop (lexN (u.dropWhile isBl)))
/-! what is told: an error (kind, place), or so -/
abbrev Er : Type := Nat × Nat
abbrev Rs (α : Type) : Type := Er ⊕ α
def rbd {α β : Type} (a : Rs α) (k : α → Rs β) : Rs β := match a with
  | .inl e => .inl e
  | .inr x => k x
def cur (l : List Tk) : Tk := l.headD (0, 0, 0)
def errT (l : List Tk) : Er := (if kS (cur l) = 1 then 1 else 2, kP (cur l))
def isW (l : List Tk) (w : Nat) : Bool := decide (kS (cur l) = 3 ∧ kV (cur l) = w)
def isC (l : List Tk) (c : Nat) : Bool := decide (kS (cur l) = 5 ∧ kV (cur l) = c)
def pMust (b : Bool) (l : List Tk) : Rs (List Tk) := if b then .inr l.tail else .inl (errT l)
def pNum (lo hi : Nat) (l : List Tk) : Rs (Nat × List Tk) := if kS (cur l) = 4 then (if kV (cur l) < lo ∨ hi < kV (cur l) then .inl (4, kP (cur l)) else .inr (kV (cur l), l.tail)) else .inl (errT l)
def pCol (l : List Tk) : Rs (Nat × List Tk) := if isW l 7497060 then .inr (1, l.tail) else if isW l 422725116779 then .inr (0, l.tail) else .inl (errT l)
def whoK (l : List Tk) : Option Nat := if isW l 6385262 then some 0 else if isW l 6451042 then some 1 else if isW l 6519140 then some 2 else none
def pWho (n : Nat) (l : List Tk) : Rs (Nat × List Tk) := match whoK l with
  | none => .inl (errT l)
  | some p => if p < n then .inr (p, l.tail) else .inl (4, kP (cur l))
/-- two numbers that are not the same -/
def pTwo (l : List Tk) : Rs ((Nat × Nat) × List Tk) := rbd (pNum 0 7 l) fun a => rbd (pNum 0 7 a.2) fun b => if b.1 = a.1 then .inl (4, kP (cur a.2)) else .inr ((a.1, b.1), b.2)
/-- numbers, none twice: the places, where the last one stood -/
def pLst : Nat → List Nat → List Tk → Rs ((List Nat × Nat) × List Tk)
  | 0, _, l => .inl (errT l)
  | f + 1, had, l => rbd (pNum 0 7 l) fun a => if a.1 ∈ had then .inl (4, kP (cur l)) else if kS (cur a.2) = 4 then pLst f (had ++ [a.1]) a.2 else .inr ((had ++ [a.1], kP (cur l)), a.2)
/-- a move or a look, behind its word -/
def pMov (k : Nat) (l : List Tk) : Rs (Stq × List Tk) :=
  if k = 2 then rbd (pTwo l) fun a => .inr ((2, a.1.1, a.1.2, 0, [], 0, 0), a.2)
  else if k = 3 then rbd (pLst 8 [] l) fun a => if mx a.1.1 < a.1.1.length then .inr ((3, 0, 0, 0, a.1.1, 0, 0), a.2) else .inl (4, a.1.2)
  else if k = 8 then rbd (pLst 8 [] l) fun a => .inr ((8, 0, 0, 0, a.1.1, 0, 0), a.2)
  else rbd (if k = 6 then rbd (pNum 1 4 l) fun a => rbd (pMust (isW a.2 28518) a.2) fun l' => .inr (a.1, l') else .inr (1, l)) fun z =>
    rbd (pNum 0 7 z.2) fun a => rbd (pMust (isW a.2 29807) a.2) fun l' => rbd (pNum 0 7 l') fun b =>
      if a.1 < b.1 ∧ (k = 5 → (b.1 - a.1 + 1) % 2 = 0) ∧ (k = 6 → (b.1 - a.1 + 1) % z.1 = 0 ∧ 2 * z.1 ≤ b.1 - a.1 + 1) ∧ (k = 7 → b.1 - a.1 + 1 ≤ 4) then .inr ((k, a.1, b.1, z.1, [], 0, 0), b.2) else .inl (4, kP (cur l'))
/-- the mark of a name -/
def mrk (xs : List Stq) (n : Nat) : Bool := xs.any fun x => decide (sT x = 10 ∧ sn x = n)
/-- a step, behind its word -/
def pOth (k P : Nat) (xs : List Stq) (l : List Tk) : Rs (Stq × List Tk) :=
  if k = 0 then rbd (pWho P l) fun a => .inr ((0, a.1, 0, 0, [], 0, 0), a.2)
  else if k = 1 then rbd (pCol l) fun a => .inr ((1, a.1, 0, 0, [], 0, 0), a.2)
  else if k = 9 then rbd (pNum 0 7 l) fun a => rbd (pCol a.2) fun b => rbd (pMust (isW b.2 26479) b.2) fun l' => if kS (cur l') = 2 then (if mrk xs (kV (cur l')) then .inl (6, kP (cur l')) else .inr ((9, a.1, b.1, 0, [], kV (cur l'), kP (cur l')), l'.tail)) else .inl (errT l')
  else if k = 10 then (if kS (cur l) = 2 then (if mrk xs (kV (cur l)) then .inl (3, kP (cur l)) else .inr ((10, 0, 0, 0, [], kV (cur l), 0), l.tail)) else .inl (errT l))
  else if k = 11 then rbd (pTwo l) fun a => .inr ((11, a.1.1, a.1.2, 0, [], 0, 0), a.2)
  else rbd (pNum 0 9999 l) fun a => .inr ((12, a.1, 0, 0, [], 0, 0), a.2)
def movK (l : List Tk) : Option Nat := if isW l 1937203568 then some 2 else if isW l 7499639 then some 3 else if isW l 6518132 then some 4 else if isW l 114767640814963 then some 5 else if isW l 482805048691 then some 6 else if isW l 7170424 then some 7 else none
def stpK (l : List Tk) : Option Nat := match movK l with
  | some k => some k
  | none => if isW l 7102841 then some 0 else if isW l 7370100 then some 1 else if isW l 1869636974 then some 8 else if isW l 26982 then some 9 else if isW l 1835102827 then some 10 else if isW l 6647396 then some 11 else if isW l 1935767923 then some 12 else none
/-! what is asked: read by going down. 0 ors, 1 ands, 2 one, 3 sum, 4 part, 5 unit; 6 .. 9: the same, behind a first one -/
def cmpC (l : List Tk) : Bool := isC l 60 || isC l 62 || isC l 61
def addC (l : List Tk) : Bool := isC l 43 || isC l 45
abbrev Xr : Type := Cd × Nat × List Tk
def obd (a : Option (Rs Xr)) (k : Xr → Option (Rs Xr)) : Option (Rs Xr) := match a with
  | none => none
  | some (.inl e) => some (.inl e)
  | some (.inr x) => k x
def dx (P : Nat) : Nat → Nat → Nat → Cd → Nat → List Tk → Option (Rs Xr)
  | 0, _, _, _, _, _ => none
  | f + 1, m, d, ac, u, l =>
    if m = 0 then obd (dx P f 1 d [] u l) fun x => dx P f 6 d x.1 x.2.1 x.2.2
    else if m = 1 then obd (dx P f 2 d [] u l) fun x => dx P f 7 d x.1 x.2.1 x.2.2
    else if m = 2 then (if isW l 7237492 then (if 7 ≤ d then some (.inl (errT l)) else obd (dx P f 2 (d + 1) [] u l.tail) fun x => some (.inr (x.1 ++ [(126, 0)], x.2)))
      else obd (dx P f 3 d [] u l) fun x => if cmpC x.2.2 then obd (dx P f 3 d [] x.2.1 x.2.2.tail) fun y => some (.inr (x.1 ++ y.1 ++ [(kV (cur x.2.2), 0)], y.2)) else some (.inr x))
    else if m = 3 then obd (dx P f 4 d [] u l) fun x => dx P f 8 d x.1 x.2.1 x.2.2
    else if m = 4 then obd (dx P f 5 d [] u l) fun x => dx P f 9 d x.1 x.2.1 x.2.2
    else if m = 5 then
      (if (kS (cur l) ≠ 4 ∧ isC l 40 = false ∧ whoK l = none ∧ isW l 6384748 = false) ∨ 40 ≤ u ∨ (isC l 40 = true ∧ 7 ≤ d) then some (.inl (errT l))
      else if isC l 40 then obd (dx P f 0 (d + 1) [] (u + 1) l.tail) fun x => if isC x.2.2 41 then some (.inr (x.1, x.2.1, x.2.2.tail)) else some (.inl (errT x.2.2))
      else match whoK l with
        | some p => if p < P then some (.inr ([(112, p)], u + 1, l.tail)) else some (.inl (4, kP (cur l)))
        | none => if isW l 6384748 then some (.inr ([(97, 0)], u + 1, l.tail)) else some (.inr ([(110, kV (cur l))], u + 1, l.tail)))
    else if m = 6 then (if isW l 28530 then obd (dx P f 1 d [] u l.tail) fun y => dx P f 6 d (ac ++ y.1 ++ [(124, 0)]) y.2.1 y.2.2 else some (.inr (ac, u, l)))
    else if m = 7 then (if isW l 6385252 then obd (dx P f 2 d [] u l.tail) fun y => dx P f 7 d (ac ++ y.1 ++ [(38, 0)]) y.2.1 y.2.2 else some (.inr (ac, u, l)))
    else if m = 8 then (if addC l then obd (dx P f 4 d [] u l.tail) fun y => dx P f 8 d (ac ++ y.1 ++ [(kV (cur l), 0)]) y.2.1 y.2.2 else some (.inr (ac, u, l)))
    else (if isC l 42 then obd (dx P f 5 d [] u l.tail) fun y => dx P f 9 d (ac ++ y.1 ++ [(42, 0)]) y.2.1 y.2.2 else some (.inr (ac, u, l)))
/-! lines -/
/-- people, whether told; whether one laid; steps, moves, looks, what is asked, units -/
abbrev Ps : Type := Nat × Bool × Bool × List Stq × List Stq × List Stq × Option Cd × Nat
def jP (s : Ps) : Nat := s.1
def jT (s : Ps) : Bool := s.2.1
def jL (s : Ps) : Bool := s.2.2.1
def jX (s : Ps) : List Stq := s.2.2.2.1
def jY (s : Ps) : List Stq := s.2.2.2.2.1
def jO (s : Ps) : List Stq := s.2.2.2.2.2.1
def jA (s : Ps) : Option Cd := s.2.2.2.2.2.2.1
def jU (s : Ps) : Nat := s.2.2.2.2.2.2.2
def ps0 : Ps := (2, false, false, [], [], [], none, 0)
def pPpl (s : Ps) (l : List Tk) : Rs (Ps × List Tk) := if jT s = true ∨ (jA s).isSome = true ∨ jL s = true then .inl (errT l) else rbd (pNum 1 3 l.tail) fun a => .inr ((a.1, true, s.2.2), a.2)
def dxF (l : List Tk) : Nat := 20 * l.length + 20
def pAsk (s : Ps) (l : List Tk) : Rs (Ps × List Tk) := if (jA s).isSome = true then .inl (errT l) else match dx (jP s) (dxF l) 0 0 [] (jU s) l.tail with
  | none => .inl (0, 0)
  | some (.inl e) => .inl e
  | some (.inr x) => .inr ((jP s, jT s, jL s, jX s, jY s, jO s, some x.1, x.2.1), x.2.2)
def pMay (s : Ps) (l : List Tk) : Rs (Ps × List Tk) := match movK l.tail with
  | some k => if (jY s).length = 8 then .inl (2, kP (cur l)) else rbd (pMov k l.tail.tail) fun a => .inr ((jP s, jT s, jL s, jX s, jY s ++ [a.1], jO s, jA s, jU s), a.2)
  | none => if isW l.tail 1869636974 then (if (jO s).length = 4 then .inl (2, kP (cur l)) else rbd (pMov 8 l.tail.tail) fun a => .inr ((jP s, jT s, jL s, jX s, jY s, jO s ++ [a.1], jA s, jU s), a.2)) else .inl (errT l.tail)
def pStp (s : Ps) (l : List Tk) : Rs (Ps × List Tk) := match stpK l with
  | none => .inl (errT l)
  | some k => if (jX s).length = 40 ∨ (k = 8 ∧ cntO (jX s) (jX s).length = 6) ∨ ((4 ≤ k ∧ k ≤ 7) ∧ mixNo (jX s) (jX s).length = 8) then .inl (errT l)
    else rbd (if 2 ≤ k ∧ k ≤ 8 then pMov k l.tail else pOth k (jP s) (jX s) l.tail) fun a => .inr ((jP s, jT s, jL s || decide (k = 0), jX s ++ [a.1], jY s, jO s, jA s, jU s), a.2)
def pLin (s : Ps) (l : List Tk) : Rs (Ps × List Tk) :=
  rbd (if isW l 123580963646565 then pPpl s l else if isW l 1634954099 then pAsk s l else if isW l 7168377 then pMay s l else pStp s l) fun a => rbd (pMust (isC a.2 59) a.2) fun l' => .inr (a.1, l')
def pTxt : Nat → Ps → List Tk → Rs Ps
  | 0, _, _ => .inl (0, 0)
  | f + 1, s, l => if kS (cur l) = 0 then .inr s else rbd (pLin s l) fun a => pTxt f a.1 a.2
/-- the place of a mark -/
def mrkAt (xs : List Stq) (n : Nat) : Option Nat := xs.findIdx? fun x => decide (sT x = 10 ∧ sn x = n)
def setS3 (x : Stq) (k : Nat) : Stq := (sT x, s1 x, s2 x, k, sl x, sn x, sg x)
def pStl (xs : List Stq) : List Stq → Rs (List Stq)
  | [] => .inr []
  | x :: l => if sT x = 9 then (match mrkAt xs (sn x) with
      | none => .inl (6, sg x)
      | some k => rbd (pStl xs l) fun l' => .inr (setS3 x k :: l')) else rbd (pStl xs l) fun l' => .inr (x :: l')
def toks (t : List Nat) : List Tk := tks (t.length + 1) 0 t
def prs (t : List Nat) : Rs Rc := rbd (pTxt ((toks t).length + 1) ps0 (toks t)) fun s => rbd (pStl (jX s) (jX s)) fun xs => .inr (jP s, xs, jY s, jO s, jA s, jU s)
/-- a tape as bytes -/
def byt (v : Int32) : Nat := (v &&& 255).toNatClampNeg
def txS (S : St) : List Nat := (zTp S).map byt
def o_recipe (S : St) : Int32 × St := match prs (txS S) with
  | .inl e => (-1, ([], (e.1, n32 e.2), S.2.2))
  | .inr R => (n32 (rX R).length, ([], (0, -1), R, [], zT S, zW S, (false, (zG S).2), fun _ => none))
