/-! THE CLASS: a typed heap; classes and fields by number (printed by gen/xtab.py) -/
set_option maxRecDepth 100000
/-- the fields: declaring class, name, descriptor, final -/
def gnm : u_T := fun f => match f with
  | 0 => ("BlindCards", "often", "[[J", true)
  | 1 => ("BlindCards", "seen", "[[I", true)
  | 2 => ("BlindCards", "spare", "[J", true)
  | 3 => ("BlindCards", "tape", "[B", true)
  | 4 => ("BlindCards", "taped", "I", false)
  | 5 => ("BlindCards", "faultKind", "I", false)
  | 6 => ("BlindCards", "faultPlace", "I", false)
  | 7 => ("BlindCards", "recipe", "LBlindCards$Recipe;", false)
  | 8 => ("BlindCards", "keeper", "LBlindCards$Keeper;", true)
  | 9 => ("BlindCards", "closer", "LBlindCards$Closer;", true)
  | 10 => ("BlindCards", "cheater", "LBlindCards$Cheater;", true)
  | 11 => ("BlindCards", "w", "I", false)
  | 12 => ("BlindCards", "time", "I", false)
  | 13 => ("BlindCards", "sought", "[[J", true)
  | 14 => ("BlindCards", "looked", "[J", true)
  | 15 => ("BlindCards", "cards", "I", false)
  | 16 => ("BlindCards", "bestMoves", "I", false)
  | 17 => ("BlindCards", "bestRow", "I", false)
  | 18 => ("BlindCards", "bestOpen", "I", false)
  | 19 => ("BlindCards", "gameLooks", "[I", true)
  | 20 => ("BlindCards", "gameSeen", "[I", true)
  | 21 => ("BlindCards", "hasGame", "Z", false)
  | 22 => ("BlindCards", "gameAnswer", "I", false)
  | 23 => ("BlindCards", "gameSteps", "I", false)
  | 24 => ("BlindCards", "gameRow", "I", false)
  | 25 => ("BlindCards", "gameCards", "I", false)
  | 26 => ("BlindCards", "told", "Ljava/util/ArrayList;", true)
  | 27 => ("BlindCards", "boxes", "Ljava/util/ArrayList;", true)
  | 28 => ("BlindCards", "isThere", "[Z", true)
  | 29 => ("BlindCards", "boxW", "[I", true)
  | 30 => ("BlindCards$Recipe", "steps", "Ljava/util/ArrayList;", true)
  | 31 => ("BlindCards$Recipe", "mays", "Ljava/util/ArrayList;", true)
  | 32 => ("BlindCards$Recipe", "mayOpens", "Ljava/util/ArrayList;", true)
  | 33 => ("BlindCards$Recipe", "people", "I", false)
  | 34 => ("BlindCards$Recipe", "units", "I", false)
  | 35 => ("BlindCards$Recipe", "opens", "I", false)
  | 36 => ("BlindCards$Recipe", "shuffles", "I", false)
  | 37 => ("BlindCards$Recipe", "hasPeople", "Z", false)
  | 38 => ("BlindCards$Recipe", "hasLay", "Z", false)
  | 39 => ("BlindCards$Recipe", "asks", "LBlindCards$Node;", false)
  | 40 => ("java/util/AbstractList", "modCount", "I", false)
  | 41 => ("java/util/ArrayList", "elementData", "[Ljava/lang/Object;", false)
  | 42 => ("java/util/ArrayList", "size", "I", false)
  | 43 => ("BlindCards$Runs", "cheat", "I", false)
  | 44 => ("BlindCards$Runs", "bent", "I", false)
  | 45 => ("BlindCards$Runs", "counted", "I", false)
  | 46 => ("BlindCards$Runs", "cheatsRed", "Z", false)
  | 47 => ("BlindCards$Runs", "looks", "[I", true)
  | 48 => ("BlindCards$Runs", "lookMany", "I", false)
  | 49 => ("BlindCards$Runs", "this$0", "LBlindCards;", true)
  | 50 => ("BlindCards$Keeper", "rows", "[I", true)
  | 51 => ("BlindCards$Keeper", "looked", "[I", true)
  | 52 => ("BlindCards$Keeper", "ends", "[I", true)
  | 53 => ("BlindCards$Keeper", "ways", "[J", true)
  | 54 => ("BlindCards$Keeper", "all", "[J", true)
  | 55 => ("BlindCards$Keeper", "many", "I", false)
  | 56 => ("BlindCards$Keeper", "wrong", "I", false)
  | 57 => ("BlindCards$Keeper", "isSpent", "Z", false)
  | 58 => ("BlindCards$Keeper", "this$0", "LBlindCards;", true)
  | 59 => ("BlindCards$Closer", "many", "I", false)
  | 60 => ("BlindCards$Closer", "isOpen", "Z", false)
  | 61 => ("BlindCards$Closer", "isSpent", "Z", false)
  | 62 => ("BlindCards$Closer", "isSecret", "Z", false)
  | 63 => ("BlindCards$Closer", "this$0", "LBlindCards;", true)
  | 64 => ("BlindCards$Cheater", "many", "I", false)
  | 65 => ("BlindCards$Cheater", "set", "I", false)
  | 66 => ("BlindCards$Cheater", "this$0", "LBlindCards;", true)
  | 67 => ("BlindCards$Reader", "at", "I", false)
  | 68 => ("BlindCards$Reader", "sort", "I", false)
  | 69 => ("BlindCards$Reader", "place", "I", false)
  | 70 => ("BlindCards$Reader", "number", "I", false)
  | 71 => ("BlindCards$Reader", "deep", "I", false)
  | 72 => ("BlindCards$Reader", "word", "Ljava/lang/String;", false)
  | 73 => ("BlindCards$Reader", "made", "LBlindCards$Recipe;", true)
  | 74 => ("BlindCards$Reader", "this$0", "LBlindCards;", true)
  | 75 => ("java/lang/AbstractStringBuilder", "value", "[B", false)
  | 76 => ("java/lang/AbstractStringBuilder", "coder", "B", false)
  | 77 => ("java/lang/AbstractStringBuilder", "maybeLatin1", "Z", false)
  | 78 => ("java/lang/AbstractStringBuilder", "count", "I", false)
  | 79 => ("java/lang/String", "value", "[B", true)
  | 80 => ("java/lang/String", "coder", "B", true)
  | 81 => ("java/lang/String", "hash", "I", false)
  | 82 => ("java/lang/String", "hashIsZero", "Z", false)
  | 83 => ("java/lang/Throwable", "cause", "Ljava/lang/Throwable;", false)
  | 84 => ("java/lang/Throwable", "stackTrace", "[Ljava/lang/StackTraceElement;", false)
  | 85 => ("java/lang/Throwable", "suppressedExceptions", "Ljava/util/List;", false)
  | 86 => ("java/lang/Throwable", "detailMessage", "Ljava/lang/String;", false)
  | 87 => ("java/lang/Throwable", "backtrace", "Ljava/lang/Object;", false)
  | 88 => ("java/lang/Throwable", "depth", "I", false)
  | 89 => ("BlindCards$Wrong", "kind", "I", true)
  | 90 => ("BlindCards$Wrong", "place", "I", true)
  | 91 => ("BlindCards$Not", "a", "LBlindCards$Node;", true)
  | 92 => ("BlindCards$Value", "v", "I", true)
  | 93 => ("BlindCards$Pair", "a", "LBlindCards$Node;", true)
  | 94 => ("BlindCards$Pair", "b", "LBlindCards$Node;", true)
  | 95 => ("BlindCards$Pair", "sign", "C", true)
  | 96 => ("BlindCards$Told", "where", "[I", true)
  | 97 => ("BlindCards$Told", "least", "I", true)
  | 98 => ("BlindCards$Cut", "from", "I", true)
  | 99 => ("BlindCards$Cut", "to", "I", true)
  | 100 => ("BlindCards$Cut", "size", "I", true)
  | 101 => ("BlindCards$Open", "places", "[I", true)
  | 102 => ("BlindCards$Open", "many", "I", false)
  | 103 => ("BlindCards$Open", "last", "I", false)
  | 104 => ("BlindCards$Lay", "who", "I", true)
  | 105 => ("BlindCards$Lay", "isRed", "Z", true)
  | 106 => ("BlindCards$If", "at", "I", true)
  | 107 => ("BlindCards$If", "isRed", "Z", true)
  | 108 => ("BlindCards$If", "name", "Ljava/lang/String;", true)
  | 109 => ("BlindCards$If", "told", "I", true)
  | 110 => ("BlindCards$If", "goes", "I", false)
  | 111 => ("BlindCards$Mark", "name", "Ljava/lang/String;", true)
  | 112 => ("BlindCards$End", "a", "I", true)
  | 113 => ("BlindCards$End", "b", "I", true)
  | 114 => ("BlindCards$Says", "what", "I", true)
  | 115 => ("BlindCards$Look", "path", "I", true)
  | 116 => ("BlindCards$Look", "told", "I", true)
  | _ => ("BlindCards$Look", "untold", "I", false)
def gty : Nat → FieldType := fun f => match f with
  | 0 => .array (.array .long)
  | 1 => .array (.array .int)
  | 2 => .array .long
  | 3 => .array .byte
  | 4 => .int
  | 5 => .int
  | 6 => .int
  | 7 => .object "BlindCards$Recipe"
  | 8 => .object "BlindCards$Keeper"
  | 9 => .object "BlindCards$Closer"
  | 10 => .object "BlindCards$Cheater"
  | 11 => .int
  | 12 => .int
  | 13 => .array (.array .long)
  | 14 => .array .long
  | 15 => .int
  | 16 => .int
  | 17 => .int
  | 18 => .int
  | 19 => .array .int
  | 20 => .array .int
  | 21 => .boolean
  | 22 => .int
  | 23 => .int
  | 24 => .int
  | 25 => .int
  | 26 => .object "java/util/ArrayList"
  | 27 => .object "java/util/ArrayList"
  | 28 => .array .boolean
  | 29 => .array .int
  | 30 => .object "java/util/ArrayList"
  | 31 => .object "java/util/ArrayList"
  | 32 => .object "java/util/ArrayList"
  | 33 => .int
  | 34 => .int
  | 35 => .int
  | 36 => .int
  | 37 => .boolean
  | 38 => .boolean
  | 39 => .object "BlindCards$Node"
  | 40 => .int
  | 41 => .array (.object "java/lang/Object")
  | 42 => .int
  | 43 => .int
  | 44 => .int
  | 45 => .int
  | 46 => .boolean
  | 47 => .array .int
  | 48 => .int
  | 49 => .object "BlindCards"
  | 50 => .array .int
  | 51 => .array .int
  | 52 => .array .int
  | 53 => .array .long
  | 54 => .array .long
  | 55 => .int
  | 56 => .int
  | 57 => .boolean
  | 58 => .object "BlindCards"
  | 59 => .int
  | 60 => .boolean
  | 61 => .boolean
  | 62 => .boolean
  | 63 => .object "BlindCards"
  | 64 => .int
  | 65 => .int
  | 66 => .object "BlindCards"
  | 67 => .int
  | 68 => .int
  | 69 => .int
  | 70 => .int
  | 71 => .int
  | 72 => .object "java/lang/String"
  | 73 => .object "BlindCards$Recipe"
  | 74 => .object "BlindCards"
  | 75 => .array .byte
  | 76 => .byte
  | 77 => .boolean
  | 78 => .int
  | 79 => .array .byte
  | 80 => .byte
  | 81 => .int
  | 82 => .boolean
  | 83 => .object "java/lang/Throwable"
  | 84 => .array (.object "java/lang/StackTraceElement")
  | 85 => .object "java/util/List"
  | 86 => .object "java/lang/String"
  | 87 => .object "java/lang/Object"
  | 88 => .int
  | 89 => .int
  | 90 => .int
  | 91 => .object "BlindCards$Node"
  | 92 => .int
  | 93 => .object "BlindCards$Node"
  | 94 => .object "BlindCards$Node"
  | 95 => .char
  | 96 => .array .int
  | 97 => .int
  | 98 => .int
  | 99 => .int
  | 100 => .int
  | 101 => .array .int
  | 102 => .int
  | 103 => .int
  | 104 => .int
  | 105 => .boolean
  | 106 => .int
  | 107 => .boolean
  | 108 => .object "java/lang/String"
  | 109 => .int
  | 110 => .int
  | 111 => .object "java/lang/String"
  | 112 => .int
  | 113 => .int
  | 114 => .int
  | 115 => .int
  | 116 => .int
  | _ => .int
/-- the field holds a reference -/
def gR (f : Nat) : Bool := ([0, 1, 2, 3, 7, 8, 9, 10, 13, 14, 19, 20, 26, 27, 28, 29, 30, 31, 32, 39, 41, 47, 49, 50, 51, 52, 53, 54, 58, 63, 66, 72, 73, 74, 75, 79, 83, 84, 85, 86, 87, 91, 93, 94, 96, 101, 108, 111] : List Nat).contains f
/-- the fields of a tag's class (its own fields and those it inherits) -/
def tfl (t : Nat) : List Nat := match t with
  | 1 => [0, 1, 2, 3, 4, 5, 6, 7, 8, 9, 10, 11, 12, 13, 14, 15, 16, 17, 18, 19, 20, 21, 22, 23, 24, 25, 26, 27, 28, 29]
  | 2 => [30, 31, 32, 33, 34, 35, 36, 37, 38, 39]
  | 3 => [40, 41, 42]
  | 4 => [43, 44, 45, 46, 47, 48, 49, 50, 51, 52, 53, 54, 55, 56, 57, 58]
  | 5 => [43, 44, 45, 46, 47, 48, 49, 59, 60, 61, 62, 63]
  | 6 => [43, 44, 45, 46, 47, 48, 49, 64, 65, 66]
  | 7 => [67, 68, 69, 70, 71, 72, 73, 74]
  | 8 => [75, 76, 77, 78]
  | 9 => [79, 80, 81, 82]
  | 10 => [83, 84, 85, 86, 87, 88, 89, 90]
  | 11 => [91]
  | 12 => [92]
  | 13 => [93, 94, 95]
  | 14 => [96, 97]
  | 15 => [98, 99, 100]
  | 16 => [98, 99, 100]
  | 17 => [98, 99, 100]
  | 18 => [101, 102, 103]
  | 19 => [104, 105]
  | 20 => [106, 107, 108, 109, 110]
  | 21 => [111]
  | 22 => [112, 113]
  | 23 => [114]
  | 24 => [115, 116, 117]
  | 41 => [79, 80, 81, 82]
  | _ => []
def tnm (t : Nat) : String := match t with
  | 1 => "BlindCards"
  | 2 => "BlindCards$Recipe"
  | 3 => "java/util/ArrayList"
  | 4 => "BlindCards$Keeper"
  | 5 => "BlindCards$Closer"
  | 6 => "BlindCards$Cheater"
  | 7 => "BlindCards$Reader"
  | 8 => "java/lang/StringBuilder"
  | 9 => "java/lang/String"
  | 10 => "BlindCards$Wrong"
  | 11 => "BlindCards$Not"
  | 12 => "BlindCards$Value"
  | 13 => "BlindCards$Pair"
  | 14 => "BlindCards$Told"
  | 15 => "BlindCards$Halves"
  | 16 => "BlindCards$Cut"
  | 17 => "BlindCards$Mix"
  | 18 => "BlindCards$Open"
  | 19 => "BlindCards$Lay"
  | 20 => "BlindCards$If"
  | 21 => "BlindCards$Mark"
  | 22 => "BlindCards$End"
  | 23 => "BlindCards$Says"
  | 24 => "BlindCards$Look"
  | 41 => "java/lang/String"
  | 44 => "BlindCards$Asked$1"
  | 45 => "BlindCards$Asked$2"
  | 46 => "BlindCards$Asked$3"
  | 47 => "BlindCards$Asked$4"
  | _ => ""
/-- a tag: 0 nothing, 1 an object, 2 an array of ints, 3 of longs, 4 of references -/
def tkd (t : Nat) : Nat := if t = 0 then 0 else if t ≤ 24 then 1 else if t = 31 ∨ t = 32 ∨ t = 33 ∨ t = 42 ∨ t = 43 then 2 else if t = 34 then 3 else if t = 35 ∨ t = 36 ∨ t = 37 ∨ t = 48 then 4 else if t = 41 ∨ (44 ≤ t ∧ t ≤ 47) then 1 else 0
/-- an array's kind of elements -/
def tel (t : Nat) : FieldType := match t with
  | 32 => .byte
  | 42 => .byte
  | 33 => .boolean
  | 34 => .long
  | 35 => .array .long
  | 36 => .array .int
  | 37 => .object "java/lang/Object"
  | 48 => .object "java/lang/Object"
  | _ => .int
def tT (t : Nat) : u_T := fun k => gnm ((tfl t).getD k 0)
theorem gty_ok : ∀ f, f < 118 → parseFieldDescriptor (gnm f).2.2.1 = some (gty f) := by decide +kernel
theorem tfl_lt : ∀ t, t < 49 → ∀ f ∈ tfl t, f < 118 := by decide +kernel
theorem xe1 : u_ws (tnm 1) (tT 1) (tfl 1).length = u_ws RX0 TX0 30 := by decide +kernel
theorem xin1 : ∀ w ∈ u_ws (tnm 1) (tT 1) (tfl 1).length, w ∈ lw_all := fun w h => in_X0 w (by rw [xe1] at h; exact h)
theorem xe2 : u_ws (tnm 2) (tT 2) (tfl 2).length = u_ws RX1 TX1 10 := by decide +kernel
theorem xin2 : ∀ w ∈ u_ws (tnm 2) (tT 2) (tfl 2).length, w ∈ lw_all := fun w h => in_X1 w (by rw [xe2] at h; exact h)
theorem xe3 : u_ws (tnm 3) (tT 3) (tfl 3).length = u_ws RJ2 TJ2 3 := by decide +kernel
theorem xin3 : ∀ w ∈ u_ws (tnm 3) (tT 3) (tfl 3).length, w ∈ lw_all := fun w h => in_J2 w (by rw [xe3] at h; exact h)
theorem xe4 : u_ws (tnm 4) (tT 4) (tfl 4).length = u_ws RX3 TX3 16 := by decide +kernel
theorem xin4 : ∀ w ∈ u_ws (tnm 4) (tT 4) (tfl 4).length, w ∈ lw_all := fun w h => in_X3 w (by rw [xe4] at h; exact h)
theorem xe5 : u_ws (tnm 5) (tT 5) (tfl 5).length = u_ws RX4 TX4 12 := by decide +kernel
theorem xin5 : ∀ w ∈ u_ws (tnm 5) (tT 5) (tfl 5).length, w ∈ lw_all := fun w h => in_X4 w (by rw [xe5] at h; exact h)
theorem xe6 : u_ws (tnm 6) (tT 6) (tfl 6).length = u_ws RX5 TX5 10 := by decide +kernel
theorem xin6 : ∀ w ∈ u_ws (tnm 6) (tT 6) (tfl 6).length, w ∈ lw_all := fun w h => in_X5 w (by rw [xe6] at h; exact h)
theorem xe7 : u_ws (tnm 7) (tT 7) (tfl 7).length = u_ws RX11 TX11 8 := by decide +kernel
theorem xin7 : ∀ w ∈ u_ws (tnm 7) (tT 7) (tfl 7).length, w ∈ lw_all := fun w h => in_X11 w (by rw [xe7] at h; exact h)
theorem xe8 : u_ws (tnm 8) (tT 8) (tfl 8).length = u_ws RJ10 TJ10 4 := by decide +kernel
theorem xin8 : ∀ w ∈ u_ws (tnm 8) (tT 8) (tfl 8).length, w ∈ lw_all := fun w h => in_J10 w (by rw [xe8] at h; exact h)
theorem xe9 : u_ws (tnm 9) (tT 9) (tfl 9).length = u_ws RJ11 TJ11 4 := by decide +kernel
theorem xin9 : ∀ w ∈ u_ws (tnm 9) (tT 9) (tfl 9).length, w ∈ lw_all := fun w h => in_J11 w (by rw [xe9] at h; exact h)
theorem xe10 : u_ws (tnm 10) (tT 10) (tfl 10).length = u_ws RX12 TX12 8 := by decide +kernel
theorem xin10 : ∀ w ∈ u_ws (tnm 10) (tT 10) (tfl 10).length, w ∈ lw_all := fun w h => in_X12 w (by rw [xe10] at h; exact h)
theorem xe11 : u_ws (tnm 11) (tT 11) (tfl 11).length = u_ws RX13 TX13 1 := by decide +kernel
theorem xin11 : ∀ w ∈ u_ws (tnm 11) (tT 11) (tfl 11).length, w ∈ lw_all := fun w h => in_X13 w (by rw [xe11] at h; exact h)
theorem xe12 : u_ws (tnm 12) (tT 12) (tfl 12).length = u_ws RX14 TX14 1 := by decide +kernel
theorem xin12 : ∀ w ∈ u_ws (tnm 12) (tT 12) (tfl 12).length, w ∈ lw_all := fun w h => in_X14 w (by rw [xe12] at h; exact h)
theorem xe13 : u_ws (tnm 13) (tT 13) (tfl 13).length = u_ws RX15 TX15 3 := by decide +kernel
theorem xin13 : ∀ w ∈ u_ws (tnm 13) (tT 13) (tfl 13).length, w ∈ lw_all := fun w h => in_X15 w (by rw [xe13] at h; exact h)
theorem xe14 : u_ws (tnm 14) (tT 14) (tfl 14).length = u_ws RX16 TX16 2 := by decide +kernel
theorem xin14 : ∀ w ∈ u_ws (tnm 14) (tT 14) (tfl 14).length, w ∈ lw_all := fun w h => in_X16 w (by rw [xe14] at h; exact h)
theorem xe15 : u_ws (tnm 15) (tT 15) (tfl 15).length = u_ws RX17 TX17 3 := by decide +kernel
theorem xin15 : ∀ w ∈ u_ws (tnm 15) (tT 15) (tfl 15).length, w ∈ lw_all := fun w h => in_X17 w (by rw [xe15] at h; exact h)
theorem xe16 : u_ws (tnm 16) (tT 16) (tfl 16).length = u_ws RX8 TX8 3 := by decide +kernel
theorem xin16 : ∀ w ∈ u_ws (tnm 16) (tT 16) (tfl 16).length, w ∈ lw_all := fun w h => in_X8 w (by rw [xe16] at h; exact h)
theorem xe17 : u_ws (tnm 17) (tT 17) (tfl 17).length = u_ws RX9 TX9 3 := by decide +kernel
theorem xin17 : ∀ w ∈ u_ws (tnm 17) (tT 17) (tfl 17).length, w ∈ lw_all := fun w h => in_X9 w (by rw [xe17] at h; exact h)
theorem xe18 : u_ws (tnm 18) (tT 18) (tfl 18).length = u_ws RX18 TX18 3 := by decide +kernel
theorem xin18 : ∀ w ∈ u_ws (tnm 18) (tT 18) (tfl 18).length, w ∈ lw_all := fun w h => in_X18 w (by rw [xe18] at h; exact h)
theorem xe19 : u_ws (tnm 19) (tT 19) (tfl 19).length = u_ws RX19 TX19 2 := by decide +kernel
theorem xin19 : ∀ w ∈ u_ws (tnm 19) (tT 19) (tfl 19).length, w ∈ lw_all := fun w h => in_X19 w (by rw [xe19] at h; exact h)
theorem xe20 : u_ws (tnm 20) (tT 20) (tfl 20).length = u_ws RX20 TX20 5 := by decide +kernel
theorem xin20 : ∀ w ∈ u_ws (tnm 20) (tT 20) (tfl 20).length, w ∈ lw_all := fun w h => in_X20 w (by rw [xe20] at h; exact h)
theorem xe21 : u_ws (tnm 21) (tT 21) (tfl 21).length = u_ws RX21 TX21 1 := by decide +kernel
theorem xin21 : ∀ w ∈ u_ws (tnm 21) (tT 21) (tfl 21).length, w ∈ lw_all := fun w h => in_X21 w (by rw [xe21] at h; exact h)
theorem xe22 : u_ws (tnm 22) (tT 22) (tfl 22).length = u_ws RX22 TX22 2 := by decide +kernel
theorem xin22 : ∀ w ∈ u_ws (tnm 22) (tT 22) (tfl 22).length, w ∈ lw_all := fun w h => in_X22 w (by rw [xe22] at h; exact h)
theorem xe23 : u_ws (tnm 23) (tT 23) (tfl 23).length = u_ws RX23 TX23 1 := by decide +kernel
theorem xin23 : ∀ w ∈ u_ws (tnm 23) (tT 23) (tfl 23).length, w ∈ lw_all := fun w h => in_X23 w (by rw [xe23] at h; exact h)
theorem xe24 : u_ws (tnm 24) (tT 24) (tfl 24).length = u_ws RX24 TX24 3 := by decide +kernel
theorem xin24 : ∀ w ∈ u_ws (tnm 24) (tT 24) (tfl 24).length, w ∈ lw_all := fun w h => in_X24 w (by rw [xe24] at h; exact h)
theorem xin : ∀ t, 0 < t → t ≤ 24 → ∀ w ∈ u_ws (tnm t) (tT t) (tfl t).length, w ∈ lw_all := by
  intro t h1 h2
  match t, h1, h2 with
  | 1, _, _ => exact xin1
  | 2, _, _ => exact xin2
  | 3, _, _ => exact xin3
  | 4, _, _ => exact xin4
  | 5, _, _ => exact xin5
  | 6, _, _ => exact xin6
  | 7, _, _ => exact xin7
  | 8, _, _ => exact xin8
  | 9, _, _ => exact xin9
  | 10, _, _ => exact xin10
  | 11, _, _ => exact xin11
  | 12, _, _ => exact xin12
  | 13, _, _ => exact xin13
  | 14, _, _ => exact xin14
  | 15, _, _ => exact xin15
  | 16, _, _ => exact xin16
  | 17, _, _ => exact xin17
  | 18, _, _ => exact xin18
  | 19, _, _ => exact xin19
  | 20, _, _ => exact xin20
  | 21, _, _ => exact xin21
  | 22, _, _ => exact xin22
  | 23, _, _ => exact xin23
  | 24, _, _ => exact xin24
  | t + 25, _, h => exact absurd h (by omega)
theorem xin41 : ∀ w ∈ u_ws (tnm 41) (tT 41) (tfl 41).length, w ∈ lw_all := xin9
