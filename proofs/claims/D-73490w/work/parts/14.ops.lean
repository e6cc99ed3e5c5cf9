/-! THE LIBRARY AS THE CLASSES SEE IT: texts, lists, maps as single cells (tag + 1000), what is done with them -/
set_option maxRecDepth 100000
/-- the tags whose cells the machine has field by field: at the library's own level, at the classes' level -/
def plRL : List Nat := [1, 2, 3, 4, 5, 6, 7, 8, 9, 10, 11, 12, 13, 14, 15, 16, 17, 18, 19, 20, 21, 22, 23, 24, 25, 26, 27, 28, 29, 30, 31, 32, 33, 34, 35, 200, 201, 202, 203, 204, 205, 206, 207, 208, 209, 528, 535, 700, 701, 705, 709]
def plAL : List Nat := [1, 2, 3, 4, 5, 6, 7, 8, 9, 10, 11, 12, 13, 14, 15, 16, 17, 18, 19, 20, 21, 22, 25, 29, 33, 34, 200, 201, 202, 203, 207, 208, 510, 512, 535, 700]
def plR (t : Nat) : Bool := plRL.contains t
def plA (t : Nat) : Bool := plAL.contains t
theorem pl_of {Pl Q : Nat → Bool} {cs : List Nat} (e : Pl = Q) (h : cs.all Q = true) : cs.all Pl = true := by rw [e]; exact h
theorem pl_of1 {Pl Q : Nat → Bool} {t : Nat} (e : Pl = Q) (h : Q t = true) : Pl t = true := by rw [e]; exact h
abbrev ln (h : Hp) (r : Nat) : Nat := (h.2.2 r).2.1
abbrev iv (h : Hp) (r k : Nat) : Int32 := (h.2.2 r).2.2.1 k
abbrev rf (h : Hp) (r k : Nat) : Nat := (h.2.2 r).2.2.2.1 k
/-- n cells and slots more, if there is room -/
def pay (n : Nat) (h : Hp) : Option Hp := if h.2.1 + n ≤ LIM then some (h.1, h.2.1 + n, h.2.2) else none
/-- a new cell, at that cost -/
def mkc (n : Nat) (c : PC) (h : Hp) : Option (Nat × Hp) := if h.2.1 + n ≤ LIM then some (h.1, h.1 + 1, h.2.1 + n, fun x => if x = h.1 then c else h.2.2 x) else none
def txt (h : Hp) (r : Nat) : List Int32 := (List.range (ln h r)).map (iv h r)
def ofTxt (t : Nat) (l : List Int32) : PC := (t, l.length, fun k => l.getD k 0, fun _ => 0, fun _ => 0)
-- numbers
def oValueOf (v : Int32) (h : Hp) : Option (Nat × Hp) := if -128 ≤ v.toInt ∧ v.toInt ≤ 127 then some ((256 + v.toInt).toNat, h) else mkc 2 (535, 0, fun k => if k = 0 then v else 0, fun _ => 0, fun _ => 0) h
-- texts
def oLength (r : Nat) (h : Hp) : Option (Int32 × Hp) := if tg h r = 1028 then some (Int32.ofNat (ln h r), h) else none
def oCharAt (r : Nat) (i : Int32) (h : Hp) : Option (Int32 × Hp) := if tg h r = 1028 ∧ ¬ i < 0 ∧ i.toNatClampNeg < ln h r then some (iv h r i.toNatClampNeg, h) else none
def oEquals (r o : Nat) (h : Hp) : Option (Int32 × Hp) := if tg h r = 1028 ∧ tg h o = 1028 then some (if txt h r = txt h o then 1 else 0, h) else none
/-- where s lies in l for the first time -/
def fndL (s : List Int32) : Nat → List Int32 → Option Nat
  | k, [] => if s.isPrefixOf [] then some k else none
  | k, x :: l => if s.isPrefixOf (x :: l) then some k else fndL s (k + 1) l
def oIndexOf (r o : Nat) (h : Hp) : Option (Int32 × Hp) := if tg h r = 1028 ∧ tg h o = 1028 then some (match fndL (txt h o) 0 (txt h r) with | some k => Int32.ofNat k | none => -1, h) else none
def oSbInit (r : Nat) (h : Hp) : Option (Unit × Hp) := if tg h r = 29 then (pay 17 h).bind fun h => some ((), hset h r (ofTxt 1029 [])) else none
/-- more letters: once they are more than sixteen, room for thirty-four -/
def sbAdd (r : Nat) (l : List Int32) (h : Hp) : Option (Nat × Hp) := if tg h r = 1029 ∧ ln h r + l.length ≤ 34 then (pay (if ln h r ≤ 16 ∧ 16 < ln h r + l.length then 35 else 0) h).bind fun h => some (r, hset h r (ofTxt 1029 (txt h r ++ l))) else none
def oSbC (r : Nat) (c : Int32) (h : Hp) : Option (Nat × Hp) := if 0 ≤ c ∧ c < 256 then sbAdd r [c] h else none
def oSbI (r : Nat) (v : Int32) (h : Hp) : Option (Nat × Hp) := if 0 ≤ v ∧ v < 100 then sbAdd r (if v < 10 then [48 + v] else [48 + v / 10, 48 + (v - v / 10 * 10)]) h else none
def oSbS (r o : Nat) (h : Hp) : Option (Nat × Hp) := if tg h o = 1028 then sbAdd r (txt h o) h else none
def oSbStr (r : Nat) (h : Hp) : Option (Nat × Hp) := if tg h r = 1029 then mkc (ln h r + 6) (ofTxt 1028 (txt h r)) h else none
-- lists: what lies in them, how often they were changed (0)
def oAlInit (r : Nat) (h : Hp) : Option (Unit × Hp) := if tg h r = 25 then (pay 210 h).bind fun h => some ((), hset h r (1025, 0, fun _ => 0, fun _ => 0, fun _ => 0)) else none
def oAlAdd (r e : Nat) (h : Hp) : Option (Int32 × Hp) := if tg h r = 1025 ∧ ln h r < 73 then some (1, hset h r (1025, ln h r + 1, fun k => if k = 0 then iv h r 0 + 1 else 0, fun k => if k = ln h r then e else rf h r k, fun _ => 0)) else none
def oAlClear (r : Nat) (h : Hp) : Option (Unit × Hp) := if tg h r = 1025 then some ((), hset h r (1025, 0, fun k => if k = 0 then iv h r 0 + 1 else 0, fun _ => 0, fun _ => 0)) else none
def oAlGet (r : Nat) (i : Int32) (h : Hp) : Option (Nat × Hp) := if tg h r = 1025 ∧ ¬ i < 0 ∧ i.toNatClampNeg < ln h r then some (rf h r i.toNatClampNeg, h) else none
def oAlSize (r : Nat) (h : Hp) : Option (Int32 × Hp) := if tg h r = 1025 then some (Int32.ofNat (ln h r), h) else none
def oAlIter (r : Nat) (h : Hp) : Option (Nat × Hp) := if tg h r = 1025 then mkc 5 (1023, 0, fun k => if k = 1 then iv h r 0 else 0, fun k => if k = 0 then r else 0, fun _ => 0) h else none
-- an iterator: its list or map (0), how far it is (0), what it expects (1)
def oItHas (i : Nat) (h : Hp) : Option (Int32 × Hp) := if tg h i = 1023 ∧ tg h (rf h i 0) = 1025 then some (if iv h i 0 = Int32.ofNat (ln h (rf h i 0)) then 0 else 1, h) else none
def oItNext (i : Nat) (h : Hp) : Option (Nat × Hp) := if tg h i = 1023 ∧ tg h (rf h i 0) = 1025 ∧ iv h i 1 = iv h (rf h i 0) 0 ∧ ¬ iv h i 0 < 0 ∧ (iv h i 0).toNatClampNeg < ln h (rf h i 0) then some (rf h (rf h i 0) (iv h i 0).toNatClampNeg, hset h i (1023, 0, fun k => if k = 0 then iv h i 0 + 1 else iv h i k, (h.2.2 i).2.2.2.1, fun _ => 0)) else none
-- links and votes, once made never changed
def oLinkInit (r : Nat) (a b : Int32) (h : Hp) : Option (Unit × Hp) := if tg h r = 10 then some ((), hset h r (510, 0, fun k => if k = 0 then a else if k = 1 then b else 0, fun _ => 0, fun _ => 0)) else none
def oVoteInit (r : Nat) (v : Int32) (k : Nat) (h : Hp) : Option (Unit × Hp) := if tg h r = 12 ∧ tg h k = 510 then some ((), hset h r (512, 0, fun j => if j = 0 then v else 0, fun j => if j = 1 then k else 0, fun _ => 0)) else none
-- maps: the key of the j-th entry at 2j + 2, its value at 2j + 3; how often it was changed (0); its key set at 0
/-- what may be a key -/
def lnkOk (h : Hp) (k : Nat) : Bool := decide (tg h k = 510 ∧ 0 ≤ iv h k 0 ∧ iv h k 0 < iv h k 1 ∧ iv h k 1 < 20)
def keyOk (h : Hp) (k : Nat) : Bool := decide (tg h k = 1028 ∨ lnkOk h k ∨ (tg h k = 512 ∧ 0 ≤ iv h k 0 ∧ iv h k 0 < 8 ∧ lnkOk h (rf h k 1)) ∨ (tg h k = 535 ∧ 0 ≤ iv h k 0 ∧ iv h k 0 < 8))
/-- keys alike -/
def keq (h : Hp) (a b : Nat) : Bool := tg h a == tg h b && (if tg h a = 1028 then txt h a == txt h b else if tg h a = 510 then iv h a 0 == iv h b 0 && iv h a 1 == iv h b 1 else if tg h a = 512 then iv h a 0 == iv h b 0 && (iv h (rf h a 1) 0 == iv h (rf h b 1) 0 && iv h (rf h a 1) 1 == iv h (rf h b 1) 1) else iv h a 0 == iv h b 0)
def kfind (h : Hp) (r k : Nat) : Option Nat := (List.range (ln h r)).find? fun j => keq h (rf h r (2 * j + 2)) k
/-- a map or a set made: what its tables will cost at most is paid -/
def oMpInit (T n : Nat) (r : Nat) (h : Hp) : Option (Unit × Hp) := if tg h r + 1000 = T then (pay n h).bind fun h => some ((), hset h r (T, 0, fun _ => 0, fun _ => 0, fun _ => 0)) else none
def oHsInit (r : Nat) (c : Int32) (h : Hp) : Option (Unit × Hp) := if c = 192 then oMpInit 1034 266 r h else none
def oMpHas (Ts : List Nat) (r k : Nat) (h : Hp) : Option (Int32 × Hp) := if tg h r ∈ Ts ∧ keyOk h k then some (if (kfind h r k).isSome then 1 else 0, h) else none
def oMpGet (T : Nat) (r k : Nat) (h : Hp) : Option (Nat × Hp) := if tg h r = T ∧ keyOk h k then some (match kfind h r k with | some j => rf h r (2 * j + 3) | none => 0, h) else none
def mpAdd (r k v : Nat) (h : Hp) : Hp := hset h r (tg h r, ln h r + 1, fun j => if j = 0 then iv h r 0 + 1 else 0, fun j => if j = 2 * ln h r + 2 then k else if j = 2 * ln h r + 3 then v else rf h r j, fun _ => 0)
def oMpPut (r k v : Nat) (h : Hp) : Option (Nat × Hp) := if (tg h r = 1022 ∨ tg h r = 1033) ∧ keyOk h k ∧ v ≠ 0 then (match kfind h r k with
  | some j => some (rf h r (2 * j + 3), hset h r (tg h r, ln h r, (h.2.2 r).2.2.1, fun i => if i = 2 * j + 3 then v else rf h r i, fun _ => 0))
  | none => if ln h r < 48 then (pay (if tg h r = 1022 then 7 else 17) h).bind fun h => some (0, mpAdd r k v h) else none) else none
def oMpClear (T : Nat) (r : Nat) (h : Hp) : Option (Unit × Hp) := if tg h r = T then some ((), hset h r (T, 0, fun k => if k = 0 then iv h r 0 + 1 else 0, fun j => if j = 0 then rf h r 0 else 0, fun _ => 0)) else none
def oMpSize (r : Nat) (h : Hp) : Option (Int32 × Hp) := if tg h r = 1022 ∨ tg h r = 1033 then some (Int32.ofNat (ln h r), h) else none
def oKeySet (r : Nat) (h : Hp) : Option (Nat × Hp) := if tg h r = 1022 then (if rf h r 0 ≠ 0 then some (rf h r 0, h) else (mkc 3 (1026, 0, fun _ => 0, fun j => if j = 0 then r else 0, fun _ => 0) h).bind fun p => some (p.1, hset p.2 r (1022, ln h r, (h.2.2 r).2.2.1, fun j => if j = 0 then p.1 else rf h r j, fun _ => 0))) else none
def oKsIter (r : Nat) (h : Hp) : Option (Nat × Hp) := if tg h r = 1026 ∧ tg h (rf h r 0) = 1022 then mkc 6 (1027, 0, fun k => if k = 1 then iv h (rf h r 0) 0 else 0, fun k => if k = 0 then rf h r 0 else 0, fun _ => 0) h else none
def oKiHas (i : Nat) (h : Hp) : Option (Int32 × Hp) := if tg h i = 1027 ∧ tg h (rf h i 0) = 1022 ∧ iv h i 1 = iv h (rf h i 0) 0 then some (if iv h i 0 = Int32.ofNat (ln h (rf h i 0)) then 0 else 1, h) else none
def oKiNext (i : Nat) (h : Hp) : Option (Nat × Hp) := if tg h i = 1027 ∧ tg h (rf h i 0) = 1022 ∧ iv h i 1 = iv h (rf h i 0) 0 ∧ ¬ iv h i 0 < 0 ∧ (iv h i 0).toNatClampNeg < ln h (rf h i 0) then some (rf h (rf h i 0) (2 * (iv h i 0).toNatClampNeg + 2), hset h i (1027, 0, fun k => if k = 0 then iv h i 0 + 1 else iv h i k, (h.2.2 i).2.2.2.1, fun _ => 0)) else none
-- a set of votes: its keys are kept as a map keeps them
def oHsAdd (r k : Nat) (h : Hp) : Option (Int32 × Hp) := if tg h r = 1034 ∧ keyOk h k then (match kfind h r k with
  | some _ => some (0, h)
  | none => if ln h r < 48 then (pay 5 h).bind fun h => some (1, mpAdd r k 0 h) else none) else none
-- an exception's own part: nothing of it is looked at
def oExInit (r m c : Nat) (a b : Int32) (h : Hp) : Option (Unit × Hp) := if r ≠ 0 ∧ tg h r = 8 ∧ m = 0 ∧ c = 0 ∧ a = 0 ∧ b = 0 ∧ rf h r 0 = 0 ∧ rf h r 1 = 0 ∧ rf h r 2 = 0 ∧ rf h r 3 = 0 then some ((), h) else none
def oIntValue (r : Nat) (h : Hp) : Option (Int32 × Hp) := if tg h r = 535 then some (iv h r 0, h) else none
