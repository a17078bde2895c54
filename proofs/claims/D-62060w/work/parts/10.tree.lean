/-! the tree as a plain thing: made, order, parent, depth, name, classes, stack, formatting lists, letters, how many characters -/
set_option maxRecDepth 100000
abbrev TS : Type := Nat × List Nat × (Nat → Nat) × (Nat → Nat) × (Nat → Int) × (Nat → Int) × List Nat × (Nat → List Nat) × (Nat → List Int) × Nat
def tN (T : TS) : Nat := T.1
def tO (T : TS) : List Nat := T.2.1
def tP (T : TS) : Nat → Nat := T.2.2.1
def tD (T : TS) : Nat → Nat := T.2.2.2.1
def tM (T : TS) : Nat → Int := T.2.2.2.2.1
def tC (T : TS) : Nat → Int := T.2.2.2.2.2.1
def tS (T : TS) : List Nat := T.2.2.2.2.2.2.1
def tL (T : TS) : Nat → List Nat := T.2.2.2.2.2.2.2.1
def tX (T : TS) : Nat → List Int := T.2.2.2.2.2.2.2.2.1
def tK (T : TS) : Nat := T.2.2.2.2.2.2.2.2.2
def t0 : TS := (1, [0], fun _ => 0, fun _ => 0, fun _ => 0, fun _ => 0, [0], fun _ => [], fun _ => [], 0)
def setO (T : TS) (o : List Nat) (p d : Nat → Nat) : TS := (T.1, o, p, d, T.2.2.2.2)
def setS (T : TS) (s : List Nat) : TS := (T.1, T.2.1, T.2.2.1, T.2.2.2.1, T.2.2.2.2.1, T.2.2.2.2.2.1, s, T.2.2.2.2.2.2.2)
def setL (T : TS) (l : Nat → List Nat) : TS := (T.1, T.2.1, T.2.2.1, T.2.2.2.1, T.2.2.2.2.1, T.2.2.2.2.2.1, T.2.2.2.2.2.2.1, l, T.2.2.2.2.2.2.2.2)
/-- the last k below n with f; 0 if none -/
def lastB (f : Nat → Bool) : Nat → Nat
  | 0 => 0
  | k + 1 => if f k then k else lastB f k
/-- from the top down: the first with f, 0 if one with g comes first -/
def reachB (f g : Nat → Bool) : Nat → Nat
  | 0 => 0
  | k + 1 => if f k then k else if g k then 0 else reachB f g k
/-- element k of the stack: its name -/
def sNm (T : TS) (k : Nat) : Int := tM T ((tS T).getD k 0)
def topm (T : TS) (x : Int) : Nat := lastB (fun k => decide (1 ≤ k) && decide (sNm T k = x)) (tS T).length
def rch (T : TS) (x : Int) (past : List Int) : Nat := reachB (fun k => decide (1 ≤ k) && decide (sNm T k = x)) (fun k => decide (1 ≤ k) && past.contains (sNm T k)) (tS T).length
def cls (T : TS) (i : Nat) : TS := if i = 0 then T else setS T ((tS T).take i)
def seat (T : TS) (i : Nat) : Nat := (tO T).idxOf i
/-- where the block that begins at p ends -/
def behindA (T : TS) (p : Nat) : Nat := p + 1 + (((tO T).drop (p + 1)).takeWhile (fun q => decide (tD T ((tO T).getD p 0) < tD T q))).length
def isTR (x : Int) : Bool := decide (x = 116) || decide (x = 114)
/-- THE PLACE by the lowest n of the stack: position, depth, parent -/
def plc (T : TS) (n : Nat) : Nat × Nat × Nat :=
  let top := (tS T).getD (n - 1) 0
  let t := lastB (fun k => decide (1 ≤ k) && decide (sNm T k = 116)) n
  if isTR (tM T top) && decide (t ≠ 0) then
    let tb := (tS T).getD t 0
    (seat T tb, tD T tb, tP T tb)
  else (behindA T (seat T top), tD T top + 1, top)
def plcIn (T : TS) (i : Nat) : Nat × Nat × Nat := (behindA T (seat T i), tD T i + 1, i)
def insN (l : List Nat) (k x : Nat) : List Nat := l.take k ++ x :: l.drop k
/-- a new node at a place; none: the page breaks -/
def mkN (T : TS) (x c : Int) (q : Nat × Nat × Nat) : Option TS :=
  if tN T = 24 then none else some (tN T + 1, insN (tO T) q.1 (tN T), va_up (tP T) (tN T) q.2.2, va_up (tD T) (tN T) q.2.1, va_up (tM T) (tN T) x, va_up (tC T) (tN T) c, tS T, va_up (tL T) (tN T) [], va_up (tX T) (tN T) [], tK T)
def psh (T : TS) (i : Nat) : TS := setS T (tS T ++ [i])
def ownr (T : TS) : Nat := (tS T).getD (topm T 99) 0
/-- how many of a list are closed at its end -/
def frm (T : TS) (l : List Nat) : Nat := lastB (fun k => decide (1 ≤ k) && decide (l.getD (k - 1) 0 ∈ tS T)) (l.length + 1)
def renewF (o : Nat) : Nat → Nat → TS → Option TS
  | 0, _, T => some T
  | d + 1, k, T => if k < (tL T o).length then
      match mkN T (tM T ((tL T o).getD k 0)) (tC T ((tL T o).getD k 0)) (plc T (tS T).length) with
      | none => none
      | some T1 => renewF o d (k + 1) (setL (psh T1 (tN T)) (va_up (tL T1) o ((tL T1 o).set k (tN T))))
    else some T
def tRenew (T : TS) : Option TS := renewF (ownr T) (tL T (ownr T)).length (frm T (tL T (ownr T))) T
def isBlk (x : Int) : Bool := [112, 100, 117, 108, 104, 116].contains x
def isFmt (x : Int) : Bool := [98, 105, 115].contains x
/-- an element behind the others in a list; of four the first leaves it -/
def addL (T : TS) (o i : Nat) : TS := setL T (va_up (tL T) o ((if (tL T o).length = 4 then (tL T o).drop 1 else tL T o) ++ [i]))
/-- the new element's own part of a start tag -/
def tPut (T : TS) (x c : Int) (q : Nat × Nat × Nat) : Option TS :=
  match mkN T x c q with
  | none => none
  | some T1 =>
    if x = 104 ∨ x = 107 then some T1
    else if isFmt x then some (addL (psh T1 (tN T)) (ownr T) (tN T))
    else some (psh T1 (tN T))
def tStart (x c : Int) (T : TS) : Option TS :=
  if x = 114 ∨ x = 99 then
    if topm T 116 = 0 then some T
    else if x = 114 then
      let T1 := cls T (topm T 116 + 1)
      tPut T1 x c (plcIn T1 ((tS T1).getD ((tS T1).length - 1) 0))
    else if topm T 116 < topm T 114 then
      let T1 := cls T (topm T 114 + 1)
      tPut T1 x c (plcIn T1 ((tS T1).getD ((tS T1).length - 1) 0))
    else
      let T1 := cls T (topm T 116 + 1)
      match mkN T1 114 0 (plcIn T1 ((tS T1).getD ((tS T1).length - 1) 0)) with
      | none => none
      | some T2 =>
        let T3 := psh T2 (tN T1)
        tPut T3 x c (plcIn T3 ((tS T3).getD ((tS T3).length - 1) 0))
  else if isBlk x then
    let T1 := cls T (rch T 112 [99])
    let T2 := if x = 108 then cls T1 (rch T1 108 [117, 99]) else T1
    tPut T2 x c (plc T2 (tS T2).length)
  else
    match tRenew T with
    | none => none
    | some T1 => tPut T1 x c (plc T1 (tS T1).length)
/-- adoption: the element id, at e of the stack, closed within the block at b -/
def tAdopt (T : TS) (e b id : Nat) : Option TS :=
  let blk := (tS T).getD b 0
  let p := seat T blk
  let n := behindA T p - p
  let mv := ((tO T).drop p).take n
  let T1 := setO T ((tO T).take p ++ (tO T).drop (p + n)) (tP T) (tD T)
  let q := plc T1 e
  let T2 := setO T1 ((tO T1).take q.1 ++ mv ++ (tO T1).drop q.1) (va_up (tP T) blk q.2.2) (fun i => if i = blk then q.2.1 else if i ∈ mv then tD T i + q.2.1 + 1 - tD T blk else tD T i)
  let T3 := setS T2 ((tS T).take e ++ (tS T).drop b)
  match mkN T3 (tM T id) (tC T id) (q.1 + 1, q.2.1 + 1, blk) with
  | none => none
  | some T4 => some (setO T4 (tO T4) (fun i => if i ≠ tN T ∧ i ∈ mv ∧ tP T i = blk then tN T else tP T4 i) (tD T4))
/-- the end tag of a formatting element that THE LIST has -/
def tFmt (T : TS) (k : Nat) : Option TS :=
  let o := ownr T
  let id := (tL T o).getD k 0
  let T1 := setL T (va_up (tL T) o ((tL T o).take k ++ (tL T o).drop (k + 1)))
  if id ∈ tS T then
    let e := (tS T).idxOf id
    let tb := lastB (fun j => decide (e < j) && decide (sNm T j = 116)) (tS T).length
    let bs := ((List.range (tS T).length).filter (fun j => decide (e < j) && isBlk (sNm T j)))
    if tb ≠ 0 then some T
    else if bs = [] then some (cls T1 e)
    else tAdopt T1 e (bs.headD 0) id
  else some T1
def tEnd (x : Int) (T : TS) : Option TS :=
  if x = 112 then
    if rch T 112 [99] = 0 then mkN T 112 0 (plc T (tS T).length) else some (cls T (rch T 112 [99]))
  else if x = 100 ∨ x = 117 then some (cls T (rch T x [99]))
  else if x = 108 then some (cls T (rch T 108 [117, 99]))
  else if x = 116 then some (cls T (rch T 116 []))
  else if x = 114 then some (cls T (rch T 114 [116]))
  else if x = 99 then some (cls T (rch T 99 [116]))
  else if x = 104 ∨ x = 107 then some T
  else
    let o := ownr T
    let k := lastB (fun k => decide (1 ≤ k) && decide (tM T ((tL T o).getD (k - 1) 0) = x)) ((tL T o).length + 1)
    if isFmt x && decide (k ≠ 0) then tFmt T (k - 1)
    else some (cls T (rch T x [112, 100, 117, 108, 104, 116, 114, 99]))
/-- the node before a place in its parent, if there is one -/
def prevSib (T : TS) (q : Nat × Nat × Nat) : Option Nat := (((tO T).take q.1).filter (fun i => decide (i ≠ 0) && decide (tP T i = q.2.2))).getLast?
def addC (T : TS) (i : Nat) (c : Int) : TS := (T.1, T.2.1, T.2.2.1, T.2.2.2.1, T.2.2.2.2.1, T.2.2.2.2.2.1, T.2.2.2.2.2.2.1, T.2.2.2.2.2.2.2.1, va_up (tX T) i (tX T i ++ [c]), tK T + 1)
def tChar (c : Int) (T : TS) : Option TS :=
  if c = 32 ∧ isTR (tM T ((tS T).getD ((tS T).length - 1) 0)) = true then some T
  else match tRenew T with
    | none => none
    | some T1 =>
      let q := plc T1 (tS T1).length
      match prevSib T1 q with
      | some i => if tM T1 i = 1 then some (addC T1 i c) else (match mkN T1 1 0 q with
          | none => none
          | some T2 => some (addC T2 (tN T1) c))
      | none => (match mkN T1 1 0 q with
          | none => none
          | some T2 => some (addC T2 (tN T1) c))
