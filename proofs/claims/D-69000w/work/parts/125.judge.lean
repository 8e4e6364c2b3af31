/-! 125: what judging comes to -/
/-- a variable: name, shape, type (of an instance: its block, standard ones first), section, cell, first index, how many, place, constant -/
abbrev VR : Type := Int32 × Int32 × Int32 × Int32 × Nat × Int32 × Nat × Int32 × Int32
def vN (v : VR) : Int32 := v.1
def vS (v : VR) : Int32 := v.2.1
def vT (v : VR) : Int32 := v.2.2.1
def vE (v : VR) : Int32 := v.2.2.2.1
def vC (v : VR) : Nat := v.2.2.2.2.1
def vW (v : VR) : Int32 := v.2.2.2.2.2.1
def vM (v : VR) : Nat := v.2.2.2.2.2.2.1
def vP (v : VR) : Int32 := v.2.2.2.2.2.2.2.1
def vK (v : VR) : Int32 := v.2.2.2.2.2.2.2.2
def vr0 : VR := (-1, 0, -1, 0, 0, 0, 0, -1, 0)
/-- a block: node, name, kind, first variable, cells, place -/
abbrev BL : Type := Nat × Int32 × Int32 × Nat × Nat × Int32
def bN (b : BL) : Nat := b.1
def bA (b : BL) : Int32 := b.2.1
def bK (b : BL) : Int32 := b.2.2.1
def bF (b : BL) : Nat := b.2.2.2.1
def bC (b : BL) : Nat := b.2.2.2.2.1
def bP (b : BL) : Int32 := b.2.2.2.2.2
def bl0 : BL := (0, -1, -1, 0, 0, -1)
/-- blocks, variables, of nodes: type, cell, meaning -/
abbrev JS : Type := List BL × List VR × (Nat → Int32 × Int32 × Int32)
abbrev JE : Type := Int32 × Int32
abbrev JR : Type := Except JE JS
def jB (s : JS) : List BL := s.1
def jV (s : JS) : List VR := s.2.1
def jT (s : JS) (k : Nat) : Int32 := (s.2.2 k).1
def jC (s : JS) (k : Nat) : Int32 := (s.2.2 k).2.1
def jM (s : JS) (k : Nat) : Int32 := (s.2.2 k).2.2
def setA (s : JS) (k : Nat) (a : Int32 × Int32 × Int32) : JS := (s.1, s.2.1, fun j => if j = k then a else s.2.2 j)
def setT (s : JS) (k : Nat) (t : Int32) : JS := setA s k (t, jC s k, jM s k)
def setC (s : JS) (k : Nat) (c : Int32) : JS := setA s k (jT s k, c, jM s k)
def setM (s : JS) (k : Nat) (m : Int32) : JS := setA s k (jT s k, jC s k, m)
/-- the block at hand -/
def cb (s : JS) : BL := s.1.getD (s.1.length - 1) bl0
def setB (s : JS) (b : BL) : JS := (s.1.set (s.1.length - 1) b, s.2.1, s.2.2)
def setV (s : JS) (v : Nat) (x : VR) : JS := (s.1, s.2.1.set v x, s.2.2)
def addC (s : JS) (n : Nat) : JS := setB s (bN (cb s), bA (cb s), bK (cb s), bF (cb s), bC (cb s) + n, bP (cb s))
def stdW : List (List Int32) := [[84, 79, 78], [84, 79, 70], [84, 80], [67, 84, 85], [67, 84, 68], [82, 95, 84, 82, 73, 71], [70, 95, 84, 82, 73, 71], [83, 82], [82, 83], [65, 66, 83], [77, 73, 78], [77, 65, 88], [76, 73, 77, 73, 84], [83, 69, 76], [83, 72, 76], [83, 72, 82], [84, 79, 95, 73, 78, 84], [84, 79, 95, 68, 73, 78, 84], [84, 79, 95, 66, 79, 79, 76]]
def ptsW : List (List Int32) := [[73, 78], [80, 84], [81], [69, 84], [67, 85], [82], [80, 86], [67, 86], [67, 68], [76, 68], [67, 76, 75], [83, 49], [81, 49], [83], [82, 49]]
/-- a standard block's inputs or outputs: which part, type, cell -/
def pinL (t : Nat) (i : Bool) : List (Nat × Int32 × Nat) :=
  if i = true then (if t < 3 then [(0, 0, 0), (1, 2, 1)] else if t = 3 then [(4, 0, 0), (5, 0, 1), (6, 1, 2)] else if t = 4 then [(8, 0, 0), (9, 0, 1), (6, 1, 2)] else if t < 7 then [(10, 0, 0)] else if t = 7 then [(11, 0, 0), (5, 0, 1)] else [(13, 0, 0), (14, 0, 1)])
  else (if t < 3 then [(2, 0, 2), (3, 2, 3)] else if t < 5 then [(2, 0, 3), (7, 1, 4)] else if t < 7 then [(2, 0, 1)] else [(12, 0, 2)])
def bfd (name kind : Int32) : List BL → Nat → Option Nat
  | [], _ => none
  | b :: l, i => if bA b = name ∧ (kind = -1 ∨ bK b = kind) then some i else bfd name kind l (i + 1)
def vfd (va : List VR) (name : Int32) : Nat → Nat → Option Nat
  | 0, _ => none
  | f + 1, v => if vN (va.getD v vr0) = name then some v else vfd va name f (v + 1)
def isN (t : Int32) : Bool := decide (t = 1) || decide (t = 2)
def fitT (t u : Int32) : Bool := decide (t = u) || (decide (t = 1) && decide (u = 2))
def widT (a b : Int32) : Int32 := if a = 2 ∨ b = 2 then 2 else 1
def botT (a b : Int32) : Int32 := if a = 0 ∧ b = 0 then 0 else if (isN a && isN b) = true then widT a b else -1
def twoT (s a b : Int32) : Int32 := if s < 3 then botT a b else if s < 5 then (if botT a b = -1 then -1 else 0) else if (isN a && isN b) = false then -1 else if s < 9 then 0 else botT a b
def w16 (v : Int32) : Bool := decide (-32768 ≤ v) && decide (v ≤ 32767)
/-- the cell of a place -/
def plC (p : Nat) : Nat := if p < 768 then p else 768 + 64 * (p / 256 - 3) + p % 256
def jO (s : Option Nat) : Int32 := match s with | none => -1 | some j => nI j
section
variable (g : Nat → NI) (N : List (List Int32)) (M : Nat)
def sdI (v : Int32) : Int32 := idxW (N.getD (Int32.toNatClampNeg v) []) stdW 0
def ptI (v : Int32) : Int32 := idxW (N.getD (Int32.toNatClampNeg v) []) ptsW 0
def rl (c : Bool) (e : Int32) (k : Nat) (s : JS) : JR := if c = true then .ok s else .error (e, gP g k)
def chs : Nat → Option Nat → List Nat
  | 0, _ => []
  | _ + 1, none => []
  | f + 1, some c => c :: chs f (gX g c)
def ups : Nat → Option Nat → List Nat
  | 0, _ => []
  | _ + 1, none => []
  | f + 1, some c => c :: ups f (gU g c)
/-- those below a node, those above it -/
def kid (k : Nat) : List Nat := chs g M (gF g k)
def anc' (k : Nat) : List Nat := ups g M (gU g k)
def kd (k i : Nat) : Nat := (kid g M k).getD i 0
/-- the variable of the block at hand with a name -/
def vlk (s : JS) (name : Int32) : Option Nat := vfd (jV s) name ((jV s).length - bF (cb s)) (bF (cb s))
/-- where a block's variables end -/
def vEnd (s : JS) (b : Nat) : Nat := if b + 1 < (jB s).length then bF ((jB s).getD (b + 1) bl0) else (jV s).length
def bpre (s : JS) : List BL := (jB s).take ((jB s).length - 1)
def loopOf (k : Nat) (name : Int32) : Bool := (anc' g M k).any (fun p => decide (gK g p = 19) && decide (gV g p = name))
/-- what a node names may be assigned -/
def asgB (s : JS) (name : Int32) : Bool := match vlk s name with | none => true | some v => decide (vE ((jV s).getD v vr0) ≠ 1) && !(decide (0 ≤ vP ((jV s).getD v vr0)) && (decide (Int32.toNatClampNeg (vP ((jV s).getD v vr0)) / 256 = 0) || decide (Int32.toNatClampNeg (vP ((jV s).getD v vr0)) / 256 = 3)))
def asgS (k : Nat) (name : Int32) (s : JS) : JR := (rl g (asgB s name) 29 k s).bind (rl g (!loopOf g M k name) 30 k)
/-- the variable that a node names, of a shape -/
def nmdS (k : Nat) (shape : Int32) (s : JS) (f : Nat → JR) : JR := match vlk s (gV g k) with
  | none => .error (20, gP g k)
  | some v => if vS ((jV s).getD v vr0) = shape then f v else .error (21, gP g k)
/-- the cells of a block that is a type -/
def celT (s : JS) (t : Int32) : Nat := if t < 9 then (if t < 5 then 6 else 3) else bC ((jB s).getD (Int32.toNatClampNeg t - 9) bl0)
/-- a part of a block that is a type: type and cell -/
def pinS (s : JS) (t name : Int32) (i : Bool) : Option (Int32 × Nat) :=
  if t < 9 then ((pinL (Int32.toNatClampNeg t) i).find? (fun p => decide (ptI N name = nI p.1))).map (fun p => p.2)
  else match vfd (jV s) name (vEnd s (Int32.toNatClampNeg t - 9) - bF ((jB s).getD (Int32.toNatClampNeg t - 9) bl0)) (bF ((jB s).getD (Int32.toNatClampNeg t - 9) bl0)) with
    | none => none
    | some v => if vE ((jV s).getD v vr0) = (if i = true then 1 else 2) then some (vT ((jV s).getD v vr0), vC ((jV s).getD v vr0)) else none
def namesL : Nat → Option Nat → List Nat × Option Nat
  | 0, o => ([], o)
  | _ + 1, none => ([], none)
  | f + 1, some c => if gK g c = 6 then (c :: (namesL f (gX g c)).1, (namesL f (gX g c)).2) else ([], some c)
def declN (k : Nat) : List Nat := (namesL g M (gF g k)).1
def declP (k : Nat) : Int32 := if gK g ((namesL g M (gF g k)).2.getD 0) = 7 then gV g ((namesL g M (gF g k)).2.getD 0) else -1
/-- the node of a declaration's type -/
def declT (k : Nat) : Nat := if gK g ((namesL g M (gF g k)).2.getD 0) = 7 then (gX g ((namesL g M (gF g k)).2.getD 0)).getD 0 else (namesL g M (gF g k)).2.getD 0
def declS (k : Nat) : Int32 := if gK g (declT g M k) = 8 then 0 else if gK g (declT g M k) = 9 then 1 else 2
def declY (s : JS) (k : Nat) : Int32 := if declS g M k = 1 then gV g (kd g M (declT g M k) 2) else if declS g M k = 2 then (if 0 ≤ sdI N (gV g (declT g M k)) then sdI N (gV g (declT g M k)) else 9 + jO (bfd (gV g (declT g M k)) 2 (bpre s) 0)) else gV g (declT g M k)
def rightC (c : Nat) (shape type place : Int32) : Bool := !(decide (shape = 2) || (decide (0 ≤ place) && (decide (Int32.toNatClampNeg place / 256 = 0) || decide (Int32.toNatClampNeg place / 256 = 3))) || (decide (gK g c = 31) != decide (type = 0))) && (decide (type ≠ 1) || w16 (gV g c))
/-- variables are laid out, one behind the other -/
def layS (shape type section_ : Int32) (many : Nat) (low place const : Int32) : List Nat → Nat → JS → JS
  | [], _, s => s
  | c :: l, v, s =>
    let cell := if place < 0 then bC (cb s) else plC (Int32.toNatClampNeg place)
    layS shape type section_ many low place const l (v + 1) (setC (addC (setV s v (vN ((jV s).getD v vr0), shape, type, section_, cell, low, many, place, const)) (if place < 0 then many else 0)) c (nI cell))
def declM (s : JS) (k : Nat) : Nat := if declS g M k = 0 then 1 else if declS g M k = 2 then celT s (declY g N M s k) else Int32.toNatClampNeg (gV g (kd g M (declT g M k) 1) - gV g (kd g M (declT g M k) 0) + 1)
def declS' (k : Nat) : Int32 := gV g ((gU g k).getD 0)
def lvDecl (k : Nat) (s : JS) : JR :=
  (rl g (decide (declS' g k = 0) || decide (declS g M k = 0)) 43 k s).bind fun s =>
  (rl g (decide (declP g M k < 0) || (decide (declS g M k = 0) && decide (declY g N M s k = if declP g M k < 768 then 0 else 1))) 15 k s).bind fun s =>
  (rl g (match gX g (declT g M k) with | none => true | some c => rightC g c (declS g M k) (declY g N M s k) (declP g M k)) 18 k s).bind fun s =>
  let s' := layS (declS g M k) (declY g N M s k) (declS' g k) (declM g N M s k) (if declS g M k = 1 then gV g (kd g M (declT g M k) 0) else 0) (declP g M k) (match gX g (declT g M k) with | none => 0 | some c => gV g c) (declN g M k) ((jV s).length - (declN g M k).length) s
  rl g (decide (bC (cb s') ≤ 4096)) 19 k s'
/-- the types of a FOR's constants are right -/
def wthn (c : Nat) (t : Int32) : Bool := decide (gK g c = 30) && (decide (t = 2) || w16 (gV g c))
def byOf (k : Nat) : Int := if gK g (kd g M k 2) = 11 then 1 else (gV g (kd g M k 2)).toInt
/-- how often a FOR goes round -/
def tmsI (k : Nat) : Int :=
  let way := (gV g (kd g M k 1)).toInt - (gV g (kd g M k 0)).toInt
  if way ≠ 0 ∧ (decide (0 < way) != decide (0 < byOf g M k)) = true then 0 else way.tdiv (byOf g M k) + 1
def forOK (k : Nat) (t : Int32) : Bool := wthn g (kd g M k 0) t && wthn g (kd g M k 1) t && (decide (gK g (kd g M k 2) = 11) || wthn g (kd g M k 2) t) && decide (byOf g M k ≠ 0) && decide (tmsI g M k ≤ 1000000)
def lvFor (k : Nat) (s : JS) : JR := nmdS g k 0 s fun v =>
  (rl g (isN (vT ((jV s).getD v vr0))) 22 k s).bind fun s =>
  (asgS g M k (gV g k) s).bind fun s =>
  rl g (forOK g M k (vT ((jV s).getD v vr0))) 36 k (setC s k (nI (vC ((jV s).getD v vr0))))
def stdT (s : JS) (f : Int32) (a : List Nat) : Int32 :=
  let ta := jT s (a.getD 0 0)
  let tb := if a.length < 2 then 1 else jT s (a.getD 1 0)
  let tc := if a.length < 3 then 1 else jT s (a.getD 2 0)
  let nu := isN ta && isN tb && isN tc
  if f < 4 then (if nu = true then (if f = 0 then ta else widT (widT ta tb) (if f = 3 then tc else 1)) else -1)
  else if f = 4 then (if ta = 0 then botT tb tc else -1)
  else if f < 7 then (if nu = true then ta else -1)
  else if f = 9 then (if isN ta = true then 0 else -1)
  else if f = 7 then 1 else 2
/-- a block's inputs: their variables -/
def inpL (s : JS) (b : Nat) : List Nat := ((List.range (vEnd s b - bF ((jB s).getD b bl0))).map (fun i => bF ((jB s).getD b bl0) + i)).filter (fun v => decide (vE ((jV s).getD v vr0) = 1))
def lvCall (k : Nat) (s : JS) : JR :=
  let f := sdI N (gV g k) - 9
  match bfd (gV g k) 1 (bpre s) 0 with
  | none => if f < 0 then .error (24, gP g k) else
      (rl g (decide ((kid g M k).length = if f = 3 ∨ f = 4 then 3 else if f = 0 ∨ 7 ≤ f then 1 else 2)) 25 k s).bind fun s =>
      (rl g (decide (stdT s f (kid g M k) ≠ -1)) 26 k (setT (setM s k (100 + f)) k (stdT s f (kid g M k))))
  | some b =>
      (rl g (decide ((kid g M k).length = (inpL s b).length)) 25 k s).bind fun s =>
      (rl g (((kid g M k).zip (inpL s b)).all (fun p => fitT (jT s p.1) (vT ((jV s).getD p.2 vr0)))) 26 k (setT (setM s k (nI b)) k (vT ((jV s).getD (bF ((jB s).getD b bl0)) vr0))))
def lvExpr (k : Nat) (s : JS) : JR :=
  if gK g k = 30 then .ok (setT s k (if gV g k ≤ 32767 then 1 else 2))
  else if gK g k = 31 then .ok (setT s k 0)
  else if gK g k = 32 then nmdS g k 1 s fun v => (rl g (isN (jT s (kd g M k 0))) 22 k (setC (setT s k (vT ((jV s).getD v vr0))) k (nI (vC ((jV s).getD v vr0)))))
  else if gK g k = 33 then nmdS g k 2 s fun v => match pinS N s (vT ((jV s).getD v vr0)) (gV g (kd g M k 0)) false with
    | none => .error (23, gP g k)
    | some p => .ok (setC (setT s k p.1) k (nI (vC ((jV s).getD v vr0) + p.2)))
  else if gK g k = 34 then lvCall g N M k s
  else if gK g k = 35 then rl g (decide (twoT (gV g k) (jT s (kd g M k 0)) (jT s (kd g M k 1)) ≠ -1)) 27 k (setT s k (twoT (gV g k) (jT s (kd g M k 0)) (jT s (kd g M k 1))))
  else rl g (decide (gV g k = 1) || isN (jT s (kd g M k 0))) 28 k (setT s k (jT s (kd g M k 0)))
def wdt (r : Nat) : Nat := ((kid g M r).filter (fun c => decide (gK g c ≠ 29))).length
def lvRung (k : Nat) (s : JS) : JR :=
  if gK g k = 23 then rl g ((kid g M k).all (fun r => decide (wdt g M r ≤ 12) && decide (wdt g M r = wdt g M (kd g M k 0))) && decide ((kid g M k).length ≤ 12)) 38 k s
  else if gK g k = 25 then rl g (decide (jT s (kd g M k 0) = 0)) 41 k s
  else if gK g k = 28 then (rl g (decide (gX g k = none)) 39 k s).bind fun s => (rl g (decide (jT s (kd g M k 0) = 0)) 41 k s).bind fun s => asgS g M k (gV g (kd g M k 0)) s
  else if gK g k = 29 then rl g (decide (gX g ((gU g k).getD 0) ≠ none)) 40 k s
  else .ok s
def lvPar (k : Nat) (s : JS) : JR := match vlk s (gV g ((gU g k).getD 0)) with
  | none => .ok s
  | some v => if vS ((jV s).getD v vr0) ≠ 2 then .ok s else match pinS N s (vT ((jV s).getD v vr0)) (gV g k) true with
    | none => .error (32, gP g k)
    | some p => (rl g (((kid g M ((gU g k).getD 0)).takeWhile (fun c => decide (c ≠ k))).all (fun c => decide (gV g c ≠ gV g k))) 33 k s).bind fun s =>
      rl g (fitT (jT s (kd g M k 0)) p.1) 31 k (setC s k (nI (vC ((jV s).getD v vr0) + p.2)))
def lvStat (k : Nat) (s : JS) : JR :=
  if gK g k = 12 then (asgS g M k (gV g (kd g M k 0)) s).bind (rl g (fitT (jT s (kd g M k 1)) (jT s (kd g M k 0))) 31 k)
  else if gK g k = 13 then nmdS g k 2 s fun v => .ok (setM (setC s k (nI (vC ((jV s).getD v vr0)))) k (if vT ((jV s).getD v vr0) < 9 then 100 + vT ((jV s).getD v vr0) else vT ((jV s).getD v vr0) - 9))
  else if gK g k = 14 then lvPar g N M k s
  else if gK g k = 15 then rl g ((kid g M k).all (fun c => decide (gK g c = 11) || decide (jT s c = 0))) 34 k s
  else if gK g k = 16 then rl g (isN (jT s (kd g M k 0))) 34 k s
  else if gK g k = 18 then rl g (decide (gK g (kd g M k 0) = 30) && decide (gK g ((gL g k).getD 0) = 30) && decide (gV g (kd g M k 0) ≤ gV g ((gL g k).getD 0))) 35 k s
  else if gK g k = 19 then lvFor g M k s
  else if gK g k = 20 then rl g ((anc' g M k).any (fun p => decide (gK g p = 19))) 37 k s
  else .ok s
def lvName (k : Nat) (s : JS) : JR :=
  if gK g ((gU g k).getD 0) = 5 then
    rl g (decide (vlk s (gV g k) = none) && decide (sdI N (gV g k) < 0) && decide (bA (cb s) ≠ gV g k) && decide (bfd (gV g k) (-1) (bpre s) 0 = none)) 12 k (jB s, jV s ++ [(gV g k, 0, -1, gV g ((gU g ((gU g k).getD 0)).getD 0), 0, 0, 1, -1, 0)], s.2.2)
  else if gK g ((gU g k).getD 0) = 33 then .ok s
  else nmdS g k 0 s fun v => .ok (setC (setT s k (vT ((jV s).getD v vr0))) k (nI (vC ((jV s).getD v vr0))))
/-- what leaving a node comes to: not of a block, nor of the text -/
def lvS (k : Nat) (s : JS) : JR :=
  if gK g k = 4 then rl g (decide (gV g k = 0) || (decide (bK (cb s) ≠ 3) && (decide (gV g k = 1) || decide (bK (cb s) ≠ 1)))) 13 k s
  else if gK g k = 5 then lvDecl g N M k s
  else if gK g k = 6 then lvName g N k s
  else if gK g k = 7 then rl g (decide (bK (cb s) = 3) && decide (kd g M ((gU g k).getD 0) 1 = k) && ((jV s).drop (bF (cb s))).all (fun v => decide (vP v ≠ gV g k))) 14 k s
  else if gK g k = 8 then .ok (setT s k (gV g k))
  else if gK g k = 9 then rl g (decide (bK (cb s) ≠ 1) && decide (gK g (kd g M k 0) = 30) && decide (gK g (kd g M k 1) = 30) && decide ((gV g (kd g M k 0)).toInt ≤ (gV g (kd g M k 1)).toInt) && decide ((gV g (kd g M k 1)).toInt - (gV g (kd g M k 0)).toInt < 256)) 16 k s
  else if gK g k = 10 then rl g (((decide (0 ≤ sdI N (gV g k)) && decide (sdI N (gV g k) < 9)) || decide (bfd (gV g k) 2 (bpre s) 0 ≠ none)) && decide (bK (cb s) ≠ 1)) 17 k s
  else if gK g k < 22 then lvStat g N M k s
  else if gK g k < 30 then lvRung g M k s
  else lvExpr g N M k s
/-- nodes below a block -/
def jdE : Tr → Nat → JS → JR
  | .leaf, _, s => .ok s
  | .inner _ _ _ l r, k, s => (jdE l (k + 1) (setA s k (-1, -1, -1))).bind fun s1 => (lvS g N M k s1).bind fun s2 => jdE r (k + 1 + sz l) s2
def enS (k : Nat) (s : JS) : JR :=
  (rl g (decide (jB s = []) || decide (bK (cb s) ≠ 3)) 10 k (setA s k (-1, -1, -1))).bind fun s =>
  (rl g (decide (sdI N (gV g k) < 0) && decide (bfd (gV g k) (-1) (jB s) 0 = none)) 11 k s).bind fun s =>
  .ok (jB s ++ [(k, gV g k, gK g k, (jV s).length, if gK g k = 3 then 960 else if gK g k = 1 then 1 else 0, -1)], if gK g k = 1 then jV s ++ [(gV g k, 0, gV g (k + 1), 0, 0, 0, 1, -1, 0)] else jV s, s.2.2)
def gv1 (s : JS) (i : Nat) : JS := if gK g i = 16 then addC (setC s i (nI (bC (cb s)))) 1 else if gK g i = 19 then addC (setM s i (nI (bC (cb s)))) 1 else s
def gv2 (s : JS) (i : Nat) : JS := if gK g i = 25 ∧ 1 < gV g i then addC (setC s i (nI (bC (cb s)))) 1 else s
def rngL (k e : Nat) : List Nat := (List.range (e - k)).map (fun i => k + i)
def lvBlock (k e : Nat) (s : JS) : JR :=
  (rl g (decide (gK g k ≠ 1) || decide ((inpL s ((jB s).length - 1)).length ≤ 8)) 44 k s).bind fun s =>
  .ok (addC ((rngL k e).foldl (gv2 g) ((rngL k e).foldl (gv1 g) s)) (if (rngL k e).any (fun i => decide (gK g i = 22)) = true then 156 else 0))
def jdB : Tr → Nat → JS → JR
  | .leaf, _, s => .ok s
  | .inner _ _ _ l r, k, s => (enS g N k s).bind fun s0 => (jdE g N M l (k + 1) s0).bind fun s1 => (lvBlock g k (k + 1 + sz l) s1).bind fun s2 => jdB r (k + 1 + sz l) s2
/-- functions get their places behind the program's cells -/
def plcS : List BL → Nat → List BL × Nat
  | [], a => ([], a)
  | b :: l, a => if bK b = 1 then ((bN b, bA b, bK b, bF b, bC b, nI a) :: (plcS l (a + bC b)).1, (plcS l (a + bC b)).2) else ((bN b, bA b, bK b, bF b, bC b, if bK b = 3 then 0 else -1) :: (plcS l a).1, (plcS l a).2)
def lvText (s : JS) : JR :=
  (rl g (decide (jB s ≠ []) && decide (bK (cb s) = 3)) 10 0 s).bind fun s =>
  rl g (decide ((plcS (jB s) (bC (cb s))).2 ≤ 8192)) 42 0 ((plcS (jB s) (bC (cb s))).1, s.2.1, s.2.2)
end
/-- all of judging: a fault and its place, or what is known -/
def jdgS (T : Tr) (N : List (List Int32)) : JR := match T with
  | .leaf => .ok ([], [], fun _ => (-1, -1, -1))
  | .inner _ _ _ t _ => (jdB (gT T) N (sz T) t 1 ([], [], fun _ => (-1, -1, -1))).bind (lvText (gT T))
