/-! 081: what reading a text means: the spec of both readers -/
/-- where the token begins, its kind, its value, what is behind it; names; how deep, how nested -/
abbrev PS : Type := Nat × Int32 × Int32 × Nat × List (List Int32) × Nat × Nat
/-- a state, or a fault and its place -/
abbrev RS : Type := Except (Int32 × Nat) PS
def sF (s : PS) : Nat := s.1
def sK (s : PS) : Int32 := s.2.1
def sV (s : PS) : Int32 := s.2.2.1
def sB (s : PS) : Nat := s.2.2.2.1
def sN (s : PS) : List (List Int32) := s.2.2.2.2.1
def sD (s : PS) : Nat := s.2.2.2.2.2.1
def sS (s : PS) : Nat := s.2.2.2.2.2.2
def sDS (s : PS) (d k : Nat) : PS := (s.1, s.2.1, s.2.2.1, s.2.2.2.1, s.2.2.2.2.1, d, k)
def isW (x : RS) (w : Int32) : Bool := match x with | .ok s => decide (sK s = 2) && decide (sV s = w) | .error _ => false
def isS (x : RS) (c : Int32) : Bool := match x with | .ok s => decide (sK s = 5) && decide (sV s = c) | .error _ => false
def isK (x : RS) (k : Int32) : Bool := match x with | .ok s => decide (sK s = k) | .error _ => false
def isO (x : RS) : Bool := match x with | .ok _ => true | .error _ => false
def frI (x : RS) : Int32 := match x with | .ok s => nI (sF s) | .error _ => 0
def vaI (x : RS) : Int32 := match x with | .ok s => sV s | .error _ => 0
def flR (c : Int32) (x : RS) : RS := match x with | .ok s => .error (c, sF s) | .error e => .error e
def opR (x : RS) : RS := match x with | .ok s => if sD s = 60 then .error (7, sF s) else .ok (sDS s (sD s + 1) (sS s)) | .error e => .error e
def clR (x : RS) : RS := match x with | .ok s => .ok (sDS s (sD s - 1) (sS s)) | .error e => .error e
/-- how close signs bind -/
def clo (s : Int32) : Int32 := if s < 0 then 0 else if s < 3 then s + 1 else if s < 5 then 4 else if s < 9 then 5 else if s < 11 then 6 else 7
def lkI : List (Int32 × Int32) → Int32 → Int32
  | [], _ => -1
  | p :: l, v => if v = p.1 then p.2 else lkI l v
def wdO : List (Int32 × Int32) := [(30, 0), (31, 1), (32, 2), (33, 13)]
def sgO : List (Int32 × Int32) := [(38, 2), (61, 3), (260, 4), (60, 5), (62, 6), (258, 7), (259, 8), (43, 9), (45, 10), (42, 11), (47, 12)]
/-- the sign between operands that is at hand -/
def sgI (x : RS) : Int32 := if isK x 2 = true then lkI wdO (vaI x) else if isK x 5 = true then lkI sgO (vaI x) else -1
/-- signs that wait, each with what is to the left of it; the innermost first -/
abbrev Wt : Type := List (Tr × Int32 × Int32)
def two (a : Tr) (s p : Int32) (b : Tr) : Tr := tN (35, p, s) (tap a b) .leaf
def rdW (b : Int32) : Wt → Tr → Wt × Tr
  | [], c => ([], c)
  | q :: w, c => if b ≤ clo q.2.1 then rdW b w (two q.1 q.2.1 q.2.2 c) else (q :: w, c)
def rdA : Wt → Tr → Tr
  | [], c => c
  | q :: w, c => rdA w (two q.1 q.2.1 q.2.2 c)
def srT : Wt → Tr → List ((Int32 × Int32) × Tr) → Tr
  | w, c, [] => rdA w c
  | w, c, r :: l => srT (((rdW (clo r.1.1) w c).2, r.1) :: (rdW (clo r.1.1) w c).1) r.2 l
section
variable (tx : Nat → Int32) (n : Nat)
def nxS (s : PS) : RS := if (lexS tx n (sB s) (sN s)).2.1.1 = 0 then .ok ((lexS tx n (sB s) (sN s)).1, (lexS tx n (sB s) (sN s)).2.1.2.1, (lexS tx n (sB s) (sN s)).2.1.2.2.1, (lexS tx n (sB s) (sN s)).2.1.2.2.2, (lexS tx n (sB s) (sN s)).2.2, sD s, sS s) else .error ((lexS tx n (sB s) (sN s)).2.1.1, (lexS tx n (sB s) (sN s)).1)
def nxR (x : RS) : RS := match x with | .ok s => nxS tx n s | .error e => .error e
def wtR (b : Bool) (x : RS) : RS := if b = true then nxR tx n x else flR 6 x
def simP (x : RS) : RS × Tr := if (isW x 11 || isW x 12 || isW x 13) = true then (nxR tx n x, tN (8, frI x, vaI x - 11) .leaf .leaf) else (flR 6 x, .leaf)
/-- a constant, behind its sign -/
def cnuP (x : RS) (p : Int32) (m : Bool) : RS × Tr := if isK x 3 = true then (nxR tx n x, tN (30, p, if m = true then - vaI x else vaI x) .leaf .leaf) else (flR 6 x, .leaf)
def conP (x : RS) : RS × Tr := if (isW x 35 || isW x 36) = true then (nxR tx n x, tN (31, frI x, 36 - vaI x) .leaf .leaf) else cnuP tx n (if isS x 45 = true then nxR tx n x else x) (frI x) (isS x 45)
def arrP (x : RS) : RS × Tr :=
  let a := conP tx n (wtR tx n (isS (nxR tx n x) 91) (nxR tx n x))
  let b := conP tx n (wtR tx n (isS a.1 257) a.1)
  let y := wtR tx n (isS b.1 93) b.1
  let c := simP tx n (wtR tx n (isW y 15) y)
  (c.1, tN (9, frI x, 0) (tap a.2 (tap b.2 c.2)) .leaf)
def typP (x : RS) : RS × Tr := if isK x 1 = true then (nxR tx n x, tN (10, frI x, vaI x) .leaf .leaf) else if isW x 14 = true then arrP tx n x else simP tx n x
def nmlP : Nat → RS → RS × Tr
  | 0, x => (x, .leaf)
  | f + 1, x =>
    let y := wtR tx n (isK x 1) x
    if isS y 44 = true then ((nmlP f (nxR tx n y)).1, tap (tN (6, frI x, vaI x) .leaf .leaf) (nmlP f (nxR tx n y)).2) else (y, tN (6, frI x, vaI x) .leaf .leaf)
def atP (x : RS) : RS × Tr := if isW x 10 = true then (if isK (nxR tx n x) 4 = true then (nxR tx n (nxR tx n x), tN (7, frI (nxR tx n x), vaI (nxR tx n x)) .leaf .leaf) else (flR 6 (nxR tx n x), .leaf)) else (x, .leaf)
def iniP (x : RS) : RS × Tr := if isS x 256 = true then conP tx n (nxR tx n x) else (x, .leaf)
def decP (x : RS) : RS × Tr :=
  if isK x 1 = true then
    let a := nmlP tx n (n + 1) x
    let b := atP tx n a.1
    let c := typP tx n (wtR tx n (isS b.1 58) b.1)
    let e := iniP tx n c.1
    (wtR tx n (isS e.1 59) e.1, tN (5, frI x, 0) (tap a.2 (tap b.2 (tap c.2 e.2))) .leaf)
  else (flR 6 x, .leaf)
def dclP : Nat → RS → RS × Tr
  | 0, x => (x, .leaf)
  | f + 1, x => if isK x 1 = true then ((dclP f (decP tx n x).1).1, tap (decP tx n x).2 (dclP f (decP tx n x).1).2) else (x, .leaf)
def secP (x : RS) : RS × Tr × Int32 :=
  let a := dclP tx n (n + 1) (nxR tx n x)
  (wtR tx n (isW a.1 9) a.1, tN (4, frI x, vaI x - 6) a.2 .leaf, frI a.1)
def scsP : Nat → RS → Int32 → RS × Tr × Int32
  | 0, x, b => (x, .leaf, b)
  | f + 1, x, b => if (isW x 6 || isW x 7 || isW x 8) = true then
      let a := secP tx n x
      let r := scsP f a.1 a.2.2
      (r.1, tap a.2.1 r.2.1, r.2.2)
    else (x, .leaf, b)
/-- signs and operands behind the first operand -/
def exlP (opd : RS → RS × Tr) : Nat → RS → RS × List ((Int32 × Int32) × Tr)
  | 0, x => (x, [])
  | f + 1, x => if 0 ≤ sgI x then
      let a := opd (nxR tx n (opR x))
      ((exlP opd f a.1).1, ((sgI x, frI x), a.2) :: (exlP opd f a.1).2)
    else (x, [])
def enX (s : PS) (y : RS) : RS := match y with | .ok q => .ok (sDS q (if sS s = 0 then sD s else sD q) (sS s)) | .error e => .error e
def exP (opd : RS → RS × Tr) (x : RS) : RS × Tr := match x with
  | .error e => (.error e, .leaf)
  | .ok s =>
    let a := opd (.ok (sDS s (sD s) (sS s + 1)))
    let r := exlP tx n opd (n + 1) a.1
    (enX s r.1, srT [] a.2 r.2)
def arlP (E : RS → RS × Tr) : Nat → RS → RS × Tr
  | 0, x => (x, .leaf)
  | f + 1, x => if isS (E x).1 44 = true then ((arlP E f (nxR tx n (E x).1)).1, tap (E x).2 (arlP E f (nxR tx n (E x).1)).2) else E x
def ixP (E : RS → RS × Tr) (x : RS) : RS × Tr := (clR (wtR tx n (isS (E (nxR tx n (opR x))).1 93) (E (nxR tx n (opR x))).1), (E (nxR tx n (opR x))).2)
def agP (E : RS → RS × Tr) (x : RS) : RS × Tr :=
  let y := nxR tx n (opR x)
  let a := if isS y 41 = true then (y, .leaf) else arlP tx n E (n + 1) y
  (clR (wtR tx n (isS a.1 41) a.1), a.2)
/-- behind a name: an output of what has that name, or nothing -/
def outP (x : RS) (p v : Int32) : RS × Tr := if isS x 46 = true then (wtR tx n (isK (nxR tx n x) 1) (nxR tx n x), tN (33, p, v) (tN (6, frI (nxR tx n x), vaI (nxR tx n x)) .leaf .leaf) .leaf) else (x, tN (6, p, v) .leaf .leaf)
def nopP (E : RS → RS × Tr) (x : RS) : RS × Tr :=
  let y := nxR tx n x
  if isS y 91 = true then ((ixP tx n E y).1, tN (32, frI x, vaI x) (ixP tx n E y).2 .leaf)
  else if isS y 40 = true then ((agP tx n E y).1, tN (34, frI x, vaI x) (agP tx n E y).2 .leaf)
  else outP tx n y (frI x) (vaI x)
def opdP : Nat → RS → RS × Tr
  | 0, x => (x, .leaf)
  | f + 1, x =>
    if (isS x 45 || isW x 34) = true then (clR (opdP f (nxR tx n (opR x))).1, tN (36, frI x, if isS x 45 = true then 0 else 1) (opdP f (nxR tx n (opR x))).2 .leaf)
    else if isS x 40 = true then (let y := exP tx n (opdP f) (nxR tx n (opR x)); (clR (wtR tx n (isS y.1 41) y.1), y.2))
    else if isK x 3 = true then (nxR tx n x, tN (30, frI x, vaI x) .leaf .leaf)
    else if (isW x 35 || isW x 36) = true then (nxR tx n x, tN (31, frI x, 36 - vaI x) .leaf .leaf)
    else if isK x 1 = true then nopP tx n (exP tx n (opdP f)) x
    else (flR 6 x, .leaf)
def expP (x : RS) : RS × Tr := exP tx n (opdP tx n 70) x
def prlP : Nat → RS → RS × Tr
  | 0, x => (x, .leaf)
  | f + 1, x =>
    let y := wtR tx n (isK x 1) x
    let a := expP tx n (wtR tx n (isS y 256) y)
    if isS a.1 44 = true then ((prlP f (nxR tx n a.1)).1, tap (tN (14, frI x, vaI x) a.2 .leaf) (prlP f (nxR tx n a.1)).2) else (a.1, tN (14, frI x, vaI x) a.2 .leaf)
def invP (x : RS) : RS × Tr :=
  let y := nxR tx n (opR x)
  let a := if isS y 41 = true then (y, .leaf) else prlP tx n (n + 1) y
  (clR (wtR tx n (isS a.1 41) a.1), a.2)
def tgtP (x : RS) (p v : Int32) : RS × Tr := if isS x 91 = true then ((ixP tx n (expP tx n) x).1, tN (32, p, v) (ixP tx n (expP tx n) x).2 .leaf) else (x, tN (6, p, v) .leaf .leaf)
def namP (x : RS) : RS × Tr :=
  let y := nxR tx n x
  if isS y 40 = true then ((invP tx n y).1, tN (13, frI x, vaI x) (invP tx n y).2 .leaf)
  else
    let b := tgtP tx n y (frI x) (vaI x)
    let c := expP tx n (wtR tx n (isS b.1 256) b.1)
    (c.1, tN (12, frI b.1, 0) (tap b.2 c.2) .leaf)
def begS (x : RS) : Bool := isK x 1 || isW x 16 || isW x 21 || isW x 23 || isW x 28 || isW x 29 || isS x 59
def begC (x : RS) : Bool := isS x 45 || isK x 3 || isW x 35 || isW x 36
/-- statements, given how one is read -/
def bdlP (S : RS → RS × Tr) : Nat → RS → RS × Tr
  | 0, x => (x, .leaf)
  | f + 1, x => if begS x = true then
      let y := wtR tx n (isS (S x).1 59) (S x).1
      ((bdlP S f y).1, tap (S x).2 (bdlP S f y).2)
    else (x, .leaf)
def bodP (S : RS → RS × Tr) (x : RS) (p : Int32) : RS × Tr := ((bdlP tx n S (n + 1) x).1, tN (11, p, 0) (bdlP tx n S (n + 1) x).2 .leaf)
def othP (S : RS → RS × Tr) (x : RS) : RS × Tr := if isW x 19 = true then bodP tx n S (nxR tx n x) (frI x) else (x, .leaf)
def iflP (S : RS → RS × Tr) : Nat → RS → RS × Tr
  | 0, x => (x, .leaf)
  | f + 1, x =>
    let y := expP tx n (nxR tx n x)
    let b := bodP tx n S (wtR tx n (isW y.1 17) y.1) (frI y.1)
    if isW b.1 18 = true then ((iflP S f b.1).1, tap y.2 (tap b.2 (iflP S f b.1).2)) else (b.1, tap y.2 b.2)
def rg2P (x : RS) : RS × Tr := if isS x 257 = true then conP tx n (nxR tx n x) else (x, .leaf)
def rglP : Nat → RS → RS × Tr
  | 0, x => (x, .leaf)
  | f + 1, x =>
    let a := conP tx n x
    let b := rg2P tx n a.1
    if isS b.1 44 = true then ((rglP f (nxR tx n b.1)).1, tap (tN (18, frI x, 0) (tap a.2 b.2) .leaf) (rglP f (nxR tx n b.1)).2) else (b.1, tN (18, frI x, 0) (tap a.2 b.2) .leaf)
def caoP (S : RS → RS × Tr) (x : RS) : RS × Tr :=
  let a := rglP tx n (n + 1) x
  let b := bodP tx n S (wtR tx n (isS a.1 58) a.1) (frI a.1)
  (b.1, tN (17, frI x, 0) (tap a.2 b.2) .leaf)
def calP (S : RS → RS × Tr) : Nat → RS → RS × Tr
  | 0, x => (x, .leaf)
  | f + 1, x => if begC x = true then ((calP S f (caoP tx n S x).1).1, tap (caoP tx n S x).2 (calP S f (caoP tx n S x).1).2) else (x, .leaf)
def ifP (S : RS → RS × Tr) (x : RS) : RS × Tr :=
  let a := iflP tx n S (n + 1) (opR x)
  let o := othP tx n S a.1
  (clR (wtR tx n (isW o.1 20) o.1), tN (15, frI x, 0) (tap a.2 o.2) .leaf)
def caP (S : RS → RS × Tr) (x : RS) : RS × Tr :=
  let e := expP tx n (nxR tx n (opR x))
  let c := calP tx n S (n + 1) (wtR tx n (isW e.1 15) e.1)
  let o := othP tx n S c.1
  (clR (wtR tx n (isW o.1 22) o.1), tN (16, frI x, 0) (tap e.2 (tap c.2 o.2)) .leaf)
def byP (x : RS) : RS × Tr := if isW x 25 = true then conP tx n (nxR tx n x) else (x, .leaf)
def foP (S : RS → RS × Tr) (x : RS) : RS × Tr :=
  let y := nxR tx n (opR x)
  let z := wtR tx n (isK y 1) y
  let a := conP tx n (wtR tx n (isS z 256) z)
  let b := conP tx n (wtR tx n (isW a.1 24) a.1)
  let c := byP tx n b.1
  let e := bodP tx n S (wtR tx n (isW c.1 26) c.1) (frI c.1)
  (clR (wtR tx n (isW e.1 27) e.1), tN (19, frI x, vaI y) (tap a.2 (tap b.2 (tap c.2 e.2))) .leaf)
/-- a statement, without the sign behind it -/
def stmP : Nat → RS → RS × Tr
  | 0, x => (x, .leaf)
  | f + 1, x =>
    if isK x 1 = true then namP tx n x
    else if isW x 16 = true then ifP tx n (stmP f) x
    else if isW x 21 = true then caP tx n (stmP f) x
    else if isW x 23 = true then foP tx n (stmP f) x
    else if (isW x 28 || isW x 29) = true then (nxR tx n x, tN (if isW x 28 = true then 20 else 21, frI x, 0) .leaf .leaf)
    else (x, .leaf)
def celP (x : RS) : RS × Tr :=
  if isO x = false then (x, .leaf)
  else if (isS x 45 || isS x 42) = true then (nxR tx n x, tN (if isS x 45 = true then 26 else 27, frI x, 0) .leaf .leaf)
  else if isS x 40 = true then
    let y := nxR tx n x
    let how : Int32 := if isS y 47 = true then 1 else if isS y 43 = true then 2 else if isS y 45 = true then 3 else 0
    let z := if 0 < how then nxR tx n y else y
    let u := wtR tx n (isK z 1) z
    (wtR tx n (isS u 41) u, tN (28, frI x, how) (tN (6, frI z, vaI z) .leaf .leaf) .leaf)
  else
    let how : Int32 := if isS x 47 = true then 1 else if isS x 62 = true then 2 else if isS x 60 = true then 3 else 0
    let y := if 0 < how then nxR tx n x else x
    let z := wtR tx n (isK y 1) y
    ((outP tx n z (frI y) (vaI y)).1, tN (25, frI x, how) (outP tx n z (frI y) (vaI y)).2 .leaf)
def rwlP : Nat → RS → RS × Tr
  | 0, x => (x, .leaf)
  | f + 1, x => if isO x = true ∧ isS x 59 = false then
      let y := if isS x 124 = true then nxR tx n x else x
      let l := if isS x 124 = true then tN (29, frI x, 0) .leaf .leaf else .leaf
      let c := celP tx n y
      ((rwlP f c.1).1, tap l (tap c.2 (rwlP f c.1).2))
    else (x, .leaf)
def rowP (x : RS) : RS × Tr :=
  let c := celP tx n x
  let r := rwlP tx n (n + 1) c.1
  (wtR tx n (isS r.1 59) r.1, tN (24, frI x, 0) (tap c.2 r.2) .leaf)
def rnlP : Nat → RS → RS × Tr
  | 0, x => (x, .leaf)
  | f + 1, x => if isO (rowP tx n x).1 = true ∧ isW (rowP tx n x).1 40 = false then ((rnlP f (rowP tx n x).1).1, tap (rowP tx n x).2 (rnlP f (rowP tx n x).1).2) else rowP tx n x
def rngP (x : RS) : RS × Tr :=
  let a := rnlP tx n (n + 1) (nxR tx n x)
  (wtR tx n (isW a.1 40) a.1, tN (23, frI x, 0) a.2 .leaf)
def lalP : Nat → RS → RS × Tr
  | 0, x => (x, .leaf)
  | f + 1, x => if isW x 39 = true then ((lalP f (rngP tx n x).1).1, tap (rngP tx n x).2 (lalP f (rngP tx n x).1).2) else (x, .leaf)
def ladP (x : RS) : RS × Tr :=
  let a := lalP tx n (n + 1) (nxR tx n x)
  (wtR tx n (isW a.1 38) a.1, tN (22, frI x, 0) a.2 .leaf)
/-- a block's head behind its name: its type, if it is a function; where its body begins -/
def fnhP (x : RS) (b : Bool) (p : Int32) : RS × Tr × Int32 := if b = true then (let y := wtR tx n (isS x 58) x; ((simP tx n y).1, (simP tx n y).2, frI y)) else (x, .leaf, p)
def lorP (x : RS) (p : Int32) : RS × Tr := if isW x 37 = true then ladP tx n x else bodP tx n (stmP tx n 70) x p
def blkP (x : RS) : RS × Tr :=
  if (isW x 0 || isW x 2 || isW x 4) = true then
    let y := nxR tx n x
    let h := fnhP tx n (wtR tx n (isK y 1) y) (isW x 0) (frI y)
    let c := scsP tx n (n + 1) h.1 h.2.2
    let e := lorP tx n c.1 c.2.2
    (wtR tx n (isW e.1 (vaI x + 1)) e.1, tN (if isW x 0 = true then 1 else if isW x 2 = true then 2 else 3, frI x, vaI y) (tap h.2.1 (tap c.2.1 e.2)) .leaf)
  else (flR 6 x, .leaf)
def bklP : Nat → RS → RS × Tr
  | 0, x => (x, .leaf)
  | f + 1, x => if isO x = true ∧ isK x 0 = false then ((bklP f (blkP tx n x).1).1, tap (blkP tx n x).2 (bklP f (blkP tx n x).1).2) else (x, .leaf)
/-- the whole text: a fault and its place, or the tree and the names -/
def txtP : RS × Tr :=
  let a := bklP tx n (n + 1) (nxS tx n (0, 0, 0, 0, [], 0, 0))
  (a.1, tN (0, 0, 0) a.2 .leaf)
end
